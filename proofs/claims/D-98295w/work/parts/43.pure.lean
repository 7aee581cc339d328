/-! groups: a part of a set by its numbers -/
set_option maxRecDepth 20000
/-- the letters of a part -/
def dpo (U p : Nat) : Nat := orN (fun l => if U.testBit l && p.testBit (rk U l) then 2 ^ l else 0) 26
theorem dpo_bit {U p l : Nat} : (dpo U p).testBit l = true ↔ l < 26 ∧ U.testBit l = true ∧ p.testBit (rk U l) = true := by
  unfold dpo
  rw [orN_bit]
  constructor
  · rintro ⟨k, h1, h2⟩
    split at h2
    · rename_i h3
      rw [Nat.testBit_two_pow, decide_eq_true_eq] at h2
      subst h2
      rw [Bool.and_eq_true] at h3
      exact ⟨h1, h3⟩
    · rw [Nat.zero_testBit] at h2; cases h2
  · rintro ⟨h1, h2, h3⟩
    exact ⟨l, h1, by rw [if_pos (by rw [h2, h3]; rfl), Nat.testBit_two_pow]; simp⟩
theorem dpo_lt {U p : Nat} : dpo U p < 67108864 := orN_lt (m := 26) _ fun k hk => by
  split
  · exact p_2lt hk
  · exact Nat.two_pow_pos 26
theorem p_bext {a b : Nat} (h : ∀ i, (a.testBit i = true ↔ b.testBit i = true)) : a = b := by
  apply Nat.eq_of_testBit_eq
  intro i
  rw [Bool.eq_iff_iff]
  exact h i
theorem p_big {x l m : Nat} (h : x < 2 ^ m) (hl : m ≤ l) : x.testBit l = false := Nat.testBit_lt_two_pow (Nat.lt_of_lt_of_le h (Nat.pow_le_pow_right (by decide) hl))
theorem rk_lt {U l m : Nat} (h : l < m) (hb : U.testBit l = true) : rk U l < rk U m := by
  have h1 : rk U (l + 1) ≤ rk U m := ctN_mono (by omega)
  rw [rk_succ, hb, if_pos rfl] at h1
  omega
/-- members by their numbers -/
def Mb (U n : Nat) (mm : Nat → Nat) : Prop := rk U 26 = n ∧ (∀ l, l < 26 → U.testBit l = true → mm (rk U l) = l) ∧ ∀ i, i < n → mm i < 26 ∧ U.testBit (mm i) = true ∧ rk U (mm i) = i
theorem Mb.mk {U n : Nat} {mm : Nat → Nat} (hn : rk U 26 = n) (h : ∀ l, l < 26 → U.testBit l = true → mm (rk U l) = l) : Mb U n mm := by
  refine ⟨hn, h, fun i hi => ?_⟩
  obtain ⟨l, g1, g2, g3⟩ := ctN_kth (p := fun k => U.testBit k) 26 (show i < rk U 26 by rw [hn]; exact hi)
  have g4 : rk U l = i := g3
  rw [← g4, h l g1 g2]
  exact ⟨g1, g2, rfl⟩
theorem dpo_mm {U n p : Nat} {mm : Nat → Nat} (h : Mb U n mm) : orN (fun k => if p.testBit k then 2 ^ mm k else 0) n = dpo U p := p_bext fun l => by
  rw [dpo_bit, orN_bit]
  constructor
  · rintro ⟨k, h1, h2⟩
    split at h2
    · rw [Nat.testBit_two_pow, decide_eq_true_eq] at h2
      subst h2
      obtain ⟨a, b, c⟩ := h.2.2 k h1
      exact ⟨a, b, by rw [c]; assumption⟩
    · rw [Nat.zero_testBit] at h2; cases h2
  · rintro ⟨h1, h2, h3⟩
    have h4 := rk_lt h1 h2
    rw [h.1] at h4
    exact ⟨rk U l, h4, by rw [if_pos h3, h.2.1 l h1 h2, Nat.testBit_two_pow]; simp⟩
theorem dpo_or {U n p k : Nat} {mm : Nat → Nat} (h : Mb U n mm) (hk : k < n) : dpo U (p ||| 2 ^ k) = dpo U p ||| 2 ^ mm k := p_bext fun l => by
  obtain ⟨a, b, c⟩ := h.2.2 k hk
  rw [dpo_bit, Nat.testBit_or, Nat.testBit_or, Bool.or_eq_true, Bool.or_eq_true, dpo_bit, Nat.testBit_two_pow, Nat.testBit_two_pow, decide_eq_true_eq, decide_eq_true_eq]
  constructor
  · rintro ⟨h1, h2, h3 | h3⟩
    · exact Or.inl ⟨h1, h2, h3⟩
    · exact Or.inr (by rw [h3, h.2.1 l h1 h2])
  · rintro (⟨h1, h2, h3⟩ | h3)
    · exact ⟨h1, h2, Or.inl h3⟩
    · subst h3; exact ⟨a, b, Or.inr c.symm⟩
theorem dpo_has {U n p k : Nat} {mm : Nat → Nat} (h : Mb U n mm) (hk : k < n) : (dpo U p).testBit (mm k) = p.testBit k := by
  obtain ⟨a, b, c⟩ := h.2.2 k hk
  rw [Bool.eq_iff_iff, dpo_bit, c]
  exact ⟨fun q => q.2.2, fun q => ⟨a, b, q⟩⟩
theorem ct_rk {U : Nat} {q : Nat → Bool} : ∀ L, ctN (fun l => U.testBit l && q (rk U l)) L = ctN q (rk U L)
  | 0 => rfl
  | L + 1 => by
    rw [ctN_succ, ct_rk L, rk_succ]
    cases hb : U.testBit L
    · rfl
    · rw [if_pos rfl, ctN_succ, Bool.true_and]
theorem dpo_cnt {U n p : Nat} {mm : Nat → Nat} (h : Mb U n mm) (hp : p < 2 ^ n) : cnt1 (dpo U p) = cnt1 p := by
  have hn : n ≤ 26 := by rw [← h.1]; exact ctN_le _ _
  have e1 : cnt1 (dpo U p) = ctN (fun l => U.testBit l && p.testBit (rk U l)) 26 := ctN_cong _ fun k hk => by
    rw [Bool.eq_iff_iff, dpo_bit, Bool.and_eq_true]
    exact ⟨fun q => q.2, fun q => ⟨hk, q⟩⟩
  rw [e1, ct_rk, h.1]
  unfold cnt1
  obtain ⟨d, hd⟩ : ∃ d, 26 = n + d := ⟨26 - n, by omega⟩
  rw [hd, ctN_split, (ctN_pos d).mpr fun k hk => p_big hp (by omega)]
  rfl
/-- a sum over all subsets -/
def sub (U y : Nat) : Bool := decide (y &&& U = y)
theorem sub_iff {U y : Nat} : sub U y = true ↔ ∀ i, y.testBit i = true → U.testBit i = true := by
  unfold sub
  rw [decide_eq_true_eq]
  constructor
  · intro h i hi
    rw [← h, Nat.testBit_and, Bool.and_eq_true] at hi
    exact hi.2
  · intro h
    exact p_bext fun i => by
      rw [Nat.testBit_and, Bool.and_eq_true]
      exact ⟨fun q => q.1, fun q => ⟨q, h i q⟩⟩
theorem smN_split {f : Nat → Nat} {m : Nat} : ∀ n, smN f (m + n) = smN f m + smN (fun k => f (m + k)) n
  | 0 => rfl
  | n + 1 => by
    rw [← Nat.add_assoc, smN_succ, smN_split n, smN_succ, Nat.add_assoc]
theorem smN_zero {f : Nat → Nat} : ∀ n, (∀ k, k < n → f k = 0) → smN f n = 0
  | 0, _ => rfl
  | n + 1, h => by rw [smN_succ, smN_zero n fun k hk => h k (by omega), h n (by omega)]
def dpl (U p l : Nat) : Nat := orN (fun l => if U.testBit l && p.testBit (rk U l) then 2 ^ l else 0) l
theorem dpl_lt {U p l : Nat} : dpl U p l < 2 ^ l := orN_lt _ fun k hk => by
  split
  · exact p_2lt hk
  · exact Nat.two_pow_pos l
theorem p_hi {a k : Nat} (h : a < 2 ^ k) (i : Nat) : (2 ^ k + a).testBit i = if i = k then true else a.testBit i := by
  have e : 2 ^ k + a = a ||| 2 ^ k := by
    rw [Nat.or_comm]
    have := Nat.two_pow_add_eq_or_of_lt h 1
    rw [Nat.mul_one] at this
    exact this
  rw [e, Nat.testBit_or, Nat.testBit_two_pow]
  by_cases hi : i = k
  · subst hi; simp
  · rw [if_neg hi, decide_eq_false (fun q => hi q.symm), Bool.or_false]
theorem sum_dpo {U : Nat} : ∀ l (f : Nat → Nat), smN (fun y => if sub U y then f y else 0) (2 ^ l) = smN (fun p => f (dpl U p l)) (2 ^ rk U l)
  | 0, f => by
    show smN _ 1 = smN _ 1
    rw [smN_succ, smN_succ]
    rw [if_pos (show sub U 0 = true by rw [sub_iff]; intro i hi; rw [Nat.zero_testBit] at hi; cases hi)]
    rfl
  | l + 1, f => by
    rw [show 2 ^ (l + 1) = 2 ^ l + 2 ^ l by rw [Nat.pow_succ]; omega, smN_split, sum_dpo l f]
    cases hb : U.testBit l
    · have e : rk U (l + 1) = rk U l := by rw [rk_succ, hb]; rfl
      rw [e, smN_zero (2 ^ l) fun k hk => by
        rw [if_neg]
        intro hs
        have := sub_iff.mp hs l (by rw [p_hi hk, if_pos rfl])
        rw [hb] at this; cases this]
      refine smN_cong _ fun p hp => ?_
      congr 1
      unfold dpl
      rw [orN_succ, hb]
      exact (Nat.or_zero _).symm
    · have e : rk U (l + 1) = rk U l + 1 := by rw [rk_succ, hb]; rfl
      rw [e, show 2 ^ (rk U l + 1) = 2 ^ rk U l + 2 ^ rk U l by rw [Nat.pow_succ]; omega, smN_split]
      congr 1
      · refine smN_cong _ fun p hp => ?_
        congr 1
        unfold dpl
        rw [orN_succ, p_big hp (Nat.le_refl _), Bool.and_false]
        exact (Nat.or_zero _).symm
      · have h1 := sum_dpo (U := U) l fun y => f (2 ^ l + y)
        refine (smN_cong _ fun y hy => ?_).trans (h1.trans (smN_cong _ fun p hp => ?_))
        · have : sub U (2 ^ l + y) = sub U y := by
            rw [Bool.eq_iff_iff, sub_iff, sub_iff]
            constructor
            · intro h i hi
              refine h i ?_
              rw [p_hi hy]
              split
              · rfl
              · exact hi
            · intro h i hi
              rw [p_hi hy] at hi
              split at hi
              · rename_i e2; rw [e2]; exact hb
              · exact h i hi
          rw [this]
        · congr 1
          have e3 : dpl U (2 ^ rk U l + p) (l + 1) = dpl U p l ||| 2 ^ l := by
            unfold dpl
            rw [orN_succ, hb, p_hi hp, if_pos rfl]
            congr 1
            refine orN_cong _ fun k hk => ?_
            cases hk2 : U.testBit k
            · rfl
            · have := rk_lt hk hk2
              rw [show (2 ^ rk U l + p).testBit (rk U k) = p.testBit (rk U k) by rw [p_hi hp, if_neg (show ¬ rk U k = rk U l by omega)]]
          rw [e3]
          have := Nat.two_pow_add_eq_or_of_lt (dpl_lt (U := U) (p := p) (l := l)) 1
          rw [Nat.mul_one] at this
          rw [this, Nat.or_comm]
/-- the subset ahead -/
theorem sub1_bit {x l : Nat} (hx : 0 < x) : (x - 1).testBit l = if x % 2 ^ l = 0 then !x.testBit l else x.testBit l := by
  have hp := Nat.two_pow_pos l
  rw [p_tb, p_tb]
  have hd := Nat.div_add_mod x (2 ^ l)
  have hm := Nat.mod_lt x hp
  generalize hq : x / 2 ^ l = q at *
  generalize hr : x % 2 ^ l = r at *
  by_cases h0 : r = 0
  · rw [if_pos h0]
    have hq0 : 0 < q := by
      rcases Nat.eq_zero_or_pos q with h | h
      · subst h; omega
      · exact h
    obtain ⟨q, rfl⟩ : ∃ z, q = z + 1 := ⟨q - 1, by omega⟩
    have e : (x - 1) / 2 ^ l = q := by
      rw [show x - 1 = 2 ^ l * q + (2 ^ l - 1) by rw [Nat.mul_succ] at hd; omega, Nat.mul_add_div hp, Nat.div_eq_of_lt (by omega)]
      rfl
    rw [e]
    by_cases h1 : q % 2 = 1
    · rw [decide_eq_true h1, decide_eq_false (by omega)]; rfl
    · rw [decide_eq_false h1, decide_eq_true (by omega)]; rfl
  · rw [if_neg h0]
    have e : (x - 1) / 2 ^ l = q := by
      rw [show x - 1 = 2 ^ l * q + (r - 1) by omega, Nat.mul_add_div hp, Nat.div_eq_of_lt (by omega)]
      rfl
    rw [e]
theorem mod0_iff {x l : Nat} : x % 2 ^ l = 0 ↔ ∀ i, i < l → x.testBit i = false := by
  constructor
  · intro h i hi
    have := Nat.testBit_mod_two_pow x l i
    rw [h, Nat.zero_testBit, decide_eq_true hi, Bool.true_and] at this
    exact this.symm
  · intro h
    apply Nat.eq_of_testBit_eq
    intro i
    rw [Nat.testBit_mod_two_pow, Nat.zero_testBit]
    by_cases hi : i < l
    · rw [h i hi, Bool.and_false]
    · rw [decide_eq_false hi, Bool.false_and]
theorem dpo_pred {U p : Nat} (hU : U < 67108864) (hp : 0 < p) (hp2 : p < 2 ^ rk U 26) : (dpo U p - 1) &&& U = dpo U (p - 1) := by
  obtain ⟨i, hi⟩ : ∃ i, p.testBit i = true := by
    apply Classical.byContradiction
    intro h
    have : p = 0 := p_bext fun i => ⟨fun q => absurd ⟨i, q⟩ h, fun q => by rw [Nat.zero_testBit] at q; cases q⟩
    omega
  have hi2 : i < rk U 26 := by
    apply Classical.byContradiction
    intro h
    rw [p_big hp2 (by omega)] at hi; cases hi
  obtain ⟨l0, a1, a2, a3⟩ := ctN_kth (p := fun k => U.testBit k) 26 hi2
  have a4 : rk U l0 = i := a3
  have hx : 0 < dpo U p := by
    rcases Nat.eq_zero_or_pos (dpo U p) with h | h
    · have := dpo_bit.mpr ⟨a1, a2, show p.testBit (rk U l0) = true by rw [a4]; exact hi⟩
      rw [h, Nat.zero_testBit] at this; cases this
    · exact h
  refine p_bext fun l => ?_
  rw [Nat.testBit_and, Bool.and_eq_true, dpo_bit]
  have hmod : ∀ l, l < 26 → U.testBit l = true → (dpo U p % 2 ^ l = 0 ↔ p % 2 ^ rk U l = 0) := by
    intro l hl hb
    rw [mod0_iff, mod0_iff]
    constructor
    · intro h j hj
      have hj2 : j < ctN (fun k => U.testBit k) l := hj
      obtain ⟨l1, b1, b2, b3⟩ := ctN_kth l hj2
      have b4 : rk U l1 = j := b3
      cases e : p.testBit j with
      | false => rfl
      | true =>
        have := dpo_bit.mpr ⟨show l1 < 26 by omega, b2, show p.testBit (rk U l1) = true by rw [b4]; exact e⟩
        rw [h l1 b1] at this; cases this
    · intro h j hj
      cases e : (dpo U p).testBit j with
      | false => rfl
      | true =>
        obtain ⟨c1, c2, c3⟩ := dpo_bit.mp e
        rw [h (rk U j) (rk_lt hj c2)] at c3; cases c3
  have hval : ∀ l, l < 26 → U.testBit l = true → (dpo U p).testBit l = p.testBit (rk U l) := by
    intro l hl hb
    rw [Bool.eq_iff_iff, dpo_bit]
    exact ⟨fun q => q.2.2, fun q => ⟨hl, hb, q⟩⟩
  constructor
  · rintro ⟨h1, h2⟩
    have hl : l < 26 := by
      apply Classical.byContradiction
      intro h
      rw [p_big (m := 26) hU (by omega)] at h2; cases h2
    refine ⟨hl, h2, ?_⟩
    rw [sub1_bit hp]
    rw [sub1_bit hx, hval l hl h2] at h1
    simp only [hmod l hl h2] at h1
    exact h1
  · rintro ⟨hl, h2, h3⟩
    refine ⟨?_, h2⟩
    rw [sub1_bit hx, hval l hl h2]
    simp only [hmod l hl h2]
    rw [sub1_bit hp] at h3
    exact h3
