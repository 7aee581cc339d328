/-! settlement -/
set_option maxRecDepth 20000
abbrev SeT : Type := Option (Nat × Nat × (Nat → Nat))
theorem p_not (a : Nat) : nI a ^^^ -nI 1 = nI (a ^^^ 4294967295) := by
  rw [show (-nI 1 : Int32) = nI 4294967295 by decide]
  exact p_xor _ _
def nrm (n : Nat) (row : Nat → Nat) : Nat → Nat := fun k => if k < n then row k else 0
def suW (A : Nat → Int32) (row : Nat → Nat) (n : Nat) : Nat := smN (fun k => wln A (row k)) n
def seW (A : Nat → Int32) (row : Nat → Nat) (n : Nat) : Nat := orN (fun k => wset A (row k)) n
def ltO (x : Nat) (s : SeT) : Bool := match s with
  | none => true
  | some q => decide (x < q.1)
def cvB (L m : Nat) : Bool := decide (L &&& (m ^^^ 4294967295) = 0)
def seS (A : Nat → Int32) (L n : Nat) (row : Nat → Nat) (s : SeT) : Unit ⊕ SeT := .inr (if cvB L (seW A row n) && ltO (suW A row n) s then some (suW A row n, n, nrm n row) else s)
theorem smN_cong {f g : Nat → Nat} : ∀ n, (∀ k, k < n → f k = g k) → smN f n = smN g n
  | 0, _ => rfl
  | n + 1, h => by rw [smN_succ, smN_succ, smN_cong n fun k hk => h k (by omega), h n (by omega)]
theorem suW_ext {A : Nat → Int32} {r q : Nat → Nat} {n : Nat} (h : ∀ j, j < n → r j = q j) : suW A r n = suW A q n := smN_cong _ fun k hk => by rw [h k hk]
theorem seW_ext {A : Nat → Int32} {r q : Nat → Nat} {n : Nat} (h : ∀ j, j < n → r j = q j) : seW A r n = seW A q n := orN_cong _ fun k hk => by rw [h k hk]
theorem seS_ext {A : Nat → Int32} {L n : Nat} (r q : Nat → Nat) (u : SeT) (h : ∀ j, j < n → r j = q j) : seS A L n r u = seS A L n q u := by
  unfold seS
  rw [suW_ext h, seW_ext h, show nrm n r = nrm n q from funext fun k => by
    unfold nrm
    by_cases hk : k < n
    · rw [if_pos hk, if_pos hk, h k hk]
    · rw [if_neg hk, if_neg hk]]
def TB (t : TS) (s : SeT) : Prop := match s with
  | none => t.1 38 0 = nI 1000000 ∧ t.1 39 0 = nI 0
  | some q => t.1 38 0 = nI q.1 ∧ t.1 39 0 = nI q.2.1 ∧ q.1 ≤ 32 ∧ (1 ≤ q.2.1 ∧ q.2.1 ≤ 4) ∧ ∀ k, k < q.2.1 → t.1 37 k = nI (q.2.2 k)
def CB (c : CS) (s : SeT) : Prop := match s with
  | none => c.1 0 17 = nI 33 ∧ c.1 0 16 = nI 0
  | some q => c.1 0 17 = nI q.1 ∧ c.1 0 16 = nI q.2.1 ∧ q.1 ≤ 32 ∧ (1 ≤ q.2.1 ∧ q.2.1 ≤ 4) ∧ ∀ k, k < q.2.1 → c.1 114 k = nI (q.2.2 k)
theorem TB.eq {t t1 : TS} {s : SeT} (h : TB t s) (h1 : t1.1 38 = t.1 38) (h2 : t1.1 39 = t.1 39) (h3 : t1.1 37 = t.1 37) : TB t1 s := by
  unfold TB
  rw [h1, h2, h3]
  exact h
section PI
variable {t : TS} {c : CS} {A : Nat → Int32}
theorem ca_e {k : Nat} {f : Nat → Int32} : (ca_ c k f).1 k = f := funext fun x => if_pos rfl
theorem T_weigh_cp {n : Nat} {row : Nat → Nat} (hn : n ≤ 4) : ∀ k i, i + k = n → ∀ (t : TS), Row t n row → (∀ j, j < i → t.1 37 j = nI (row j)) → ∀ f, k < f → ∃ t1, T_weigh_82 f t (nI n) (nI i) = some t1 ∧ St t t1 ∧ Row t1 n row ∧ t1.1 38 = t.1 38 ∧ t1.1 39 = t.1 39 ∧ ∀ j, j < n → t1.1 37 j = nI (row j) := by
  intro k
  induction k with
  | zero =>
    intro i hi t hR h f hf
    obtain ⟨f, rfl⟩ : ∃ m, f = m + 1 := ⟨f - 1, by omega⟩
    unfold T_weigh_82
    simp (disch := omega) only [p_lit, p_mul, nI_add, nI_1, p_ck, p_cl, p_b1, p_b2, p_l1, p_le, p_lt, p_eq, p_shlN, p_shrN, p_or, p_and, p_xor, p_m1, p_m1', p_m0, p_ge0, p_zr, p_zr0, p_zr1, p_b0, p_b1', if_pos, if_neg, if_true, if_false, Bool.true_eq_false, Bool.false_eq_true, eq_self]
    exact ⟨t, rfl, St.rf, hR, rfl, rfl, fun j hj => h j (by omega)⟩
  | succ k ih =>
    intro i hi t hR h f hf
    obtain ⟨f, rfl⟩ : ∃ m, f = m + 1 := ⟨f - 1, by omega⟩
    unfold T_weigh_82
    simp (disch := omega) only [p_lit, p_mul, nI_add, nI_1, p_ck, p_cl, p_b1, p_b2, p_l1, p_le, p_lt, p_eq, p_shlN, p_shrN, p_or, p_and, p_xor, p_m1, p_m1', p_m0, p_ge0, p_zr, p_zr0, p_zr1, p_b0, p_b1', if_pos, if_neg, if_true, if_false, Bool.true_eq_false, Bool.false_eq_true, eq_self, hR i (by omega)]
    obtain ⟨t1, a1, a2, a3, a4, a5, a6⟩ := ih (i + 1) (by omega) (si t 37 i (nI (row i))) (fun j hj => by rw [si_n (by decide)]; exact hR j hj) (fun j hj => by
      by_cases hji : j = i
      · subst hji; exact si_e
      · rw [si_ne hji]; exact h j (by omega)) f (by omega)
    exact ⟨t1, a1, (St.si (by decide)).tr a2, a3, a4.trans (si_n (by decide)), a5.trans (si_n (by decide)), a6⟩
theorem suW_le {row : Nat → Nat} {n : Nat} (hW : Wds A) (hr : ∀ j, j < n → row j < nA A 0) : suW A row n ≤ n * 8 := smN_le n fun k hk => (hW.2 _ (hr k hk)).ln
theorem TB_lt {s : SeT} {x : Nat} (hB : TB t s) (hx : x ≤ 32) : (nI x < t.1 38 0) = (ltO x s = true) := by
  cases s with
  | none => rw [hB.1, p_lt (by omega) (by omega)]; exact eq_true (by omega) |>.trans (eq_true rfl).symm
  | some q =>
    have := hB.2.2.1
    rw [hB.1, p_lt (by omega) (by omega)]
    unfold ltO
    rw [decide_eq_true_eq]
theorem CB_lt {s : SeT} {x : Nat} (hB : CB c s) (hx : x ≤ 32) : (nI x < c.1 0 17) = (ltO x s = true) := by
  cases s with
  | none => rw [hB.1, p_lt (by omega) (by omega)]; exact eq_true (by omega) |>.trans (eq_true rfl).symm
  | some q =>
    have := hB.2.2.1
    rw [hB.1, p_lt (by omega) (by omega)]
    unfold ltO
    rw [decide_eq_true_eq]
theorem seW_lt {row : Nat → Nat} {n : Nat} (hW : Wds A) (hr : ∀ j, j < n → row j < nA A 0) : seW A row n < 67108864 := orN_lt (m := 26) _ fun k hk => (hW.2 _ (hr k hk)).set
theorem T_weigh_s {n L : Nat} {row : Nat → Nat} {s : SeT} (hn : 1 ≤ n ∧ n ≤ 4) (hL : L < 67108864) (hW : Wds (t.1 0)) (hR : Row t n row) (hr : ∀ j, j < n → row j < nA (t.1 0) 0) (hB : TB t s) : ∃ t1 s1, T_weigh t (nI n) (nI L) = some t1 ∧ St t t1 ∧ Row t1 n row ∧ seS (t.1 0) L n row s = .inr s1 ∧ TB t1 s1 := by
  have h0 := hW.1.2
  have lp : ∀ k i, i + k = n → ∀ f, k < f → ∃ t1 s1, T_weigh_8 f t (nI n) (nI L) (nI (seW (t.1 0) row i)) (nI (suW (t.1 0) row i)) (nI i) = some t1 ∧ St t t1 ∧ Row t1 n row ∧ seS (t.1 0) L n row s = .inr s1 ∧ TB t1 s1 := by
    intro k
    induction k with
    | zero =>
      intro i hi f hf
      obtain ⟨f, rfl⟩ : ∃ m, f = m + 1 := ⟨f - 1, by omega⟩
      obtain rfl : i = n := by omega
      unfold T_weigh_8
      have ha : L &&& (seW (t.1 0) row i ^^^ 4294967295) ≤ L := Nat.and_le_left
      have hsu := suW_le hW hr
      simp (disch := omega) only [p_lit, p_mul, nI_add, nI_1, p_ck, p_cl, p_b1, p_b2, p_l1, p_le, p_lt, p_eq, p_shlN, p_shrN, p_or, p_and, p_xor, p_m1, p_m1', p_m0, p_ge0, p_zr, p_zr0, p_zr1, p_b0, p_b1', if_pos, if_neg, if_true, if_false, Bool.true_eq_false, Bool.false_eq_true, eq_self, p_not, TB_lt hB (show suW (t.1 0) row i ≤ 32 by omega)]
      unfold seS
      by_cases hc : L &&& (seW (t.1 0) row i ^^^ 4294967295) = 0
      · rw [if_pos hc, show cvB L (seW (t.1 0) row i) = true from decide_eq_true hc]
        cases hl : ltO (suW (t.1 0) row i) s
        · exact ⟨t, s, rfl, St.rf, hR, rfl, hB⟩
        · obtain ⟨t1, a1, a2, a3, a4, a5, a6⟩ := T_weigh_cp (n := i) (row := row) hn.2 i 0 (by omega) (si (si t 38 0 (nI (suW (t.1 0) row i))) 39 0 (nI i)) (fun j hj => by rw [si_n (by decide), si_n (by decide)]; exact hR j hj) (fun j h => by omega) fu (by unfold fu; omega)
          refine ⟨t1, _, a1, ((St.si (by decide)).tr (St.si (by decide))).tr a2, a3, rfl, ?_⟩
          refine ⟨?_, ?_, ?_, hn, fun k hk => ?_⟩
          · rw [a4, si_n (by decide), si_e]
          · rw [a5, si_e]
          · show suW (t.1 0) row i ≤ 32
            omega
          · rw [a6 k hk]
            show nI (row k) = nI (nrm i row k)
            unfold nrm
            rw [if_pos (show k < i from hk)]
      · rw [if_neg hc, show cvB L (seW (t.1 0) row i) = false from decide_eq_false hc]
        exact ⟨t, s, rfl, St.rf, hR, rfl, hB⟩
    | succ k ih =>
      intro i hi f hf
      obtain ⟨f, rfl⟩ : ∃ m, f = m + 1 := ⟨f - 1, by omega⟩
      unfold T_weigh_8
      have hw := hr i (by omega)
      have h1 := ih (i + 1) (by omega) f (by omega)
      simp (disch := omega) only [p_lit, p_mul, nI_add, nI_1, p_ck, p_cl, p_b1, p_b2, p_l1, p_le, p_lt, p_eq, p_shlN, p_shrN, p_or, p_and, p_xor, p_m1, p_m1', p_m0, p_ge0, p_zr, p_zr0, p_zr1, p_b0, p_b1', if_pos, if_neg, if_true, if_false, Bool.true_eq_false, Bool.false_eq_true, eq_self, hR i (by omega), T_setOf_s (t := t) (w := row i) (by omega) (hW.2 _ hw), T_lengthOf_s (t := t) (w := row i) (by omega) (hW.2 _ hw)]
      exact h1
  exact lp n 0 (by omega) fu (by unfold fu; omega)
theorem T_settle_it {n L : Nat} {x2 : Int32} {k28 : TS → Int32 → Int32 → Int32 → Option (Int32 × TS)} (hn : 1 ≤ n ∧ n ≤ 4) (hL : L < 67108864) (hW : Wds A) (hN : n ≤ nA A 0) : ∀ f (row : Nat → Nat) (t : TS) (s s1 : SeT), t.1 0 = A → Bd (nA A 0) n row → Row t n row → TB t s → itT (nA A 0) n (seS A L n) f row s = some (.inr s1) → ∀ g, f < g → ∃ t1, St t t1 ∧ TB t1 s1 ∧ T_settlement_51 k28 g t (nI L) x2 (nI n) (nI 1) = k28 t1 (nI L) x2 (nI (n + 1)) := by
  have h0 := hW.1.2
  intro f
  induction f with
  | zero => intro row t s s1 hA hBd hR hB h; cases h
  | succ f ih =>
    intro row t s s1 hA hBd hR hB h g hg
    obtain ⟨g, rfl⟩ : ∃ m, g = m + 1 := ⟨g - 1, by omega⟩
    subst hA
    have hr : ∀ j, j < n → row j < nA (t.1 0) 0 := fun j hj => by have := hBd j hj; omega
    obtain ⟨t1, s2, a1, a2, a3, a4, a5⟩ := T_weigh_s (t := t) (L := L) hn hL hW hR hr hB
    obtain ⟨t2, g1, g2, g3⟩ := T_nextRow_s (t := t1) (N := nA (t.1 0) 0) (row := row) (show n ≤ 10 by omega) hN (by omega) (fun j hj => by have := hr j hj; omega) a3
    unfold T_settlement_51
    have e0 : t1.1 0 0 = nI (nA (t.1 0) 0) := by rw [a2.1]; exact hW.1.1
    unfold itT at h
    rw [a4] at h
    simp (disch := omega) only [p_lit, p_mul, nI_add, nI_1, p_ck, p_cl, p_b1, p_b2, p_l1, p_le, p_lt, p_eq, p_shlN, p_shrN, p_or, p_and, p_xor, p_m1, p_m1', p_m0, p_ge0, p_zr, p_zr0, p_zr1, p_b0, p_b1', if_pos, if_neg, if_true, if_false, Bool.true_eq_false, Bool.false_eq_true, eq_self, a1, e0, g1]
    have hB2 : TB t2 s2 := a5.eq (g2 38 (by decide)) (g2 39 (by decide)) (g2 37 (by decide))
    replace g2 := g2.st
    cases hx : nxF (nA (t.1 0) 0) n row with
    | none =>
      rw [hx] at h
      have h9 : some (Sum.inr s2) = some (Sum.inr s1) := h
      cases h9
      obtain ⟨g, rfl⟩ : ∃ m, g = m + 1 := ⟨g - 1, by omega⟩
      unfold T_settlement_51
      rw [if_pos (show bI (none : Option (Nat → Nat)).isSome = 0 from rfl)]
      refine ⟨t2, a2.tr g2, hB2, ?_⟩
      simp (disch := omega) only [p_lit, p_mul, nI_add, nI_1, p_ck, p_cl, p_b1, p_b2, p_l1, p_le, p_lt, p_eq, p_shlN, p_shrN, p_or, p_and, p_xor, p_m1, p_m1', p_m0, p_ge0, p_zr, p_zr0, p_zr1, p_b0, p_b1', if_pos, if_neg, if_true, if_false, Bool.true_eq_false, Bool.false_eq_true, eq_self]
    | some r =>
      rw [hx] at h
      obtain ⟨t3, k1, k2, k3⟩ := ih r t2 s2 s1 ((a2.tr g2).1) (hBd.next hx) (g3 r hx) hB2 h g (by omega)
      exact ⟨t3, (a2.tr g2).tr k1, k2, k3⟩
theorem seS_i (A : Nat → Int32) (L n : Nat) (row : Nat → Nat) (s : SeT) : ∃ s1, seS A L n row s = .inr s1 := ⟨_, rfl⟩
theorem itC_i {L n : Nat} : ∀ w m (row : Nat → Nat) (s : SeT), ∃ s1, itC (nA A 0) n (seS A L n) w m row s = .inr s1
  | w, 0, row, s => by rw [itC_0]; exact ⟨_, rfl⟩
  | 0, m + 1, row, s => ⟨_, rfl⟩
  | w + 1, m + 1, row, s => by
    unfold itC
    obtain ⟨s1, h1⟩ := itC_i (L := L) (n := n) w m (fun j => if j = n - m - 1 then nA A 0 - w - 1 else row j) s
    rw [h1]
    exact itC_i w (m + 1) row s1
theorem suW_up {row : Nat → Nat} {a b : Nat} (h : a ≤ b) : suW A row a ≤ suW A row b := by
  induction b with
  | zero => rw [show a = 0 by omega]; exact Nat.le_refl _
  | succ b ih =>
    rcases Nat.lt_or_ge a (b + 1) with h1 | h1
    · have := ih (by omega)
      show suW A row a ≤ suW A row b + _
      omega
    · rw [show a = b + 1 by omega]; exact Nat.le_refl _
theorem itC_pr {L n : Nat} {q : Nat × Nat × (Nat → Nat)} : ∀ w m, m ≤ n → ∀ (row : Nat → Nat), q.1 ≤ suW A row (n - m) → itC (nA A 0) n (seS A L n) w m row (some q) = .inr (some q)
  | w, 0, _, row, h => by
    rw [itC_0]
    unfold seS
    rw [show ltO (suW A row n) (some q) = false from decide_eq_false (by rw [Nat.sub_zero] at h; omega), Bool.and_false]
    rfl
  | 0, m + 1, _, row, h => rfl
  | w + 1, m + 1, hm, row, h => by
    unfold itC
    have e : suW A (fun j => if j = n - m - 1 then nA A 0 - w - 1 else row j) (n - (m + 1)) = suW A row (n - (m + 1)) := suW_ext fun j hj => by rw [if_neg (by omega)]
    have h2 : suW A (fun j => if j = n - m - 1 then nA A 0 - w - 1 else row j) (n - (m + 1)) ≤ suW A (fun j => if j = n - m - 1 then nA A 0 - w - 1 else row j) (n - m) := suW_up (by omega)
    rw [itC_pr w m (by omega) _ (by omega)]
    exact itC_pr w (m + 1) hm row h
/-- the words that are chosen -/
def Cho (c : CS) (n : Nat) (row : Nat → Nat) : Prop := ∀ j, j < n → c.1 113 j = nI (row j)
theorem C_settle_end {n L : Nat} {row : Nat → Nat} {s : SeT} {rec : CS → Int32 → Int32 → Int32 → Int32 → Int32 → Option CS} (hn : 1 ≤ n ∧ n ≤ 4) (hL : L < 67108864) (hc : RN A c) (hr : ∀ j, j < n → row j < nA A 0) (hB : CB c s) (hC : Cho c n row) (hl : ltO (suW A row n) s = true) : ∀ k i, i + k = n → ∀ f, k < f → ∃ c1 s1, C_settles_p22 rec f c (nI L) (nI n) (nI (suW A row n)) (nI (seW A row i)) (nI i) = some c1 ∧ seS A L n row s = .inr s1 ∧ Sc c c1 ∧ CB c1 s1 ∧ c1.1 113 = c.1 113 := by
  have h0 := hc.1.1.2
  have hsu := suW_le hc.1 hr
  intro k
  induction k with
  | zero =>
    intro i hi f hf
    obtain ⟨f, rfl⟩ : ∃ m, f = m + 1 := ⟨f - 1, by omega⟩
    obtain rfl : i = n := by omega
    unfold C_settles_p22
    have ha : L &&& (seW A row i ^^^ 4294967295) ≤ L := Nat.and_le_left
    have hac : ∀ x : Option CS, acp (nI 0) (nI 0) (nI i) 4 4 x = x := fun x => by
      unfold acp
      refine if_neg ?_
      rw [nI_clamp (by omega), nI_clamp (by omega)]
      rintro ((( h | h) | h) | (h | h))
      · exact nI_pos (by omega) h
      · exact nI_pos (by omega) h
      · exact nI_pos (by omega) h
      · omega
      · omega
    simp (disch := omega) only [p_lit, p_mul, nI_add, nI_1, p_ck, p_cl, p_b1, p_b2, p_l1, p_le, p_lt, p_eq, p_shlN, p_shrN, p_or, p_and, p_xor, p_m1, p_m1', p_m0, p_ge0, p_zr, p_zr0, p_zr1, p_b0, p_b1', if_pos, if_neg, if_true, if_false, Bool.true_eq_false, Bool.false_eq_true, eq_self, p_not, hac]
    unfold seS
    by_cases hcv : L &&& (seW A row i ^^^ 4294967295) = 0
    · rw [if_pos hcv, show cvB L (seW A row i) = true from decide_eq_true hcv, hl]
      refine ⟨_, _, rfl, rfl, ((Sc.ci0 (by decide)).tr (Sc.ci0 (by decide))).tr (Sc.ca (by decide)), ?_, ?_⟩
      · refine ⟨?_, ?_, ?_, hn, fun k hk => ?_⟩
        · rw [ca_n (by decide), ci_ne (by decide), ci_e]
        · rw [ca_n (by decide), ci_e]
        · show suW A row i ≤ 32
          omega
        · rw [ca_e]
          have hk : k < i := hk
          show _ = nI (nrm i row k)
          rw [pk_cpy_in (Nat.zero_le _) (by omega), Nat.zero_add, Nat.sub_zero, ci_n (by decide), ci_n (by decide), hC k hk]
          unfold nrm
          rw [if_pos hk]
      · rw [ca_n (by decide), ci_n (by decide), ci_n (by decide)]
    · rw [if_neg hcv, show cvB L (seW A row i) = false from decide_eq_false hcv]
      exact ⟨c, s, rfl, rfl, Sc.rf, hB, rfl⟩
  | succ k ih =>
    intro i hi f hf
    obtain ⟨f, rfl⟩ : ∃ m, f = m + 1 := ⟨f - 1, by omega⟩
    unfold C_settles_p22
    have hw := hr i (by omega)
    obtain ⟨q, q1, q2⟩ := hc.2.2.2.1.get hw
    have h1 := ih (i + 1) (by omega) f (by omega)
    simp (disch := omega) only [p_lit, p_mul, nI_add, nI_1, p_ck, p_cl, p_b1, p_b2, p_l1, p_le, p_lt, p_eq, p_shlN, p_shrN, p_or, p_and, p_xor, p_m1, p_m1', p_m0, p_ge0, p_zr, p_zr0, p_zr1, p_b0, p_b1', if_pos, if_neg, if_true, if_false, Bool.true_eq_false, Bool.false_eq_true, eq_self, hC i (by omega), q1, p_ckC q2.c, q2.bits]
    exact h1
theorem C_settles_it {L n : Nat} (hn : 1 ≤ n ∧ n ≤ 4) (hL : L < 67108864) (hW : Wds A) : ∀ w, w ≤ nA A 0 → (∀ m, m ≤ n → ∀ (row : Nat → Nat) (c : CS) (s : SeT) (F : Nat), (∀ j, j < n - m → row j < nA A 0) → RN A c → CB c s → Cho c (n - m) row → m < F → ∃ c1 s1, C_settles F c (nI L) (nI (nA A 0 - w)) (nI (n - m)) (nI n) (nI (suW A row (n - m))) = some c1 ∧ itC (nA A 0) n (seS A L n) w m row s = .inr s1 ∧ Sc c c1 ∧ CB c1 s1 ∧ Cho c1 (n - m) row) ∧ (∀ m, m + 1 ≤ n → ∀ (row : Nat → Nat) (c : CS) (s : SeT) (F g : Nat), (∀ j, j < n - (m + 1) → row j < nA A 0) → RN A c → CB c s → Cho c (n - (m + 1)) row → m < F → w < g → ∃ c1 s1, C_settles_p99 (C_settles F) g c (nI L) (nI (n - (m + 1))) (nI n) (nI (suW A row (n - (m + 1)))) (nI (nA A 0 - w)) = some c1 ∧ itC (nA A 0) n (seS A L n) w (m + 1) row s = .inr s1 ∧ Sc c c1 ∧ CB c1 s1 ∧ Cho c1 (n - (m + 1)) row) := by
  have h0 := hW.1.2
  have PQ : ∀ w, (∀ m, m + 1 ≤ n → ∀ (row : Nat → Nat) (c : CS) (s : SeT) (F g : Nat), (∀ j, j < n - (m + 1) → row j < nA A 0) → RN A c → CB c s → Cho c (n - (m + 1)) row → m < F → w < g → ∃ c1 s1, C_settles_p99 (C_settles F) g c (nI L) (nI (n - (m + 1))) (nI n) (nI (suW A row (n - (m + 1)))) (nI (nA A 0 - w)) = some c1 ∧ itC (nA A 0) n (seS A L n) w (m + 1) row s = .inr s1 ∧ Sc c c1 ∧ CB c1 s1 ∧ Cho c1 (n - (m + 1)) row) → w ≤ nA A 0 → ∀ m, m ≤ n → ∀ (row : Nat → Nat) (c : CS) (s : SeT) (F : Nat), (∀ j, j < n - m → row j < nA A 0) → RN A c → CB c s → Cho c (n - m) row → m < F → ∃ c1 s1, C_settles F c (nI L) (nI (nA A 0 - w)) (nI (n - m)) (nI n) (nI (suW A row (n - m))) = some c1 ∧ itC (nA A 0) n (seS A L n) w m row s = .inr s1 ∧ Sc c c1 ∧ CB c1 s1 ∧ Cho c1 (n - m) row := by
    intro w hQ hw m hm row c s F hr hc hB hC hF
    obtain ⟨F, rfl⟩ : ∃ m, F = m + 1 := ⟨F - 1, by omega⟩
    have hsu := suW_le hc.1 hr
    have hsu2 : suW A row (n - m) ≤ 32 := by
      have : (n - m) * 8 ≤ 4 * 8 := Nat.mul_le_mul_right 8 (by omega)
      omega
    unfold C_settles C_settles_b
    simp only [CB_lt hB hsu2]
    cases hl : ltO (suW A row (n - m)) s
    · rw [if_neg (by decide)]
      cases s with
      | none => cases hl
      | some q => exact ⟨c, some q, rfl, itC_pr w m hm row (by have := of_decide_eq_false hl; omega), Sc.rf, hB, hC⟩
    · rw [if_pos rfl]
      cases m with
      | zero =>
        rw [Nat.sub_zero] at hl hr hC ⊢
        rw [if_pos rfl]
        obtain ⟨c1, s1, a1, a2, a3, a4, a5⟩ := C_settle_end (rec := C_settles F) (L := L) hn hL hc hr hB hC hl n 0 (by omega) fu (by unfold fu; omega)
        exact ⟨c1, s1, a1, by rw [itC_0]; exact a2, a3, a4, fun j hj => by rw [a5]; exact hC j hj⟩
      | succ m =>
        rw [if_neg (fun e => by have := p_inj (by omega) (by omega) e; omega)]
        exact hQ m hm row c s F fu hr hc hB hC (by omega) (by unfold fu; omega)
  intro w
  induction w with
  | zero =>
    intro hw
    have hQ : (∀ m, m + 1 ≤ n → ∀ (row : Nat → Nat) (c : CS) (s : SeT) (F g : Nat), (∀ j, j < n - (m + 1) → row j < nA A 0) → RN A c → CB c s → Cho c (n - (m + 1)) row → m < F → 0 < g → ∃ c1 s1, C_settles_p99 (C_settles F) g c (nI L) (nI (n - (m + 1))) (nI n) (nI (suW A row (n - (m + 1)))) (nI (nA A 0 - 0)) = some c1 ∧ itC (nA A 0) n (seS A L n) 0 (m + 1) row s = .inr s1 ∧ Sc c c1 ∧ CB c1 s1 ∧ Cho c1 (n - (m + 1)) row) := by
      intro m hm row c s F g hr hc hB hC hF hg
      obtain ⟨g, rfl⟩ : ∃ m, g = m + 1 := ⟨g - 1, by omega⟩
      unfold C_settles_p99
      simp (disch := omega) only [p_lit, p_mul, nI_add, nI_1, p_ck, p_cl, p_b1, p_b2, p_l1, p_le, p_lt, p_eq, p_shlN, p_shrN, p_or, p_and, p_xor, p_m1, p_m1', p_m0, p_ge0, p_zr, p_zr0, p_zr1, p_b0, p_b1', if_pos, if_neg, if_true, if_false, Bool.true_eq_false, Bool.false_eq_true, eq_self, hc.2.2.2.1.1, hc.1.1.1]
      exact ⟨c, s, rfl, rfl, Sc.rf, hB, hC⟩
    exact ⟨PQ 0 hQ hw, hQ⟩
  | succ w ih =>
    intro hw
    obtain ⟨ihP, ihQ⟩ := ih (by omega)
    have hQ : (∀ m, m + 1 ≤ n → ∀ (row : Nat → Nat) (c : CS) (s : SeT) (F g : Nat), (∀ j, j < n - (m + 1) → row j < nA A 0) → RN A c → CB c s → Cho c (n - (m + 1)) row → m < F → w + 1 < g → ∃ c1 s1, C_settles_p99 (C_settles F) g c (nI L) (nI (n - (m + 1))) (nI n) (nI (suW A row (n - (m + 1)))) (nI (nA A 0 - (w + 1))) = some c1 ∧ itC (nA A 0) n (seS A L n) (w + 1) (m + 1) row s = .inr s1 ∧ Sc c c1 ∧ CB c1 s1 ∧ Cho c1 (n - (m + 1)) row) := by
      intro m hm row c s F g hr hc hB hC hF hg
      obtain ⟨g, rfl⟩ : ∃ m, g = m + 1 := ⟨g - 1, by omega⟩
      obtain ⟨d, hd⟩ : ∃ d, n - m = d + 1 := ⟨n - m - 1, by omega⟩
      obtain ⟨row2, er⟩ : ∃ z, z = (fun j => if j = n - m - 1 then nA A 0 - w - 1 else row j) := ⟨_, rfl⟩
      have er1 : row2 d = nA A 0 - (w + 1) := by rw [er]; show (if d = n - m - 1 then _ else _) = _; rw [if_pos (by omega)]; omega
      have er2 : ∀ j, j < d → row2 j = row j := fun j hj => by rw [er]; show (if j = n - m - 1 then _ else _) = _; rw [if_neg (by omega)]
      have hsc : Sc c (ci_ c 113 d (nI (nA A 0 - (w + 1)))) := Sc.ci (by decide)
      have hsu : suW A row d ≤ d * 8 := suW_le hc.1 fun j hj => hr j (by omega)
      obtain ⟨q, q1, q2⟩ := (hc.sc hsc).2.2.2.1.get (show nA A 0 - (w + 1) < nA A 0 by omega)
      have hwl := (hW.2 (nA A 0 - (w + 1)) (by omega)).ln
      obtain ⟨c1, s1, k1, k2, k3, k4, k5⟩ := ihP m (by omega) row2 (ci_ c 113 d (nI (nA A 0 - (w + 1)))) s F (fun j hj => by
        by_cases h : j = d
        · subst h; rw [er1]; omega
        · rw [er2 j (by omega)]; exact hr j (by omega)) (hc.sc hsc) (by
          unfold CB
          rw [ci_n (by decide), ci_n (by decide)]
          exact hB) (fun j hj => by
          by_cases h : j = d
          · subst h; rw [er1, ci_e]
          · rw [ci_ne h, er2 j (by omega)]; exact hC j (by omega)) hF
      rw [hd, show suW A row2 (d + 1) = suW A row d + wln A (nA A 0 - (w + 1)) by
        show smN _ d + wln A (row2 d) = _
        rw [er1]
        congr 1
        exact smN_cong _ fun k hk => by rw [er2 k hk]] at k1
      obtain ⟨c2, s2, l1, l2, l3, l4, l5⟩ := ihQ m hm row c1 s1 F g hr ((hc.sc hsc).sc k3) k4 (fun j hj => by rw [k5 j (by omega), er2 j (by omega)]) hF (by omega)
      rw [show n - (m + 1) = d by omega] at l1 l5 ⊢
      unfold C_settles_p99
      simp (disch := omega) only [p_lit, p_mul, nI_add, nI_1, p_ck, p_cl, p_b1, p_b2, p_l1, p_le, p_lt, p_eq, p_shlN, p_shrN, p_or, p_and, p_xor, p_m1, p_m1', p_m0, p_ge0, p_zr, p_zr0, p_zr1, p_b0, p_b1', if_pos, if_neg, if_true, if_false, Bool.true_eq_false, Bool.false_eq_true, eq_self, hc.2.2.2.1.1, hc.1.1.1, q1, p_ckC q2.c, q2.length, show nA A 0 - (w + 1) + 1 = nA A 0 - w by omega, k1]
      refine ⟨c2, s2, l1, ?_, (hsc.tr k3).tr l3, l4, l5⟩
      unfold itC
      rw [← er, k2]
      exact l2
    exact ⟨PQ (w + 1) hQ hw, hQ⟩
end PI
