/-! letters that can't be written; the word for a sense; what can be said -/
set_option maxRecDepth 20000
def IvS (A : Nat → Int32) (i : Nat) : Prop := A i = -1 ∨ ∃ v, v < 10 ∧ A i = nI v
def outB (A : Nat → Int32) (l : Nat) : Bool := (nA A 7).testBit l
def mutB (A : Nat → Int32) (l : Nat) : Bool := outB A l && decide (A (64 + l) = -1)
def silN (A : Nat → Int32) : Nat := orN (fun l => if mutB A l then 2 ^ l else 0) 26
def wriB (A : Nat → Int32) (w : Nat) : Bool := alN (fun k => !mutB A (wlt A w k)) (wln A w)
theorem silN_lt {A : Nat → Int32} : silN A < 67108864 := orN_lt (m := 26) _ fun k hk => by
  split
  · exact p_2lt hk
  · exact Nat.two_pow_pos 26
theorem p_and0 {a b : Nat} : a &&& b = 0 ↔ ∀ i, ¬ (a.testBit i = true ∧ b.testBit i = true) := by
  constructor
  · intro h i hi
    have := congrArg (fun x => x.testBit i) h
    simp only [Nat.testBit_and, Nat.zero_testBit] at this
    rw [hi.1, hi.2] at this
    cases this
  · intro h
    apply Nat.eq_of_testBit_eq
    intro i
    rw [Nat.testBit_and, Nat.zero_testBit]
    cases ha : a.testBit i with
    | false => rfl
    | true =>
      cases hb : b.testBit i with
      | false => rfl
      | true => exact absurd ⟨ha, hb⟩ (h i)
theorem wset_bit {A : Nat → Int32} {w l : Nat} : (wset A w).testBit l = true ↔ ∃ k, k < wln A w ∧ wlt A w k = l := by
  unfold wset
  rw [orN_bit]
  simp only [Nat.testBit_two_pow, decide_eq_true_eq]
theorem sil_bit {A : Nat → Int32} {l : Nat} : (silN A).testBit l = true ↔ l < 26 ∧ mutB A l = true := by
  unfold silN
  rw [orN_bit]
  constructor
  · rintro ⟨k, h1, h2⟩
    split at h2
    · rw [Nat.testBit_two_pow, decide_eq_true_eq] at h2
      subst h2
      exact ⟨h1, by assumption⟩
    · rw [Nat.zero_testBit] at h2; cases h2
  · rintro ⟨h1, h2⟩
    exact ⟨l, h1, by rw [if_pos h2, Nat.testBit_two_pow]; simp⟩
theorem wri_sil {A : Nat → Int32} {w : Nat} (h : Wd A w) : wriB A w = decide (wset A w &&& silN A = 0) := by
  rw [Bool.eq_iff_iff, decide_eq_true_eq, p_and0]
  unfold wriB
  rw [alN_iff]
  have hl := h.ln
  constructor
  · rintro h1 i ⟨h2, h3⟩
    obtain ⟨k, hk, rfl⟩ := wset_bit.mp h2
    have h4 := h1 k hk
    rw [(sil_bit.mp h3).2] at h4
    cases h4
  · intro h1 k hk
    cases hm : mutB A (wlt A w k) with
    | false => rfl
    | true => exact absurd ⟨wset_bit.mpr ⟨k, hk, rfl⟩, sil_bit.mpr ⟨by have := h.lt (k := k) (by omega); omega, hm⟩⟩ (h1 _)
theorem p_sg {A : Nat → Int32} {i : Nat} (h : IvS A i) : (0 : Int32) ≤ A i ↔ ¬ A i = -1 := by
  rcases h with h | ⟨v, hv, h⟩
  · rw [h]; decide
  · rw [h]
    exact ⟨fun _ => fun e => by rw [p_m1 (by omega)] at e; exact e, fun _ => nI_pos' (by omega)⟩
/-- the word for a sense -/
def wfS (A : Nat → Int32) (can : Nat → Bool) (s n : Nat) (o : Option Nat) : Option Nat := if wse A n = s then (if can n then (match o with
  | none => some n
  | some f => if wln A n < wln A f then some n else some f) else o) else o
def wfN (A : Nat → Int32) (can : Nat → Bool) (s : Nat) : Nat → Option Nat
  | 0 => none
  | n + 1 => wfS A can s n (wfN A can s n)
theorem wfN_succ {A : Nat → Int32} {can : Nat → Bool} {s n : Nat} : wfN A can s (n + 1) = wfS A can s n (wfN A can s n) := rfl
theorem wfN_lt {A : Nat → Int32} {can : Nat → Bool} {s f : Nat} : ∀ n, wfN A can s n = some f → f < n
  | 0, h => by cases h
  | n + 1, h => by
    unfold wfN wfS at h
    split at h
    · split at h
      · split at h
        · cases h; omega
        · rename_i g hg
          split at h
          · cases h; omega
          · cases h; have := wfN_lt n hg; omega
      · have := wfN_lt n h; omega
    · have := wfN_lt n h; omega
theorem wfN_cong {A : Nat → Int32} {can can2 : Nat → Bool} {s : Nat} : ∀ n, (∀ w, w < n → can w = can2 w) → wfN A can s n = wfN A can2 s n
  | 0, _ => rfl
  | n + 1, h => by unfold wfN wfS; rw [wfN_cong n fun k hk => h k (by omega), h n (by omega)]
def oI (o : Option Nat) : Int32 := match o with
  | none => -1
  | some w => nI w
def Sy (A : Nat → Int32) (s : Nat) : Prop := IvN A (356 + 9 * s) 8 ∧ 1 ≤ nA A (356 + 9 * s) ∧ ∀ k, k < nA A (356 + 9 * s) → IvN A (356 + 9 * s + 1 + k) 9
def sln (A : Nat → Int32) (s : Nat) : Nat := nA A (356 + 9 * s)
def sse (A : Nat → Int32) (s k : Nat) : Nat := nA A (356 + 9 * s + 1 + k)
def saB (A : Nat → Int32) (can : Nat → Bool) (s : Nat) : Bool := alN (fun k => (wfN A can (sse A s k) (nA A 0)).isSome) (sln A s)
/-- what is asked of the words and letters of a row -/
def Wds (A : Nat → Int32) : Prop := IvN A 0 24 ∧ ∀ w, w < nA A 0 → Wd A w
def Lts (A : Nat → Int32) : Prop := IvN A 7 67108863 ∧ ∀ l, l < 26 → IvS A (64 + l)
section PT
variable {t : TS} {w : Nat}
theorem T_isOut_s {l : Nat} (hl : l < 26) (h7 : IvN (t.1 0) 7 67108863) : T_isOut t (nI l) = some (bI (outB (t.1 0) l)) := by
  have := h7.2
  unfold T_isOut
  simp (disch := omega) only [p_lit, p_mul, nI_add, nI_1, p_ck, p_cl, p_b1, p_b2, p_l1, p_le, p_lt, p_eq, p_shlN, p_shrN, p_or, p_and, p_xor, p_m1, p_m1', p_m0, p_ge0, p_zr, p_zr0, p_zr1, p_b0, p_b1', if_pos, if_neg, if_true, if_false, Bool.true_eq_false, Bool.false_eq_true, eq_self, h7.1, p_hasT]
  rfl
theorem T_isWritten_lp (hw : w < 24) (h : Wd (t.1 0) w) (hL : Lts (t.1 0)) : ∀ k i, i + k = wln (t.1 0) w → alN (fun k => !mutB (t.1 0) (wlt (t.1 0) w k)) i = true → ∀ n, k < n → T_isWritten_2 t n (nI w) (nI i) = some (bI (wriB (t.1 0) w)) := by
  have hl := h.ln
  intro k
  induction k with
  | zero =>
    intro i hi ha n hn
    obtain ⟨n, rfl⟩ : ∃ m, n = m + 1 := ⟨n - 1, by omega⟩
    unfold T_isWritten_2
    simp (disch := omega) only [p_lit, p_mul, nI_add, nI_1, p_ck, p_cl, p_b1, p_b2, p_l1, p_le, p_lt, p_eq, p_shlN, p_shrN, p_or, p_and, p_xor, p_m1, p_m1', p_m0, p_ge0, p_zr, p_zr0, p_zr1, p_b0, p_b1', if_pos, if_neg, if_true, if_false, Bool.true_eq_false, Bool.false_eq_true, eq_self, T_lengthOf_s hw h]
    have : wriB (t.1 0) w = true := by unfold wriB; rw [← hi]; exact ha
    rw [this]; rfl
  | succ k ih =>
    intro i hi ha n hn
    obtain ⟨n, rfl⟩ : ∃ m, n = m + 1 := ⟨n - 1, by omega⟩
    unfold T_isWritten_2
    have h1 := h.lt (k := i) (by omega)
    simp (disch := omega) only [p_lit, p_mul, nI_add, nI_1, p_ck, p_cl, p_b1, p_b2, p_l1, p_le, p_lt, p_eq, p_shlN, p_shrN, p_or, p_and, p_xor, p_m1, p_m1', p_m0, p_ge0, p_zr, p_zr0, p_zr1, p_b0, p_b1', if_pos, if_neg, if_true, if_false, Bool.true_eq_false, Bool.false_eq_true, eq_self, T_lengthOf_s hw h, T_letterOf_s hw (show i < 8 by omega) h, T_isOut_s (show wlt (t.1 0) w i < 26 by omega) hL.1]
    have h2 := ih (i + 1) (by omega)
    cases hb : outB (t.1 0) (wlt (t.1 0) w i)
    · have hm : mutB (t.1 0) (wlt (t.1 0) w i) = false := by unfold mutB; rw [hb]; rfl
      simp (disch := omega) only [p_lit, p_mul, nI_add, nI_1, p_ck, p_cl, p_b1, p_b2, p_l1, p_le, p_lt, p_eq, p_shlN, p_shrN, p_or, p_and, p_xor, p_m1, p_m1', p_m0, p_ge0, p_zr, p_zr0, p_zr1, p_b0, p_b1', if_pos, if_neg, if_true, if_false, Bool.true_eq_false, Bool.false_eq_true, eq_self]
      unfold T_isWritten_43
      simp (disch := omega) only [p_lit, p_mul, nI_add, nI_1, p_ck, p_cl, p_b1, p_b2, p_l1, p_le, p_lt, p_eq, p_shlN, p_shrN, p_or, p_and, p_xor, p_m1, p_m1', p_m0, p_ge0, p_zr, p_zr0, p_zr1, p_b0, p_b1', if_pos, if_neg, if_true, if_false, Bool.true_eq_false, Bool.false_eq_true, eq_self]
      exact h2 (by unfold alN; rw [ha, hm]; rfl) n (by omega)
    · simp (disch := omega) only [p_lit, p_mul, nI_add, nI_1, p_ck, p_cl, p_b1, p_b2, p_l1, p_le, p_lt, p_eq, p_shlN, p_shrN, p_or, p_and, p_xor, p_m1, p_m1', p_m0, p_ge0, p_zr, p_zr0, p_zr1, p_b0, p_b1', if_pos, if_neg, if_true, if_false, Bool.true_eq_false, Bool.false_eq_true, eq_self]
      rcases hL.2 _ (show wlt (t.1 0) w i < 26 by omega) with hs | ⟨v, hv, hs⟩
      · have hm : mutB (t.1 0) (wlt (t.1 0) w i) = true := by unfold mutB; rw [hb, hs]; rfl
        rw [hs, if_neg (by decide)]
        have : wriB (t.1 0) w = false := by unfold wriB; exact alN_no (i := i) (by rw [hm]; rfl) (by omega)
        rw [this]; rfl
      · have hm : mutB (t.1 0) (wlt (t.1 0) w i) = false := by
          unfold mutB; rw [hs, hb, decide_eq_false (by rw [p_m1 (by omega)]; exact id)]; rfl
        rw [hs]
        unfold T_isWritten_43
        simp (disch := omega) only [p_lit, p_mul, nI_add, nI_1, p_ck, p_cl, p_b1, p_b2, p_l1, p_le, p_lt, p_eq, p_shlN, p_shrN, p_or, p_and, p_xor, p_m1, p_m1', p_m0, p_ge0, p_zr, p_zr0, p_zr1, p_b0, p_b1', if_pos, if_neg, if_true, if_false, Bool.true_eq_false, Bool.false_eq_true, eq_self]
        exact h2 (by unfold alN; rw [ha, hm]; rfl) n (by omega)
theorem T_isWritten_s (hw : w < 24) (h : Wd (t.1 0) w) (hL : Lts (t.1 0)) : T_isWritten t (nI w) = some (bI (wriB (t.1 0) w)) := by
  have hl := h.ln
  exact T_isWritten_lp hw h hL (wln (t.1 0) w) 0 (by omega) rfl fu (by unfold fu; omega)
/-- what the reference asks of a word: whether it is written now, or has none of some letters -/
def canT (A : Nat → Int32) (b : Bool) (m w : Nat) : Bool := if b then wriB A w else decide (wset A w &&& m = 0)
theorem T_wordFor_lp {s m : Nat} {b : Bool} {x2 : Int32} (hs : s < 10) (hm : m < 67108864) (hx : b = false → x2 = nI m) (hW : Wds (t.1 0)) (hL : Lts (t.1 0)) : ∀ k i, i + k = nA (t.1 0) 0 → ∀ n, k < n → T_wordFor_6 t n (nI s) x2 (bI b) (oI (wfN (t.1 0) (canT (t.1 0) b m) s i)) (nI i) = some (oI (wfN (t.1 0) (canT (t.1 0) b m) s (nA (t.1 0) 0))) := by
  have h0 := hW.1.2
  intro k
  induction k with
  | zero =>
    intro i hi n hn
    obtain ⟨n, rfl⟩ : ∃ m, n = m + 1 := ⟨n - 1, by omega⟩
    unfold T_wordFor_6
    simp (disch := omega) only [p_lit, p_mul, nI_add, nI_1, p_ck, p_cl, p_b1, p_b2, p_l1, p_le, p_lt, p_eq, p_shlN, p_shrN, p_or, p_and, p_xor, p_m1, p_m1', p_m0, p_ge0, p_zr, p_zr0, p_zr1, p_b0, p_b1', if_pos, if_neg, if_true, if_false, Bool.true_eq_false, Bool.false_eq_true, eq_self, hW.1.1]
    rw [← hi]; rfl
  | succ k ih =>
    intro i hi n hn
    obtain ⟨n, rfl⟩ : ∃ m, n = m + 1 := ⟨n - 1, by omega⟩
    unfold T_wordFor_6
    have hw := hW.2 i (by omega)
    have h1 := hw.se
    have h2 := ih (i + 1) (by omega) n (by omega)
    have h3 := hw.ln
    have h4 := hw.set
    simp (disch := omega) only [p_lit, p_mul, nI_add, nI_1, p_ck, p_cl, p_b1, p_b2, p_l1, p_le, p_lt, p_eq, p_shlN, p_shrN, p_or, p_and, p_xor, p_m1, p_m1', p_m0, p_ge0, p_zr, p_zr0, p_zr1, p_b0, p_b1', if_pos, if_neg, if_true, if_false, Bool.true_eq_false, Bool.false_eq_true, eq_self, hW.1.1, T_senseOf_s (show i < 24 by omega) hw]
    rw [wfN_succ] at h2
    unfold wfS at h2
    by_cases hse : wse (t.1 0) i = s
    · rw [if_pos hse]
      rw [if_pos hse] at h2
      have key : ∀ z : Bool, z = canT (t.1 0) b m i → T_wordFor_59 (T_wordFor_6 t n) t (nI s) x2 (bI b) (oI (wfN (t.1 0) (canT (t.1 0) b m) s i)) (nI i) (bI z) = some (oI (wfN (t.1 0) (canT (t.1 0) b m) s (nA (t.1 0) 0))) := by
        intro z hz
        rw [← hz] at h2
        unfold T_wordFor_59 T_wordFor_86 T_wordFor_90
        cases z
        · simp (disch := omega) only [p_lit, p_mul, nI_add, nI_1, p_ck, p_cl, p_b1, p_b2, p_l1, p_le, p_lt, p_eq, p_shlN, p_shrN, p_or, p_and, p_xor, p_m1, p_m1', p_m0, p_ge0, p_zr, p_zr0, p_zr1, p_b0, p_b1', if_pos, if_neg, if_true, if_false, Bool.true_eq_false, Bool.false_eq_true, eq_self]
          exact h2
        · rw [if_pos rfl] at h2
          simp (disch := omega) only [p_lit, p_mul, nI_add, nI_1, p_ck, p_cl, p_b1, p_b2, p_l1, p_le, p_lt, p_eq, p_shlN, p_shrN, p_or, p_and, p_xor, p_m1, p_m1', p_m0, p_ge0, p_zr, p_zr0, p_zr1, p_b0, p_b1', if_pos, if_neg, if_true, if_false, Bool.true_eq_false, Bool.false_eq_true, eq_self]
          cases ho : wfN (t.1 0) (canT (t.1 0) b m) s i with
          | none =>
            rw [ho] at h2
            rw [if_pos (show oI none < nI 0 by decide)]
            exact h2
          | some f =>
            rw [ho] at h2
            have hf := wfN_lt i ho
            have hwf := hW.2 f (by omega)
            have := hwf.ln
            rw [if_neg (show ¬ oI (some f) < nI 0 from nI_pos (by omega))]
            show bd1 (T_lengthOf t (nI i)) (fun v1 => bd1 (T_lengthOf t (nI f)) _) = _
            simp (disch := omega) only [p_lit, p_mul, nI_add, nI_1, p_ck, p_cl, p_b1, p_b2, p_l1, p_le, p_lt, p_eq, p_shlN, p_shrN, p_or, p_and, p_xor, p_m1, p_m1', p_m0, p_ge0, p_zr, p_zr0, p_zr1, p_b0, p_b1', if_pos, if_neg, if_true, if_false, Bool.true_eq_false, Bool.false_eq_true, eq_self, T_lengthOf_s (show i < 24 by omega) hw, T_lengthOf_s (show f < 24 by omega) hwf]
            by_cases hlt : wln (t.1 0) i < wln (t.1 0) f
            · rw [if_neg (by omega)]
              dsimp only at h2
              rw [if_pos hlt] at h2
              exact h2
            · rw [if_pos (by omega)]
              dsimp only at h2
              rw [if_neg hlt] at h2
              exact h2
      cases b
      · rw [hx rfl]
        rw [hx rfl] at key
        simp (disch := omega) only [p_lit, p_mul, nI_add, nI_1, p_ck, p_cl, p_b1, p_b2, p_l1, p_le, p_lt, p_eq, p_shlN, p_shrN, p_or, p_and, p_xor, p_m1, p_m1', p_m0, p_ge0, p_zr, p_zr0, p_zr1, p_b0, p_b1', if_pos, if_neg, if_true, if_false, Bool.true_eq_false, Bool.false_eq_true, eq_self, T_setOf_s (show i < 24 by omega) hw]
        have h5 : wset (t.1 0) i &&& m < 67108864 := Nat.and_lt_two_pow (n := 26) _ hm
        simp (disch := omega) only [p_lit, p_mul, nI_add, nI_1, p_ck, p_cl, p_b1, p_b2, p_l1, p_le, p_lt, p_eq, p_shlN, p_shrN, p_or, p_and, p_xor, p_m1, p_m1', p_m0, p_ge0, p_zr, p_zr0, p_zr1, p_b0, p_b1', if_pos, if_neg, if_true, if_false, Bool.true_eq_false, Bool.false_eq_true, eq_self]
        by_cases hc : wset (t.1 0) i &&& m = 0
        · rw [if_pos hc]
          exact key true (by unfold canT; rw [if_neg (by decide), decide_eq_true hc])
        · rw [if_neg hc]
          exact key false (by unfold canT; rw [if_neg (by decide), decide_eq_false hc])
      · simp (disch := omega) only [p_lit, p_mul, nI_add, nI_1, p_ck, p_cl, p_b1, p_b2, p_l1, p_le, p_lt, p_eq, p_shlN, p_shrN, p_or, p_and, p_xor, p_m1, p_m1', p_m0, p_ge0, p_zr, p_zr0, p_zr1, p_b0, p_b1', if_pos, if_neg, if_true, if_false, Bool.true_eq_false, Bool.false_eq_true, eq_self, T_isWritten_s (show i < 24 by omega) hw hL]
        exact key _ (by unfold canT; rw [if_pos rfl])
    · rw [if_neg hse]
      rw [if_neg hse] at h2
      unfold T_wordFor_90
      simp (disch := omega) only [p_lit, p_mul, nI_add, nI_1, p_ck, p_cl, p_b1, p_b2, p_l1, p_le, p_lt, p_eq, p_shlN, p_shrN, p_or, p_and, p_xor, p_m1, p_m1', p_m0, p_ge0, p_zr, p_zr0, p_zr1, p_b0, p_b1', if_pos, if_neg, if_true, if_false, Bool.true_eq_false, Bool.false_eq_true, eq_self]
      exact h2
theorem T_wordFor_s {s m : Nat} {b : Bool} {x2 : Int32} (hs : s < 10) (hm : m < 67108864) (hx : b = false → x2 = nI m) (hW : Wds (t.1 0)) (hL : Lts (t.1 0)) : T_wordFor t (nI s) x2 (bI b) = some (oI (wfN (t.1 0) (canT (t.1 0) b m) s (nA (t.1 0) 0))) := by
  have := hW.1.2
  exact T_wordFor_lp hs hm hx hW hL (nA (t.1 0) 0) 0 (by omega) fu (by unfold fu; omega)
theorem T_sensesOf_s {s : Nat} (hs : s < 8) (h : Sy (t.1 0) s) : T_sensesOf t (nI s) = some (nI (sln (t.1 0) s)) := by
  unfold T_sensesOf
  simp (disch := omega) only [p_lit, p_mul, nI_add, nI_1, p_ck, p_cl, p_b1, p_b2, p_l1, p_le, p_lt, p_eq, p_shlN, p_shrN, p_or, p_and, p_xor, p_m1, p_m1', p_m0, p_ge0, p_zr, p_zr0, p_zr1, p_b0, p_b1', if_pos, if_neg, if_true, if_false, Bool.true_eq_false, Bool.false_eq_true, eq_self, h.1.1]
  rfl
theorem T_senseAt_s {s k : Nat} (hs : s < 8) (h : Sy (t.1 0) s) (hk : k < sln (t.1 0) s) : T_senseAt t (nI s) (nI k) = some (nI (sse (t.1 0) s k)) := by
  have h1 : sln (t.1 0) s ≤ 8 := h.1.2
  unfold T_senseAt
  simp (disch := omega) only [p_lit, p_mul, nI_add, nI_1, p_ck, p_cl, p_b1, p_b2, p_l1, p_le, p_lt, p_eq, p_shlN, p_shrN, p_or, p_and, p_xor, p_m1, p_m1', p_m0, p_ge0, p_zr, p_zr0, p_zr1, p_b0, p_b1', if_pos, if_neg, if_true, if_false, Bool.true_eq_false, Bool.false_eq_true, eq_self, (h.2.2 k hk).1]
  rfl
theorem T_canSay_lp {s m : Nat} {b : Bool} {x2 : Int32} (hs : s < 8) (hm : m < 67108864) (hx : b = false → x2 = nI m) (hW : Wds (t.1 0)) (hL : Lts (t.1 0)) (hS : Sy (t.1 0) s) : ∀ k i, i + k = sln (t.1 0) s → alN (fun k => (wfN (t.1 0) (canT (t.1 0) b m) (sse (t.1 0) s k) (nA (t.1 0) 0)).isSome) i = true → ∀ n, k < n → T_canSay_3 t n (nI s) x2 (bI b) (nI i) = some (bI (saB (t.1 0) (canT (t.1 0) b m) s)) := by
  have h1 : sln (t.1 0) s ≤ 8 := hS.1.2
  have h0 := hW.1.2
  intro k
  induction k with
  | zero =>
    intro i hi ha n hn
    obtain ⟨n, rfl⟩ : ∃ m, n = m + 1 := ⟨n - 1, by omega⟩
    unfold T_canSay_3
    simp (disch := omega) only [p_lit, p_mul, nI_add, nI_1, p_ck, p_cl, p_b1, p_b2, p_l1, p_le, p_lt, p_eq, p_shlN, p_shrN, p_or, p_and, p_xor, p_m1, p_m1', p_m0, p_ge0, p_zr, p_zr0, p_zr1, p_b0, p_b1', if_pos, if_neg, if_true, if_false, Bool.true_eq_false, Bool.false_eq_true, eq_self, T_sensesOf_s hs hS]
    have : saB (t.1 0) (canT (t.1 0) b m) s = true := by unfold saB; rw [← hi]; exact ha
    rw [this]; rfl
  | succ k ih =>
    intro i hi ha n hn
    obtain ⟨n, rfl⟩ : ∃ m, n = m + 1 := ⟨n - 1, by omega⟩
    unfold T_canSay_3
    have h2 : sse (t.1 0) s i ≤ 9 := (hS.2.2 i (by unfold sln at hi; omega)).2
    simp (disch := omega) only [p_lit, p_mul, nI_add, nI_1, p_ck, p_cl, p_b1, p_b2, p_l1, p_le, p_lt, p_eq, p_shlN, p_shrN, p_or, p_and, p_xor, p_m1, p_m1', p_m0, p_ge0, p_zr, p_zr0, p_zr1, p_b0, p_b1', if_pos, if_neg, if_true, if_false, Bool.true_eq_false, Bool.false_eq_true, eq_self, T_sensesOf_s hs hS, T_senseAt_s hs hS (show i < sln (t.1 0) s by omega), T_wordFor_s (show sse (t.1 0) s i < 10 by omega) hm hx hW hL]
    cases ho : wfN (t.1 0) (canT (t.1 0) b m) (sse (t.1 0) s i) (nA (t.1 0) 0) with
    | none =>
      rw [if_neg (show ¬ nI 0 ≤ oI none by decide)]
      have : saB (t.1 0) (canT (t.1 0) b m) s = false := by unfold saB; exact alN_no (i := i) (by rw [ho]; rfl) (by omega)
      rw [this]; rfl
    | some f =>
      have := wfN_lt _ ho
      rw [if_pos (show nI 0 ≤ oI (some f) from nI_pos' (by omega))]
      exact ih (i + 1) (by omega) (by unfold alN; rw [ha, ho]; rfl) n (by omega)
theorem T_canSay_s {s m : Nat} {b : Bool} {x2 : Int32} (hs : s < 8) (hm : m < 67108864) (hx : b = false → x2 = nI m) (hW : Wds (t.1 0)) (hL : Lts (t.1 0)) (hS : Sy (t.1 0) s) : T_canSay t (nI s) x2 (bI b) = some (bI (saB (t.1 0) (canT (t.1 0) b m) s)) := by
  have h1 : sln (t.1 0) s ≤ 8 := hS.1.2
  exact T_canSay_lp hs hm hx hW hL hS (sln (t.1 0) s) 0 (by omega) rfl fu (by unfold fu; omega)
end PT
