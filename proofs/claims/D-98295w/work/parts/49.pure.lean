/-! words that are mistaken by signs as tried -/
set_option maxRecDepth 20000
/-- signs as tried: alike on both sides -/
def Sg (t : TS) (c : CS) : Prop := ∀ l, l < 26 → t.1 36 l = c.1 112 l ∧ (c.1 112 l = -nI 1 ∨ ∃ v, v < 10 ∧ c.1 112 l = nI v)
theorem p_s0 {v : Nat} (h : v < 2147483648) : (nI v < nI 0) = False := p_m0 h
section PQ
variable {t : TS} {c : CS} {A : Nat → Int32}
theorem alike_lp {w v r q : Nat} (hc : RN (t.1 0) c) (hw : w < nA (t.1 0) 0) (hv : v < nA (t.1 0) 0) (hr : WdC (t.1 0) c r w) (hq : WdC (t.1 0) c q v) (hlen : wln (t.1 0) w = wln (t.1 0) v) (hS : Sg t c) : ∀ k i, i + k = wln (t.1 0) w → ∀ n, k < n → ∃ z : Bool, T_areAlike_17 t n (nI w) (nI v) (nI i) = some (bI z) ∧ C_areMistaken_p15 c n r q (nI i) = some (bI z) := by
  have h0 := hc.1.1.2
  have hW := hc.1.2 w hw
  have hV := hc.1.2 v hv
  have h8 := hW.ln
  obtain ⟨a1, b1, d1, e1⟩ := hr.letter hW
  obtain ⟨a2, b2, d2, e2⟩ := hq.letter hV
  intro k
  induction k with
  | zero =>
    intro i hi n hn
    obtain ⟨n, rfl⟩ : ∃ m, n = m + 1 := ⟨n - 1, by omega⟩
    unfold T_areAlike_17 C_areMistaken_p15
    simp (disch := omega) only [p_lit, p_mul, nI_add, nI_1, p_ck, p_cl, p_b1, p_b2, p_l1, p_le, p_lt, p_eq, p_shlN, p_shrN, p_or, p_and, p_xor, p_m1, p_m1', p_m0, p_ge0, p_zr, p_zr0, p_zr1, p_b0, p_b1', if_pos, if_neg, if_true, if_false, Bool.true_eq_false, Bool.false_eq_true, eq_self, T_lengthOf_s (show w < 24 by omega) hW, p_ckC hr.c, hr.length]
    exact ⟨true, rfl, rfl⟩
  | succ k ih =>
    intro i hi n hn
    obtain ⟨n, rfl⟩ : ∃ m, n = m + 1 := ⟨n - 1, by omega⟩
    have l1 := hW.lt (k := i) (by omega)
    have l2 := hV.lt (k := i) (by omega)
    obtain ⟨s1, s2⟩ := hS (wlt (t.1 0) w i) (by omega)
    obtain ⟨s3, s4⟩ := hS (wlt (t.1 0) v i) (by omega)
    obtain ⟨z, z1, z2⟩ := ih (i + 1) (by omega) n (by omega)
    unfold T_areAlike_17 C_areMistaken_p15 T_areAlike_78 C_areMistaken_p74 C_areMistaken_p78 C_areMistaken_p79
    simp (disch := omega) only [p_lit, p_mul, nI_add, nI_1, p_ck, p_cl, p_b1, p_b2, p_l1, p_le, p_lt, p_eq, p_shlN, p_shrN, p_or, p_and, p_xor, p_m1, p_m1', p_m0, p_ge0, p_zr, p_zr0, p_zr1, p_b0, p_b1', if_pos, if_neg, if_true, if_false, Bool.true_eq_false, Bool.false_eq_true, eq_self, T_lengthOf_s (show w < 24 by omega) hW, p_ckC hr.c, hr.length, T_letterOf_s (show w < 24 by omega) (show i < 8 by omega) hW, T_letterOf_s (show v < 24 by omega) (show i < 8 by omega) hV, b1, e1 i (by omega), p_ckC hq.c, b2, e2 i (by omega), s1, s3]
    by_cases he : wlt (t.1 0) w i = wlt (t.1 0) v i
    · simp only [if_pos he]
      exact ⟨z, z1, z2⟩
    · simp only [if_neg he]
      rcases s2 with h | ⟨x, hx, h⟩
      · rw [h]
        refine ⟨false, ?_, ?_⟩
        · rw [if_pos (by decide)]; rfl
        · rw [if_pos rfl]; rfl
      · rw [h]
        rw [if_neg (show ¬ nI x < nI 0 from nI_pos (by omega)), if_neg (show ¬ nI x = -nI 1 by rw [p_nm1 (by omega)]; exact id)]
        by_cases h5 : nI x = c.1 112 (wlt (t.1 0) v i)
        · simp only [if_pos h5]
          exact ⟨z, z1, z2⟩
        · simp only [if_neg h5]
          exact ⟨false, rfl, rfl⟩
theorem alike_s {w v r q : Nat} (hc : RN (t.1 0) c) (hw : w < nA (t.1 0) 0) (hv : v < nA (t.1 0) 0) (hr : WdC (t.1 0) c r w) (hq : WdC (t.1 0) c q v) (hS : Sg t c) : ∃ z : Bool, T_areAlike t (nI w) (nI v) = some (bI z) ∧ C_areMistaken c r q = some (bI z) := by
  have h0 := hc.1.1.2
  have hW := hc.1.2 w hw
  have hV := hc.1.2 v hv
  have h8 := hW.ln
  have h9 := hV.ln
  unfold T_areAlike C_areMistaken
  simp (disch := omega) only [p_lit, p_mul, nI_add, nI_1, p_ck, p_cl, p_b1, p_b2, p_l1, p_le, p_lt, p_eq, p_shlN, p_shrN, p_or, p_and, p_xor, p_m1, p_m1', p_m0, p_ge0, p_zr, p_zr0, p_zr1, p_b0, p_b1', if_pos, if_neg, if_true, if_false, Bool.true_eq_false, Bool.false_eq_true, eq_self, T_lengthOf_s (show w < 24 by omega) hW, T_lengthOf_s (show v < 24 by omega) hV, p_ckC hr.c, hr.length, p_ckC hq.c, hq.length]
  by_cases hl : wln (t.1 0) w = wln (t.1 0) v
  · simp only [if_pos hl]
    exact alike_lp hc hw hv hr hq hl hS (wln (t.1 0) w) 0 (by omega) fu (by unfold fu; omega)
  · simp only [if_neg hl]
    exact ⟨false, rfl, rfl⟩
theorem clear_in {w r : Nat} {k1 k2 : Int32 → Option Int32} (hc : RN (t.1 0) c) (hS : Sg t c) (hw : w < nA (t.1 0) 0) (hr1 : c.2.1 6 w = some r) (hr : WdC (t.1 0) c r w) (hk : ∃ z : Bool, k1 (nI (w + 1)) = some (bI (!z)) ∧ k2 (nI (w + 1)) = some (bI z)) : ∀ k i, i + k = w → ∀ n, k < n → ∃ z : Bool, T_isClear_14 k1 t n (nI w) (nI i) = some (bI (!z)) ∧ C_isAnyMistaken_p17 k2 c n (nI w) (nI i) = some (bI z) := by
  have h0 := hc.1.1.2
  intro k
  induction k with
  | zero =>
    intro i hi n hn
    obtain ⟨n, rfl⟩ : ∃ m, n = m + 1 := ⟨n - 1, by omega⟩
    unfold T_isClear_14 C_isAnyMistaken_p17
    simp (disch := omega) only [p_lit, p_mul, nI_add, nI_1, p_ck, p_cl, p_b1, p_b2, p_l1, p_le, p_lt, p_eq, p_shlN, p_shrN, p_or, p_and, p_xor, p_m1, p_m1', p_m0, p_ge0, p_zr, p_zr0, p_zr1, p_b0, p_b1', if_pos, if_neg, if_true, if_false, Bool.true_eq_false, Bool.false_eq_true, eq_self]
    exact hk
  | succ k ih =>
    intro i hi n hn
    obtain ⟨n, rfl⟩ : ∃ m, n = m + 1 := ⟨n - 1, by omega⟩
    obtain ⟨q, q1, q2⟩ := hc.2.2.2.1.get (show i < nA (t.1 0) 0 by omega)
    obtain ⟨z, z1, z2⟩ := alike_s hc hw (show i < nA (t.1 0) 0 by omega) hr q2 hS
    unfold T_isClear_14 C_isAnyMistaken_p17
    simp (disch := omega) only [p_lit, p_mul, nI_add, nI_1, p_ck, p_cl, p_b1, p_b2, p_l1, p_le, p_lt, p_eq, p_shlN, p_shrN, p_or, p_and, p_xor, p_m1, p_m1', p_m0, p_ge0, p_zr, p_zr0, p_zr1, p_b0, p_b1', if_pos, if_neg, if_true, if_false, Bool.true_eq_false, Bool.false_eq_true, eq_self, hr1, q1, z1, z2]
    cases z
    · simp (disch := omega) only [p_lit, p_mul, nI_add, nI_1, p_ck, p_cl, p_b1, p_b2, p_l1, p_le, p_lt, p_eq, p_shlN, p_shrN, p_or, p_and, p_xor, p_m1, p_m1', p_m0, p_ge0, p_zr, p_zr0, p_zr1, p_b0, p_b1', if_pos, if_neg, if_true, if_false, Bool.true_eq_false, Bool.false_eq_true, eq_self]
      exact ih (i + 1) (by omega) n (by omega)
    · simp (disch := omega) only [p_lit, p_mul, nI_add, nI_1, p_ck, p_cl, p_b1, p_b2, p_l1, p_le, p_lt, p_eq, p_shlN, p_shrN, p_or, p_and, p_xor, p_m1, p_m1', p_m0, p_ge0, p_zr, p_zr0, p_zr1, p_b0, p_b1', if_pos, if_neg, if_true, if_false, Bool.true_eq_false, Bool.false_eq_true, eq_self]
      exact ⟨true, rfl, rfl⟩
theorem clear_lp (hc : RN (t.1 0) c) (hS : Sg t c) : ∀ k i, i + k = nA (t.1 0) 0 → ∀ n, k < n → ∃ z : Bool, T_isClear_2 t n (nI i) = some (bI (!z)) ∧ C_isAnyMistaken_p2 c n (nI i) = some (bI z) := by
  have h0 := hc.1.1.2
  intro k
  induction k with
  | zero =>
    intro i hi n hn
    obtain ⟨n, rfl⟩ : ∃ m, n = m + 1 := ⟨n - 1, by omega⟩
    unfold T_isClear_2 C_isAnyMistaken_p2
    simp (disch := omega) only [p_lit, p_mul, nI_add, nI_1, p_ck, p_cl, p_b1, p_b2, p_l1, p_le, p_lt, p_eq, p_shlN, p_shrN, p_or, p_and, p_xor, p_m1, p_m1', p_m0, p_ge0, p_zr, p_zr0, p_zr1, p_b0, p_b1', if_pos, if_neg, if_true, if_false, Bool.true_eq_false, Bool.false_eq_true, eq_self, hc.1.1.1, hc.2.2.2.1.1]
    exact ⟨false, rfl, rfl⟩
  | succ k ih =>
    intro i hi n hn
    obtain ⟨n, rfl⟩ : ∃ m, n = m + 1 := ⟨n - 1, by omega⟩
    obtain ⟨q, q1, q2⟩ := hc.2.2.2.1.get (show i < nA (t.1 0) 0 by omega)
    unfold T_isClear_2 C_isAnyMistaken_p2
    simp (disch := omega) only [p_lit, p_mul, nI_add, nI_1, p_ck, p_cl, p_b1, p_b2, p_l1, p_le, p_lt, p_eq, p_shlN, p_shrN, p_or, p_and, p_xor, p_m1, p_m1', p_m0, p_ge0, p_zr, p_zr0, p_zr1, p_b0, p_b1', if_pos, if_neg, if_true, if_false, Bool.true_eq_false, Bool.false_eq_true, eq_self, hc.1.1.1, hc.2.2.2.1.1]
    exact clear_in hc hS (by omega) q1 q2 (ih (i + 1) (by omega) n (by omega)) i 0 (by omega) fu (by unfold fu; omega)
theorem clear_s (hc : RN (t.1 0) c) (hS : Sg t c) : ∃ z : Bool, T_isClear t = some (bI (!z)) ∧ C_isAnyMistaken c = some (bI z) := by
  have h0 := hc.1.1.2
  exact clear_lp hc hS (nA (t.1 0) 0) 0 (by omega) fu (by unfold fu; omega)
end PQ
