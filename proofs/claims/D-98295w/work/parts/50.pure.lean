/-! rows of signs: the next one -/
set_option maxRecDepth 20000
def unN (row : Nat → Nat) : Nat → Nat
  | 0 => 0
  | n + 1 => if row n < unN row n then unN row n else row n + 1
theorem unN_succ {row : Nat → Nat} {n : Nat} : unN row (n + 1) = if row n < unN row n then unN row n else row n + 1 := rfl
theorem unN_ext {r q : Nat → Nat} : ∀ n, (∀ j, j < n → r j = q j) → unN r n = unN q n
  | 0, _ => rfl
  | n + 1, h => by rw [unN_succ, unN_succ, unN_ext n fun j hj => h j (by omega), h n (by omega)]
def lnS (row : Nat → Nat) : Nat → Option Nat
  | 0 => none
  | k + 1 => if row (k + 1) = unN row (k + 1) then lnS row k else some (k + 1)
def nxS (row : Nat → Nat) (d : Nat) : Nat → Nat := fun j => if j < d then row j else if j = d then row d + 1 else 0
theorem lnS_lt {row : Nat → Nat} {d : Nat} : ∀ k, lnS row k = some d → 1 ≤ d ∧ d ≤ k
  | 0, h => by cases h
  | k + 1, h => by
    unfold lnS at h
    split at h
    · have := lnS_lt k h; omega
    · cases h; omega
theorem p_lem1I {a n : Nat} (ha : a < 1000000000) (hn : n < 1000000000) : (nI a ≤ nI n - nI 1) = (a < n) := by
  rw [Int32.le_iff_toInt_le, pk_sub_toInt (by omega) (by omega), nI_toInt (by omega)]
  apply propext
  omega
section PR
variable {t : TS}
theorem T_unlike_lp {n : Nat} {row : Nat → Nat} (hn : n ≤ 10) (hb : ∀ j, j < n → row j < 100) (hR : Row t n row) : ∀ k i, i + k = n → unN row i < 200 → ∀ f, k < f → T_unlike_4 t f (nI n) (nI (unN row i) - nI 1) (nI i) = some (nI (unN row n)) := by
  intro k
  induction k with
  | zero =>
    intro i hi hu f hf
    obtain ⟨f, rfl⟩ : ∃ m, f = m + 1 := ⟨f - 1, by omega⟩
    unfold T_unlike_4
    simp (disch := omega) only [p_lit, p_mul, nI_add, nI_1, p_ck, p_cl, p_b1, p_b2, p_l1, p_le, p_lt, p_eq, p_shlN, p_shrN, p_or, p_and, p_xor, p_m1, p_m1', p_m0, p_ge0, p_zr, p_zr0, p_zr1, p_b0, p_b1', if_pos, if_neg, if_true, if_false, Bool.true_eq_false, Bool.false_eq_true, eq_self]
    rw [Int32.sub_add_cancel, show i = n by omega]
  | succ k ih =>
    intro i hi hu f hf
    obtain ⟨f, rfl⟩ : ∃ m, f = m + 1 := ⟨f - 1, by omega⟩
    have h1 := hb i (by omega)
    have h2 := ih (i + 1) (by omega)
    rw [unN_succ] at h2
    unfold T_unlike_4 T_unlike_29
    simp (disch := omega) only [p_lit, p_mul, nI_add, nI_1, p_ck, p_cl, p_b1, p_b2, p_l1, p_le, p_lt, p_eq, p_shlN, p_shrN, p_or, p_and, p_xor, p_m1, p_m1', p_m0, p_ge0, p_zr, p_zr0, p_zr1, p_b0, p_b1', if_pos, if_neg, if_true, if_false, Bool.true_eq_false, Bool.false_eq_true, eq_self, hR i (by omega), p_lem1I (show row i < 1000000000 by omega) (show unN row i < 1000000000 by omega)]
    by_cases h : row i < unN row i
    · rw [if_pos h]
      rw [if_pos h] at h2
      exact h2 hu f (by omega)
    · rw [if_neg h]
      rw [if_neg h] at h2
      have h3 := h2 (by omega) f (by omega)
      rw [p_sub (by omega), Nat.add_sub_cancel] at h3
      exact h3
theorem T_unlike_s {n : Nat} {row : Nat → Nat} (hn : n ≤ 10) (hb : ∀ j, j < n → row j < 100) (hR : Row t n row) : T_unlike t (nI n) = some (nI (unN row n)) := by
  have h := T_unlike_lp hn hb hR n 0 (by omega) (by show 0 < 200; omega) fu (by unfold fu; omega)
  rw [show nI (unN row 0) - nI 1 = (-1 : Int32) by show nI 0 - nI 1 = -1; decide] at h
  exact h
theorem T_nextS_up {n d : Nat} {row : Nat → Nat} (hn : n ≤ 10) : ∀ k i, i + k = n → d < i → ∀ (t : TS), Row t i (nxS row d) → ∀ f, k < f → ∃ t1, T_nextSigns_48 f t (nI n) (nI i) = some (nI 1, t1) ∧ S29 t t1 ∧ Row t1 n (nxS row d) := by
  intro k
  induction k with
  | zero =>
    intro i hi hd t hR f hf
    obtain ⟨f, rfl⟩ : ∃ m, f = m + 1 := ⟨f - 1, by omega⟩
    unfold T_nextSigns_48
    simp (disch := omega) only [p_lit, p_mul, nI_add, nI_1, p_ck, p_cl, p_b1, p_b2, p_l1, p_le, p_lt, p_eq, p_shlN, p_shrN, p_or, p_and, p_xor, p_m1, p_m1', p_m0, p_ge0, p_zr, p_zr0, p_zr1, p_b0, p_b1', if_pos, if_neg, if_true, if_false, Bool.true_eq_false, Bool.false_eq_true, eq_self]
    exact ⟨t, rfl, S29.rf, fun j hj => hR j (by omega)⟩
  | succ k ih =>
    intro i hi hd t hR f hf
    obtain ⟨f, rfl⟩ : ∃ m, f = m + 1 := ⟨f - 1, by omega⟩
    unfold T_nextSigns_48
    simp (disch := omega) only [p_lit, p_mul, nI_add, nI_1, p_ck, p_cl, p_b1, p_b2, p_l1, p_le, p_lt, p_eq, p_shlN, p_shrN, p_or, p_and, p_xor, p_m1, p_m1', p_m0, p_ge0, p_zr, p_zr0, p_zr1, p_b0, p_b1', if_pos, if_neg, if_true, if_false, Bool.true_eq_false, Bool.false_eq_true, eq_self]
    obtain ⟨t1, g1, g2, g3⟩ := ih (i + 1) (by omega) (by omega) (si t 29 i (nI 0)) (fun j hj => by
      by_cases h : j = i
      · subst h
        rw [si_e]
        unfold nxS
        rw [if_neg (by omega), if_neg (by omega)]
      · rw [si_ne h]; exact hR j (by omega)) f (by omega)
    exact ⟨t1, g1, S29.si.tr g2, g3⟩
theorem T_nextS_dn {n : Nat} {row : Nat → Nat} (hn : n ≤ 10) (hb : ∀ j, j < n → row j < 100) (hR : Row t n row) : ∀ k, k < n → ∀ f, k < f → ∃ t1, T_nextSigns_4 f t (nI n) (nI k) = some (bI (lnS row k).isSome, t1) ∧ S29 t t1 ∧ (∀ d, lnS row k = some d → Row t1 n (nxS row d)) := by
  intro k
  induction k with
  | zero =>
    intro hk f hf
    obtain ⟨f, rfl⟩ : ∃ m, f = m + 1 := ⟨f - 1, by omega⟩
    unfold T_nextSigns_4
    rw [if_pos (show nI 0 ≤ 0 by decide)]
    unfold T_nextSigns_28
    rw [if_neg (show ¬ (0 : Int32) < nI 0 by decide)]
    exact ⟨t, rfl, S29.rf, fun d h => by cases h⟩
  | succ k ih =>
    intro hk f hf
    obtain ⟨f, rfl⟩ : ∃ m, f = m + 1 := ⟨f - 1, by omega⟩
    have h1 := hb (k + 1) (by omega)
    have hu : T_unlike t (nI (k + 1)) = some (nI (unN row (k + 1))) := T_unlike_s (by omega) (fun j hj => hb j (by omega)) (fun j hj => hR j (by omega))
    have hul : unN row (k + 1) < 1000 := by
      have : ∀ m, m ≤ n → unN row m ≤ 100 := by
        intro m
        induction m with
        | zero => intro _; show 0 ≤ 100; omega
        | succ m ihm =>
          intro hm
          have := ihm (by omega)
          have := hb m (by omega)
          rw [unN_succ]
          split <;> omega
      have := this (k + 1) (by omega)
      omega
    unfold T_nextSigns_4
    simp (disch := omega) only [p_lit, p_mul, nI_add, nI_1, p_ck, p_cl, p_b1, p_b2, p_l1, p_le, p_lt, p_eq, p_shlN, p_shrN, p_or, p_and, p_xor, p_m1, p_m1', p_m0, p_ge0, p_zr, p_zr0, p_zr1, p_b0, p_b1', if_pos, if_neg, if_true, if_false, Bool.true_eq_false, Bool.false_eq_true, eq_self, hu, hR (k + 1) (by omega)]
    unfold lnS
    by_cases hm : row (k + 1) = unN row (k + 1)
    · rw [if_pos hm, if_pos hm]
      obtain ⟨t1, g1, g2, g3⟩ := ih (by omega) f (by omega)
      rw [show nI (k + 1) + -nI 1 = nI k from pk_m1 k]
      exact ⟨t1, g1, g2, g3⟩
    · rw [if_neg hm, if_neg hm]
      unfold T_nextSigns_28
      simp (disch := omega) only [p_lit, p_mul, nI_add, nI_1, p_ck, p_cl, p_b1, p_b2, p_l1, p_le, p_lt, p_eq, p_shlN, p_shrN, p_or, p_and, p_xor, p_m1, p_m1', p_m0, p_ge0, p_zr, p_zr0, p_zr1, p_b0, p_b1', if_pos, if_neg, if_true, if_false, Bool.true_eq_false, Bool.false_eq_true, eq_self, hR (k + 1) (by omega)]
      obtain ⟨t1, g1, g2, g3⟩ := T_nextS_up (row := row) (d := k + 1) hn (n - (k + 2)) (k + 2) (by omega) (by omega) (si t 29 (k + 1) (nI (row (k + 1) + 1))) (fun j hj => by
        by_cases h : j = k + 1
        · subst h
          rw [si_e]
          unfold nxS
          rw [if_neg (by omega), if_pos rfl]
        · rw [si_ne h, hR j (by omega)]
          unfold nxS
          rw [if_pos (by omega)]) fu (by unfold fu; omega)
      refine ⟨t1, g1, S29.si.tr g2, fun d h => ?_⟩
      cases h
      exact g3
end PR
