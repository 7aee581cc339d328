/-! spells -/
set_option maxRecDepth 20000
theorem p_2n : (-2 : Int32) = -nI 2 := rfl
section PO
variable {t : TS} {c : CS} {A : Nat → Int32}
theorem C_sp_div {x : Nat} (h : x < 961) : nI x / nI 31 = nI (x / 31) ∧ nI x - nI x / nI 31 * nI 31 = nI (x % 31) := ⟨pk_div (by omega) (by omega) (by omega), pk_rem (by omega) (by omega) (by omega)⟩
theorem C_skip {l : Nat} {x2 x3 : Int32} {f : Nat} (hf : f < 31) : ∀ k j, j + k = f → ∀ g, C_spells_p20 c (g + k) (nI l) x2 x3 (nI (31 * f + j)) = C_spells_p20 c g (nI l) x2 x3 (nI (31 * f + f)) := by
  intro k
  induction k with
  | zero =>
    intro j hj g
    rw [show j = f by omega]; rfl
  | succ k ih =>
    intro j hj g
    have h2 := ih (j + 1) (by omega) g
    have hd := C_sp_div (x := 31 * f + j) (by omega)
    rw [show (31 * f + j) / 31 = f by omega, show (31 * f + j) % 31 = j by omega] at hd
    rw [← Nat.add_assoc]
    conv => lhs; unfold C_spells_p20
    unfold C_spells_p43 C_spells_p60 C_spells_p101
    simp (disch := omega) only [p_lit, p_mul, nI_add, nI_1, p_ck, p_cl, p_b1, p_b2, p_l1, p_le, p_lt, p_eq, p_shlN, p_shrN, p_or, p_and, p_xor, p_m1, p_m1', p_m0, p_ge0, p_zr, p_zr0, p_zr1, p_b0, p_b1', if_pos, if_neg, if_true, if_false, Bool.true_eq_false, Bool.false_eq_true, eq_self, p_nm1, hd.1, p_sub (show f * 31 ≤ 31 * f + j by omega), show 31 * f + j - f * 31 = j by omega]
    exact h2
theorem spells_it {l : Nat} {x2 : Int32} (hl : l < 26) (hc : RN (t.1 0) c) (hP : Prt (t.1 0)) (hR : RPr (t.1 0) c) : ∀ d f j (x3 : Int32), f < 31 → f ≤ j → j ≤ 31 → 961 - (31 * f + j) ≤ d → ∀ F G g, 31 - f < F → 31 - j < G → 961 - (31 * f + j) < g → ∃ z, T_spells_50 (T_spells_39 t F) t G (nI l) x2 x3 (nI f) (nI j) = some z ∧ C_spells_p20 c g (nI l) x2 x3 (nI (31 * f + j)) = some z := by
  have row : ∀ f (x3 : Int32) F g, f ≤ 31 → 31 - f < F → 961 - 31 * f < g → (∀ G g', f < 31 → 31 - f < G → 961 - (31 * f + f) < g' → ∃ z, T_spells_50 (T_spells_39 t (F - 1)) t G (nI l) x2 x3 (nI f) (nI f) = some z ∧ C_spells_p20 c g' (nI l) x2 x3 (nI (31 * f + f)) = some z) → ∃ z, T_spells_39 t F (nI l) x2 x3 (nI f) = some z ∧ C_spells_p20 c g (nI l) x2 x3 (nI (31 * f)) = some z := by
    intro f x3 F g hf hF hg h
    obtain ⟨F, rfl⟩ : ∃ m, F = m + 1 := ⟨F - 1, by omega⟩
    rcases Nat.lt_or_ge f 31 with h1 | h1
    · obtain ⟨z, z1, z2⟩ := h fu (g - f) h1 (by unfold fu; omega) (by omega)
      have e := C_skip (c := c) (l := l) (x2 := x2) (x3 := x3) h1 f 0 (by omega) (g - f)
      rw [show g - f + f = g by omega, Nat.add_zero] at e
      rw [e]
      unfold T_spells_39
      simp (disch := omega) only [p_lit, p_mul, nI_add, nI_1, p_ck, p_cl, p_b1, p_b2, p_l1, p_le, p_lt, p_eq, p_shlN, p_shrN, p_or, p_and, p_xor, p_m1, p_m1', p_m0, p_ge0, p_zr, p_zr0, p_zr1, p_b0, p_b1', if_pos, if_neg, if_true, if_false, Bool.true_eq_false, Bool.false_eq_true, eq_self]
      exact ⟨z, z1, z2⟩
    · obtain rfl : f = 31 := by omega
      obtain ⟨g, rfl⟩ : ∃ m, g = m + 1 := ⟨g - 1, by omega⟩
      unfold T_spells_39 C_spells_p20
      simp (disch := omega) only [p_lit, p_mul, nI_add, nI_1, p_ck, p_cl, p_b1, p_b2, p_l1, p_le, p_lt, p_eq, p_shlN, p_shrN, p_or, p_and, p_xor, p_m1, p_m1', p_m0, p_ge0, p_zr, p_zr0, p_zr1, p_b0, p_b1', if_pos, if_neg, if_true, if_false, Bool.true_eq_false, Bool.false_eq_true, eq_self]
      by_cases e : x2 = -nI 1
      · simp only [if_pos e]; exact ⟨_, rfl, rfl⟩
      · simp only [if_neg e]; exact ⟨_, rfl, rfl⟩
  intro d
  induction d with
  | zero =>
    intro f j x3 hf hj hj2 hd F G g hF hG hg
    obtain ⟨G, rfl⟩ : ∃ m, G = m + 1 := ⟨G - 1, by omega⟩
    obtain rfl : j = 31 := by omega
    obtain rfl : f = 30 := by omega
    obtain ⟨z, z1, z2⟩ := row 31 x3 F g (by omega) (by omega) (by omega) (fun G g' h => absurd h (by omega))
    unfold T_spells_50
    simp (disch := omega) only [p_lit, p_mul, nI_add, nI_1, p_ck, p_cl, p_b1, p_b2, p_l1, p_le, p_lt, p_eq, p_shlN, p_shrN, p_or, p_and, p_xor, p_m1, p_m1', p_m0, p_ge0, p_zr, p_zr0, p_zr1, p_b0, p_b1', if_pos, if_neg, if_true, if_false, Bool.true_eq_false, Bool.false_eq_true, eq_self]
    exact ⟨z, z1, z2⟩
  | succ d ih =>
    intro f j x3 hf hj hj2 hd F G g hF hG hg
    obtain ⟨G, rfl⟩ : ∃ m, G = m + 1 := ⟨G - 1, by omega⟩
    rcases Nat.lt_or_ge j 31 with h1 | h1
    · obtain ⟨g, rfl⟩ : ∃ m, g = m + 1 := ⟨g - 1, by omega⟩
      obtain ⟨b, b1, b2⟩ := goes_s (t := t) (c := c) (x2 := nI f) (x3 := nI j) hl hc hP hR
      have hdv := C_sp_div (x := 31 * f + j) (by omega)
      rw [show (31 * f + j) / 31 = f by omega, show (31 * f + j) % 31 = j by omega] at hdv
      unfold T_spells_50 C_spells_p20
      unfold T_spells_89 C_spells_p43 C_spells_p60 C_spells_p75 C_spells_p101
      simp (disch := omega) only [p_lit, p_mul, nI_add, nI_1, p_ck, p_cl, p_b1, p_b2, p_l1, p_le, p_lt, p_eq, p_shlN, p_shrN, p_or, p_and, p_xor, p_m1, p_m1', p_m0, p_ge0, p_zr, p_zr0, p_zr1, p_b0, p_b1', if_pos, if_neg, if_true, if_false, Bool.true_eq_false, Bool.false_eq_true, eq_self, p_nm1, hdv.1, p_sub (show f * 31 ≤ 31 * f + j by omega), show 31 * f + j - f * 31 = j by omega, b1, b2]
      cases b
      · simp (disch := omega) only [p_lit, p_mul, nI_add, nI_1, p_ck, p_cl, p_b1, p_b2, p_l1, p_le, p_lt, p_eq, p_shlN, p_shrN, p_or, p_and, p_xor, p_m1, p_m1', p_m0, p_ge0, p_zr, p_zr0, p_zr1, p_b0, p_b1', if_pos, if_neg, if_true, if_false, Bool.true_eq_false, Bool.false_eq_true, eq_self]
        exact ih f (j + 1) x3 hf (by omega) (by omega) (by omega) F G g hF (by omega) (by omega)
      · simp (disch := omega) only [p_lit, p_mul, nI_add, nI_1, p_ck, p_cl, p_b1, p_b2, p_l1, p_le, p_lt, p_eq, p_shlN, p_shrN, p_or, p_and, p_xor, p_m1, p_m1', p_m0, p_ge0, p_zr, p_zr0, p_zr1, p_b0, p_b1', if_pos, if_neg, if_true, if_false, Bool.true_eq_false, Bool.false_eq_true, eq_self]
        by_cases e : x3 = x2
        · simp only [if_pos e]; exact ⟨_, rfl, rfl⟩
        · simp only [if_neg e]
          exact ih f (j + 1) _ hf (by omega) (by omega) (by omega) F G g hF (by omega) (by omega)
    · obtain rfl : j = 31 := by omega
      obtain ⟨z, z1, z2⟩ := row (f + 1) x3 F g (by omega) (by omega) (by omega) (fun G' g' h2 hG' hg' => ih (f + 1) (f + 1) x3 h2 (Nat.le_refl _) (by omega) (by omega) (F - 1) G' g' (by omega) hG' hg')
      unfold T_spells_50
      simp (disch := omega) only [p_lit, p_mul, nI_add, nI_1, p_ck, p_cl, p_b1, p_b2, p_l1, p_le, p_lt, p_eq, p_shlN, p_shrN, p_or, p_and, p_xor, p_m1, p_m1', p_m0, p_ge0, p_zr, p_zr0, p_zr1, p_b0, p_b1', if_pos, if_neg, if_true, if_false, Bool.true_eq_false, Bool.false_eq_true, eq_self]
      rw [show 31 * f + 31 = 31 * (f + 1) by omega]
      exact ⟨z, z1, z2⟩
theorem h_spells {x1 x2 : Int32} (hc : RN (t.1 0) c) (hP : Prt (t.1 0)) (hR : RPr (t.1 0) c) : ∃ r, T_spells t x1 x2 = some r ∧ C_spells c x1 x2 = some r := by
  unfold T_spells C_spells
  rcases rgL x1 with ⟨h1, h2⟩ | ⟨l, hl, rfl, h1, h2⟩
  · simp (disch := omega) only [p_lit, p_mul, nI_add, nI_1, p_ck, p_cl, p_b1, p_b2, p_l1, p_le, p_lt, p_eq, p_shlN, p_shrN, p_or, p_and, p_xor, p_m1, p_m1', p_m0, p_ge0, p_zr, p_zr0, p_zr1, p_b0, p_b1', if_pos, if_neg, if_true, if_false, Bool.true_eq_false, Bool.false_eq_true, eq_self, h1, h2]
    exact ⟨_, rfl, rfl⟩
  simp (disch := omega) only [p_lit, p_mul, nI_add, nI_1, p_ck, p_cl, p_b1, p_b2, p_l1, p_le, p_lt, p_eq, p_shlN, p_shrN, p_or, p_and, p_xor, p_m1, p_m1', p_m0, p_ge0, p_zr, p_zr0, p_zr1, p_b0, p_b1', if_pos, if_neg, if_true, if_false, Bool.true_eq_false, Bool.false_eq_true, eq_self, h1, h2]
  by_cases hx : -nI 1 ≤ x2
  · simp only [if_pos hx]
    obtain ⟨b, b1, b2⟩ := goes_s (t := t) (c := c) (x2 := nI 1) (x3 := nI 0) hl hc hP hR
    have go : ∀ x3 : Int32, ∃ z, T_spells_36 t (nI l) x2 x3 = some z ∧ C_spells_p20 c 99999 (nI l) x2 x3 (nI 0) = some z := fun x3 => by
      unfold T_spells_36
      obtain ⟨z, z1, z2⟩ := spells_it (x2 := x2) hl hc hP hR 961 0 0 x3 (by omega) (by omega) (by omega) (by omega) 99999 fu 99999 (by omega) (by unfold fu; omega) (by omega)
      refine ⟨z, ?_, z2⟩
      rw [show fu = 99999 + 1 from rfl]
      unfold T_spells_39
      simp (disch := omega) only [p_lit, p_mul, nI_add, nI_1, p_ck, p_cl, p_b1, p_b2, p_l1, p_le, p_lt, p_eq, p_shlN, p_shrN, p_or, p_and, p_xor, p_m1, p_m1', p_m0, p_ge0, p_zr, p_zr0, p_zr1, p_b0, p_b1', if_pos, if_neg, if_true, if_false, Bool.true_eq_false, Bool.false_eq_true, eq_self]
      exact z1
    rw [show fu = 99999 + 1 from rfl]
    unfold C_spells_p20 C_spells_p43 C_spells_p60 C_spells_p75 C_spells_p101
    rw [if_neg (show ¬ (961 : Int32) ≤ -nI 1 by decide)]
    simp (disch := omega) only [p_lit, p_mul, nI_add, nI_1, p_ck, p_cl, p_b1, p_b2, p_l1, p_le, p_lt, p_eq, p_shlN, p_shrN, p_or, p_and, p_xor, p_m1, p_m1', p_m0, p_ge0, p_zr, p_zr0, p_zr1, p_b0, p_b1', if_pos, if_neg, if_true, if_false, Bool.true_eq_false, Bool.false_eq_true, eq_self, p_m1n, b1, b2]
    rw [show (-nI 1 : Int32) + nI 1 = nI 0 by decide]
    cases b
    · simp (disch := omega) only [p_lit, p_mul, nI_add, nI_1, p_ck, p_cl, p_b1, p_b2, p_l1, p_le, p_lt, p_eq, p_shlN, p_shrN, p_or, p_and, p_xor, p_m1, p_m1', p_m0, p_ge0, p_zr, p_zr0, p_zr1, p_b0, p_b1', if_pos, if_neg, if_true, if_false, Bool.true_eq_false, Bool.false_eq_true, eq_self]
      exact go (nI 0)
    · simp (disch := omega) only [p_lit, p_mul, nI_add, nI_1, p_ck, p_cl, p_b1, p_b2, p_l1, p_le, p_lt, p_eq, p_shlN, p_shrN, p_or, p_and, p_xor, p_m1, p_m1', p_m0, p_ge0, p_zr, p_zr0, p_zr1, p_b0, p_b1', if_pos, if_neg, if_true, if_false, Bool.true_eq_false, Bool.false_eq_true, eq_self]
      by_cases e : x2 = nI 0
      · rw [if_pos e, if_pos e.symm]
        exact ⟨_, rfl, rfl⟩
      · rw [if_neg e, if_neg (fun q => e q.symm)]
        exact go _
  · simp only [if_neg hx]
    exact ⟨_, rfl, rfl⟩
end PO
