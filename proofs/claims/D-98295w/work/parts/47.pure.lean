/-! what was printed -/
set_option maxRecDepth 20000
def Prt (A : Nat → Int32) : Prop := IvN A 9 12 ∧ ∀ k, k < nA A 9 → A (542 + 3 * k) = nI (nA A (542 + 3 * k)) ∧ nA A (542 + 3 * k) < nA A 0
def RPr (A : Nat → Int32) (c : CS) : Prop := c.1 2 6 = A 9 ∧ ∀ k j, k < nA A 9 → j < 3 → c.1 (9 + k) j = A (542 + 3 * k + j)
def thN (A : Nat → Int32) (d : Int32) (n : Nat) : Nat := orN (fun k => if A (542 + 3 * k + 1) = d ∧ A (542 + 3 * k + 2) = nI 1 then wset A (nA A (542 + 3 * k)) else 0) n
section PN
variable {t : TS} {c : CS} {A : Nat → Int32}
theorem thN_lt {d : Int32} (hW : Wds A) (hP : Prt A) : thN A d (nA A 9) < 67108864 := orN_lt (m := 26) _ fun k hk => by
  split
  · exact (hW.2 _ (hP.2 k hk).2).set
  · omega
theorem T_there_lp {d : Int32} (hW : Wds (t.1 0)) (hP : Prt (t.1 0)) : ∀ k i, i + k = nA (t.1 0) 9 → ∀ n, k < n → T_setThere_4 t n d (nI (thN (t.1 0) d i)) (nI i) = some (nI (thN (t.1 0) d (nA (t.1 0) 9))) := by
  have h9 := hP.1.2
  have h0 := hW.1.2
  intro k
  induction k with
  | zero =>
    intro i hi n hn
    obtain ⟨n, rfl⟩ : ∃ m, n = m + 1 := ⟨n - 1, by omega⟩
    unfold T_setThere_4
    simp (disch := omega) only [p_lit, p_mul, nI_add, nI_1, p_ck, p_cl, p_b1, p_b2, p_l1, p_le, p_lt, p_eq, p_shlN, p_shrN, p_or, p_and, p_xor, p_m1, p_m1', p_m0, p_ge0, p_zr, p_zr0, p_zr1, p_b0, p_b1', if_pos, if_neg, if_true, if_false, Bool.true_eq_false, Bool.false_eq_true, eq_self, hP.1.1]
    rw [show i = nA (t.1 0) 9 by omega]
  | succ k ih =>
    intro i hi n hn
    obtain ⟨n, rfl⟩ : ∃ m, n = m + 1 := ⟨n - 1, by omega⟩
    have h2 := ih (i + 1) (by omega) n (by omega)
    unfold thN at h2
    rw [orN_succ] at h2
    obtain ⟨hp, hw⟩ := hP.2 i (by omega)
    unfold T_setThere_4 T_setThere_70
    simp (disch := omega) only [p_lit, p_mul, nI_add, nI_1, p_ck, p_cl, p_b1, p_b2, p_l1, p_le, p_lt, p_eq, p_shlN, p_shrN, p_or, p_and, p_xor, p_m1, p_m1', p_m0, p_ge0, p_zr, p_zr0, p_zr1, p_b0, p_b1', if_pos, if_neg, if_true, if_false, Bool.true_eq_false, Bool.false_eq_true, eq_self, hP.1.1, hp, T_setOf_s (t := t) (w := nA (t.1 0) (542 + 3 * i)) (by omega) (hW.2 _ hw)]
    by_cases e1 : t.1 0 (542 + 3 * i + 1) = d
    · rw [if_pos e1]
      by_cases e2 : t.1 0 (542 + 3 * i + 2) = nI 1
      · rw [if_pos e2]
        rw [if_pos ⟨e1, e2⟩] at h2
        exact h2
      · rw [if_neg e2]
        rw [if_neg (fun q => e2 q.2), Nat.or_zero] at h2
        exact h2
    · rw [if_neg e1]
      rw [if_neg (fun q => e1 q.1), Nat.or_zero] at h2
      exact h2
theorem C_there_lp {d : Int32} (hc : RN A c) (hP : Prt A) (hR : RPr A c) : ∀ k i, i + k = nA A 9 → ∀ n, k < n → C_thereOn_p4 c n d (nI (thN A d i)) (nI i) = some (nI (thN A d (nA A 9))) := by
  have h9 := hP.1.2
  have h0 := hc.1.1.2
  intro k
  induction k with
  | zero =>
    intro i hi n hn
    obtain ⟨n, rfl⟩ : ∃ m, n = m + 1 := ⟨n - 1, by omega⟩
    unfold C_thereOn_p4
    simp (disch := omega) only [p_lit, p_mul, nI_add, nI_1, p_ck, p_cl, p_b1, p_b2, p_l1, p_le, p_lt, p_eq, p_shlN, p_shrN, p_or, p_and, p_xor, p_m1, p_m1', p_m0, p_ge0, p_zr, p_zr0, p_zr1, p_b0, p_b1', if_pos, if_neg, if_true, if_false, Bool.true_eq_false, Bool.false_eq_true, eq_self, hR.1, hP.1.1]
    rw [show i = nA A 9 by omega]
  | succ k ih =>
    intro i hi n hn
    obtain ⟨n, rfl⟩ : ∃ m, n = m + 1 := ⟨n - 1, by omega⟩
    have h2 := ih (i + 1) (by omega) n (by omega)
    unfold thN at h2
    rw [orN_succ] at h2
    obtain ⟨hp, hw⟩ := hP.2 i (by omega)
    have r0 : c.1 (9 + i) 0 = nI (nA A (542 + 3 * i)) := (hR.2 i 0 (by omega) (by omega)).trans hp
    have r1 := hR.2 i 1 (by omega) (by omega)
    have r2 := hR.2 i 2 (by omega) (by omega)
    obtain ⟨q, q1, q2⟩ := hc.2.2.2.1.get hw
    unfold C_thereOn_p4 C_thereOn_p74 C_thereOn_p75
    simp (disch := omega) only [p_lit, p_mul, nI_add, nI_1, p_ck, p_cl, p_b1, p_b2, p_l1, p_le, p_lt, p_eq, p_shlN, p_shrN, p_or, p_and, p_xor, p_m1, p_m1', p_m0, p_ge0, p_zr, p_zr0, p_zr1, p_b0, p_b1', if_pos, if_neg, if_true, if_false, Bool.true_eq_false, Bool.false_eq_true, eq_self, hR.1, hP.1.1, r0, r1, r2, q1, p_ckC q2.c, q2.bits]
    by_cases e1 : A (542 + 3 * i + 1) = d
    · rw [if_pos e1]
      by_cases e2 : A (542 + 3 * i + 2) = nI 1
      · rw [if_pos e2]
        rw [if_pos ⟨e1, e2⟩] at h2
        exact h2
      · rw [if_neg e2]
        rw [if_neg (fun q => e2 q.2)] at h2
        exact h2
    · rw [if_neg e1]
      rw [if_neg (fun q => e1 q.1)] at h2
      exact h2
theorem goes_lp {l : Nat} {x2 x3 : Int32} (hl : l < 26) (hc : RN (t.1 0) c) (hP : Prt (t.1 0)) (hR : RPr (t.1 0) c) : ∀ k i, i + k = nA (t.1 0) 9 → ∀ n, k < n → ∃ z : Bool, T_canBe_3 t n (nI l) x2 x3 (nI i) = some (bI z) ∧ C_goes_p3 c n (nI l) x2 x3 (nI i) = some (bI z) := by
  have h9 := hP.1.2
  have h0 := hc.1.1.2
  intro k
  induction k with
  | zero =>
    intro i hi n hn
    obtain ⟨n, rfl⟩ : ∃ m, n = m + 1 := ⟨n - 1, by omega⟩
    unfold T_canBe_3 C_goes_p3
    simp (disch := omega) only [p_lit, p_mul, nI_add, nI_1, p_ck, p_cl, p_b1, p_b2, p_l1, p_le, p_lt, p_eq, p_shlN, p_shrN, p_or, p_and, p_xor, p_m1, p_m1', p_m0, p_ge0, p_zr, p_zr0, p_zr1, p_b0, p_b1', if_pos, if_neg, if_true, if_false, Bool.true_eq_false, Bool.false_eq_true, eq_self, hR.1, hP.1.1]
    exact ⟨true, rfl, rfl⟩
  | succ k ih =>
    intro i hi n hn
    obtain ⟨n, rfl⟩ : ∃ m, n = m + 1 := ⟨n - 1, by omega⟩
    obtain ⟨hp, hw⟩ := hP.2 i (by omega)
    have r0 : c.1 (9 + i) 0 = nI (nA (t.1 0) (542 + 3 * i)) := (hR.2 i 0 (by omega) (by omega)).trans hp
    have r1 := hR.2 i 1 (by omega) (by omega)
    have r2 := hR.2 i 2 (by omega) (by omega)
    obtain ⟨q, q1, q2⟩ := hc.2.2.2.1.get hw
    have hs := (hc.1.2 _ hw).set
    obtain ⟨z, z1, z2⟩ := ih (i + 1) (by omega) n (by omega)
    have eT := T_there_lp (t := t) (d := t.1 0 (542 + 3 * i + 1)) hc.1 hP (nA (t.1 0) 9) 0 (by omega) fu (by unfold fu; omega)
    have eC := C_there_lp (c := c) (d := t.1 0 (542 + 3 * i + 1)) hc hP hR (nA (t.1 0) 9) 0 (by omega) fu (by unfold fu; omega)
    obtain ⟨g, hg⟩ : ∃ g, g = thN (t.1 0) (t.1 0 (542 + 3 * i + 1)) (nA (t.1 0) 9) := ⟨_, rfl⟩
    rw [show thN (t.1 0) (t.1 0 (542 + 3 * i + 1)) 0 = 0 from rfl, ← hg] at eT eC
    have hle : wset (t.1 0) (nA (t.1 0) (542 + 3 * i)) &&& (g ^^^ 4294967295) &&& (2 ^ l ^^^ 4294967295) ≤ wset (t.1 0) (nA (t.1 0) (542 + 3 * i)) := Nat.le_trans Nat.and_le_left Nat.and_le_left
    unfold T_canBe_3 C_goes_p3 T_canBe_135 C_goes_p138 T_setThere C_thereOn
    simp (disch := omega) only [p_lit, p_mul, nI_add, nI_1, p_ck, p_cl, p_b1, p_b2, p_l1, p_le, p_lt, p_eq, p_shlN, p_shrN, p_or, p_and, p_xor, p_m1, p_m1', p_m0, p_ge0, p_zr, p_zr0, p_zr1, p_b0, p_b1', if_pos, if_neg, if_true, if_false, Bool.true_eq_false, Bool.false_eq_true, eq_self, hR.1, hP.1.1, r0, r1, r2, q1, p_ckC q2.c, q2.bits, hp, T_setOf_s (t := t) (w := nA (t.1 0) (542 + 3 * i)) (by omega) (hc.1.2 _ hw), isIn_eq, p_in, p_has, p_hasT, eT, eC, p_not]
    generalize (decide (x2 ≤ t.1 0 (542 + 3 * i + 1)) && decide (t.1 0 (542 + 3 * i + 1) ≤ x3)) = o
    generalize (wset (t.1 0) (nA (t.1 0) (542 + 3 * i))).testBit l = h
    by_cases e : t.1 0 (542 + 3 * i + 2) = nI 1
    · simp only [if_pos e]
      cases o
      · simp (disch := omega) only [p_lit, p_mul, nI_add, nI_1, p_ck, p_cl, p_b1, p_b2, p_l1, p_le, p_lt, p_eq, p_shlN, p_shrN, p_or, p_and, p_xor, p_m1, p_m1', p_m0, p_ge0, p_zr, p_zr0, p_zr1, p_b0, p_b1', if_pos, if_neg, if_true, if_false, Bool.true_eq_false, Bool.false_eq_true, eq_self]
        exact ⟨z, z1, z2⟩
      · cases h
        · simp (disch := omega) only [p_lit, p_mul, nI_add, nI_1, p_ck, p_cl, p_b1, p_b2, p_l1, p_le, p_lt, p_eq, p_shlN, p_shrN, p_or, p_and, p_xor, p_m1, p_m1', p_m0, p_ge0, p_zr, p_zr0, p_zr1, p_b0, p_b1', if_pos, if_neg, if_true, if_false, Bool.true_eq_false, Bool.false_eq_true, eq_self]
          exact ⟨z, z1, z2⟩
        · simp (disch := omega) only [p_lit, p_mul, nI_add, nI_1, p_ck, p_cl, p_b1, p_b2, p_l1, p_le, p_lt, p_eq, p_shlN, p_shrN, p_or, p_and, p_xor, p_m1, p_m1', p_m0, p_ge0, p_zr, p_zr0, p_zr1, p_b0, p_b1', if_pos, if_neg, if_true, if_false, Bool.true_eq_false, Bool.false_eq_true, eq_self]
          exact ⟨false, rfl, rfl⟩
    · simp only [if_neg e]
      by_cases e3 : wset (t.1 0) (nA (t.1 0) (542 + 3 * i)) &&& (g ^^^ 4294967295) &&& (2 ^ l ^^^ 4294967295) = 0
      · simp only [if_pos e3]
        cases o
        · simp (disch := omega) only [p_lit, p_mul, nI_add, nI_1, p_ck, p_cl, p_b1, p_b2, p_l1, p_le, p_lt, p_eq, p_shlN, p_shrN, p_or, p_and, p_xor, p_m1, p_m1', p_m0, p_ge0, p_zr, p_zr0, p_zr1, p_b0, p_b1', if_pos, if_neg, if_true, if_false, Bool.true_eq_false, Bool.false_eq_true, eq_self]
          exact ⟨false, rfl, rfl⟩
        · cases h
          · simp (disch := omega) only [p_lit, p_mul, nI_add, nI_1, p_ck, p_cl, p_b1, p_b2, p_l1, p_le, p_lt, p_eq, p_shlN, p_shrN, p_or, p_and, p_xor, p_m1, p_m1', p_m0, p_ge0, p_zr, p_zr0, p_zr1, p_b0, p_b1', if_pos, if_neg, if_true, if_false, Bool.true_eq_false, Bool.false_eq_true, eq_self]
            exact ⟨false, rfl, rfl⟩
          · simp (disch := omega) only [p_lit, p_mul, nI_add, nI_1, p_ck, p_cl, p_b1, p_b2, p_l1, p_le, p_lt, p_eq, p_shlN, p_shrN, p_or, p_and, p_xor, p_m1, p_m1', p_m0, p_ge0, p_zr, p_zr0, p_zr1, p_b0, p_b1', if_pos, if_neg, if_true, if_false, Bool.true_eq_false, Bool.false_eq_true, eq_self]
            exact ⟨z, z1, z2⟩
      · simp only [if_neg e3]
        exact ⟨z, z1, z2⟩
theorem goes_s {l : Nat} {x2 x3 : Int32} (hl : l < 26) (hc : RN (t.1 0) c) (hP : Prt (t.1 0)) (hR : RPr (t.1 0) c) : ∃ z : Bool, T_canBe t (nI l) x2 x3 = some (bI z) ∧ C_goes c (nI l) x2 x3 = some (bI z) := by
  have h9 := hP.1.2
  exact goes_lp hl hc hP hR (nA (t.1 0) 9) 0 (by omega) fu (by unfold fu; omega)
end PN
