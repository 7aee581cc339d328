/-! settlement: its end -/
set_option maxRecDepth 20000
def CFs (t : CS) (x2 : Int32) : Option (Int32 × CS) := if (t.1 0 16) = nI 0 then some (-nI 1, t) else if x2 = -nI 1 then some (t.1 0 17, t) else if (t.1 0 16) ≤ x2 then some (-nI 1, t) else ck x2 4 (some (t.1 114 x2.toNatClampNeg, t))
theorem p_ltm1 {x : Int32} (h1 : x < 0) (h2 : -nI 1 ≤ x) : x = -nI 1 := by
  have e1 : (-nI 1).toInt = -1 := by decide
  have e0 : (0 : Int32).toInt = 0 := by decide
  rw [Int32.lt_iff_toInt_lt, e0] at h1
  rw [Int32.le_iff_toInt_le, e1] at h2
  exact Int32.toInt_inj.mp (by omega)
section PJ
variable {t : TS} {c : CS} {A : Nat → Int32}
theorem settle_fin {x2 : Int32} {s : SeT} (hx : -nI 1 ≤ x2) (hB : TB t s) (hC : CB c s) : ∃ r, T_settlement_84 t x2 = some (r, t) ∧ CFs c x2 = some (r, c) := by
  unfold T_settlement_84 CFs
  cases s with
  | none =>
    rw [hB.1, hC.2]
    exact ⟨_, if_pos rfl, if_pos rfl⟩
  | some q =>
    obtain ⟨b1, b2, b3, b4, b5⟩ := hB
    obtain ⟨d1, d2, -, -, d5⟩ := hC
    simp (disch := omega) only [p_lit, p_mul, nI_add, nI_1, p_ck, p_cl, p_b1, p_b2, p_l1, p_le, p_lt, p_eq, p_shlN, p_shrN, p_or, p_and, p_xor, p_m1, p_m1', p_m0, p_ge0, p_zr, p_zr0, p_zr1, p_b0, p_b1', if_pos, if_neg, if_true, if_false, Bool.true_eq_false, Bool.false_eq_true, eq_self, b1, b2, d1, d2]
    by_cases h1 : x2 = -nI 1
    · simp only [if_pos h1]
      exact ⟨_, rfl, rfl⟩
    · simp only [if_neg h1]
      by_cases h2 : nI q.2.1 ≤ x2
      · simp only [if_pos h2]
        exact ⟨_, rfl, rfl⟩
      · simp only [if_neg h2]
        rcases pk_ix x2 (n := q.2.1) (by omega) with h | h | ⟨j, hj, rfl⟩
        · exact absurd (p_ltm1 h hx) h1
        · exact absurd h h2
        · simp (disch := omega) only [p_lit, p_mul, nI_add, nI_1, p_ck, p_cl, p_b1, p_b2, p_l1, p_le, p_lt, p_eq, p_shlN, p_shrN, p_or, p_and, p_xor, p_m1, p_m1', p_m0, p_ge0, p_zr, p_zr0, p_zr1, p_b0, p_b1', if_pos, if_neg, if_true, if_false, Bool.true_eq_false, Bool.false_eq_true, eq_self, b5 j hj, d5 j hj]
          exact ⟨_, rfl, rfl⟩
theorem C_settle_tail {L : Nat} {x2 : Int32} {s : SeT} (hL : L < 67108864) : ∀ k n, n + k = 5 → 1 ≤ n → nA A 0 < n → ∀ (c : CS), RN A c → CB c s → ∀ g, k < g → ∃ c2, C_settlement_p27 g c (nI L) x2 (nI n) = CFs c2 x2 ∧ Sc c c2 ∧ CB c2 s := by
  intro k
  induction k with
  | zero =>
    intro n hn h1 hw c hc hB g hg
    obtain ⟨g, rfl⟩ : ∃ m, g = m + 1 := ⟨g - 1, by omega⟩
    unfold C_settlement_p27 CFs
    simp (disch := omega) only [p_lit, p_mul, nI_add, nI_1, p_ck, p_cl, p_b1, p_b2, p_l1, p_le, p_lt, p_eq, p_shlN, p_shrN, p_or, p_and, p_xor, p_m1, p_m1', p_m0, p_ge0, p_zr, p_zr0, p_zr1, p_b0, p_b1', if_pos, if_neg, if_true, if_false, Bool.true_eq_false, Bool.false_eq_true, eq_self]
    exact ⟨c, rfl, Sc.rf, hB⟩
  | succ k ih =>
    intro n hn h1 hw c hc hB g hg
    obtain ⟨g, rfl⟩ : ∃ m, g = m + 1 := ⟨g - 1, by omega⟩
    obtain ⟨c1, s1, k1, k2, k3, k4, -⟩ := (C_settles_it (A := A) (L := L) (n := n) ⟨h1, by omega⟩ hL hc.1 (nA A 0) (Nat.le_refl _)).1 n (Nat.le_refl _) (fun _ => 0) c s 64 (fun j hj => by omega) hc hB (fun j hj => by omega) (by omega)
    rw [itC_no _ _ _ _ hw] at k2
    cases k2
    obtain ⟨c2, l1, l2, l3⟩ := ih (n + 1) (by omega) (by omega) (by omega) c1 (hc.sc k3) k4 g (by omega)
    rw [Nat.sub_self, Nat.sub_self, show suW A (fun _ => 0) 0 = 0 from rfl] at k1
    unfold C_settlement_p27
    simp (disch := omega) only [p_lit, p_mul, nI_add, nI_1, p_ck, p_cl, p_b1, p_b2, p_l1, p_le, p_lt, p_eq, p_shlN, p_shrN, p_or, p_and, p_xor, p_m1, p_m1', p_m0, p_ge0, p_zr, p_zr0, p_zr1, p_b0, p_b1', if_pos, if_neg, if_true, if_false, Bool.true_eq_false, Bool.false_eq_true, eq_self, k1]
    exact ⟨c2, l1, k3.tr l2, l3⟩
theorem settle_lp {L : Nat} {x2 : Int32} (hL : L < 67108864) (hx : -nI 1 ≤ x2) : ∀ k n, n + k = 5 → 1 ≤ n → ∀ (t1 : TS) (c : CS) (s : SeT), St t t1 → RN (t.1 0) c → TB t1 s → CB c s → ∀ f g, k < f → k < g → ∃ r t2 c2, T_settlement_28 f t1 (nI L) x2 (nI n) = some (r, t2) ∧ C_settlement_p27 g c (nI L) x2 (nI n) = some (r, c2) ∧ St t t2 ∧ Sc c c2 := by
  intro k
  induction k with
  | zero =>
    intro n hn h1 t1 c s ht hc hB hC f g hf hg
    obtain ⟨f, rfl⟩ : ∃ m, f = m + 1 := ⟨f - 1, by omega⟩
    obtain ⟨g, rfl⟩ : ∃ m, g = m + 1 := ⟨g - 1, by omega⟩
    obtain ⟨r, e1, e2⟩ := settle_fin hx hB hC
    unfold CFs at e2
    unfold T_settlement_28 C_settlement_p27
    simp (disch := omega) only [p_lit, p_mul, nI_add, nI_1, p_ck, p_cl, p_b1, p_b2, p_l1, p_le, p_lt, p_eq, p_shlN, p_shrN, p_or, p_and, p_xor, p_m1, p_m1', p_m0, p_ge0, p_zr, p_zr0, p_zr1, p_b0, p_b1', if_pos, if_neg, if_true, if_false, Bool.true_eq_false, Bool.false_eq_true, eq_self]
    exact ⟨r, t1, c, e1, e2, ht, Sc.rf⟩
  | succ k ih =>
    intro n hn h1 t1 c s ht hc hB hC f g hf hg
    obtain ⟨f, rfl⟩ : ∃ m, f = m + 1 := ⟨f - 1, by omega⟩
    have h0 := hc.1.1.2
    have e0 : t1.1 0 0 = nI (nA (t.1 0) 0) := by rw [ht.1]; exact hc.1.1.1
    by_cases hw : nA (t.1 0) 0 < n
    · obtain ⟨c2, l1, l2, l3⟩ := C_settle_tail (A := t.1 0) (x2 := x2) hL (k + 1) n hn h1 hw c hc hC g hg
      obtain ⟨r, e1, e2⟩ := settle_fin hx hB l3
      rw [l1]
      unfold T_settlement_28
      simp (disch := omega) only [p_lit, p_mul, nI_add, nI_1, p_ck, p_cl, p_b1, p_b2, p_l1, p_le, p_lt, p_eq, p_shlN, p_shrN, p_or, p_and, p_xor, p_m1, p_m1', p_m0, p_ge0, p_zr, p_zr0, p_zr1, p_b0, p_b1', if_pos, if_neg, if_true, if_false, Bool.true_eq_false, Bool.false_eq_true, eq_self, e0]
      exact ⟨r, t1, c2, e1, e2, ht, l2⟩
    · obtain ⟨g, rfl⟩ : ∃ m, g = m + 1 := ⟨g - 1, by omega⟩
      obtain ⟨t2, g1, g2, g3⟩ := T_firstRow_s (t := t1) (n := n) (by omega)
      have hB2 : TB t2 s := hB.eq (g2 38 (by decide)) (g2 39 (by decide)) (g2 37 (by decide))
      replace g2 := g2.st
      obtain ⟨c1, s1, k1, k2, k3, k4, -⟩ := (C_settles_it (A := t.1 0) (L := L) (n := n) ⟨h1, by omega⟩ hL hc.1 (nA (t.1 0) 0) (Nat.le_refl _)).1 n (Nat.le_refl _) (fun _ => 0) c s 64 (fun j hj => by omega) hc hC (fun j hj => by omega) (by omega)
      have e1 := it_all (N := nA (t.1 0) 0) (n := n) (seS_ext (A := t.1 0) (L := L) (n := n)) (by omega) (fun _ => 0) s (f := 14950) (chs_le _ (by omega) n (by omega))
      rw [k2] at e1
      obtain ⟨t3, j1, j2, j3⟩ := T_settle_it (A := t.1 0) (x2 := x2) (k28 := T_settlement_28 f) (n := n) ⟨h1, by omega⟩ hL hc.1 (by omega) 14950 (fun j => j) t2 s s1 (g2.1.trans ht.1) (Bd.first (by omega)) g3 hB2 e1 fu (by unfold fu; omega)
      obtain ⟨r, t4, c2, l1, l2, l3, l4⟩ := ih (n + 1) (by omega) (by omega) t3 c1 s1 ((ht.tr g2).tr j1) (hc.sc k3) j2 k4 f g (by omega) (by omega)
      rw [Nat.sub_self, Nat.sub_self, show suW (t.1 0) (fun _ => 0) 0 = 0 from rfl] at k1
      unfold T_settlement_28 C_settlement_p27
      simp (disch := omega) only [p_lit, p_mul, nI_add, nI_1, p_ck, p_cl, p_b1, p_b2, p_l1, p_le, p_lt, p_eq, p_shlN, p_shrN, p_or, p_and, p_xor, p_m1, p_m1', p_m0, p_ge0, p_zr, p_zr0, p_zr1, p_b0, p_b1', if_pos, if_neg, if_true, if_false, Bool.true_eq_false, Bool.false_eq_true, eq_self, e0, g1, k1, j3]
      exact ⟨r, t4, c2, l1, l2, l3, k3.tr l4⟩
theorem h_settlement {x1 x2 : Int32} (hc : RN (t.1 0) c) : ∃ r t1 c1, T_settlement t x1 x2 = some (r, t1) ∧ C_settlement c x1 x2 = some (r, c1) ∧ St t t1 ∧ Sc c c1 := by
  unfold T_settlement C_settlement
  rcases rgT x1 with ⟨h1, h2⟩ | ⟨L, hL1, hL, rfl, h1, h2⟩
  · simp (disch := omega) only [p_lit, p_mul, nI_add, nI_1, p_ck, p_cl, p_b1, p_b2, p_l1, p_le, p_lt, p_eq, p_shlN, p_shrN, p_or, p_and, p_xor, p_m1, p_m1', p_m0, p_ge0, p_zr, p_zr0, p_zr1, p_b0, p_b1', if_pos, if_neg, if_true, if_false, Bool.true_eq_false, Bool.false_eq_true, eq_self, h1, h2]
    exact ⟨_, t, c, rfl, rfl, St.rf, Sc.rf⟩
  simp (disch := omega) only [p_lit, p_mul, nI_add, nI_1, p_ck, p_cl, p_b1, p_b2, p_l1, p_le, p_lt, p_eq, p_shlN, p_shrN, p_or, p_and, p_xor, p_m1, p_m1', p_m0, p_ge0, p_zr, p_zr0, p_zr1, p_b0, p_b1', if_pos, if_neg, if_true, if_false, Bool.true_eq_false, Bool.false_eq_true, eq_self, h1, h2]
  by_cases hx : -nI 1 ≤ x2
  · simp only [if_pos hx]
    have s1 : St t (si (si t 38 0 (nI 1000000)) 39 0 (nI 0)) := (St.si (by decide)).tr (St.si (by decide))
    have s2 : Sc c (ci_ (ci_ c 0 17 (nI 33)) 0 16 (nI 0)) := (Sc.ci0 (by decide)).tr (Sc.ci0 (by decide))
    obtain ⟨r, t2, c2, a1, a2, a3, a4⟩ := settle_lp (t := t) hL hx 4 1 rfl (Nat.le_refl _) _ _ none s1 (hc.sc s2) ⟨by rw [si_n (by decide), si_e], si_e⟩ ⟨by rw [ci_ne (by decide), ci_e], ci_e⟩ fu fu (by unfold fu; omega) (by unfold fu; omega)
    exact ⟨r, t2, c2, a1, a2, a3, s2.tr a4⟩
  · simp only [if_neg hx]
    exact ⟨_, t, c, rfl, rfl, St.rf, Sc.rf⟩
end PJ
