/-! words that are mistaken by signs as tried -/
set_option maxRecDepth 20000
/-- whether two words are mistaken by signs; whether none are -/
def alB (A : Nat → Int32) (sg : Nat → Int32) (w v : Nat) : Bool := decide (wln A w = wln A v) && alN (fun k => decide (wlt A w k = wlt A v k) || (decide (¬ sg (wlt A w k) = -nI 1) && decide (sg (wlt A w k) = sg (wlt A v k)))) (wln A w)
def noB (A : Nat → Int32) (sg : Nat → Int32) (w : Nat) : Bool := alN (fun v => !alB A sg w v) w
def clB (A : Nat → Int32) (sg : Nat → Int32) : Bool := alN (fun w => noB A sg w) (nA A 0)
theorem alN_cut {p : Nat → Bool} {i n : Nat} (h : i ≤ n) (ha : alN p i = true) : alN p n = true ↔ ∀ k, i ≤ k → k < n → p k = true := by
  rw [alN_iff]
  exact ⟨fun q k _ h2 => q k h2, fun q k h2 => by rcases Nat.lt_or_ge k i with h3 | h3; exact (alN_iff _).mp ha k h3; exact q k h3 h2⟩
/-- signs as tried: alike on both sides -/
def Sg (t : TS) (c : CS) : Prop := ∀ l, l < 26 → t.1 36 l = c.1 112 l ∧ (c.1 112 l = -nI 1 ∨ ∃ v, v < 10 ∧ c.1 112 l = nI v)
theorem p_s0 {v : Nat} (h : v < 2147483648) : (nI v < nI 0) = False := p_m0 h
section PQ
variable {t : TS} {c : CS} {A : Nat → Int32}
theorem alike_lp {w v r q : Nat} (hc : RN (t.1 0) c) (hw : w < nA (t.1 0) 0) (hv : v < nA (t.1 0) 0) (hr : WdC (t.1 0) c r w) (hq : WdC (t.1 0) c q v) (hlen : wln (t.1 0) w = wln (t.1 0) v) (hS : Sg t c) : ∀ k i, i + k = wln (t.1 0) w → alN (fun k => decide (wlt (t.1 0) w k = wlt (t.1 0) v k) || (decide (¬ c.1 112 (wlt (t.1 0) w k) = -nI 1) && decide (c.1 112 (wlt (t.1 0) w k) = c.1 112 (wlt (t.1 0) v k)))) i = true → ∀ n, k < n → T_areAlike_17 t n (nI w) (nI v) (nI i) = some (bI (alB (t.1 0) (c.1 112) w v)) ∧ C_areMistaken_p15 c n r q (nI i) = some (bI (alB (t.1 0) (c.1 112) w v)) := by
  have h0 := hc.1.1.2
  have hW := hc.1.2 w hw
  have hV := hc.1.2 v hv
  have h8 := hW.ln
  obtain ⟨a1, b1, d1, e1⟩ := hr.letter hW
  obtain ⟨a2, b2, d2, e2⟩ := hq.letter hV
  intro k
  induction k with
  | zero =>
    intro i hi ha n hn
    obtain ⟨n, rfl⟩ : ∃ m, n = m + 1 := ⟨n - 1, by omega⟩
    unfold T_areAlike_17 C_areMistaken_p15
    simp (disch := omega) only [p_lit, p_mul, nI_add, nI_1, p_ck, p_cl, p_b1, p_b2, p_l1, p_le, p_lt, p_eq, p_shlN, p_shrN, p_or, p_and, p_xor, p_m1, p_m1', p_m0, p_ge0, p_zr, p_zr0, p_zr1, p_b0, p_b1', if_pos, if_neg, if_true, if_false, Bool.true_eq_false, Bool.false_eq_true, eq_self, T_lengthOf_s (show w < 24 by omega) hW, p_ckC hr.c, hr.length]
    have hz : alB (t.1 0) (c.1 112) w v = true := by
      unfold alB
      rw [decide_eq_true hlen, ← hi]
      exact ha
    rw [hz]
    exact ⟨rfl, rfl⟩
  | succ k ih =>
    intro i hi ha n hn
    obtain ⟨n, rfl⟩ : ∃ m, n = m + 1 := ⟨n - 1, by omega⟩
    have l1 := hW.lt (k := i) (by omega)
    have l2 := hV.lt (k := i) (by omega)
    obtain ⟨s1, s2⟩ := hS (wlt (t.1 0) w i) (by omega)
    obtain ⟨s3, s4⟩ := hS (wlt (t.1 0) v i) (by omega)
    have hno : (decide (wlt (t.1 0) w i = wlt (t.1 0) v i) || (decide (¬ c.1 112 (wlt (t.1 0) w i) = -nI 1) && decide (c.1 112 (wlt (t.1 0) w i) = c.1 112 (wlt (t.1 0) v i)))) = false → alB (t.1 0) (c.1 112) w v = false := fun h => by
      unfold alB
      rw [alN_no (i := i) h (by omega), Bool.and_false]
    have hyes := fun h : (decide (wlt (t.1 0) w i = wlt (t.1 0) v i) || (decide (¬ c.1 112 (wlt (t.1 0) w i) = -nI 1) && decide (c.1 112 (wlt (t.1 0) w i) = c.1 112 (wlt (t.1 0) v i)))) = true => ih (i + 1) (by omega) (by rw [alN_succ, ha, h]; rfl) n (by omega)
    unfold T_areAlike_17 C_areMistaken_p15 T_areAlike_78 C_areMistaken_p74 C_areMistaken_p78 C_areMistaken_p79
    simp (disch := omega) only [p_lit, p_mul, nI_add, nI_1, p_ck, p_cl, p_b1, p_b2, p_l1, p_le, p_lt, p_eq, p_shlN, p_shrN, p_or, p_and, p_xor, p_m1, p_m1', p_m0, p_ge0, p_zr, p_zr0, p_zr1, p_b0, p_b1', if_pos, if_neg, if_true, if_false, Bool.true_eq_false, Bool.false_eq_true, eq_self, T_lengthOf_s (show w < 24 by omega) hW, p_ckC hr.c, hr.length, T_letterOf_s (show w < 24 by omega) (show i < 8 by omega) hW, T_letterOf_s (show v < 24 by omega) (show i < 8 by omega) hV, b1, e1 i (by omega), p_ckC hq.c, b2, e2 i (by omega), s1, s3]
    by_cases he : wlt (t.1 0) w i = wlt (t.1 0) v i
    · simp only [if_pos he]
      exact hyes (by rw [decide_eq_true he]; rfl)
    · simp only [if_neg he]
      rcases s2 with h | ⟨x, hx, h⟩
      · rw [hno (by rw [decide_eq_false he, h, decide_eq_false (fun q => q rfl)]; rfl), h]
        refine ⟨?_, ?_⟩
        · rw [if_pos (by decide)]; rfl
        · rw [if_pos rfl]; rfl
      · have hm : ¬ nI x = -nI 1 := by rw [p_nm1 (by omega)]; exact id
        rw [h] at hno hyes
        rw [h]
        rw [if_neg (show ¬ nI x < nI 0 from nI_pos (by omega)), if_neg (show ¬ nI x = -nI 1 by rw [p_nm1 (by omega)]; exact id)]
        by_cases h5 : nI x = c.1 112 (wlt (t.1 0) v i)
        · simp only [if_pos h5]
          exact hyes (by rw [decide_eq_true hm, decide_eq_true h5, Bool.and_self, Bool.or_true])
        · simp only [if_neg h5]
          rw [hno (by rw [decide_eq_false he, decide_eq_false h5, Bool.and_false, Bool.or_false])]
          exact ⟨rfl, rfl⟩
theorem alike_s {w v r q : Nat} (hc : RN (t.1 0) c) (hw : w < nA (t.1 0) 0) (hv : v < nA (t.1 0) 0) (hr : WdC (t.1 0) c r w) (hq : WdC (t.1 0) c q v) (hS : Sg t c) : T_areAlike t (nI w) (nI v) = some (bI (alB (t.1 0) (c.1 112) w v)) ∧ C_areMistaken c r q = some (bI (alB (t.1 0) (c.1 112) w v)) := by
  have h0 := hc.1.1.2
  have hW := hc.1.2 w hw
  have hV := hc.1.2 v hv
  have h8 := hW.ln
  have h9 := hV.ln
  unfold T_areAlike C_areMistaken
  simp (disch := omega) only [p_lit, p_mul, nI_add, nI_1, p_ck, p_cl, p_b1, p_b2, p_l1, p_le, p_lt, p_eq, p_shlN, p_shrN, p_or, p_and, p_xor, p_m1, p_m1', p_m0, p_ge0, p_zr, p_zr0, p_zr1, p_b0, p_b1', if_pos, if_neg, if_true, if_false, Bool.true_eq_false, Bool.false_eq_true, eq_self, T_lengthOf_s (show w < 24 by omega) hW, T_lengthOf_s (show v < 24 by omega) hV, p_ckC hr.c, hr.length, p_ckC hq.c, hq.length]
  by_cases hl : wln (t.1 0) w = wln (t.1 0) v
  · simp only [if_pos hl]
    exact alike_lp hc hw hv hr hq hl hS (wln (t.1 0) w) 0 (by omega) rfl fu (by unfold fu; omega)
  · simp only [if_neg hl]
    have hz : alB (t.1 0) (c.1 112) w v = false := by
      unfold alB
      rw [decide_eq_false hl, Bool.false_and]
    rw [hz]
    exact ⟨rfl, rfl⟩
theorem clear_in {w r : Nat} {k1 k2 : Int32 → Option Int32} (hc : RN (t.1 0) c) (hS : Sg t c) (hw : w < nA (t.1 0) 0) (hr1 : c.2.1 6 w = some r) (hr : WdC (t.1 0) c r w) : ∀ k i, i + k = w → alN (fun v => !alB (t.1 0) (c.1 112) w v) i = true → ∀ n, k < n → T_isClear_14 k1 t n (nI w) (nI i) = (if noB (t.1 0) (c.1 112) w then k1 (nI (w + 1)) else some (nI 0)) ∧ C_isAnyMistaken_p17 k2 c n (nI w) (nI i) = (if noB (t.1 0) (c.1 112) w then k2 (nI (w + 1)) else some (nI 1)) := by
  have h0 := hc.1.1.2
  intro k
  induction k with
  | zero =>
    intro i hi ha n hn
    obtain ⟨n, rfl⟩ : ∃ m, n = m + 1 := ⟨n - 1, by omega⟩
    unfold T_isClear_14 C_isAnyMistaken_p17
    obtain rfl : i = w := by omega
    rw [if_pos (show noB (t.1 0) (c.1 112) i = true from ha), if_pos (show noB (t.1 0) (c.1 112) i = true from ha)]
    simp (disch := omega) only [p_lit, p_mul, nI_add, nI_1, p_ck, p_cl, p_b1, p_b2, p_l1, p_le, p_lt, p_eq, p_shlN, p_shrN, p_or, p_and, p_xor, p_m1, p_m1', p_m0, p_ge0, p_zr, p_zr0, p_zr1, p_b0, p_b1', if_pos, if_neg, if_true, if_false, Bool.true_eq_false, Bool.false_eq_true, eq_self]
    exact ⟨trivial, trivial⟩
  | succ k ih =>
    intro i hi ha n hn
    obtain ⟨n, rfl⟩ : ∃ m, n = m + 1 := ⟨n - 1, by omega⟩
    obtain ⟨q, q1, q2⟩ := hc.2.2.2.1.get (show i < nA (t.1 0) 0 by omega)
    obtain ⟨z1, z2⟩ := alike_s hc hw (show i < nA (t.1 0) 0 by omega) hr q2 hS
    unfold T_isClear_14 C_isAnyMistaken_p17
    simp (disch := omega) only [p_lit, p_mul, nI_add, nI_1, p_ck, p_cl, p_b1, p_b2, p_l1, p_le, p_lt, p_eq, p_shlN, p_shrN, p_or, p_and, p_xor, p_m1, p_m1', p_m0, p_ge0, p_zr, p_zr0, p_zr1, p_b0, p_b1', if_pos, if_neg, if_true, if_false, Bool.true_eq_false, Bool.false_eq_true, eq_self, hr1, q1, z1, z2]
    cases z : alB (t.1 0) (c.1 112) w i
    · simp (disch := omega) only [p_lit, p_mul, nI_add, nI_1, p_ck, p_cl, p_b1, p_b2, p_l1, p_le, p_lt, p_eq, p_shlN, p_shrN, p_or, p_and, p_xor, p_m1, p_m1', p_m0, p_ge0, p_zr, p_zr0, p_zr1, p_b0, p_b1', if_pos, if_neg, if_true, if_false, Bool.true_eq_false, Bool.false_eq_true, eq_self]
      exact ih (i + 1) (by omega) (by rw [alN_succ, ha, z]; rfl) n (by omega)
    · have hz : noB (t.1 0) (c.1 112) w = false := by
        unfold noB
        exact alN_no (i := i) (by rw [z]; rfl) (by omega)
      rw [hz]
      simp (disch := omega) only [p_lit, p_mul, nI_add, nI_1, p_ck, p_cl, p_b1, p_b2, p_l1, p_le, p_lt, p_eq, p_shlN, p_shrN, p_or, p_and, p_xor, p_m1, p_m1', p_m0, p_ge0, p_zr, p_zr0, p_zr1, p_b0, p_b1', if_pos, if_neg, if_true, if_false, Bool.true_eq_false, Bool.false_eq_true, eq_self]
      exact ⟨trivial, trivial⟩
theorem clear_lp (hc : RN (t.1 0) c) (hS : Sg t c) : ∀ k i, i + k = nA (t.1 0) 0 → alN (fun w => noB (t.1 0) (c.1 112) w) i = true → ∀ n, k < n → T_isClear_2 t n (nI i) = some (bI (clB (t.1 0) (c.1 112))) ∧ C_isAnyMistaken_p2 c n (nI i) = some (bI (!clB (t.1 0) (c.1 112))) := by
  have h0 := hc.1.1.2
  intro k
  induction k with
  | zero =>
    intro i hi ha n hn
    obtain ⟨n, rfl⟩ : ∃ m, n = m + 1 := ⟨n - 1, by omega⟩
    unfold T_isClear_2 C_isAnyMistaken_p2
    simp (disch := omega) only [p_lit, p_mul, nI_add, nI_1, p_ck, p_cl, p_b1, p_b2, p_l1, p_le, p_lt, p_eq, p_shlN, p_shrN, p_or, p_and, p_xor, p_m1, p_m1', p_m0, p_ge0, p_zr, p_zr0, p_zr1, p_b0, p_b1', if_pos, if_neg, if_true, if_false, Bool.true_eq_false, Bool.false_eq_true, eq_self, hc.1.1.1, hc.2.2.2.1.1]
    have hz : clB (t.1 0) (c.1 112) = true := by unfold clB; rw [← hi]; exact ha
    rw [hz]
    exact ⟨rfl, rfl⟩
  | succ k ih =>
    intro i hi ha n hn
    obtain ⟨n, rfl⟩ : ∃ m, n = m + 1 := ⟨n - 1, by omega⟩
    obtain ⟨q, q1, q2⟩ := hc.2.2.2.1.get (show i < nA (t.1 0) 0 by omega)
    unfold T_isClear_2 C_isAnyMistaken_p2
    simp (disch := omega) only [p_lit, p_mul, nI_add, nI_1, p_ck, p_cl, p_b1, p_b2, p_l1, p_le, p_lt, p_eq, p_shlN, p_shrN, p_or, p_and, p_xor, p_m1, p_m1', p_m0, p_ge0, p_zr, p_zr0, p_zr1, p_b0, p_b1', if_pos, if_neg, if_true, if_false, Bool.true_eq_false, Bool.false_eq_true, eq_self, hc.1.1.1, hc.2.2.2.1.1]
    obtain ⟨a1, a2⟩ := clear_in (k1 := T_isClear_2 t n) (k2 := C_isAnyMistaken_p2 c n) hc hS (show i < nA (t.1 0) 0 by omega) q1 q2 i 0 (by omega) rfl fu (by unfold fu; omega)
    rw [a1, a2]
    cases z : noB (t.1 0) (c.1 112) i
    · have hz : clB (t.1 0) (c.1 112) = false := by unfold clB; exact alN_no (i := i) z (by omega)
      rw [hz]
      exact ⟨rfl, rfl⟩
    · exact ih (i + 1) (by omega) (by rw [alN_succ, ha, z]; rfl) n (by omega)
theorem clear_s (hc : RN (t.1 0) c) (hS : Sg t c) : T_isClear t = some (bI (clB (t.1 0) (c.1 112))) ∧ C_isAnyMistaken c = some (bI (!clB (t.1 0) (c.1 112))) := by
  have h0 := hc.1.1.2
  exact clear_lp hc hS (nA (t.1 0) 0) 0 (by omega) rfl fu (by unfold fu; omega)
end PQ
