/-! said, ofSaying, ofWord, mistaken, hair -/
set_option maxRecDepth 20000
theorem p_neg1 : (-1 : Int32) = -nI 1 := rfl
theorem p_rgn (x : Int32) {n : Nat} (hn : n < 1000000000) : C_in x (-nI 1) (nI n - nI 1) = some (nI 0) ∨ (x = -nI 1 ∧ C_in x (-nI 1) (nI n - nI 1) = some (nI 1)) ∨ ∃ j, j < n ∧ x = nI j ∧ C_in x (-nI 1) (nI n - nI 1) = some (nI 1) := by
  have e1 : (-nI 1).toInt = -1 := by decide
  rcases pk_ix x (n := n) (by omega) with h | h | ⟨j, hj, rfl⟩
  · by_cases hx : x = -nI 1
    · refine Or.inr (Or.inl ⟨hx, ?_⟩)
      subst hx
      refine p_in1 (Int32.le_refl _) ?_
      rw [Int32.le_iff_toInt_le, pk_sub_toInt (by omega) (by omega), e1]
      omega
    · refine Or.inl (p_inL ?_)
      rw [Int32.lt_iff_toInt_lt, e1]
      rw [Int32.lt_iff_toInt_lt] at h
      have e0 : (0 : Int32).toInt = 0 := by decide
      have h2 : x.toInt ≠ -1 := fun e => hx (Int32.toInt_inj.mp (e.trans e1.symm))
      omega
  · refine Or.inl (p_inH ?_)
    have h1 := p_m1lt hn
    rw [Int32.lt_iff_toInt_lt] at h1 ⊢
    rw [Int32.le_iff_toInt_le] at h
    omega
  · refine Or.inr (Or.inr ⟨j, hj, rfl, p_in1 ?_ (p_lem1 hj hn)⟩)
    rw [Int32.le_iff_toInt_le, e1, nI_toInt (by omega)]
    omega
theorem p_rgnc (x : Int32) {m : Nat} (hn : m < 900000000) : C_in x (-nI 1) (nI m) = some (nI 0) ∨ (x = -nI 1 ∧ C_in x (-nI 1) (nI m) = some (nI 1)) ∨ ∃ j, j ≤ m ∧ x = nI j ∧ C_in x (-nI 1) (nI m) = some (nI 1) := by
  have h := p_rgn x (n := m + 1) (by omega)
  rw [p_sub (by omega), Nat.add_sub_cancel] at h
  rcases h with h | h | ⟨j, hj, h1, h2⟩
  · exact Or.inl h
  · exact Or.inr (Or.inl h)
  · exact Or.inr (Or.inr ⟨j, by omega, h1, h2⟩)
theorem p_rg10 (x : Int32) {n : Nat} (hn : n < 1000) : C_in x (nI 10) (nI (9 + n)) = some (nI 0) ∨ ∃ j, j < n ∧ x = nI (10 + j) ∧ C_in x (nI 10) (nI (9 + n)) = some (nI 1) := by
  rcases pk_ix x (n := 10 + n) (by omega) with h | h | ⟨j, hj, rfl⟩
  · refine Or.inl (p_inL ?_)
    rw [Int32.lt_iff_toInt_lt] at h ⊢
    have e1 : (nI 10).toInt = 10 := by decide
    have e0 : (0 : Int32).toInt = 0 := by decide
    omega
  · refine Or.inl (p_inH ?_)
    rw [Int32.le_iff_toInt_le, nI_toInt (by omega)] at h
    rw [Int32.lt_iff_toInt_lt, nI_toInt (by omega)]
    omega
  · rcases Nat.lt_or_ge j 10 with h | h
    · exact Or.inl (p_inL (nI_lt h (by omega)))
    · exact Or.inr ⟨j - 10, by omega, by congr 1; omega, p_in1 (nI_le h (by omega)) (nI_le (by omega) (by omega))⟩
theorem p_nm1 {n : Nat} (h : n < 2147483648) : (nI n = -nI 1) = False := p_m1 h
theorem p_m1n : ((-nI 1 : Int32) = -nI 1) = True := eq_true rfl
theorem p_m1l0 : ((-nI 1 : Int32) < nI 0) = True := eq_true (by decide)
theorem p_m1le {n : Nat} (h : n < 2147483648) : ((-nI 1 : Int32) ≤ nI n) = True := eq_true (by
  have e1 : (-nI 1).toInt = -1 := by decide
  rw [Int32.le_iff_toInt_le, e1, nI_toInt h]
  omega)
def smN (f : Nat → Nat) : Nat → Nat
  | 0 => 0
  | n + 1 => smN f n + f n
theorem smN_succ {f : Nat → Nat} {n : Nat} : smN f (n + 1) = smN f n + f n := rfl
theorem smN_le {f : Nat → Nat} {m : Nat} : ∀ n, (∀ k, k < n → f k ≤ m) → smN f n ≤ n * m
  | 0, _ => by simp [smN]
  | n + 1, h => by
    have h1 := smN_le n (fun k hk => h k (by omega))
    have h2 := h n (by omega)
    rw [smN_succ, Nat.succ_mul]
    omega
section PE
variable {t : TS} {c : CS} {A : Nat → Int32}
theorem T_wordFor_c {s m : Nat} {b : Bool} {x2 : Int32} (hs : s < 10) (hm : m < 67108864) (hx : b = false → x2 = nI m) (hx2 : b = true → m = silN (t.1 0)) (hW : Wds (t.1 0)) (hL : Lts (t.1 0)) : T_wordFor t (nI s) x2 (bI b) = some (oI (wfN (t.1 0) (canC (t.1 0) m) s (nA (t.1 0) 0))) := by
  rw [T_wordFor_s hs hm hx hW hL]
  congr 2
  refine wfN_cong _ fun w hw => ?_
  cases b
  · rfl
  · rw [hx2 rfl]
    exact canT_t (hW.2 w hw)
theorem T_canSay_c {s m : Nat} {b : Bool} {x2 : Int32} (hs : s < 8) (hm : m < 67108864) (hx : b = false → x2 = nI m) (hx2 : b = true → m = silN (t.1 0)) (hW : Wds (t.1 0)) (hL : Lts (t.1 0)) (hS : Sy (t.1 0) s) : T_canSay t (nI s) x2 (bI b) = some (bI (saC (t.1 0) m s)) := by
  rw [T_canSay_s hs hm hx hW hL hS]
  congr 2
  refine saB_cong fun w hw => ?_
  cases b
  · rfl
  · rw [hx2 rfl]
    exact canT_t (hW.2 w hw)
theorem saC_spk {m s k : Nat} (h : saC A m s = true) (hk : k < sln A s) : ∃ f, spk A m s k = some f ∧ f < nA A 0 := by
  unfold saC saB at h
  have h1 := (alN_iff _).mp h k hk
  cases e : spk A m s k with
  | none => rw [show wfN A (canC A m) (sse A s k) (nA A 0) = spk A m s k from rfl, e] at h1; cases h1
  | some f => exact ⟨f, rfl, wfN_lt _ e⟩
def lnO (A : Nat → Int32) (o : Option Nat) : Nat := match o with
  | none => 0
  | some f => wln A f
theorem T_said_lp {s m : Nat} {b : Bool} {x2 : Int32} (hm : m < 67108864) (hb : (x2 = -nI 1) = (b = true)) (hx : b = false → x2 = nI m) (hx2 : b = true → m = silN (t.1 0)) (hW : Wds (t.1 0)) (hL : Lts (t.1 0)) (hS : Sy (t.1 0) s) (hs : s < 8) (hsa : saC (t.1 0) m s = true) : ∀ k i, i + k = sln (t.1 0) s → ∀ n, k < n → T_said_86 t n (nI s) x2 (nI (smN (fun k => lnO (t.1 0) (spk (t.1 0) m s k)) i)) (nI i) = some (nI (smN (fun k => lnO (t.1 0) (spk (t.1 0) m s k)) (sln (t.1 0) s))) := by
  have h8 : sln (t.1 0) s ≤ 8 := hS.1.2
  intro k
  induction k with
  | zero =>
    intro i hi n hn
    obtain ⟨n, rfl⟩ : ∃ m, n = m + 1 := ⟨n - 1, by omega⟩
    unfold T_said_86
    simp (disch := omega) only [p_lit, p_mul, nI_add, nI_1, p_ck, p_cl, p_b1, p_b2, p_l1, p_le, p_lt, p_eq, p_shlN, p_shrN, p_or, p_and, p_xor, p_m1, p_m1', p_m0, p_ge0, p_zr, p_zr0, p_zr1, p_b0, p_b1', if_pos, if_neg, if_true, if_false, Bool.true_eq_false, Bool.false_eq_true, eq_self, T_sensesOf_s hs hS]
    rw [← hi]; rfl
  | succ k ih =>
    intro i hi n hn
    obtain ⟨n, rfl⟩ : ∃ m, n = m + 1 := ⟨n - 1, by omega⟩
    unfold T_said_86
    have h2 := ih (i + 1) (by omega) n (by omega)
    rw [smN_succ] at h2
    have h3 : sse (t.1 0) s i ≤ 9 := (hS.2.2 i (by unfold sln at hi; omega)).2
    have h4 := T_wordFor_c (t := t) (s := sse (t.1 0) s i) (b := b) (x2 := x2) (by omega) hm hx hx2 hW hL
    obtain ⟨f, hf, hf2⟩ := saC_spk hsa (show i < sln (t.1 0) s by omega)
    rw [show wfN (t.1 0) (canC (t.1 0) m) (sse (t.1 0) s i) (nA (t.1 0) 0) = spk (t.1 0) m s i from rfl, hf] at h4
    rw [hf] at h2
    have h5 := hW.1.2
    have h6 := (hW.2 f hf2).ln
    simp (disch := omega) only [p_lit, p_mul, nI_add, nI_1, p_ck, p_cl, p_b1, p_b2, p_l1, p_le, p_lt, p_eq, p_shlN, p_shrN, p_or, p_and, p_xor, p_m1, p_m1', p_m0, p_ge0, p_zr, p_zr0, p_zr1, p_b0, p_b1', if_pos, if_neg, if_true, if_false, Bool.true_eq_false, Bool.false_eq_true, eq_self, T_sensesOf_s hs hS, T_senseAt_s hs hS (show i < sln (t.1 0) s by omega), hb]
    unfold T_said_118
    cases b
    · rw [if_neg (by decide)]
      rw [show bI false = nI 0 from rfl] at h4
      rw [h4, oI_some]
      simp (disch := omega) only [p_lit, p_mul, nI_add, nI_1, p_ck, p_cl, p_b1, p_b2, p_l1, p_le, p_lt, p_eq, p_shlN, p_shrN, p_or, p_and, p_xor, p_m1, p_m1', p_m0, p_ge0, p_zr, p_zr0, p_zr1, p_b0, p_b1', if_pos, if_neg, if_true, if_false, Bool.true_eq_false, Bool.false_eq_true, eq_self, T_lengthOf_s (t := t) (w := f) (by omega) (hW.2 f hf2)]
      exact h2
    · rw [if_pos rfl]
      rw [show bI true = nI 1 from rfl] at h4
      rw [h4, oI_some]
      simp (disch := omega) only [p_lit, p_mul, nI_add, nI_1, p_ck, p_cl, p_b1, p_b2, p_l1, p_le, p_lt, p_eq, p_shlN, p_shrN, p_or, p_and, p_xor, p_m1, p_m1', p_m0, p_ge0, p_zr, p_zr0, p_zr1, p_b0, p_b1', if_pos, if_neg, if_true, if_false, Bool.true_eq_false, Bool.false_eq_true, eq_self, T_lengthOf_s (t := t) (w := f) (by omega) (hW.2 f hf2)]
      exact h2
theorem C_said_lp {s m : Nat} (hc : RN A c) (hs : s < nA A 1) (hsa : saC A m s = true) (hsp : ∀ j, j < sln A s → c.1 107 j = oI (spk A m s j)) : ∀ k i, i + k = sln A s → ∀ n, k < n → C_said_p82 n c (nI s) (nI (smN (fun k => lnO A (spk A m s k)) i)) (nI i) = some (nI (smN (fun k => lnO A (spk A m s k)) (sln A s)), c) := by
  have hS := hc.2.2.1.2 s hs
  have h0 := hc.2.2.1.1.2
  have h8 : sln A s ≤ 8 := hS.1.2
  have h5 := hc.1.1.2
  obtain ⟨r, g1, g2, g3⟩ := hc.2.2.2.2.1.get hs hS
  intro k
  induction k with
  | zero =>
    intro i hi n hn
    obtain ⟨n, rfl⟩ : ∃ m, n = m + 1 := ⟨n - 1, by omega⟩
    unfold C_said_p82
    simp (disch := omega) only [p_lit, p_mul, nI_add, nI_1, p_ck, p_cl, p_b1, p_b2, p_l1, p_le, p_lt, p_eq, p_shlN, p_shrN, p_or, p_and, p_xor, p_m1, p_m1', p_m0, p_ge0, p_zr, p_zr0, p_zr1, p_b0, p_b1', if_pos, if_neg, if_true, if_false, Bool.true_eq_false, Bool.false_eq_true, eq_self, g1, g2]
    rw [← hi]; rfl
  | succ k ih =>
    intro i hi n hn
    obtain ⟨n, rfl⟩ : ∃ m, n = m + 1 := ⟨n - 1, by omega⟩
    unfold C_said_p82
    have h2 := ih (i + 1) (by omega) n (by omega)
    rw [smN_succ] at h2
    obtain ⟨f, hf, hf2⟩ := saC_spk hsa (show i < sln A s by omega)
    rw [hf] at h2
    have h6 := (hc.1.2 f hf2).ln
    obtain ⟨q, q1, q2⟩ := hc.2.2.2.1.get hf2
    simp (disch := omega) only [p_lit, p_mul, nI_add, nI_1, p_ck, p_cl, p_b1, p_b2, p_l1, p_le, p_lt, p_eq, p_shlN, p_shrN, p_or, p_and, p_xor, p_m1, p_m1', p_m0, p_ge0, p_zr, p_zr0, p_zr1, p_b0, p_b1', if_pos, if_neg, if_true, if_false, Bool.true_eq_false, Bool.false_eq_true, eq_self, g1, g2, hsp i (by omega), hf, oI_some, q1, p_ckC q2.c, q2.length]
    exact h2
theorem h_said {x1 x2 x3 : Int32} (hc : RN (t.1 0) c) : ∃ r c1, T_said t x1 x2 x3 = some r ∧ C_said c x1 x2 x3 = some (r, c1) ∧ Sc c c1 := by
  have h0 := hc.2.2.1.1.2
  unfold T_said C_said
  rcases rgS (c := c) x1 hc.2.2.1 hc.2.2.2.2.1.1 with ⟨h1, h2⟩ | ⟨s, hs, rfl, h1, h2⟩
  · simp (disch := omega) only [p_lit, p_mul, nI_add, nI_1, p_ck, p_cl, p_b1, p_b2, p_l1, p_le, p_lt, p_eq, p_shlN, p_shrN, p_or, p_and, p_xor, p_m1, p_m1', p_m0, p_ge0, p_zr, p_zr0, p_zr1, p_b0, p_b1', if_pos, if_neg, if_true, if_false, Bool.true_eq_false, Bool.false_eq_true, eq_self, h1, h2]
    exact ⟨_, c, rfl, rfl, Sc.rf⟩
  have hS := hc.2.2.1.2 s hs
  have h8 : sln (t.1 0) s ≤ 8 := hS.1.2
  obtain ⟨r, g1, g2, g3⟩ := hc.2.2.2.2.1.get hs hS
  have key : ∀ (m : Nat) (b : Bool), m < 67108864 → (x2 = -nI 1) = (b = true) → (b = false → x2 = nI m) → (b = true → m = silN (t.1 0)) → C_in x2 (-nI 1) (nI 67108863) = some (nI 1) → ∃ r c1, (if (if (nI 1 : Int32) = nI 0 then False else True) then bd1 (T_sensesOf t (nI s)) fun v3 => (bd1 (T_isIn x3 (-1 : Int32) (v3 - (1 : Int32))) fun v4 => (if v4 = (0 : Int32) then some (-1 : Int32) else if x2 = (-1 : Int32) then T_said_46 t (nI s) x2 x3 (nI s) x2 (1 : Int32) else T_said_46 t (nI s) x2 x3 (nI s) x2 (0 : Int32))) else none) = some r ∧ (bd1 (C_in x3 (-1 : Int32) ((nI (sln (t.1 0) s)) - (1 : Int32))) fun v6 => (if v6 = (0 : Int32) then some ((-1 : Int32), c) else if x2 = (-1 : Int32) then bd1 (C_X1_silent c) fun v7 => (C_said_p56 c (nI s) x3 (nI s) v7) else C_said_p56 c (nI s) x3 (nI s) x2)) = some (r, c1) ∧ Sc c c1 := by
    intro m b hm hb hx hx2 hin
    simp (disch := omega) only [p_lit, p_mul, nI_add, nI_1, p_ck, p_cl, p_b1, p_b2, p_l1, p_le, p_lt, p_eq, p_shlN, p_shrN, p_or, p_and, p_xor, p_m1, p_m1', p_m0, p_ge0, p_zr, p_zr0, p_zr1, p_b0, p_b1', if_pos, if_neg, if_true, if_false, Bool.true_eq_false, Bool.false_eq_true, eq_self, T_sensesOf_s (show s < 8 by omega) hS, isIn_eq]
    rcases p_rgn x3 (n := sln (t.1 0) s) (by omega) with h | h
    · simp (disch := omega) only [p_lit, p_mul, nI_add, nI_1, p_ck, p_cl, p_b1, p_b2, p_l1, p_le, p_lt, p_eq, p_shlN, p_shrN, p_or, p_and, p_xor, p_m1, p_m1', p_m0, p_ge0, p_zr, p_zr0, p_zr1, p_b0, p_b1', if_pos, if_neg, if_true, if_false, Bool.true_eq_false, Bool.false_eq_true, eq_self, h]
      exact ⟨_, c, rfl, rfl, Sc.rf⟩
    have h3 : C_in x3 (-nI 1) (nI (sln (t.1 0) s) - nI 1) = some (nI 1) := by
      rcases h with ⟨-, h⟩ | ⟨j, hj, -, h⟩
      · exact h
      · exact h
    obtain ⟨c1, k1, k2, k3⟩ := C_says_s (c := c) hm hc.1 hc.2.2.2.1 hs h0 hS hc.2.2.2.2.1
    have hcs : (if x2 = -nI 1 then bd1 (C_X1_silent c) fun v7 => (C_said_p56 c (nI s) x3 (nI s) v7) else C_said_p56 c (nI s) x3 (nI s) x2) = C_said_p56 c (nI s) x3 (nI s) (nI m) := by
      rw [C_silent_s hc.2.1 hc.2.2.2.2.2]
      simp only [hb]
      cases b
      · rw [if_neg (by decide), hx rfl]
      · rw [if_pos rfl, p_b1, hx2 rfl]
    have hts : (if x2 = -nI 1 then T_said_46 t (nI s) x2 x3 (nI s) x2 (nI 1) else T_said_46 t (nI s) x2 x3 (nI s) x2 (nI 0)) = T_said_46 t (nI s) x2 x3 (nI s) x2 (bI b) := by
      simp only [hb]
      cases b <;> rfl
    simp (disch := omega) only [p_lit, p_mul, nI_add, nI_1, p_ck, p_cl, p_b1, p_b2, p_l1, p_le, p_lt, p_eq, p_shlN, p_shrN, p_or, p_and, p_xor, p_m1, p_m1', p_m0, p_ge0, p_zr, p_zr0, p_zr1, p_b0, p_b1', if_pos, if_neg, if_true, if_false, Bool.true_eq_false, Bool.false_eq_true, eq_self, h3]
    rw [hcs, hts]
    unfold T_said_46 C_said_p56
    rw [k1, T_canSay_c (show s < 8 by omega) hm hx hx2 hc.1 hc.2.1 hS]
    cases hsa : saC (t.1 0) m s
    · simp (disch := omega) only [p_lit, p_mul, nI_add, nI_1, p_ck, p_cl, p_b1, p_b2, p_l1, p_le, p_lt, p_eq, p_shlN, p_shrN, p_or, p_and, p_xor, p_m1, p_m1', p_m0, p_ge0, p_zr, p_zr0, p_zr1, p_b0, p_b1', if_pos, if_neg, if_true, if_false, Bool.true_eq_false, Bool.false_eq_true, eq_self]
      exact ⟨_, c1, rfl, rfl, k2⟩
    · simp (disch := omega) only [p_lit, p_mul, nI_add, nI_1, p_ck, p_cl, p_b1, p_b2, p_l1, p_le, p_lt, p_eq, p_shlN, p_shrN, p_or, p_and, p_xor, p_m1, p_m1', p_m0, p_ge0, p_zr, p_zr0, p_zr1, p_b0, p_b1', if_pos, if_neg, if_true, if_false, Bool.true_eq_false, Bool.false_eq_true, eq_self]
      rcases h with ⟨rfl, -⟩ | ⟨j, hj, rfl, -⟩
      · have e1 := T_said_lp hm hb hx hx2 hc.1 hc.2.1 hS (by omega) hsa (sln (t.1 0) s) 0 (by omega) fu (by unfold fu; omega)
        have e2 := C_said_lp (hc.sc k2) hs hsa (k3 hsa) (sln (t.1 0) s) 0 (by omega) fu (by unfold fu; omega)
        simp (disch := omega) only [p_lit, p_mul, nI_add, nI_1, p_ck, p_cl, p_b1, p_b2, p_l1, p_le, p_lt, p_eq, p_shlN, p_shrN, p_or, p_and, p_xor, p_m1, p_m1', p_m0, p_ge0, p_zr, p_zr0, p_zr1, p_b0, p_b1', if_pos, if_neg, if_true, if_false, Bool.true_eq_false, Bool.false_eq_true, eq_self, p_m1l0, p_m1n]
        exact ⟨_, c1, e1, e2, k2⟩
      · obtain ⟨f, hf, hf2⟩ := saC_spk hsa hj
        have h3 : sse (t.1 0) s j ≤ 9 := (hS.2.2 j hj).2
        have h4 := T_wordFor_c (t := t) (s := sse (t.1 0) s j) (b := b) (x2 := x2) (by omega) hm hx hx2 hc.1 hc.2.1
        simp (disch := omega) only [p_lit, p_mul, nI_add, nI_1, p_ck, p_cl, p_b1, p_b2, p_l1, p_le, p_lt, p_eq, p_shlN, p_shrN, p_or, p_and, p_xor, p_m1, p_m1', p_m0, p_ge0, p_zr, p_zr0, p_zr1, p_b0, p_b1', if_pos, if_neg, if_true, if_false, Bool.true_eq_false, Bool.false_eq_true, eq_self, T_senseAt_s (show s < 8 by omega) hS hj, hb, k3 hsa j hj, p_nm1]
        refine ⟨_, c1, ?_, rfl, k2⟩
        unfold T_said_76
        cases b
        · rw [if_neg (by decide), show (nI 0 : Int32) = bI false from rfl, h4]; rfl
        · rw [if_pos rfl, show (nI 1 : Int32) = bI true from rfl, h4]; rfl
  rcases p_rgnc x2 (m := 67108863) (by omega) with h | ⟨rfl, h⟩ | ⟨j, hj, rfl, h⟩
  · simp (disch := omega) only [p_lit, p_mul, nI_add, nI_1, p_ck, p_cl, p_b1, p_b2, p_l1, p_le, p_lt, p_eq, p_shlN, p_shrN, p_or, p_and, p_xor, p_m1, p_m1', p_m0, p_ge0, p_zr, p_zr0, p_zr1, p_b0, p_b1', if_pos, if_neg, if_true, if_false, Bool.true_eq_false, Bool.false_eq_true, eq_self, h1, h2, isIn_eq, h]
    exact ⟨_, c, rfl, rfl, Sc.rf⟩
  · obtain ⟨r', c1, e1, e2, e3⟩ := key (silN (t.1 0)) true silN_lt (by simp) (by simp) (fun _ => rfl) h
    simp (disch := omega) only [p_lit, p_mul, nI_add, nI_1, p_ck, p_cl, p_b1, p_b2, p_l1, p_le, p_lt, p_eq, p_shlN, p_shrN, p_or, p_and, p_xor, p_m1, p_m1', p_m0, p_ge0, p_zr, p_zr0, p_zr1, p_b0, p_b1', if_pos, if_neg, if_true, if_false, Bool.true_eq_false, Bool.false_eq_true, eq_self] at e1 e2
    simp (disch := omega) only [p_lit, p_mul, nI_add, nI_1, p_ck, p_cl, p_b1, p_b2, p_l1, p_le, p_lt, p_eq, p_shlN, p_shrN, p_or, p_and, p_xor, p_m1, p_m1', p_m0, p_ge0, p_zr, p_zr0, p_zr1, p_b0, p_b1', if_pos, if_neg, if_true, if_false, Bool.true_eq_false, Bool.false_eq_true, eq_self, h1, h2, isIn_eq, h, g1, g2]
    exact ⟨r', c1, e1, e2, e3⟩
  · obtain ⟨r', c1, e1, e2, e3⟩ := key j false (by omega) (by rw [p_nm1 (by omega)]; simp) (fun _ => rfl) (by simp) h
    simp (disch := omega) only [p_lit, p_mul, nI_add, nI_1, p_ck, p_cl, p_b1, p_b2, p_l1, p_le, p_lt, p_eq, p_shlN, p_shrN, p_or, p_and, p_xor, p_m1, p_m1', p_m0, p_ge0, p_zr, p_zr0, p_zr1, p_b0, p_b1', if_pos, if_neg, if_true, if_false, Bool.true_eq_false, Bool.false_eq_true, eq_self] at e1 e2
    simp (disch := omega) only [p_lit, p_mul, nI_add, nI_1, p_ck, p_cl, p_b1, p_b2, p_l1, p_le, p_lt, p_eq, p_shlN, p_shrN, p_or, p_and, p_xor, p_m1, p_m1', p_m0, p_ge0, p_zr, p_zr0, p_zr1, p_b0, p_b1', if_pos, if_neg, if_true, if_false, Bool.true_eq_false, Bool.false_eq_true, eq_self, h1, h2, isIn_eq, h, g1, g2]
    exact ⟨r', c1, e1, e2, e3⟩
theorem h_ofSaying {x1 x2 : Int32} (hc : RN (t.1 0) c) : ∃ r, T_ofSaying t x1 x2 = some r ∧ C_ofSaying c x1 x2 = some r := by
  have h0 := hc.2.2.1.1.2
  unfold T_ofSaying C_ofSaying
  rcases rgS (c := c) x1 hc.2.2.1 hc.2.2.2.2.1.1 with ⟨h1, h2⟩ | ⟨s, hs, rfl, h1, h2⟩
  · simp (disch := omega) only [p_lit, p_mul, nI_add, nI_1, p_ck, p_cl, p_b1, p_b2, p_l1, p_le, p_lt, p_eq, p_shlN, p_shrN, p_or, p_and, p_xor, p_m1, p_m1', p_m0, p_ge0, p_zr, p_zr0, p_zr1, p_b0, p_b1', if_pos, if_neg, if_true, if_false, Bool.true_eq_false, Bool.false_eq_true, eq_self, h1, h2]
    exact ⟨_, rfl, rfl⟩
  have hS := hc.2.2.1.2 s hs
  have h8 : sln (t.1 0) s ≤ 8 := hS.1.2
  obtain ⟨r, g1, g2, g3⟩ := hc.2.2.2.2.1.get hs hS
  simp (disch := omega) only [p_lit, p_mul, nI_add, nI_1, p_ck, p_cl, p_b1, p_b2, p_l1, p_le, p_lt, p_eq, p_shlN, p_shrN, p_or, p_and, p_xor, p_m1, p_m1', p_m0, p_ge0, p_zr, p_zr0, p_zr1, p_b0, p_b1', if_pos, if_neg, if_true, if_false, Bool.true_eq_false, Bool.false_eq_true, eq_self, h1, h2, T_sensesOf_s (show s < 8 by omega) hS, g1, g2]
  by_cases hx : x2 = nI 0
  · simp only [if_pos hx]
    exact ⟨_, rfl, rfl⟩
  · simp only [if_neg hx]
    simp (disch := omega) only [p_lit, p_mul, nI_add, nI_1, p_ck, p_cl, p_b1, p_b2, p_l1, p_le, p_lt, p_eq, p_shlN, p_shrN, p_or, p_and, p_xor, p_m1, p_m1', p_m0, p_ge0, p_zr, p_zr0, p_zr1, p_b0, p_b1', if_pos, if_neg, if_true, if_false, Bool.true_eq_false, Bool.false_eq_true, eq_self, isIn_eq]
    rcases p_rg10 x2 (n := sln (t.1 0) s) (by omega) with h | ⟨j, hj, rfl, h⟩
    · simp (disch := omega) only [p_lit, p_mul, nI_add, nI_1, p_ck, p_cl, p_b1, p_b2, p_l1, p_le, p_lt, p_eq, p_shlN, p_shrN, p_or, p_and, p_xor, p_m1, p_m1', p_m0, p_ge0, p_zr, p_zr0, p_zr1, p_b0, p_b1', if_pos, if_neg, if_true, if_false, Bool.true_eq_false, Bool.false_eq_true, eq_self, h]
      exact ⟨_, rfl, rfl⟩
    · simp (disch := omega) only [p_lit, p_mul, nI_add, nI_1, p_ck, p_cl, p_b1, p_b2, p_l1, p_le, p_lt, p_eq, p_shlN, p_shrN, p_or, p_and, p_xor, p_m1, p_m1', p_m0, p_ge0, p_zr, p_zr0, p_zr1, p_b0, p_b1', if_pos, if_neg, if_true, if_false, Bool.true_eq_false, Bool.false_eq_true, eq_self, h]
      rw [p_sub (by omega), show 10 + j - 10 = j by omega, T_senseAt_s (show s < 8 by omega) hS hj, g3 j hj]
      exact ⟨_, rfl, rfl⟩
theorem h_ofWord {x1 x2 : Int32} (hc : RN (t.1 0) c) : ∃ r, T_ofWord t x1 x2 = some r ∧ C_ofWord c x1 x2 = some r := by
  have h0 := hc.1.1.2
  unfold T_ofWord C_ofWord
  rcases rgW (c := c) x1 hc.1 hc.2.2.2.1.1 with ⟨h1, h2⟩ | ⟨w, hw, rfl, h1, h2⟩
  · simp (disch := omega) only [p_lit, p_mul, nI_add, nI_1, p_ck, p_cl, p_b1, p_b2, p_l1, p_le, p_lt, p_eq, p_shlN, p_shrN, p_or, p_and, p_xor, p_m1, p_m1', p_m0, p_ge0, p_zr, p_zr0, p_zr1, p_b0, p_b1', if_pos, if_neg, if_true, if_false, Bool.true_eq_false, Bool.false_eq_true, eq_self, h1, h2]
    exact ⟨_, rfl, rfl⟩
  have hW := hc.1.2 w hw
  have h8 := hW.ln
  obtain ⟨r, g1, g2⟩ := hc.2.2.2.1.get hw
  obtain ⟨q, q1, q2, q3⟩ := g2.letter hW
  simp (disch := omega) only [p_lit, p_mul, nI_add, nI_1, p_ck, p_cl, p_b1, p_b2, p_l1, p_le, p_lt, p_eq, p_shlN, p_shrN, p_or, p_and, p_xor, p_m1, p_m1', p_m0, p_ge0, p_zr, p_zr0, p_zr1, p_b0, p_b1', if_pos, if_neg, if_true, if_false, Bool.true_eq_false, Bool.false_eq_true, eq_self, h1, h2, T_lengthOf_s (show w < 24 by omega) hW, isIn_eq, g1, p_ckC g2.c, g2.length, g2.sense, g2.bits]
  rcases p_rg10 x2 (n := wln (t.1 0) w) (by omega) with h | ⟨j, hj, rfl, h⟩
  · simp (disch := omega) only [p_lit, p_mul, nI_add, nI_1, p_ck, p_cl, p_b1, p_b2, p_l1, p_le, p_lt, p_eq, p_shlN, p_shrN, p_or, p_and, p_xor, p_m1, p_m1', p_m0, p_ge0, p_zr, p_zr0, p_zr1, p_b0, p_b1', if_pos, if_neg, if_true, if_false, Bool.true_eq_false, Bool.false_eq_true, eq_self, h]
    by_cases e0 : x2 = nI 0
    · simp only [if_pos e0]; exact ⟨_, rfl, rfl⟩
    simp only [if_neg e0]
    by_cases e1 : x2 = nI 1
    · simp only [if_pos e1, T_senseOf_s (by omega) hW]; exact ⟨_, rfl, rfl⟩
    simp only [if_neg e1]
    by_cases e2 : x2 = nI 2
    · simp only [if_pos e2, T_setOf_s (by omega) hW]; exact ⟨_, rfl, rfl⟩
    simp only [if_neg e2]
    by_cases e3 : x2 = nI 3
    · simp only [if_pos e3, T_isWritten_s (by omega) hW hc.2.1, C_silent_s hc.2.1 hc.2.2.2.2.2, p_b1, p_b1, C_can_s hc.1 hc.2.2.2.1 hw silN_lt, wri_sil hW]
      generalize decide (wset (t.1 0) w &&& silN (t.1 0) = 0) = z
      cases z <;> exact ⟨_, rfl, rfl⟩
    simp only [if_neg e3]
    exact ⟨_, rfl, rfl⟩
  · simp (disch := omega) only [p_lit, p_mul, nI_add, nI_1, p_ck, p_cl, p_b1, p_b2, p_l1, p_le, p_lt, p_eq, p_shlN, p_shrN, p_or, p_and, p_xor, p_m1, p_m1', p_m0, p_ge0, p_zr, p_zr0, p_zr1, p_b0, p_b1', if_pos, if_neg, if_true, if_false, Bool.true_eq_false, Bool.false_eq_true, eq_self, h, q1, q3]
    have hne : ∀ z, z < 10 → ¬ (nI (10 + j) = nI z) := fun z hz e => by have := p_inj (by omega) (by omega) e; omega
    rw [p_sub (by omega), show 10 + j - 10 = j by omega, T_letterOf_s (show w < 24 by omega) (show j < 8 by omega) hW, q3 j hj]
    exact ⟨_, rfl, rfl⟩
theorem looks_eq {l : Nat} (hl : l < 26) (hL : Lts (t.1 0)) (hr : RRw (c.1 3) (t.1 0)) : ∃ x y : Nat, x < 200 ∧ y < 200 ∧ T_written t (nI l) = some (nI x) ∧ C_looks c (nI l) = some (nI y) ∧ ((x = l ∧ y = l) ∨ (100 ≤ x ∧ 26 ≤ y ∧ x = y + 74)) := by
  unfold T_written C_looks
  simp (disch := omega) only [p_lit, p_mul, nI_add, nI_1, p_ck, p_cl, p_b1, p_b2, p_l1, p_le, p_lt, p_eq, p_shlN, p_shrN, p_or, p_and, p_xor, p_m1, p_m1', p_m0, p_ge0, p_zr, p_zr0, p_zr1, p_b0, p_b1', if_pos, if_neg, if_true, if_false, Bool.true_eq_false, Bool.false_eq_true, eq_self, T_isOut_s hl hL.1, C_isOut_s hl hL.1 hr, (hr.2.2.2.1 l hl).2.2]
  cases hb : outB (t.1 0) l
  · simp (disch := omega) only [p_lit, p_mul, nI_add, nI_1, p_ck, p_cl, p_b1, p_b2, p_l1, p_le, p_lt, p_eq, p_shlN, p_shrN, p_or, p_and, p_xor, p_m1, p_m1', p_m0, p_ge0, p_zr, p_zr0, p_zr1, p_b0, p_b1', if_pos, if_neg, if_true, if_false, Bool.true_eq_false, Bool.false_eq_true, eq_self]
    exact ⟨l, l, by omega, by omega, rfl, rfl, Or.inl ⟨rfl, rfl⟩⟩
  · simp (disch := omega) only [p_lit, p_mul, nI_add, nI_1, p_ck, p_cl, p_b1, p_b2, p_l1, p_le, p_lt, p_eq, p_shlN, p_shrN, p_or, p_and, p_xor, p_m1, p_m1', p_m0, p_ge0, p_zr, p_zr0, p_zr1, p_b0, p_b1', if_pos, if_neg, if_true, if_false, Bool.true_eq_false, Bool.false_eq_true, eq_self]
    rcases hL.2 l hl with h | ⟨v, hv, h⟩
    · rw [h]
      exact ⟨l, l, by omega, by omega, rfl, rfl, Or.inl ⟨rfl, rfl⟩⟩
    · rw [h]
      simp (disch := omega) only [p_lit, p_mul, nI_add, nI_1, p_ck, p_cl, p_b1, p_b2, p_l1, p_le, p_lt, p_eq, p_shlN, p_shrN, p_or, p_and, p_xor, p_m1, p_m1', p_m0, p_ge0, p_zr, p_zr0, p_zr1, p_b0, p_b1', if_pos, if_neg, if_true, if_false, Bool.true_eq_false, Bool.false_eq_true, eq_self, p_nm1]
      exact ⟨100 + v, 26 + v, by omega, by omega, rfl, rfl, Or.inr ⟨by omega, by omega, by omega⟩⟩
theorem mistaken_lp {w v r q : Nat} (hc : RN (t.1 0) c) (hw : w < nA (t.1 0) 0) (hv : v < nA (t.1 0) 0) (hr1 : c.2.1 6 w = some r) (hr2 : WdC (t.1 0) c r w) (hq1 : c.2.1 6 v = some q) (hq2 : WdC (t.1 0) c q v) (hlen : wln (t.1 0) w = wln (t.1 0) v) : ∀ k i, i + k = wln (t.1 0) w → ∀ n, k < n → ∃ z, T_mistaken_38 t n (nI w) (nI v) (nI i) = some z ∧ C_mistaken_p52 c n (nI w) (nI v) (nI i) = some z := by
  have h0 := hc.1.1.2
  have hW := hc.1.2 w hw
  have hV := hc.1.2 v hv
  have h8 := hW.ln
  obtain ⟨a1, b1, d1, e1⟩ := hr2.letter hW
  obtain ⟨a2, b2, d2, e2⟩ := hq2.letter hV
  intro k
  induction k with
  | zero =>
    intro i hi n hn
    obtain ⟨n, rfl⟩ : ∃ m, n = m + 1 := ⟨n - 1, by omega⟩
    unfold T_mistaken_38 C_mistaken_p52
    simp (disch := omega) only [p_lit, p_mul, nI_add, nI_1, p_ck, p_cl, p_b1, p_b2, p_l1, p_le, p_lt, p_eq, p_shlN, p_shrN, p_or, p_and, p_xor, p_m1, p_m1', p_m0, p_ge0, p_zr, p_zr0, p_zr1, p_b0, p_b1', if_pos, if_neg, if_true, if_false, Bool.true_eq_false, Bool.false_eq_true, eq_self, T_lengthOf_s (show w < 24 by omega) hW, hr1, p_ckC hr2.c, hr2.length]
    exact ⟨_, rfl, rfl⟩
  | succ k ih =>
    intro i hi n hn
    obtain ⟨n, rfl⟩ : ∃ m, n = m + 1 := ⟨n - 1, by omega⟩
    unfold T_mistaken_38 C_mistaken_p52
    have l1 := hW.lt (k := i) (by omega)
    have l2 := hV.lt (k := i) (by omega)
    obtain ⟨x1, y1, x1b, y1b, x1e, y1e, o1⟩ := looks_eq (t := t) (c := c) (l := wlt (t.1 0) w i) (by omega) hc.2.1 hc.2.2.2.2.2
    obtain ⟨x2, y2, x2b, y2b, x2e, y2e, o2⟩ := looks_eq (t := t) (c := c) (l := wlt (t.1 0) v i) (by omega) hc.2.1 hc.2.2.2.2.2
    obtain ⟨z, z1, z2⟩ := ih (i + 1) (by omega) n (by omega)
    simp (disch := omega) only [p_lit, p_mul, nI_add, nI_1, p_ck, p_cl, p_b1, p_b2, p_l1, p_le, p_lt, p_eq, p_shlN, p_shrN, p_or, p_and, p_xor, p_m1, p_m1', p_m0, p_ge0, p_zr, p_zr0, p_zr1, p_b0, p_b1', if_pos, if_neg, if_true, if_false, Bool.true_eq_false, Bool.false_eq_true, eq_self, T_lengthOf_s (show w < 24 by omega) hW, hr1, p_ckC hr2.c, hr2.length, T_letterOf_s (show w < 24 by omega) (show i < 8 by omega) hW, T_letterOf_s (show v < 24 by omega) (show i < 8 by omega) hV, x1e, x2e, b1, e1 i (by omega), y1e, hq1, p_ckC hq2.c, b2, e2 i (by omega), y2e]
    by_cases he : x1 = x2
    · rw [if_pos he, if_pos (by omega)]
      exact ⟨z, z1, z2⟩
    · rw [if_neg he, if_neg (by omega)]
      exact ⟨_, rfl, rfl⟩
theorem h_mistaken {x1 x2 : Int32} (hc : RN (t.1 0) c) : ∃ r, T_mistaken t x1 x2 = some r ∧ C_mistaken c x1 x2 = some r := by
  have h0 := hc.1.1.2
  unfold T_mistaken C_mistaken
  rcases rgW (c := c) x1 hc.1 hc.2.2.2.1.1 with ⟨h1, h2⟩ | ⟨w, hw, rfl, h1, h2⟩
  · simp (disch := omega) only [p_lit, p_mul, nI_add, nI_1, p_ck, p_cl, p_b1, p_b2, p_l1, p_le, p_lt, p_eq, p_shlN, p_shrN, p_or, p_and, p_xor, p_m1, p_m1', p_m0, p_ge0, p_zr, p_zr0, p_zr1, p_b0, p_b1', if_pos, if_neg, if_true, if_false, Bool.true_eq_false, Bool.false_eq_true, eq_self, h1, h2]
    exact ⟨_, rfl, rfl⟩
  rcases rgW (c := c) x2 hc.1 hc.2.2.2.1.1 with ⟨h3, h4⟩ | ⟨v, hv, rfl, h3, h4⟩
  · simp (disch := omega) only [p_lit, p_mul, nI_add, nI_1, p_ck, p_cl, p_b1, p_b2, p_l1, p_le, p_lt, p_eq, p_shlN, p_shrN, p_or, p_and, p_xor, p_m1, p_m1', p_m0, p_ge0, p_zr, p_zr0, p_zr1, p_b0, p_b1', if_pos, if_neg, if_true, if_false, Bool.true_eq_false, Bool.false_eq_true, eq_self, h1, h2, h3, h4]
    exact ⟨_, rfl, rfl⟩
  have hW := hc.1.2 w hw
  have hV := hc.1.2 v hv
  have h8 := hW.ln
  have h9 := hV.ln
  obtain ⟨r, g1, g2⟩ := hc.2.2.2.1.get hw
  obtain ⟨q, q1, q2⟩ := hc.2.2.2.1.get hv
  simp (disch := omega) only [p_lit, p_mul, nI_add, nI_1, p_ck, p_cl, p_b1, p_b2, p_l1, p_le, p_lt, p_eq, p_shlN, p_shrN, p_or, p_and, p_xor, p_m1, p_m1', p_m0, p_ge0, p_zr, p_zr0, p_zr1, p_b0, p_b1', if_pos, if_neg, if_true, if_false, Bool.true_eq_false, Bool.false_eq_true, eq_self, h1, h2, h3, h4, T_lengthOf_s (show w < 24 by omega) hW, T_lengthOf_s (show v < 24 by omega) hV, g1, p_ckC g2.c, g2.length, q1, p_ckC q2.c, q2.length]
  by_cases hwv : w = v
  · simp only [if_pos hwv]
    exact ⟨_, rfl, rfl⟩
  simp only [if_neg hwv]
  by_cases hl : wln (t.1 0) w = wln (t.1 0) v
  · simp only [if_pos hl]
    exact mistaken_lp hc hw hv g1 g2 q1 q2 hl (wln (t.1 0) w) 0 (by omega) fu (by unfold fu; omega)
  · simp only [if_neg hl]
    exact ⟨_, rfl, rfl⟩
def hairB (A : Nat → Int32) (w v : Nat) : Bool := decide (wln A w = wln A v) && decide (ctN (fun k => decide (¬ wlt A w k = wlt A v k)) (wln A w) = 1)
theorem hair_comm {w v : Nat} : hairB A w v = hairB A v w := by
  unfold hairB
  by_cases h : wln A w = wln A v
  · have e : ctN (fun k => decide (¬ wlt A w k = wlt A v k)) (wln A w) = ctN (fun k => decide (¬ wlt A v k = wlt A w k)) (wln A v) := by
      rw [h]
      exact ctN_cong _ fun k _ => decide_eq_decide.mpr (not_congr ⟨Eq.symm, Eq.symm⟩)
    rw [e, decide_eq_true h, decide_eq_true h.symm]
  · rw [decide_eq_false h, decide_eq_false (p := wln A v = wln A w) (fun e => h e.symm), Bool.false_and, Bool.false_and]
theorem T_isHair_s {w v : Nat} (hw : w < 24) (hv : v < 24) (hW : Wd (t.1 0) w) (hV : Wd (t.1 0) v) : T_isHair t (nI w) (nI v) = some (bI (hairB (t.1 0) w v)) := by
  have h8 := hW.ln
  have h9 := hV.ln
  unfold T_isHair
  simp (disch := omega) only [p_lit, p_mul, nI_add, nI_1, p_ck, p_cl, p_b1, p_b2, p_l1, p_le, p_lt, p_eq, p_shlN, p_shrN, p_or, p_and, p_xor, p_m1, p_m1', p_m0, p_ge0, p_zr, p_zr0, p_zr1, p_b0, p_b1', if_pos, if_neg, if_true, if_false, Bool.true_eq_false, Bool.false_eq_true, eq_self, T_lengthOf_s hw hW, T_lengthOf_s hv hV]
  by_cases hl : wln (t.1 0) w = wln (t.1 0) v
  · rw [if_pos hl]
    have lp : ∀ k i, i + k = wln (t.1 0) w → ∀ n, k < n → T_isHair_20 t n (nI w) (nI v) (nI (ctN (fun k => decide (¬ wlt (t.1 0) w k = wlt (t.1 0) v k)) i)) (nI i) = some (bI (hairB (t.1 0) w v)) := by
      intro k
      induction k with
      | zero =>
        intro i hi n hn
        obtain ⟨n, rfl⟩ : ∃ m, n = m + 1 := ⟨n - 1, by omega⟩
        unfold T_isHair_20
        have := ctN_le (fun k => decide (¬ wlt (t.1 0) w k = wlt (t.1 0) v k)) i
        simp (disch := omega) only [p_lit, p_mul, nI_add, nI_1, p_ck, p_cl, p_b1, p_b2, p_l1, p_le, p_lt, p_eq, p_shlN, p_shrN, p_or, p_and, p_xor, p_m1, p_m1', p_m0, p_ge0, p_zr, p_zr0, p_zr1, p_b0, p_b1', if_pos, if_neg, if_true, if_false, Bool.true_eq_false, Bool.false_eq_true, eq_self, T_lengthOf_s hw hW]
        unfold hairB
        rw [decide_eq_true hl, ← hi]
        by_cases h1 : ctN (fun k => decide (¬ wlt (t.1 0) w k = wlt (t.1 0) v k)) i = 1
        · rw [if_pos h1, decide_eq_true (show ctN _ (i + 0) = 1 from h1)]; rfl
        · rw [if_neg h1, decide_eq_false (show ¬ ctN _ (i + 0) = 1 from h1)]; rfl
      | succ k ih =>
        intro i hi n hn
        obtain ⟨n, rfl⟩ : ∃ m, n = m + 1 := ⟨n - 1, by omega⟩
        unfold T_isHair_20
        have l1 := hW.lt (k := i) (by omega)
        have l2 := hV.lt (k := i) (by omega)
        have h2 := ih (i + 1) (by omega) n (by omega)
        rw [ctN_succ] at h2
        simp (disch := omega) only [p_lit, p_mul, nI_add, nI_1, p_ck, p_cl, p_b1, p_b2, p_l1, p_le, p_lt, p_eq, p_shlN, p_shrN, p_or, p_and, p_xor, p_m1, p_m1', p_m0, p_ge0, p_zr, p_zr0, p_zr1, p_b0, p_b1', if_pos, if_neg, if_true, if_false, Bool.true_eq_false, Bool.false_eq_true, eq_self, T_lengthOf_s hw hW, T_letterOf_s hw (show i < 8 by omega) hW, T_letterOf_s hv (show i < 8 by omega) hV]
        unfold T_isHair_53
        simp (disch := omega) only [p_lit, p_mul, nI_add, nI_1, p_ck, p_cl, p_b1, p_b2, p_l1, p_le, p_lt, p_eq, p_shlN, p_shrN, p_or, p_and, p_xor, p_m1, p_m1', p_m0, p_ge0, p_zr, p_zr0, p_zr1, p_b0, p_b1', if_pos, if_neg, if_true, if_false, Bool.true_eq_false, Bool.false_eq_true, eq_self]
        by_cases he : wlt (t.1 0) w i = wlt (t.1 0) v i
        · rw [if_pos he]
          rw [if_neg (by simp [he])] at h2
          exact h2
        · rw [if_neg he]
          rw [if_pos (by simp [he])] at h2
          exact h2
    exact lp (wln (t.1 0) w) 0 (by omega) fu (by unfold fu; omega)
  · rw [if_neg hl]
    unfold hairB
    rw [decide_eq_false hl]; rfl
theorem C_isHair_s {w v r q : Nat} (hW : Wd A w) (hV : Wd A v) (hr : WdC A c r w) (hq : WdC A c q v) : C_isHair c r q = some (bI (hairB A w v)) := by
  have h8 := hW.ln
  have h9 := hV.ln
  obtain ⟨a1, b1, d1, e1⟩ := hr.letter hW
  obtain ⟨a2, b2, d2, e2⟩ := hq.letter hV
  unfold C_isHair
  simp (disch := omega) only [p_lit, p_mul, nI_add, nI_1, p_ck, p_cl, p_b1, p_b2, p_l1, p_le, p_lt, p_eq, p_shlN, p_shrN, p_or, p_and, p_xor, p_m1, p_m1', p_m0, p_ge0, p_zr, p_zr0, p_zr1, p_b0, p_b1', if_pos, if_neg, if_true, if_false, Bool.true_eq_false, Bool.false_eq_true, eq_self, p_ckC hr.c, hr.length, p_ckC hq.c, hq.length]
  by_cases hl : wln A w = wln A v
  · rw [if_pos hl]
    have lp : ∀ k i, i + k = wln A w → ∀ n, k < n → C_isHair_p18 c n r q (nI (ctN (fun k => decide (¬ wlt A w k = wlt A v k)) i)) (nI i) = some (bI (hairB A w v)) := by
      intro k
      induction k with
      | zero =>
        intro i hi n hn
        obtain ⟨n, rfl⟩ : ∃ m, n = m + 1 := ⟨n - 1, by omega⟩
        unfold C_isHair_p18
        have := ctN_le (fun k => decide (¬ wlt A w k = wlt A v k)) i
        simp (disch := omega) only [p_lit, p_mul, nI_add, nI_1, p_ck, p_cl, p_b1, p_b2, p_l1, p_le, p_lt, p_eq, p_shlN, p_shrN, p_or, p_and, p_xor, p_m1, p_m1', p_m0, p_ge0, p_zr, p_zr0, p_zr1, p_b0, p_b1', if_pos, if_neg, if_true, if_false, Bool.true_eq_false, Bool.false_eq_true, eq_self, p_ckC hr.c, hr.length]
        unfold hairB
        rw [decide_eq_true hl, ← hi]
        by_cases h1 : ctN (fun k => decide (¬ wlt A w k = wlt A v k)) i = 1
        · rw [if_pos h1, decide_eq_true (show ctN _ (i + 0) = 1 from h1)]; rfl
        · rw [if_neg h1, decide_eq_false (show ¬ ctN _ (i + 0) = 1 from h1)]; rfl
      | succ k ih =>
        intro i hi n hn
        obtain ⟨n, rfl⟩ : ∃ m, n = m + 1 := ⟨n - 1, by omega⟩
        unfold C_isHair_p18
        have l1 := hW.lt (k := i) (by omega)
        have l2 := hV.lt (k := i) (by omega)
        have h2 := ih (i + 1) (by omega) n (by omega)
        rw [ctN_succ] at h2
        simp (disch := omega) only [p_lit, p_mul, nI_add, nI_1, p_ck, p_cl, p_b1, p_b2, p_l1, p_le, p_lt, p_eq, p_shlN, p_shrN, p_or, p_and, p_xor, p_m1, p_m1', p_m0, p_ge0, p_zr, p_zr0, p_zr1, p_b0, p_b1', if_pos, if_neg, if_true, if_false, Bool.true_eq_false, Bool.false_eq_true, eq_self, p_ckC hr.c, hr.length, b1, e1 i (by omega), p_ckC hq.c, b2, e2 i (by omega)]
        unfold C_isHair_p50
        simp (disch := omega) only [p_lit, p_mul, nI_add, nI_1, p_ck, p_cl, p_b1, p_b2, p_l1, p_le, p_lt, p_eq, p_shlN, p_shrN, p_or, p_and, p_xor, p_m1, p_m1', p_m0, p_ge0, p_zr, p_zr0, p_zr1, p_b0, p_b1', if_pos, if_neg, if_true, if_false, Bool.true_eq_false, Bool.false_eq_true, eq_self]
        by_cases he : wlt A w i = wlt A v i
        · rw [if_pos he]
          rw [if_neg (by simp [he])] at h2
          exact h2
        · rw [if_neg he]
          rw [if_pos (by simp [he])] at h2
          exact h2
    exact lp (wln A w) 0 (by omega) fu (by unfold fu; omega)
  · rw [if_neg hl]
    unfold hairB
    rw [decide_eq_false hl]; rfl
theorem hair_lp {w r : Nat} {x2 : Int32} (hc : RN (t.1 0) c) (hw : w < nA (t.1 0) 0) (hr1 : c.2.1 6 w = some r) (hr2 : WdC (t.1 0) c r w) : ∀ k i, i + k = nA (t.1 0) 0 → ∀ (x3 : Int32) n, k < n → ∃ z, T_hair_20 t n (nI w) x2 x3 (nI i) = some z ∧ C_hair_p20 c n (nI w) x2 x3 (nI i) = some z := by
  have h0 := hc.1.1.2
  have hW := hc.1.2 w hw
  intro k
  induction k with
  | zero =>
    intro i hi x3 n hn
    obtain ⟨n, rfl⟩ : ∃ m, n = m + 1 := ⟨n - 1, by omega⟩
    unfold T_hair_20 C_hair_p20
    simp (disch := omega) only [p_lit, p_mul, nI_add, nI_1, p_ck, p_cl, p_b1, p_b2, p_l1, p_le, p_lt, p_eq, p_shlN, p_shrN, p_or, p_and, p_xor, p_m1, p_m1', p_m0, p_ge0, p_zr, p_zr0, p_zr1, p_b0, p_b1', if_pos, if_neg, if_true, if_false, Bool.true_eq_false, Bool.false_eq_true, eq_self, hc.1.1.1, hc.2.2.2.1.1]
    by_cases e : x2 = -nI 1
    · simp only [if_pos e]; exact ⟨_, rfl, rfl⟩
    · simp only [if_neg e]; exact ⟨_, rfl, rfl⟩
  | succ k ih =>
    intro i hi x3 n hn
    obtain ⟨n, rfl⟩ : ∃ m, n = m + 1 := ⟨n - 1, by omega⟩
    unfold T_hair_20 C_hair_p20
    have hV := hc.1.2 i (by omega)
    obtain ⟨q, q1, q2⟩ := hc.2.2.2.1.get (show i < nA (t.1 0) 0 by omega)
    simp (disch := omega) only [p_lit, p_mul, nI_add, nI_1, p_ck, p_cl, p_b1, p_b2, p_l1, p_le, p_lt, p_eq, p_shlN, p_shrN, p_or, p_and, p_xor, p_m1, p_m1', p_m0, p_ge0, p_zr, p_zr0, p_zr1, p_b0, p_b1', if_pos, if_neg, if_true, if_false, Bool.true_eq_false, Bool.false_eq_true, eq_self, hc.1.1.1, hc.2.2.2.1.1, hr1, q1, T_isHair_s (show i < 24 by omega) (show w < 24 by omega) hV hW, C_isHair_s hW hV hr2 q2]
    unfold T_hair_55 C_hair_p74
    rw [hair_comm]
    cases hb : hairB (t.1 0) w i
    · simp (disch := omega) only [p_lit, p_mul, nI_add, nI_1, p_ck, p_cl, p_b1, p_b2, p_l1, p_le, p_lt, p_eq, p_shlN, p_shrN, p_or, p_and, p_xor, p_m1, p_m1', p_m0, p_ge0, p_zr, p_zr0, p_zr1, p_b0, p_b1', if_pos, if_neg, if_true, if_false, Bool.true_eq_false, Bool.false_eq_true, eq_self]
      exact ih (i + 1) (by omega) x3 n (by omega)
    · simp (disch := omega) only [p_lit, p_mul, nI_add, nI_1, p_ck, p_cl, p_b1, p_b2, p_l1, p_le, p_lt, p_eq, p_shlN, p_shrN, p_or, p_and, p_xor, p_m1, p_m1', p_m0, p_ge0, p_zr, p_zr0, p_zr1, p_b0, p_b1', if_pos, if_neg, if_true, if_false, Bool.true_eq_false, Bool.false_eq_true, eq_self]
      by_cases e : x3 = x2
      · simp only [if_pos e]; exact ⟨_, rfl, rfl⟩
      · simp only [if_neg e]; exact ih (i + 1) (by omega) _ n (by omega)
theorem h_hair {x1 x2 : Int32} (hc : RN (t.1 0) c) : ∃ r, T_hair t x1 x2 = some r ∧ C_hair c x1 x2 = some r := by
  have h0 := hc.1.1.2
  unfold T_hair C_hair
  rcases rgW (c := c) x1 hc.1 hc.2.2.2.1.1 with ⟨h1, h2⟩ | ⟨w, hw, rfl, h1, h2⟩
  · simp (disch := omega) only [p_lit, p_mul, nI_add, nI_1, p_ck, p_cl, p_b1, p_b2, p_l1, p_le, p_lt, p_eq, p_shlN, p_shrN, p_or, p_and, p_xor, p_m1, p_m1', p_m0, p_ge0, p_zr, p_zr0, p_zr1, p_b0, p_b1', if_pos, if_neg, if_true, if_false, Bool.true_eq_false, Bool.false_eq_true, eq_self, h1, h2]
    exact ⟨_, rfl, rfl⟩
  obtain ⟨r, g1, g2⟩ := hc.2.2.2.1.get hw
  simp (disch := omega) only [p_lit, p_mul, nI_add, nI_1, p_ck, p_cl, p_b1, p_b2, p_l1, p_le, p_lt, p_eq, p_shlN, p_shrN, p_or, p_and, p_xor, p_m1, p_m1', p_m0, p_ge0, p_zr, p_zr0, p_zr1, p_b0, p_b1', if_pos, if_neg, if_true, if_false, Bool.true_eq_false, Bool.false_eq_true, eq_self, h1, h2]
  by_cases e : -nI 1 ≤ x2
  · simp only [if_pos e]
    exact hair_lp hc hw g1 g2 (nA (t.1 0) 0) 0 (by omega) _ fu (by unfold fu; omega)
  · simp only [if_neg e]
    exact ⟨_, rfl, rfl⟩
end PE
