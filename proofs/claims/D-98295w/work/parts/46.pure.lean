/-! power: both loops -/
set_option maxRecDepth 20000
theorem ctN_miss {p : Nat → Bool} {i : Nat} (h : p i = false) : ∀ n, i < n → ctN p n + 1 ≤ n
  | 0, hi => by omega
  | n + 1, hi => by
    rw [ctN_succ]
    rcases Nat.lt_or_ge i n with h1 | h1
    · have := ctN_miss h n h1
      split <;> omega
    · rw [show n = i by omega, h]
      have := ctN_le p i
      simp only [Bool.false_eq_true, if_false]
      omega
theorem cnt_miss {p n k : Nat} (hp : p < 2 ^ n) (hn : n ≤ 26) (hk : k < n) (h : p.testBit k = false) : cnt1 p ≤ n - 1 := by
  obtain ⟨d, hd⟩ : ∃ d, 26 = n + d := ⟨26 - n, by omega⟩
  unfold cnt1
  rw [hd, ctN_split, (ctN_pos d).mpr fun k hk => p_big hp (by omega)]
  have := ctN_miss (p := fun k => p.testBit k) h n hk
  omega
theorem dpo_cle {U p : Nat} : cnt1 (dpo U p) ≤ rk U 26 := by
  have e1 : cnt1 (dpo U p) = ctN (fun l => U.testBit l && p.testBit (rk U l)) 26 := ctN_cong _ fun k hk => by
    rw [Bool.eq_iff_iff, dpo_bit, Bool.and_eq_true]
    exact ⟨fun q => q.2, fun q => ⟨hk, q⟩⟩
  rw [e1, ct_rk (q := fun k => p.testBit k)]
  exact ctN_le _ _
theorem dpo_z {U : Nat} : dpo U 0 = 0 := p_bext fun i => by
  rw [dpo_bit, Nat.zero_testBit, Nat.zero_testBit]
  exact ⟨fun q => q.2.2, fun q => by cases q⟩
theorem dpo_pos {U p : Nat} (hp : 0 < p) (hp2 : p < 2 ^ rk U 26) : 0 < dpo U p := by
  obtain ⟨i, hi⟩ : ∃ i, p.testBit i = true := by
    apply Classical.byContradiction
    intro h
    have : p = 0 := p_bext fun i => ⟨fun q => absurd ⟨i, q⟩ h, fun q => by rw [Nat.zero_testBit] at q; cases q⟩
    omega
  have hi2 : i < rk U 26 := by
    apply Classical.byContradiction
    intro h
    rw [p_big hp2 (by omega)] at hi; cases hi
  obtain ⟨l0, a1, a2, a3⟩ := ctN_kth (p := fun k => U.testBit k) 26 hi2
  have a4 : rk U l0 = i := a3
  rcases Nat.eq_zero_or_pos (dpo U p) with h | h
  · have := dpo_bit.mpr ⟨a1, a2, show p.testBit (rk U l0) = true by rw [a4]; exact hi⟩
    rw [h, Nat.zero_testBit] at this; cases this
  · exact h
def pwR (b : Bool) (up all : Nat) : Nat := (if b then all else up) / Nat.gcd up all
theorem pw_bit {U l : Nat} (hl : l < 26) (hU : U < 67108864) (i : Nat) : (U &&& (2 ^ l ^^^ 4294967295)).testBit i = (U.testBit i && decide (i ≠ l)) := by
  rw [Nat.testBit_and, Nat.testBit_xor, Nat.testBit_two_pow, show (4294967295 : Nat) = 2 ^ 32 - 1 from rfl, Nat.testBit_two_pow_sub_one]
  by_cases h : i = l
  · subst h
    rw [decide_eq_true rfl, decide_eq_true (show i < 32 by omega), decide_eq_false (show ¬ i ≠ i from fun q => q rfl)]; rfl
  · rw [decide_eq_false (show ¬ l = i from fun e => h e.symm), decide_eq_true (show i ≠ l from h)]
    by_cases hi : i < 26
    · rw [decide_eq_true (show i < 32 by omega)]; rfl
    · rw [p_big (m := 26) hU (by omega)]; rfl
theorem rk_less {U V l : Nat} (hl : l < 26) (hb : U.testBit l = true) (hV : ∀ i, V.testBit i = (U.testBit i && decide (i ≠ l))) : rk V 26 + 1 = rk U 26 := by
  have h : ∀ L, rk V L + (if l < L then 1 else 0) = rk U L := by
    intro L
    induction L with
    | zero => rfl
    | succ L ih =>
      rw [rk_succ, rk_succ, hV L]
      by_cases h : L = l
      · subst h
        rw [if_neg (by omega)] at ih
        rw [hb, decide_eq_false (show ¬ L ≠ L from fun q => q rfl), if_pos (show L < L + 1 by omega), if_pos rfl]
        simp only [Bool.and_false, Bool.false_eq_true, if_false]
        omega
      · rw [decide_eq_true (show L ≠ l from h), Bool.and_true]
        by_cases h2 : l < L
        · rw [if_pos h2] at ih
          rw [if_pos (show l < L + 1 by omega)]
          omega
        · rw [if_neg h2] at ih
          rw [if_neg (show ¬ l < L + 1 by omega)]
          omega
  have := h 26
  rw [if_pos hl] at this
  exact this
theorem dpo_all {U : Nat} (hU : U < 67108864) : dpo U (2 ^ rk U 26 - 1) = U := p_bext fun i => by
  rw [dpo_bit]
  constructor
  · exact fun q => q.2.1
  · intro q
    have hi : i < 26 := by
      apply Classical.byContradiction
      intro h
      rw [p_big (m := 26) hU (by omega)] at q; cases q
    refine ⟨hi, q, ?_⟩
    rw [Nat.testBit_two_pow_sub_one, decide_eq_true_eq]
    exact rk_lt hi q
section PM
variable {t : TS} {c : CS} {A : Nat → Int32}
theorem T_own_lp {U n l : Nat} {mm : Nat → Nat} {x4 : Int32} (hM : Mb U n mm) (hn : n ≤ 10) (hl : l < 26) (hb : U.testBit l = true) (h30 : ∀ k, k < n → t.1 30 k = nI (mm k)) : ∀ k i, i + k = rk U l → ∀ f, k < f → T_power_36 f t (nI l) x4 (nI i) = T_power_59 fu t x4 (nI (rk U l)) 0 (nI 0) := by
  have hr := rk_lt hl hb
  rw [hM.1] at hr
  intro k
  induction k with
  | zero =>
    intro i hi f hf
    obtain ⟨f, rfl⟩ : ∃ m, f = m + 1 := ⟨f - 1, by omega⟩
    obtain rfl : i = rk U l := by omega
    have e := h30 (rk U l) hr
    rw [hM.2.1 l hl hb] at e
    unfold T_power_36
    simp (disch := omega) only [p_lit, p_mul, nI_add, nI_1, p_ck, p_cl, p_b1, p_b2, p_l1, p_le, p_lt, p_eq, p_shlN, p_shrN, p_or, p_and, p_xor, p_m1, p_m1', p_m0, p_ge0, p_zr, p_zr0, p_zr1, p_b0, p_b1', if_pos, if_neg, if_true, if_false, Bool.true_eq_false, Bool.false_eq_true, eq_self, e]
  | succ k ih =>
    intro i hi f hf
    obtain ⟨f, rfl⟩ : ∃ m, f = m + 1 := ⟨f - 1, by omega⟩
    obtain ⟨a1, a2, a3⟩ := hM.2.2 i (by omega)
    have hne : ¬ mm i = l := fun e => by rw [e] at a3; omega
    have h2 := ih (i + 1) (by omega) f (by omega)
    unfold T_power_36
    simp (disch := omega) only [p_lit, p_mul, nI_add, nI_1, p_ck, p_cl, p_b1, p_b2, p_l1, p_le, p_lt, p_eq, p_shlN, p_shrN, p_or, p_and, p_xor, p_m1, p_m1', p_m0, p_ge0, p_zr, p_zr0, p_zr1, p_b0, p_b1', if_pos, if_neg, if_true, if_false, Bool.true_eq_false, Bool.false_eq_true, eq_self, h30 i (by omega)]
    exact h2
theorem T_power_lp {s U n l : Nat} {mm : Nat → Nat} {b : Bool} (hM : Mb U n mm) (hn : n ≤ 10) (hl : l < 26) (hb : U.testBit l = true) (hLay : Lay A t U n s mm (2 ^ n)) : ∀ k p, p + k = 2 ^ n → ∀ f, k < f → T_power_59 f t (bI b) (nI (rk U l)) (lN (smN (pwT A s U n l) p)) (nI p) = some (nI (pwR b (smN (pwT A s U n l) (2 ^ n)) (fctN n)), t) := by
  have hr := rk_lt hl hb
  rw [hM.1] at hr
  have h2n : 2 ^ n ≤ 1024 := Nat.pow_le_pow_right (n := 2) (by decide) hn
  have hml := hM.2.1 l hl hb
  have hT : ∀ p, p < 2 ^ n → pwT A s U n l p ≤ 362880 := fun p hp => by
    unfold pwT pwF
    have := dpo_has (p := p) hM hr
    rw [hml] at this
    cases hx : (dpo U p).testBit l
    · rw [if_neg (by decide)]
      rw [hx] at this
      exact pwG_le hn (by omega) (by rw [dpo_cnt hM hp]; exact cnt_miss hp (by omega) hr this.symm)
    · rw [if_pos rfl]; omega
  have hup := smN_le (f := pwT A s U n l) (m := 362880) (2 ^ n) hT
  have hup2 : smN (pwT A s U n l) (2 ^ n) ≤ 371589120 := Nat.le_trans hup (by omega)
  obtain ⟨l0, l1, l2, l3⟩ := hLay
  intro k
  induction k with
  | zero =>
    intro p hp f hf
    obtain ⟨f, rfl⟩ : ∃ m, f = m + 1 := ⟨f - 1, by omega⟩
    obtain rfl : p = 2 ^ n := by omega
    have hfc := fct_le n (by omega)
    have hg : 0 < Nat.gcd (smN (pwT A s U n l) (2 ^ n)) (fctN n) := Nat.gcd_pos_of_pos_right _ (by omega)
    have hg2 : Nat.gcd (smN (pwT A s U n l) (2 ^ n)) (fctN n) ≤ fctN n := Nat.gcd_le_right _ (by omega)
    unfold T_power_59 T_power_164
    simp (disch := omega) only [p_lit, p_mul, nI_add, nI_1, p_ck, p_cl, p_b1, p_b2, p_l1, p_le, p_lt, p_eq, p_shlN, p_shrN, p_or, p_and, p_xor, p_m1, p_m1', p_m0, p_ge0, p_zr, p_zr0, p_zr1, p_b0, p_b1', if_pos, if_neg, if_true, if_false, Bool.true_eq_false, Bool.false_eq_true, eq_self, l1, fct_T n (show n < 11 by omega), T_common_s (show smN (pwT A s U n l) (2 ^ n) < 4611686018427387904 by omega) (show fctN n < 2147483648 by omega)]
    unfold pwR
    cases b
    · simp (disch := omega) only [p_lit, p_mul, nI_add, nI_1, p_ck, p_cl, p_b1, p_b2, p_l1, p_le, p_lt, p_eq, p_shlN, p_shrN, p_or, p_and, p_xor, p_m1, p_m1', p_m0, p_ge0, p_zr, p_zr0, p_zr1, p_b0, p_b1', if_pos, if_neg, if_true, if_false, Bool.true_eq_false, Bool.false_eq_true, eq_self]
      rw [p_nzl hg (by omega), pk_lDiv (by omega) hg (by omega), lN_i]
    · simp (disch := omega) only [p_lit, p_mul, nI_add, nI_1, p_ck, p_cl, p_b1, p_b2, p_l1, p_le, p_lt, p_eq, p_shlN, p_shrN, p_or, p_and, p_xor, p_m1, p_m1', p_m0, p_ge0, p_zr, p_zr0, p_zr1, p_b0, p_b1', if_pos, if_neg, if_true, if_false, Bool.true_eq_false, Bool.false_eq_true, eq_self]
      rw [p_nzl hg (by omega), pk_lDiv (by omega) hg (by omega), lN_i]
  | succ k ih =>
    intro p hp f hf
    obtain ⟨f, rfl⟩ : ∃ m, f = m + 1 := ⟨f - 1, by omega⟩
    have h2 := ih (p + 1) (by omega) f (by omega)
    rw [smN_succ] at h2
    have hpb := dpo_has (p := p) hM hr
    rw [hml] at hpb
    have hor : p ||| 2 ^ rk U l < 2 ^ n := Nat.or_lt_two_pow (by omega) (p_2lt hr)
    have e1 := l3 p (by omega)
    have e2 := l3 (p ||| 2 ^ rk U l) hor
    rw [dpo_or hM hr, hml] at e2
    unfold T_power_59 T_power_137
    simp (disch := omega) only [p_lit, p_mul, nI_add, nI_1, p_ck, p_cl, p_b1, p_b2, p_l1, p_le, p_lt, p_eq, p_shlN, p_shrN, p_or, p_and, p_xor, p_m1, p_m1', p_m0, p_ge0, p_zr, p_zr0, p_zr1, p_b0, p_b1', if_pos, if_neg, if_true, if_false, Bool.true_eq_false, Bool.false_eq_true, eq_self, l1, p_hasT, e1, e2]
    unfold pwT pwF at h2
    rw [hpb] at h2
    cases hx : p.testBit (rk U l)
    · rw [hx] at h2
      simp only [Bool.false_eq_true, if_false] at h2
      unfold pwG at h2
      simp (disch := omega) only [p_lit, p_mul, nI_add, nI_1, p_ck, p_cl, p_b1, p_b2, p_l1, p_le, p_lt, p_eq, p_shlN, p_shrN, p_or, p_and, p_xor, p_m1, p_m1', p_m0, p_ge0, p_zr, p_zr0, p_zr1, p_b0, p_b1', if_pos, if_neg, if_true, if_false, Bool.true_eq_false, Bool.false_eq_true, eq_self]
      cases hs1 : saC A (dpo U p) s
      · rw [hs1] at h2
        simp (disch := omega) only [p_lit, p_mul, nI_add, nI_1, p_ck, p_cl, p_b1, p_b2, p_l1, p_le, p_lt, p_eq, p_shlN, p_shrN, p_or, p_and, p_xor, p_m1, p_m1', p_m0, p_ge0, p_zr, p_zr0, p_zr1, p_b0, p_b1', if_pos, if_neg, if_true, if_false, Bool.true_eq_false, Bool.false_eq_true, eq_self, Bool.not_false]
        exact h2
      · rw [hs1] at h2
        simp (disch := omega) only [p_lit, p_mul, nI_add, nI_1, p_ck, p_cl, p_b1, p_b2, p_l1, p_le, p_lt, p_eq, p_shlN, p_shrN, p_or, p_and, p_xor, p_m1, p_m1', p_m0, p_ge0, p_zr, p_zr0, p_zr1, p_b0, p_b1', if_pos, if_neg, if_true, if_false, Bool.true_eq_false, Bool.false_eq_true, eq_self, Bool.not_true]
        cases hs2 : saC A (dpo U p ||| 2 ^ l) s
        · rw [hs2] at h2
          have hc := cnt_miss (p := p) (n := n) (by omega) (by omega) hr hx
          rw [if_pos (by rfl), dpo_cnt hM (show p < 2 ^ n by omega)] at h2
          simp (disch := omega) only [p_lit, p_mul, nI_add, nI_1, p_ck, p_cl, p_b1, p_b2, p_l1, p_le, p_lt, p_eq, p_shlN, p_shrN, p_or, p_and, p_xor, p_m1, p_m1', p_m0, p_ge0, p_zr, p_zr0, p_zr1, p_b0, p_b1', if_pos, if_neg, if_true, if_false, Bool.true_eq_false, Bool.false_eq_true, eq_self, Bool.not_false, T_bits_s (show p < 67108864 by omega), fct_T (cnt1 p) (by omega), p_sub (show 1 ≤ n by omega), p_sub (show cnt1 p ≤ n - 1 by omega), fct_T (n - 1 - cnt1 p) (by omega), lN_mul, lN_add]
          exact h2
        · rw [hs2] at h2
          simp (disch := omega) only [p_lit, p_mul, nI_add, nI_1, p_ck, p_cl, p_b1, p_b2, p_l1, p_le, p_lt, p_eq, p_shlN, p_shrN, p_or, p_and, p_xor, p_m1, p_m1', p_m0, p_ge0, p_zr, p_zr0, p_zr1, p_b0, p_b1', if_pos, if_neg, if_true, if_false, Bool.true_eq_false, Bool.false_eq_true, eq_self, Bool.not_true]
          exact h2
    · rw [hx] at h2
      simp (disch := omega) only [p_lit, p_mul, nI_add, nI_1, p_ck, p_cl, p_b1, p_b2, p_l1, p_le, p_lt, p_eq, p_shlN, p_shrN, p_or, p_and, p_xor, p_m1, p_m1', p_m0, p_ge0, p_zr, p_zr0, p_zr1, p_b0, p_b1', if_pos, if_neg, if_true, if_false, Bool.true_eq_false, Bool.false_eq_true, eq_self]
      exact h2
theorem C_power_lp {s n l V : Nat} {b : Bool} (hn : 1 ≤ n ∧ n ≤ 10) (hl : l < 26) (hV : V < 67108864) (hVn : rk V 26 = n - 1) (hs : s < nA A 1) : ∀ q, q < 2 ^ rk V 26 → ∀ (acc : Nat) (c : CS), RN A c → acc + smN (fun q => pwG A s n l (dpo V q)) (q + 1) < 1000000000 → ∀ g, q + 1 < g → ∃ c1, C_power_p57 g c (nI s) (nI l) (bI b) (nI V) (nI n) (nI acc) (nI (dpo V q)) (nI 1) = some (nI (pwR b (acc + smN (fun q => pwG A s n l (dpo V q)) (q + 1)) (fctN n)), c1) ∧ Sc c c1 := by
  have fin : ∀ (acc : Nat) (c : CS) (z : Int32) g, acc < 1000000000 → C_power_p57 (g + 1) c (nI s) (nI l) (bI b) (nI V) (nI n) (nI acc) z (nI 0) = some (nI (pwR b acc (fctN n)), c) := by
    intro acc c z g hacc
    have hfc := fct_le n (by omega)
    have hg : 0 < Nat.gcd (fctN n) acc := Nat.gcd_pos_of_pos_left _ (by omega)
    have hg2 : Nat.gcd (fctN n) acc ≤ fctN n := Nat.gcd_le_left _ (by omega)
    unfold C_power_p57 C_inLowest
    simp (disch := omega) only [p_lit, p_mul, nI_add, nI_1, p_ck, p_cl, p_b1, p_b2, p_l1, p_le, p_lt, p_eq, p_shlN, p_shrN, p_or, p_and, p_xor, p_m1, p_m1', p_m0, p_ge0, p_zr, p_zr0, p_zr1, p_b0, p_b1', if_pos, if_neg, if_true, if_false, Bool.true_eq_false, Bool.false_eq_true, eq_self, fct_C n (show n < 11 by omega), C_common_s (show fctN n < 2147483648 by omega) (show acc < 1073741824 by omega)]
    unfold pwR
    rw [Nat.gcd_comm acc (fctN n)]
    cases b
    · simp (disch := omega) only [p_lit, p_mul, nI_add, nI_1, p_ck, p_cl, p_b1, p_b2, p_l1, p_le, p_lt, p_eq, p_shlN, p_shrN, p_or, p_and, p_xor, p_m1, p_m1', p_m0, p_ge0, p_zr, p_zr0, p_zr1, p_b0, p_b1', if_pos, if_neg, if_true, if_false, Bool.true_eq_false, Bool.false_eq_true, eq_self]
      rw [p_nzi hg (by omega), pk_div (by omega) hg (by omega)]; rfl
    · simp (disch := omega) only [p_lit, p_mul, nI_add, nI_1, p_ck, p_cl, p_b1, p_b2, p_l1, p_le, p_lt, p_eq, p_shlN, p_shrN, p_or, p_and, p_xor, p_m1, p_m1', p_m0, p_ge0, p_zr, p_zr0, p_zr1, p_b0, p_b1', if_pos, if_neg, if_true, if_false, Bool.true_eq_false, Bool.false_eq_true, eq_self]
      rw [p_nzi hg (by omega), pk_div (by omega) hg (by omega)]; rfl
  have hlt : (2 : Nat) ^ l < 67108864 := p_2lt (m := 26) hl
  have hstep : ∀ q (acc : Nat) (c : CS) g, RN A c → ∃ c1, C_power_p57 (g + 1) c (nI s) (nI l) (bI b) (nI V) (nI n) (nI acc) (nI (dpo V q)) (nI 1) = C_power_p114 (C_power_p57 g) c1 (nI s) (nI l) (bI b) (nI V) (nI n) (nI (acc + pwG A s n l (dpo V q))) (nI (dpo V q)) ∧ Sc c c1 := by
    intro q acc c g hc
    have hcl := dpo_cle (U := V) (p := q)
    rw [hVn] at hcl
    have hor : dpo V q ||| 2 ^ l < 67108864 := Nat.or_lt_two_pow (n := 26) dpo_lt (p_2lt hl)
    obtain ⟨c1, a1, a2, -⟩ := C_says_s (c := c) (m := dpo V q) dpo_lt hc.1 hc.2.2.2.1 hs hc.2.2.1.1.2 (hc.2.2.1.2 s hs) hc.2.2.2.2.1
    have hc1 := hc.sc a2
    obtain ⟨c2, b1, b2, -⟩ := C_says_s (c := c1) (m := dpo V q ||| 2 ^ l) hor hc1.1 hc1.2.2.2.1 hs hc1.2.2.1.1.2 (hc1.2.2.1.2 s hs) hc1.2.2.2.2.1
    unfold C_power_p57 pwG
    simp (disch := omega) only [p_lit, p_mul, nI_add, nI_1, p_ck, p_cl, p_b1, p_b2, p_l1, p_le, p_lt, p_eq, p_shlN, p_shrN, p_or, p_and, p_xor, p_m1, p_m1', p_m0, p_ge0, p_zr, p_zr0, p_zr1, p_b0, p_b1', if_pos, if_neg, if_true, if_false, Bool.true_eq_false, Bool.false_eq_true, eq_self, J_bits_s dpo_lt, a1]
    cases hs1 : saC A (dpo V q) s
    · simp (disch := omega) only [p_lit, p_mul, nI_add, nI_1, p_ck, p_cl, p_b1, p_b2, p_l1, p_le, p_lt, p_eq, p_shlN, p_shrN, p_or, p_and, p_xor, p_m1, p_m1', p_m0, p_ge0, p_zr, p_zr0, p_zr1, p_b0, p_b1', if_pos, if_neg, if_true, if_false, Bool.true_eq_false, Bool.false_eq_true, eq_self, Bool.false_and, Nat.add_zero]
      exact ⟨c1, rfl, a2⟩
    · simp (disch := omega) only [p_lit, p_mul, nI_add, nI_1, p_ck, p_cl, p_b1, p_b2, p_l1, p_le, p_lt, p_eq, p_shlN, p_shrN, p_or, p_and, p_xor, p_m1, p_m1', p_m0, p_ge0, p_zr, p_zr0, p_zr1, p_b0, p_b1', if_pos, if_neg, if_true, if_false, Bool.true_eq_false, Bool.false_eq_true, eq_self, b1]
      cases hs2 : saC A (dpo V q ||| 2 ^ l) s
      · simp (disch := omega) only [p_lit, p_mul, nI_add, nI_1, p_ck, p_cl, p_b1, p_b2, p_l1, p_le, p_lt, p_eq, p_shlN, p_shrN, p_or, p_and, p_xor, p_m1, p_m1', p_m0, p_ge0, p_zr, p_zr0, p_zr1, p_b0, p_b1', if_pos, if_neg, if_true, if_false, Bool.true_eq_false, Bool.false_eq_true, eq_self, Bool.not_false, Bool.and_self, fct_C (cnt1 (dpo V q)) (by omega), p_sub (show 1 ≤ n by omega), p_sub (show cnt1 (dpo V q) ≤ n - 1 by omega), fct_C (n - 1 - cnt1 (dpo V q)) (by omega)]
        exact ⟨c2, rfl, a2.tr b2⟩
      · simp (disch := omega) only [p_lit, p_mul, nI_add, nI_1, p_ck, p_cl, p_b1, p_b2, p_l1, p_le, p_lt, p_eq, p_shlN, p_shrN, p_or, p_and, p_xor, p_m1, p_m1', p_m0, p_ge0, p_zr, p_zr0, p_zr1, p_b0, p_b1', if_pos, if_neg, if_true, if_false, Bool.true_eq_false, Bool.false_eq_true, eq_self, Bool.not_true, Bool.and_false, Nat.add_zero]
        exact ⟨c2, rfl, a2.tr b2⟩
  intro q
  induction q with
  | zero =>
    intro hq acc c hc hacc g hg
    obtain ⟨g, rfl⟩ : ∃ m, g = m + 2 := ⟨g - 2, by omega⟩
    obtain ⟨c1, e1, e2⟩ := hstep 0 acc c (g + 1) hc
    rw [e1]
    unfold C_power_p114 C_power_p124
    rw [if_pos (by rw [dpo_z]; rfl)]
    refine ⟨c1, ?_, e2⟩
    rw [p_l1]
    have hz : smN (fun q => pwG A s n l (dpo V q)) (0 + 1) = pwG A s n l (dpo V 0) := by rw [smN_succ]; exact Nat.zero_add _
    rw [hz] at hacc ⊢
    exact fin _ c1 _ g hacc
  | succ q ih =>
    intro hq acc c hc hacc g hg
    obtain ⟨g, rfl⟩ : ∃ m, g = m + 1 := ⟨g - 1, by omega⟩
    obtain ⟨c1, e1, e2⟩ := hstep (q + 1) acc c g hc
    have hpos := dpo_pos (U := V) (show 0 < q + 1 by omega) hq
    have hdl := dpo_lt (U := V) (p := q + 1)
    have hpr := dpo_pred hV (show 0 < q + 1 by omega) hq
    rw [Nat.add_sub_cancel] at hpr
    have hsm : smN (fun q => pwG A s n l (dpo V q)) (q + 1 + 1) = smN (fun q => pwG A s n l (dpo V q)) (q + 1) + pwG A s n l (dpo V (q + 1)) := smN_succ
    rw [hsm] at hacc ⊢
    obtain ⟨c2, e3, e4⟩ := ih (by omega) (acc + pwG A s n l (dpo V (q + 1))) c1 (hc.sc e2) (by omega) g (by omega)
    refine ⟨c2, ?_, e2.tr e4⟩
    rw [e1]
    unfold C_power_p114 C_power_p124
    rw [if_neg (nI_ne0 hpos (by omega))]
    simp (disch := omega) only [p_lit, p_mul, nI_add, nI_1, p_ck, p_cl, p_b1, p_b2, p_l1, p_le, p_lt, p_eq, p_shlN, p_shrN, p_or, p_and, p_xor, p_m1, p_m1', p_m0, p_ge0, p_zr, p_zr0, p_zr1, p_b0, p_b1', if_pos, if_neg, if_true, if_false, Bool.true_eq_false, Bool.false_eq_true, eq_self, p_sub (show 1 ≤ dpo V (q + 1) by omega), hpr]
    rw [e3]
    congr 4
    omega
theorem h_power {x1 x2 x3 : Int32} {b : Bool} (hc : RN (t.1 0) c) : ∃ r t1 c1, T_power t x1 x2 x3 (bI b) = some (r, t1) ∧ C_power c x1 x2 x3 (bI b) = some (r, c1) ∧ St t t1 ∧ Sc c c1 := by
  have h8 := hc.2.2.1.1.2
  rcases T_lay_s (t := t) (c := c) (x1 := x1) (x2 := x2) hc with ⟨s, U, n, mm, t1, hs, rfl, hU1, hU, rfl, hn1, hn, hM, e1, e2, e3, e4, e5, e6⟩ | ⟨e1, e2⟩
  · unfold T_power C_power
    rcases rgL x3 with ⟨h1, h2⟩ | ⟨l, hl, rfl, h1, h2⟩
    · simp (disch := omega) only [p_lit, p_mul, nI_add, nI_1, p_ck, p_cl, p_b1, p_b2, p_l1, p_le, p_lt, p_eq, p_shlN, p_shrN, p_or, p_and, p_xor, p_m1, p_m1', p_m0, p_ge0, p_zr, p_zr0, p_zr1, p_b0, p_b1', if_pos, if_neg, if_true, if_false, Bool.true_eq_false, Bool.false_eq_true, eq_self, e4, e5, h1, h2]
      exact ⟨_, t, c, rfl, rfl, St.rf, Sc.rf⟩
    have hset : T_isSet (nI U) = some (nI 1) := by
      rcases rgT (nI U) with ⟨h3, -⟩ | ⟨z, z1, z2, z3, h3, -⟩
      · exfalso
        unfold T_isSet at h3
        rw [isIn_eq, p_in1 (l := 1) (h := 67108863) (nI_le (a := 1) hU1 (by omega)) (nI_le (b := 67108863) (by omega) (by omega)), p_b1] at h3
        exact absurd (Option.some.inj (h3.symm.trans (if_pos (Or.inr rfl)))) (by decide)
      · exact h3
    simp (disch := omega) only [p_lit, p_mul, nI_add, nI_1, p_ck, p_cl, p_b1, p_b2, p_l1, p_le, p_lt, p_eq, p_shlN, p_shrN, p_or, p_and, p_xor, p_m1, p_m1', p_m0, p_ge0, p_zr, p_zr0, p_zr1, p_b0, p_b1', if_pos, if_neg, if_true, if_false, Bool.true_eq_false, Bool.false_eq_true, eq_self, e4, e5, h1, h2, hset, p_has, p_hasT]
    cases hb : U.testBit l
    · simp (disch := omega) only [p_lit, p_mul, nI_add, nI_1, p_ck, p_cl, p_b1, p_b2, p_l1, p_le, p_lt, p_eq, p_shlN, p_shrN, p_or, p_and, p_xor, p_m1, p_m1', p_m0, p_ge0, p_zr, p_zr0, p_zr1, p_b0, p_b1', if_pos, if_neg, if_true, if_false, Bool.true_eq_false, Bool.false_eq_true, eq_self]
      exact ⟨_, t, c, rfl, rfl, St.rf, Sc.rf⟩
    · simp (disch := omega) only [p_lit, p_mul, nI_add, nI_1, p_ck, p_cl, p_b1, p_b2, p_l1, p_le, p_lt, p_eq, p_shlN, p_shrN, p_or, p_and, p_xor, p_m1, p_m1', p_m0, p_ge0, p_zr, p_zr0, p_zr1, p_b0, p_b1', if_pos, if_neg, if_true, if_false, Bool.true_eq_false, Bool.false_eq_true, eq_self, e1, p_not, J_bits_s hU, e6]
      have hr := rk_lt hl hb
      rw [hM.1] at hr
      have h2n : 2 ^ n ≤ 1024 := Nat.pow_le_pow_right (n := 2) (by decide) hn
      have eT := (T_own_lp (t := t1) (x4 := bI b) hM hn hl hb e3.2.2.1 (rk U l) 0 (by omega) fu (by unfold fu; omega)).trans (T_power_lp (A := t.1 0) (s := s) (b := b) hM hn hl hb e3 (2 ^ n) 0 (by omega) fu (by unfold fu; omega))
      have hV : U &&& (2 ^ l ^^^ 4294967295) < 67108864 := Nat.lt_of_le_of_lt Nat.and_le_left hU
      have hVb : ∀ i, (U &&& (2 ^ l ^^^ 4294967295)).testBit i = (U.testBit i && decide (i ≠ l)) := pw_bit hl hU
      have hVn : rk (U &&& (2 ^ l ^^^ 4294967295)) 26 + 1 = n := by
        rw [← hM.1]
        exact rk_less hl hb hVb
      have hq : 2 ^ rk (U &&& (2 ^ l ^^^ 4294967295)) 26 - 1 < 2 ^ rk (U &&& (2 ^ l ^^^ 4294967295)) 26 := by
        have := Nat.two_pow_pos (rk (U &&& (2 ^ l ^^^ 4294967295)) 26)
        omega
      have hsum := pw_sum (A := t.1 0) (s := s) (n := n) hl hb hU
      rw [hM.1] at hsum
      have hup : smN (pwT (t.1 0) s U n l) (2 ^ n) < 1000000000 := by
        rw [hsum]
        have hle := smN_le (f := fun q => pwG (t.1 0) s n l (dpo (U &&& (2 ^ l ^^^ 4294967295)) q)) (m := 362880) (2 ^ rk (U &&& (2 ^ l ^^^ 4294967295)) 26) (fun q hq => pwG_le hn hn1 (by have := dpo_cle (U := U &&& (2 ^ l ^^^ 4294967295)) (p := q); omega))
        have h3 : 2 ^ rk (U &&& (2 ^ l ^^^ 4294967295)) 26 ≤ 2 ^ n := Nat.pow_le_pow_right (n := 2) (by decide) (by omega)
        omega
      have hlast : 2 ^ rk (U &&& (2 ^ l ^^^ 4294967295)) 26 - 1 + 1 = 2 ^ rk (U &&& (2 ^ l ^^^ 4294967295)) 26 := by omega
      have hdV : dpo (U &&& (2 ^ l ^^^ 4294967295)) (2 ^ rk (U &&& (2 ^ l ^^^ 4294967295)) 26 - 1) = U &&& (2 ^ l ^^^ 4294967295) := dpo_all hV
      obtain ⟨c1, k1, k2⟩ := C_power_lp (A := t.1 0) (s := s) (n := n) (l := l) (b := b) ⟨hn1, hn⟩ hl hV (by omega) hs (2 ^ rk (U &&& (2 ^ l ^^^ 4294967295)) 26 - 1) hq 0 c hc (by rw [hlast, ← hsum]; omega) fu (by
        have h3 : 2 ^ rk (U &&& (2 ^ l ^^^ 4294967295)) 26 ≤ 2 ^ n := Nat.pow_le_pow_right (n := 2) (by decide) (by omega)
        unfold fu; omega)
      rw [hlast, ← hsum, hdV, Nat.zero_add] at k1
      exact ⟨_, t1, c1, eT, k1, e2, k2⟩
  · have eC : C_power c x1 x2 x3 (bI b) = some (-nI 1, c) := by
      unfold C_power
      rcases e2 with h | ⟨h, h2⟩
      · simp (disch := omega) only [p_lit, p_mul, nI_add, nI_1, p_ck, p_cl, p_b1, p_b2, p_l1, p_le, p_lt, p_eq, p_shlN, p_shrN, p_or, p_and, p_xor, p_m1, p_m1', p_m0, p_ge0, p_zr, p_zr0, p_zr1, p_b0, p_b1', if_pos, if_neg, if_true, if_false, Bool.true_eq_false, Bool.false_eq_true, eq_self, h]
      · simp (disch := omega) only [p_lit, p_mul, nI_add, nI_1, p_ck, p_cl, p_b1, p_b2, p_l1, p_le, p_lt, p_eq, p_shlN, p_shrN, p_or, p_and, p_xor, p_m1, p_m1', p_m0, p_ge0, p_zr, p_zr0, p_zr1, p_b0, p_b1', if_pos, if_neg, if_true, if_false, Bool.true_eq_false, Bool.false_eq_true, eq_self, h, h2]
    refine ⟨-nI 1, t, c, ?_, eC, St.rf, Sc.rf⟩
    unfold T_power
    rcases rgL x3 with ⟨h1, h2⟩ | ⟨l, hl, rfl, h1, h2⟩
    · simp (disch := omega) only [p_lit, p_mul, nI_add, nI_1, p_ck, p_cl, p_b1, p_b2, p_l1, p_le, p_lt, p_eq, p_shlN, p_shrN, p_or, p_and, p_xor, p_m1, p_m1', p_m0, p_ge0, p_zr, p_zr0, p_zr1, p_b0, p_b1', if_pos, if_neg, if_true, if_false, Bool.true_eq_false, Bool.false_eq_true, eq_self, h1]
    rcases rgT x2 with ⟨h3, h4⟩ | ⟨U, hU1, hU, rfl, h3, h4⟩
    · simp (disch := omega) only [p_lit, p_mul, nI_add, nI_1, p_ck, p_cl, p_b1, p_b2, p_l1, p_le, p_lt, p_eq, p_shlN, p_shrN, p_or, p_and, p_xor, p_m1, p_m1', p_m0, p_ge0, p_zr, p_zr0, p_zr1, p_b0, p_b1', if_pos, if_neg, if_true, if_false, Bool.true_eq_false, Bool.false_eq_true, eq_self, h1, h3]
    simp (disch := omega) only [p_lit, p_mul, nI_add, nI_1, p_ck, p_cl, p_b1, p_b2, p_l1, p_le, p_lt, p_eq, p_shlN, p_shrN, p_or, p_and, p_xor, p_m1, p_m1', p_m0, p_ge0, p_zr, p_zr0, p_zr1, p_b0, p_b1', if_pos, if_neg, if_true, if_false, Bool.true_eq_false, Bool.false_eq_true, eq_self, h1, h3, p_hasT, e1]
    cases U.testBit l
    · simp (disch := omega) only [p_lit, p_mul, nI_add, nI_1, p_ck, p_cl, p_b1, p_b2, p_l1, p_le, p_lt, p_eq, p_shlN, p_shrN, p_or, p_and, p_xor, p_m1, p_m1', p_m0, p_ge0, p_zr, p_zr0, p_zr1, p_b0, p_b1', if_pos, if_neg, if_true, if_false, Bool.true_eq_false, Bool.false_eq_true, eq_self]
    · simp (disch := omega) only [p_lit, p_mul, nI_add, nI_1, p_ck, p_cl, p_b1, p_b2, p_l1, p_le, p_lt, p_eq, p_shlN, p_shrN, p_or, p_and, p_xor, p_m1, p_m1', p_m0, p_ge0, p_zr, p_zr0, p_zr1, p_b0, p_b1', if_pos, if_neg, if_true, if_false, Bool.true_eq_false, Bool.false_eq_true, eq_self]
end PM
