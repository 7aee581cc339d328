/-! how many bits -/
set_option maxRecDepth 20000
def cnt1 (s : Nat) : Nat := ctN (fun k => s.testBit k) 26
theorem T_bits_lp {s : Nat} (hs : s < 67108864) : ∀ k i, i + k = 26 → ∀ n, k < n → T_bits_4 n (nI s) (nI (ctN (fun k => s.testBit k) i)) (nI i) = some (nI (cnt1 s)) := by
  intro k
  induction k with
  | zero =>
    intro i hi n hn
    obtain ⟨n, rfl⟩ : ∃ m, n = m + 1 := ⟨n - 1, by omega⟩
    unfold T_bits_4
    simp (disch := omega) only [p_lit, p_mul, nI_add, nI_1, p_ck, p_cl, p_b1, p_b2, p_l1, p_le, p_lt, p_eq, p_shlN, p_shrN, p_or, p_and, p_xor, p_m1, p_m1', p_m0, p_ge0, p_zr, p_zr0, p_zr1, p_b0, p_b1', if_pos, if_neg, if_true, if_false, Bool.true_eq_false, Bool.false_eq_true, eq_self]
    rw [show i = 26 by omega]; rfl
  | succ k ih =>
    intro i hi n hn
    obtain ⟨n, rfl⟩ : ∃ m, n = m + 1 := ⟨n - 1, by omega⟩
    unfold T_bits_4
    have h2 := ih (i + 1) (by omega) n (by omega)
    rw [ctN_succ] at h2
    simp (disch := omega) only [p_lit, p_mul, nI_add, nI_1, p_ck, p_cl, p_b1, p_b2, p_l1, p_le, p_lt, p_eq, p_shlN, p_shrN, p_or, p_and, p_xor, p_m1, p_m1', p_m0, p_ge0, p_zr, p_zr0, p_zr1, p_b0, p_b1', if_pos, if_neg, if_true, if_false, Bool.true_eq_false, Bool.false_eq_true, eq_self]
    rw [p_tb] at h2
    rw [show s / 2 ^ i &&& 1 = if decide (s / 2 ^ i % 2 = 1) = true then 1 else 0 by
      rw [Nat.and_one_is_mod]
      by_cases h : s / 2 ^ i % 2 = 1
      · rw [h]; rfl
      · rw [if_neg (by simpa using h)]; omega]
    exact h2
theorem T_bits_s {s : Nat} (hs : s < 67108864) : T_bits (nI s) = some (nI (cnt1 s)) := T_bits_lp hs 26 0 rfl fu (by unfold fu; omega)
theorem p_and256 {a b m n : Nat} (ha : a < 256) (hm : m < 256) : (a + 256 * b) &&& (m + 256 * n) = (a &&& m) + 256 * (b &&& n) := by
  have h1 : ((a + 256 * b) &&& (m + 256 * n)) % 2 ^ 8 = a &&& m := by
    rw [Nat.and_mod_two_pow]
    congr 1 <;> omega
  have h2 : ((a + 256 * b) &&& (m + 256 * n)) / 2 ^ 8 = b &&& n := by
    rw [Nat.and_div_two_pow]
    congr 1 <;> omega
  omega
def g1 (b : Nat) : Nat := b - ((b / 2) &&& 85)
def g2 (e : Nat) : Nat := (e &&& 51) + ((e / 4) &&& 51)
def g3 (b : Nat) : Nat := g2 (g1 b)
theorem q1_ : ∀ b, b < 256 → ∀ p, p < 2 → (b / 2 + 128 * p) &&& 85 = (b / 2) &&& 85 := by decide +kernel
theorem q2_ : ∀ b, b < 256 → ∀ p, p < 4 → (b / 4 + 64 * p) &&& 51 = (b / 4) &&& 51 := by decide +kernel
theorem q3_ : ∀ b, b < 256 → g3 b ≤ 68 ∧ g3 b % 16 ≤ 4 ∧ g1 b < 256 ∧ ((b / 2) &&& 85) ≤ b := by decide +kernel
theorem q4_ : ∀ h, h < 69 → ∀ p, p < 5 → (h + h / 16 + 16 * p) &&& 15 = (h + h / 16) % 16 := by decide +kernel
theorem q5_ : ∀ b, b < 256 → (g3 b + g3 b / 16) % 16 = ctN (fun k => b.testBit k) 8 := by decide +kernel
theorem and4_ {a0 a1 a2 a3 m : Nat} (h0 : a0 < 256) (h1 : a1 < 256) (h2 : a2 < 256) (hm : m < 256) : (a0 + 256 * (a1 + 256 * (a2 + 256 * a3))) &&& (m + 256 * (m + 256 * (m + 256 * m))) = (a0 &&& m) + 256 * ((a1 &&& m) + 256 * ((a2 &&& m) + 256 * (a3 &&& m))) := by
  rw [p_and256 h0 hm, p_and256 h1 hm, p_and256 h2 hm]
theorem ctN_split {p : Nat → Bool} {m : Nat} : ∀ n, ctN p (m + n) = ctN p m + ctN (fun k => p (m + k)) n
  | 0 => rfl
  | n + 1 => by
    rw [← Nat.add_assoc, ctN_succ, ctN_split n, ctN_succ, Nat.add_assoc]
theorem ct_byte {b y : Nat} (hb : b < 256) (n : Nat) : ctN (fun k => (b + 256 * y).testBit k) (8 + n) = ctN (fun k => b.testBit k) 8 + ctN (fun k => y.testBit k) n := by
  rw [ctN_split]
  congr 1
  · refine ctN_cong _ fun k hk => ?_
    have e : b = (b + 256 * y) % 2 ^ 8 := by omega
    have e2 := Nat.testBit_mod_two_pow (b + 256 * y) 8 k
    rw [← e, decide_eq_true hk, Bool.true_and] at e2
    exact e2.symm
  · refine ctN_cong _ fun k hk => ?_
    have e : y = (b + 256 * y) / 2 ^ 8 := by omega
    conv => rhs; rw [e]
    rw [Nat.testBit_div_two_pow, Nat.add_comm k 8]
theorem p_ush {n k : Nat} (hn : n < 4294967296) (hk : k < 32) : iush (nI n) (nI k) = nI (n / 2 ^ k) := by
  have h : ∀ k, k < 32 → (((nI k).toUInt32 &&& Int32.toUInt32 31).toBitVec % 32).toNat = k := by decide +kernel
  exact pk_ushrN hn _ k (h k hk)
theorem p_iush {x : Int32} (k : Nat) : iush x (OfNat.ofNat k) = iush x (nI k) := rfl
theorem bit_nat {s : Nat} (hs : s < 67108864) : s - (s / 2 &&& 1431655765) < 4294967296 ∧ ∃ v2 v3, v2 = ((s - (s / 2 &&& 1431655765)) &&& 858993459) + ((s - (s / 2 &&& 1431655765)) / 4 &&& 858993459) ∧ v2 < 2147483648 ∧ v3 = ((v2 + v2 / 16) &&& 252645135) ∧ v3 < 252645136 ∧ v3 + v3 / 256 < 1000000000 ∧ ((v3 + v3 / 256 + (v3 + v3 / 256) / 65536) &&& 63) = cnt1 s := by
  obtain ⟨b0, b1, b2, b3, e, h0, h1, h2, h3⟩ : ∃ b0 b1 b2 b3, s = b0 + 256 * (b1 + 256 * (b2 + 256 * b3)) ∧ b0 < 256 ∧ b1 < 256 ∧ b2 < 256 ∧ b3 < 4 := ⟨s % 256, s / 256 % 256, s / 65536 % 256, s / 16777216, by omega, by omega, by omega, by omega, by omega⟩
  have k0 := q3_ b0 h0
  have k1 := q3_ b1 h1
  have k2 := q3_ b2 h2
  have k3 := q3_ b3 (by omega)
  have e1 : s / 2 &&& 1431655765 = (b0 / 2 &&& 85) + 256 * ((b1 / 2 &&& 85) + 256 * ((b2 / 2 &&& 85) + 256 * (b3 / 2 &&& 85))) := by
    rw [show s / 2 = (b0 / 2 + 128 * (b1 % 2)) + 256 * ((b1 / 2 + 128 * (b2 % 2)) + 256 * ((b2 / 2 + 128 * (b3 % 2)) + 256 * (b3 / 2))) by omega, show 1431655765 = 85 + 256 * (85 + 256 * (85 + 256 * 85)) from rfl, and4_ (by omega) (by omega) (by omega) (by omega), q1_ b0 h0 _ (by omega), q1_ b1 h1 _ (by omega), q1_ b2 h2 _ (by omega)]
  have e2 : s - (s / 2 &&& 1431655765) = g1 b0 + 256 * (g1 b1 + 256 * (g1 b2 + 256 * g1 b3)) := by
    rw [e1, e]
    unfold g1
    omega
  have hg3 : g1 b3 < 4 := by unfold g1; omega
  rw [e2]
  have e3 : ((g1 b0 + 256 * (g1 b1 + 256 * (g1 b2 + 256 * g1 b3))) &&& 858993459) + ((g1 b0 + 256 * (g1 b1 + 256 * (g1 b2 + 256 * g1 b3))) / 4 &&& 858993459) = g3 b0 + 256 * (g3 b1 + 256 * (g3 b2 + 256 * g3 b3)) := by
    rw [show (g1 b0 + 256 * (g1 b1 + 256 * (g1 b2 + 256 * g1 b3))) / 4 = (g1 b0 / 4 + 64 * (g1 b1 % 4)) + 256 * ((g1 b1 / 4 + 64 * (g1 b2 % 4)) + 256 * ((g1 b2 / 4 + 64 * (g1 b3 % 4)) + 256 * (g1 b3 / 4))) by omega, show 858993459 = 51 + 256 * (51 + 256 * (51 + 256 * 51)) from rfl, and4_ (by omega) (by omega) (by omega) (by omega), and4_ (by omega) (by omega) (by omega) (by omega), q2_ _ k0.2.2.1 _ (by omega), q2_ _ k1.2.2.1 _ (by omega), q2_ _ k2.2.2.1 _ (by omega)]
    unfold g3 g2
    omega
  have e4 : ((g3 b0 + 256 * (g3 b1 + 256 * (g3 b2 + 256 * g3 b3))) + (g3 b0 + 256 * (g3 b1 + 256 * (g3 b2 + 256 * g3 b3))) / 16 &&& 252645135) = (g3 b0 + g3 b0 / 16) % 16 + 256 * ((g3 b1 + g3 b1 / 16) % 16 + 256 * ((g3 b2 + g3 b2 / 16) % 16 + 256 * ((g3 b3 + g3 b3 / 16) % 16))) := by
    rw [show (g3 b0 + 256 * (g3 b1 + 256 * (g3 b2 + 256 * g3 b3))) + (g3 b0 + 256 * (g3 b1 + 256 * (g3 b2 + 256 * g3 b3))) / 16 = (g3 b0 + g3 b0 / 16 + 16 * (g3 b1 % 16)) + 256 * ((g3 b1 + g3 b1 / 16 + 16 * (g3 b2 % 16)) + 256 * ((g3 b2 + g3 b2 / 16 + 16 * (g3 b3 % 16)) + 256 * (g3 b3 + g3 b3 / 16))) by omega, show 252645135 = 15 + 256 * (15 + 256 * (15 + 256 * 15)) from rfl, and4_ (by omega) (by omega) (by omega) (by omega), q4_ _ (by omega) _ (by omega), q4_ _ (by omega) _ (by omega), q4_ _ (by omega) _ (by omega)]
    have := q4_ (g3 b3) (by omega) 0 (by omega)
    rw [show g3 b3 + g3 b3 / 16 + 16 * 0 = g3 b3 + g3 b3 / 16 by omega] at this
    rw [this]
  have c0 := q5_ b0 h0
  have c1 := q5_ b1 h1
  have c2 := q5_ b2 h2
  have c3 := q5_ b3 (by omega)
  have d0 := ctN_le (fun k => b0.testBit k) 8
  have d1 := ctN_le (fun k => b1.testBit k) 8
  have d2 := ctN_le (fun k => b2.testBit k) 8
  have d3 := ctN_le (fun k => b3.testBit k) 8
  have hc : cnt1 s = ctN (fun k => b0.testBit k) 8 + (ctN (fun k => b1.testBit k) 8 + (ctN (fun k => b2.testBit k) 8 + ctN (fun k => b3.testBit k) 8)) := by
    have z1 := ct_byte (b := b0) (y := b1 + 256 * (b2 + 256 * b3)) h0 18
    have z2 := ct_byte (b := b1) (y := b2 + 256 * b3) h1 10
    have z3 := ct_byte (b := b2) (y := b3) h2 2
    have z4 : ctN (fun k => b3.testBit k) 8 = ctN (fun k => b3.testBit k) 2 := by
      have : ∀ b, b < 4 → ctN (fun k => b.testBit k) 8 = ctN (fun k => b.testBit k) 2 := by decide +kernel
      exact this b3 h3
    unfold cnt1
    rw [e]
    rw [z4]
    exact z1.trans (by rw [z2, z3])
  refine ⟨by omega, _, _, rfl, ?_, rfl, ?_, ?_, ?_⟩
  · rw [e3]; omega
  · rw [e3, e4]; omega
  · rw [e3, e4]; omega
  · rw [e3, e4, c0, c1, c2, c3, hc, show 63 = 2 ^ 6 - 1 from rfl, Nat.and_two_pow_sub_one_eq_mod]
    generalize ctN (fun k => b0.testBit k) 8 = p0 at *
    generalize ctN (fun k => b1.testBit k) 8 = p1 at *
    generalize ctN (fun k => b2.testBit k) 8 = p2 at *
    generalize ctN (fun k => b3.testBit k) 8 = p3 at *
    clear c0 c1 c2 c3 e1 e2 e3 e4 k0 k1 k2 k3 hc
    have w1 : (p0 + 256 * (p1 + 256 * (p2 + 256 * p3))) / 256 = p1 + 256 * (p2 + 256 * p3) := by omega
    have w2 : (p0 + 256 * (p1 + 256 * (p2 + 256 * p3)) + (p1 + 256 * (p2 + 256 * p3))) / 65536 = (p2 + p3) + 256 * p3 := by omega
    rw [w1, w2]
    omega
theorem J_bits_s {s : Nat} (hs : s < 67108864) : J_J5_bitCount (nI s) = some (nI (cnt1 s)) := by
  obtain ⟨h1, v2, v3, e2, h2, e3, h3, h4, h5⟩ := bit_nat hs
  have ha : s / 2 &&& 1431655765 ≤ s / 2 := Nat.and_le_left
  unfold J_J5_bitCount
  simp (disch := omega) only [p_lit, p_mul, nI_add, nI_1, p_ck, p_cl, p_b1, p_b2, p_l1, p_le, p_lt, p_eq, p_shlN, p_shrN, p_or, p_and, p_xor, p_m1, p_m1', p_m0, p_ge0, p_zr, p_zr0, p_zr1, p_b0, p_b1', if_pos, if_neg, if_true, if_false, Bool.true_eq_false, Bool.false_eq_true, eq_self, p_ush, Nat.pow_one, p_sub (show s / 2 &&& 1431655765 ≤ s by omega)]
  rw [show (2 : Nat) ^ 2 = 4 from rfl, ← e2]
  rw [p_ush (n := v2) (k := 4) (by omega) (by omega), nI_add, p_and, show (2 : Nat) ^ 4 = 16 from rfl, ← e3, p_ush (n := v3) (k := 8) (by omega) (by omega), nI_add, show (2 : Nat) ^ 8 = 256 from rfl, p_ush (n := v3 + v3 / 256) (k := 16) (by omega) (by omega), nI_add, show (2 : Nat) ^ 16 = 65536 from rfl, p_and, h5]
theorem cnt1_le {s : Nat} : cnt1 s ≤ 26 := ctN_le _ _
