/-! the reference's groups -/
set_option maxRecDepth 20000
/-- a group as it is laid down -/
def Lay (A : Nat → Int32) (t : TS) (U n s : Nat) (mm : Nat → Nat) (P : Nat) : Prop := t.1 0 = A ∧ t.1 33 0 = nI n ∧ (∀ k, k < n → t.1 30 k = nI (mm k)) ∧ ∀ p, p < P → t.1 31 p = bI (!saC A (dpo U p) s)
theorem bz_b (b : Bool) : bz (bI b) = bI b := by cases b <;> decide
section PL
variable {t : TS} {c : CS} {A : Nat → Int32}
theorem T_lay_mem {s U : Nat} (hU : U < 67108864) : ∀ k i, i + k = 26 → ∀ (t1 : TS), St t t1 → t1.1 33 0 = nI (rk U i) → (∀ l, l < i → U.testBit l = true → t1.1 30 (rk U l) = nI l) → ∀ n, k < n → ∃ t2, St t t2 ∧ t2.1 33 0 = nI (rk U 26) ∧ (∀ l, l < 26 → U.testBit l = true → t2.1 30 (rk U l) = nI l) ∧ T_layGroup_33 n t1 (nI s) (nI U) (nI i) = T_layGroup_78 fu t2 (nI s) (nI 0) := by
  intro k
  induction k with
  | zero =>
    intro i hi t1 ht h33 hM n hn
    obtain ⟨n, rfl⟩ : ∃ m, n = m + 1 := ⟨n - 1, by omega⟩
    obtain rfl : i = 26 := by omega
    unfold T_layGroup_33
    simp (disch := omega) only [p_lit, p_mul, nI_add, nI_1, p_ck, p_cl, p_b1, p_b2, p_l1, p_le, p_lt, p_eq, p_shlN, p_shrN, p_or, p_and, p_xor, p_m1, p_m1', p_m0, p_ge0, p_zr, p_zr0, p_zr1, p_b0, p_b1', if_pos, if_neg, if_true, if_false, Bool.true_eq_false, Bool.false_eq_true, eq_self]
    exact ⟨t1, ht, h33, hM, rfl⟩
  | succ k ih =>
    intro i hi t1 ht h33 hM n hn
    obtain ⟨n, rfl⟩ : ∃ m, n = m + 1 := ⟨n - 1, by omega⟩
    unfold T_layGroup_33 T_layGroup_70
    have hrk : rk U i ≤ i := ctN_le _ _
    simp (disch := omega) only [p_lit, p_mul, nI_add, nI_1, p_ck, p_cl, p_b1, p_b2, p_l1, p_le, p_lt, p_eq, p_shlN, p_shrN, p_or, p_and, p_xor, p_m1, p_m1', p_m0, p_ge0, p_zr, p_zr0, p_zr1, p_b0, p_b1', if_pos, if_neg, if_true, if_false, Bool.true_eq_false, Bool.false_eq_true, eq_self, p_hasT, h33]
    cases hb : U.testBit i
    · have e : rk U (i + 1) = rk U i := by rw [rk_succ, hb]; rfl
      obtain ⟨t2, a1, a2, a3, a4⟩ := ih (i + 1) (by omega) t1 ht (by rw [e]; exact h33) (fun l hl h => by
        rcases Nat.lt_or_ge l i with h2 | h2
        · exact hM l h2 h
        · rw [show l = i by omega, hb] at h; cases h) n (by omega)
      simp (disch := omega) only [p_lit, p_mul, nI_add, nI_1, p_ck, p_cl, p_b1, p_b2, p_l1, p_le, p_lt, p_eq, p_shlN, p_shrN, p_or, p_and, p_xor, p_m1, p_m1', p_m0, p_ge0, p_zr, p_zr0, p_zr1, p_b0, p_b1', if_pos, if_neg, if_true, if_false, Bool.true_eq_false, Bool.false_eq_true, eq_self]
      exact ⟨t2, a1, a2, a3, a4⟩
    · have e : rk U (i + 1) = rk U i + 1 := by rw [rk_succ, hb]; rfl
      have e33 : (si t1 30 (rk U i) (nI i)).1 33 0 = nI (rk U i) := by rw [si_n (by decide)]; exact h33
      obtain ⟨t2, a1, a2, a3, a4⟩ := ih (i + 1) (by omega) (si (si t1 30 (rk U i) (nI i)) 33 0 (nI (rk U i + 1))) (ht.tr ((St.si (by decide)).tr (St.si (by decide)))) (by rw [e, si_e]) (fun l hl h => by
        rw [si_n (by decide)]
        rcases Nat.lt_or_ge l i with h2 | h2
        · have h3 : rk U (l + 1) ≤ rk U i := ctN_mono (by omega)
          rw [rk_succ, h, if_pos rfl] at h3
          rw [si_ne (by omega)]
          exact hM l h2 h
        · rw [show l = i by omega, si_e]) n (by omega)
      simp (disch := omega) only [p_lit, p_mul, nI_add, nI_1, p_ck, p_cl, p_b1, p_b2, p_l1, p_le, p_lt, p_eq, p_shlN, p_shrN, p_or, p_and, p_xor, p_m1, p_m1', p_m0, p_ge0, p_zr, p_zr0, p_zr1, p_b0, p_b1', if_pos, if_neg, if_true, if_false, Bool.true_eq_false, Bool.false_eq_true, eq_self, e33]
      exact ⟨t2, a1, a2, a3, a4⟩
theorem T_lay_one {s U n p : Nat} {mm : Nat → Nat} {k78 : TS → Int32 → Int32 → Option (Int32 × TS)} (hW : Wds A) (hL : Lts A) (hS : Sy A s) (hs : s < 8) (hn : n ≤ 10) (hp : p < 2 ^ n) (hM : Mb U n mm) (h0 : t.1 0 = A) (h33 : t.1 33 0 = nI n) (h30 : ∀ k, k < n → t.1 30 k = nI (mm k)) : ∀ k i, i + k = n → ∀ f, k < f → T_layGroup_94 k78 f t (nI s) (nI p) (nI (orN (fun k => if p.testBit k then 2 ^ mm k else 0) i)) (nI i) = k78 (si t 31 p (bI (!saC A (dpo U p) s))) (nI s) (nI (p + 1)) := by
  have h2n : 2 ^ n ≤ 1024 := Nat.pow_le_pow_right (n := 2) (by decide) hn
  subst h0
  intro k
  induction k with
  | zero =>
    intro i hi f hf
    obtain ⟨f, rfl⟩ : ∃ m, f = m + 1 := ⟨f - 1, by omega⟩
    obtain rfl : i = n := by omega
    unfold T_layGroup_94 T_layGroup_157
    have hcs := T_canSay_c (t := t) (s := s) (b := false) (x2 := nI (dpo U p)) hs dpo_lt (fun _ => rfl) (fun h => by cases h) hW hL hS
    rw [show bI false = nI 0 from rfl] at hcs
    rw [dpo_mm hM]
    simp (disch := omega) only [p_lit, p_mul, nI_add, nI_1, p_ck, p_cl, p_b1, p_b2, p_l1, p_le, p_lt, p_eq, p_shlN, p_shrN, p_or, p_and, p_xor, p_m1, p_m1', p_m0, p_ge0, p_zr, p_zr0, p_zr1, p_b0, p_b1', if_pos, if_neg, if_true, if_false, Bool.true_eq_false, Bool.false_eq_true, eq_self, h33, hcs]
    cases saC (t.1 0) (dpo U p) s
    · simp (disch := omega) only [p_lit, p_mul, nI_add, nI_1, p_ck, p_cl, p_b1, p_b2, p_l1, p_le, p_lt, p_eq, p_shlN, p_shrN, p_or, p_and, p_xor, p_m1, p_m1', p_m0, p_ge0, p_zr, p_zr0, p_zr1, p_b0, p_b1', if_pos, if_neg, if_true, if_false, Bool.true_eq_false, Bool.false_eq_true, eq_self]
      rw [show bz (nI 1) = bI (!false) from bz_b true]
    · simp (disch := omega) only [p_lit, p_mul, nI_add, nI_1, p_ck, p_cl, p_b1, p_b2, p_l1, p_le, p_lt, p_eq, p_shlN, p_shrN, p_or, p_and, p_xor, p_m1, p_m1', p_m0, p_ge0, p_zr, p_zr0, p_zr1, p_b0, p_b1', if_pos, if_neg, if_true, if_false, Bool.true_eq_false, Bool.false_eq_true, eq_self]
      rw [show bz (nI 0) = bI (!true) from bz_b false]
  | succ k ih =>
    intro i hi f hf
    obtain ⟨f, rfl⟩ : ∃ m, f = m + 1 := ⟨f - 1, by omega⟩
    have h2 := ih (i + 1) (by omega) f (by omega)
    rw [orN_succ] at h2
    have hm := (hM.2.2 i (by omega)).1
    unfold T_layGroup_94 T_layGroup_127
    simp (disch := omega) only [p_lit, p_mul, nI_add, nI_1, p_ck, p_cl, p_b1, p_b2, p_l1, p_le, p_lt, p_eq, p_shlN, p_shrN, p_or, p_and, p_xor, p_m1, p_m1', p_m0, p_ge0, p_zr, p_zr0, p_zr1, p_b0, p_b1', if_pos, if_neg, if_true, if_false, Bool.true_eq_false, Bool.false_eq_true, eq_self, h33, p_hasT, h30 i (by omega)]
    cases hb : p.testBit i
    · rw [hb] at h2
      simp (disch := omega) only [p_lit, p_mul, nI_add, nI_1, p_ck, p_cl, p_b1, p_b2, p_l1, p_le, p_lt, p_eq, p_shlN, p_shrN, p_or, p_and, p_xor, p_m1, p_m1', p_m0, p_ge0, p_zr, p_zr0, p_zr1, p_b0, p_b1', if_pos, if_neg, if_true, if_false, Bool.true_eq_false, Bool.false_eq_true, eq_self]
      exact h2
    · rw [hb] at h2
      simp (disch := omega) only [p_lit, p_mul, nI_add, nI_1, p_ck, p_cl, p_b1, p_b2, p_l1, p_le, p_lt, p_eq, p_shlN, p_shrN, p_or, p_and, p_xor, p_m1, p_m1', p_m0, p_ge0, p_zr, p_zr0, p_zr1, p_b0, p_b1', if_pos, if_neg, if_true, if_false, Bool.true_eq_false, Bool.false_eq_true, eq_self]
      exact h2
theorem T_lay_parts {s U n : Nat} {mm : Nat → Nat} (hW : Wds A) (hL : Lts A) (hS : Sy A s) (hs : s < 8) (hn : n ≤ 10) (hM : Mb U n mm) : ∀ k p, p + k = 2 ^ n → ∀ (t : TS), Lay A t U n s mm p → ∀ f, k < f → ∃ t1, T_layGroup_78 f t (nI s) (nI p) = some (nI 1, t1) ∧ St t t1 ∧ Lay A t1 U n s mm (2 ^ n) := by
  have h2n : 2 ^ n ≤ 1024 := Nat.pow_le_pow_right (n := 2) (by decide) hn
  intro k
  induction k with
  | zero =>
    intro p hp t hl f hf
    obtain ⟨f, rfl⟩ : ∃ m, f = m + 1 := ⟨f - 1, by omega⟩
    unfold T_layGroup_78
    simp (disch := omega) only [p_lit, p_mul, nI_add, nI_1, p_ck, p_cl, p_b1, p_b2, p_l1, p_le, p_lt, p_eq, p_shlN, p_shrN, p_or, p_and, p_xor, p_m1, p_m1', p_m0, p_ge0, p_zr, p_zr0, p_zr1, p_b0, p_b1', if_pos, if_neg, if_true, if_false, Bool.true_eq_false, Bool.false_eq_true, eq_self, hl.2.1]
    exact ⟨t, rfl, St.rf, by rw [show 2 ^ n = p by omega]; exact hl⟩
  | succ k ih =>
    intro p hp t hl f hf
    obtain ⟨f, rfl⟩ : ∃ m, f = m + 1 := ⟨f - 1, by omega⟩
    unfold T_layGroup_78
    have e := T_lay_one (k78 := T_layGroup_78 f) hW hL hS hs hn (show p < 2 ^ n by omega) hM hl.1 hl.2.1 hl.2.2.1 n 0 (by omega) fu (by unfold fu; omega)
    obtain ⟨t1, a1, a2, a3⟩ := ih (p + 1) (by omega) (si t 31 p (bI (!saC A (dpo U p) s))) ⟨by rw [si_n (by decide)]; exact hl.1, by rw [si_n (by decide)]; exact hl.2.1, fun k hk => by rw [si_n (by decide)]; exact hl.2.2.1 k hk, fun q hq => by
      by_cases h : q = p
      · subst h; exact si_e
      · rw [si_ne h]; exact hl.2.2.2 q (by omega)⟩ f (by omega)
    refine ⟨t1, ?_, (St.si (by decide)).tr a2, a3⟩
    simp (disch := omega) only [p_lit, p_mul, nI_add, nI_1, p_ck, p_cl, p_b1, p_b2, p_l1, p_le, p_lt, p_eq, p_shlN, p_shrN, p_or, p_and, p_xor, p_m1, p_m1', p_m0, p_ge0, p_zr, p_zr0, p_zr1, p_b0, p_b1', if_pos, if_neg, if_true, if_false, Bool.true_eq_false, Bool.false_eq_true, eq_self, hl.2.1]
    rw [show orN (fun k => if p.testBit k then 2 ^ mm k else 0) 0 = 0 from rfl] at e
    exact e.trans a1
/-- what layGroup answers, and lays down -/
theorem T_lay_s {x1 x2 : Int32} (hc : RN (t.1 0) c) : (∃ s U n mm t1, s < nA (t.1 0) 1 ∧ x1 = nI s ∧ 1 ≤ U ∧ U < 67108864 ∧ x2 = nI U ∧ 1 ≤ n ∧ n ≤ 10 ∧ Mb U n mm ∧ T_layGroup t x1 x2 = some (nI 1, t1) ∧ St t t1 ∧ Lay (t.1 0) t1 U n s mm (2 ^ n) ∧ C_isSaying c x1 = some (nI 1) ∧ C_isGroup x2 = some (nI 1) ∧ cnt1 U = n) ∨ (T_layGroup t x1 x2 = some (nI 0, t) ∧ (C_isSaying c x1 = some (nI 0) ∨ (C_isSaying c x1 = some (nI 1) ∧ C_isGroup x2 = some (nI 0)))) := by
  have h8 := hc.2.2.1.1.2
  unfold T_layGroup C_isGroup
  rcases rgS (c := c) x1 hc.2.2.1 hc.2.2.2.2.1.1 with ⟨h1, h2⟩ | ⟨s, hs, rfl, h1, h2⟩
  · right
    simp (disch := omega) only [p_lit, p_mul, nI_add, nI_1, p_ck, p_cl, p_b1, p_b2, p_l1, p_le, p_lt, p_eq, p_shlN, p_shrN, p_or, p_and, p_xor, p_m1, p_m1', p_m0, p_ge0, p_zr, p_zr0, p_zr1, p_b0, p_b1', if_pos, if_neg, if_true, if_false, Bool.true_eq_false, Bool.false_eq_true, eq_self, h1]
    exact ⟨trivial, Or.inl h2⟩
  rcases rgT x2 with ⟨h3, h4⟩ | ⟨U, hU1, hU, rfl, h3, h4⟩
  · right
    simp (disch := omega) only [p_lit, p_mul, nI_add, nI_1, p_ck, p_cl, p_b1, p_b2, p_l1, p_le, p_lt, p_eq, p_shlN, p_shrN, p_or, p_and, p_xor, p_m1, p_m1', p_m0, p_ge0, p_zr, p_zr0, p_zr1, p_b0, p_b1', if_pos, if_neg, if_true, if_false, Bool.true_eq_false, Bool.false_eq_true, eq_self, h1, h3]
    refine ⟨trivial, Or.inr ⟨h2, ?_⟩⟩
    simp (disch := omega) only [p_lit, p_mul, nI_add, nI_1, p_ck, p_cl, p_b1, p_b2, p_l1, p_le, p_lt, p_eq, p_shlN, p_shrN, p_or, p_and, p_xor, p_m1, p_m1', p_m0, p_ge0, p_zr, p_zr0, p_zr1, p_b0, p_b1', if_pos, if_neg, if_true, if_false, Bool.true_eq_false, Bool.false_eq_true, eq_self, h4]
  have hcn := cnt1_le (s := U)
  by_cases hn : cnt1 U ≤ 10
  · left
    obtain ⟨t2, a1, a2, a3, a4⟩ := T_lay_mem (s := s) hU 26 0 rfl (si t 33 0 (nI 0)) (t := t) (St.si (by decide)) si_e (fun l hl => by omega) fu (by unfold fu; omega)
    obtain ⟨mm, emm⟩ : ∃ mm : Nat → Nat, mm = fun i => (t2.1 30 i).toNatClampNeg := ⟨_, rfl⟩
    have hM : Mb U (cnt1 U) mm := Mb.mk rfl fun l hl h => by
      rw [emm]
      show (t2.1 30 (rk U l)).toNatClampNeg = l
      rw [a3 l hl h, nI_clamp (by omega)]
    have h30 : ∀ k, k < cnt1 U → t2.1 30 k = nI (mm k) := fun k hk => by
      obtain ⟨b1, b2, b3⟩ := hM.2.2 k hk
      have := a3 _ b1 b2
      rw [b3] at this
      exact this
    have h2n : 2 ^ cnt1 U ≤ 1024 := Nat.pow_le_pow_right (n := 2) (by decide) hn
    obtain ⟨t3, d1, d2, d3⟩ := T_lay_parts (A := t.1 0) (s := s) (U := U) (n := cnt1 U) (mm := mm) hc.1 hc.2.1 (hc.2.2.1.2 s hs) (by omega) hn hM (2 ^ cnt1 U) 0 (by omega) t2 ⟨a1.1, a2, h30, fun p hp => by omega⟩ fu (by unfold fu; omega)
    refine ⟨s, U, cnt1 U, mm, t3, hs, rfl, hU1, hU, rfl, ?_, hn, hM, ?_, a1.tr d2, d3, h2, ?_, rfl⟩
    · rcases Nat.eq_zero_or_pos (cnt1 U) with h | h
      · exfalso
        have hz : U = 0 := p_bext fun i => by
          rw [Nat.zero_testBit]
          refine ⟨fun q => ?_, fun q => by cases q⟩
          rcases Nat.lt_or_ge i 26 with h9 | h9
          · have := (ctN_pos 26).mp h i h9
            rw [this] at q; exact q
          · rw [p_big (m := 26) hU h9] at q; exact q
        omega
      · exact h
    · simp (disch := omega) only [p_lit, p_mul, nI_add, nI_1, p_ck, p_cl, p_b1, p_b2, p_l1, p_le, p_lt, p_eq, p_shlN, p_shrN, p_or, p_and, p_xor, p_m1, p_m1', p_m0, p_ge0, p_zr, p_zr0, p_zr1, p_b0, p_b1', if_pos, if_neg, if_true, if_false, Bool.true_eq_false, Bool.false_eq_true, eq_self, h1, h3, T_bits_s hU]
      exact a4.trans d1
    · simp (disch := omega) only [p_lit, p_mul, nI_add, nI_1, p_ck, p_cl, p_b1, p_b2, p_l1, p_le, p_lt, p_eq, p_shlN, p_shrN, p_or, p_and, p_xor, p_m1, p_m1', p_m0, p_ge0, p_zr, p_zr0, p_zr1, p_b0, p_b1', if_pos, if_neg, if_true, if_false, Bool.true_eq_false, Bool.false_eq_true, eq_self, h4, J_bits_s hU]
  · right
    simp (disch := omega) only [p_lit, p_mul, nI_add, nI_1, p_ck, p_cl, p_b1, p_b2, p_l1, p_le, p_lt, p_eq, p_shlN, p_shrN, p_or, p_and, p_xor, p_m1, p_m1', p_m0, p_ge0, p_zr, p_zr0, p_zr1, p_b0, p_b1', if_pos, if_neg, if_true, if_false, Bool.true_eq_false, Bool.false_eq_true, eq_self, h1, h3, T_bits_s hU]
    refine ⟨trivial, Or.inr ⟨h2, ?_⟩⟩
    simp (disch := omega) only [p_lit, p_mul, nI_add, nI_1, p_ck, p_cl, p_b1, p_b2, p_l1, p_le, p_lt, p_eq, p_shlN, p_shrN, p_or, p_and, p_xor, p_m1, p_m1', p_m0, p_ge0, p_zr, p_zr0, p_zr1, p_b0, p_b1', if_pos, if_neg, if_true, if_false, Bool.true_eq_false, Bool.false_eq_true, eq_self, h4, J_bits_s hU]
end PL
