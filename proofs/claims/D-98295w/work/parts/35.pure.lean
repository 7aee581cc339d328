/-! ranges; how many sayings are lost; spared, worth -/
set_option maxRecDepth 20000
theorem isIn_eq (x l h : Int32) : T_isIn x l h = C_in x l h := id rfl
theorem p_in1 {x l h : Int32} (h1 : l ≤ x) (h2 : x ≤ h) : C_in x l h = some (nI 1) := by
  unfold C_in
  rw [if_neg (Int32.not_lt.mpr h1), if_neg (Int32.not_lt.mpr h2)]; rfl
theorem p_inL {x l h : Int32} (h1 : x < l) : C_in x l h = some (nI 0) := by
  unfold C_in
  rw [if_pos h1]; rfl
theorem p_inH {x l h : Int32} (h1 : h < x) : C_in x l h = some (nI 0) := by
  unfold C_in
  by_cases h2 : x < l
  · rw [if_pos h2]; rfl
  · rw [if_neg h2, if_pos h1]; rfl
theorem p_m1lt {n : Nat} (hn : n < 1000000000) : nI n - nI 1 < nI n := by
  rw [Int32.lt_iff_toInt_lt, pk_sub_toInt (by omega) (by omega), nI_toInt (by omega)]
  omega
theorem p_lem1 {j n : Nat} (h : j < n) (hn : n < 1000000000) : nI j ≤ nI n - nI 1 := by
  rw [Int32.le_iff_toInt_le, pk_sub_toInt (by omega) (by omega), nI_toInt (by omega)]
  omega
/-- in a range from nought on -/
theorem p_rg (x : Int32) {n : Nat} (hn : n < 1000000000) : C_in x (nI 0) (nI n - nI 1) = some (nI 0) ∨ ∃ j, j < n ∧ x = nI j ∧ C_in x (nI 0) (nI n - nI 1) = some (nI 1) := by
  rcases pk_ix x (n := n) (by omega) with h | h | ⟨j, hj, rfl⟩
  · exact Or.inl (p_inL h)
  · refine Or.inl (p_inH ?_)
    have h1 := p_m1lt hn
    rw [Int32.lt_iff_toInt_lt] at h1 ⊢
    rw [Int32.le_iff_toInt_le] at h
    omega
  · exact Or.inr ⟨j, hj, rfl, p_in1 (nI_pos' (by omega)) (p_lem1 hj hn)⟩
theorem p_rgc (x : Int32) {m : Nat} (hn : m < 900000000) : C_in x (nI 0) (nI m) = some (nI 0) ∨ ∃ j, j ≤ m ∧ x = nI j ∧ C_in x (nI 0) (nI m) = some (nI 1) := by
  have h := p_rg x (n := m + 1) (by omega)
  rw [p_sub (by omega), Nat.add_sub_cancel] at h
  rcases h with h | ⟨j, hj, h1, h2⟩
  · exact Or.inl h
  · exact Or.inr ⟨j, by omega, h1, h2⟩
theorem p_rg1 (x : Int32) {m : Nat} (hn : m < 1000000000) : C_in x (nI 1) (nI m) = some (nI 0) ∨ ∃ j, 1 ≤ j ∧ j ≤ m ∧ x = nI j ∧ C_in x (nI 1) (nI m) = some (nI 1) := by
  rcases pk_ix x (n := m + 1) (by omega) with h | h | ⟨j, hj, rfl⟩
  · refine Or.inl (p_inL ?_)
    rw [Int32.lt_iff_toInt_lt] at h ⊢
    have e1 : (nI 1).toInt = 1 := by decide
    have e0 : (0 : Int32).toInt = 0 := by decide
    rw [e1]; rw [e0] at h; omega
  · refine Or.inl (p_inH ?_)
    rw [Int32.le_iff_toInt_le, nI_toInt (by omega)] at h
    rw [Int32.lt_iff_toInt_lt, nI_toInt (by omega)]
    omega
  · rcases Nat.eq_zero_or_pos j with h | h
    · subst h
      exact Or.inl (p_inL (by decide))
    · exact Or.inr ⟨j, h, by omega, rfl, p_in1 (nI_le h (by omega)) (nI_le (by omega) (by omega))⟩
def Sys (A : Nat → Int32) : Prop := IvN A 1 8 ∧ ∀ s, s < nA A 1 → Sy A s
/-- what readers ask -/
def RN (A : Nat → Int32) (c : CS) : Prop := Wds A ∧ Lts A ∧ Sys A ∧ RWd A c 2 ∧ RSy A c 2 ∧ RRw (c.1 3) A
theorem RN.sc {A : Nat → Int32} {c c1 : CS} (h : RN A c) (hs : Sc c c1) : RN A c1 := ⟨h.1, h.2.1, h.2.2.1, h.2.2.2.1.sc hs, h.2.2.2.2.1.sc hs, by rw [hs.1 3 (by omega) (by omega)]; exact h.2.2.2.2.2⟩
theorem canT_f (A : Nat → Int32) (m : Nat) : canT A false m = canC A m := rfl
theorem canT_t {A : Nat → Int32} {m w : Nat} (h : Wd A w) : canT A true m w = canC A (silN A) w := wri_sil h
theorem saB_cong {A : Nat → Int32} {p q : Nat → Bool} {s : Nat} (h : ∀ w, w < nA A 0 → p w = q w) : saB A p s = saB A q s := by
  unfold saB
  exact alN_cong _ fun k _ => by rw [wfN_cong _ h]
theorem saB_t {A : Nat → Int32} {m s : Nat} (hW : Wds A) : saB A (canT A true m) s = saC A (silN A) s := saB_cong fun w hw => canT_t (hW.2 w hw)
section PD
variable {t : TS} {c : CS} {A : Nat → Int32}
theorem T_isSaying_s {s : Nat} (hS : Sys (t.1 0)) (hs : s < nA (t.1 0) 1) : T_isSaying t (nI s) = some (nI 1) := by
  have := hS.1.2
  unfold T_isSaying
  rcases p_rg (nI s) (n := nA (t.1 0) 1) (by omega) with h | ⟨j, hj, h1, h2⟩
  · rw [p_in1 (l := nI 0) (nI_pos' (by omega)) (p_lem1 hs (by omega))] at h
    exact absurd (Option.some.inj h) (by decide)
  · simp (disch := omega) only [p_lit, p_mul, nI_add, nI_1, p_ck, p_cl, p_b1, p_b2, p_l1, p_le, p_lt, p_eq, p_shlN, p_shrN, p_or, p_and, p_xor, p_m1, p_m1', p_m0, p_ge0, p_zr, p_zr0, p_zr1, p_b0, p_b1', if_pos, if_neg, if_true, if_false, Bool.true_eq_false, Bool.false_eq_true, eq_self, hS.1.1, isIn_eq, h2]
theorem rgS (x : Int32) (hS : Sys (t.1 0)) (hc : c.1 2 1 = t.1 0 1) : (T_isSaying t x = some (nI 0) ∧ C_isSaying c x = some (nI 0)) ∨ ∃ s, s < nA (t.1 0) 1 ∧ x = nI s ∧ T_isSaying t x = some (nI 1) ∧ C_isSaying c x = some (nI 1) := by
  have := hS.1.2
  unfold T_isSaying C_isSaying
  rcases p_rg x (n := nA (t.1 0) 1) (by omega) with h | ⟨j, hj, rfl, h⟩
  · left
    simp (disch := omega) only [p_lit, p_mul, nI_add, nI_1, p_ck, p_cl, p_b1, p_b2, p_l1, p_le, p_lt, p_eq, p_shlN, p_shrN, p_or, p_and, p_xor, p_m1, p_m1', p_m0, p_ge0, p_zr, p_zr0, p_zr1, p_b0, p_b1', if_pos, if_neg, if_true, if_false, Bool.true_eq_false, Bool.false_eq_true, eq_self, hc, hS.1.1, isIn_eq, h]
    exact ⟨trivial, trivial⟩
  · right
    refine ⟨j, hj, rfl, ?_⟩
    simp (disch := omega) only [p_lit, p_mul, nI_add, nI_1, p_ck, p_cl, p_b1, p_b2, p_l1, p_le, p_lt, p_eq, p_shlN, p_shrN, p_or, p_and, p_xor, p_m1, p_m1', p_m0, p_ge0, p_zr, p_zr0, p_zr1, p_b0, p_b1', if_pos, if_neg, if_true, if_false, Bool.true_eq_false, Bool.false_eq_true, eq_self, hc, hS.1.1, isIn_eq, h]
    exact ⟨trivial, trivial⟩
theorem rgW (x : Int32) (hW : Wds (t.1 0)) (hc : c.1 2 0 = t.1 0 0) : (T_isWord0 t x = some (nI 0) ∧ C_isWord c x = some (nI 0)) ∨ ∃ s, s < nA (t.1 0) 0 ∧ x = nI s ∧ T_isWord0 t x = some (nI 1) ∧ C_isWord c x = some (nI 1) := by
  have := hW.1.2
  unfold T_isWord0 C_isWord
  rcases p_rg x (n := nA (t.1 0) 0) (by omega) with h | ⟨j, hj, rfl, h⟩
  · left
    simp (disch := omega) only [p_lit, p_mul, nI_add, nI_1, p_ck, p_cl, p_b1, p_b2, p_l1, p_le, p_lt, p_eq, p_shlN, p_shrN, p_or, p_and, p_xor, p_m1, p_m1', p_m0, p_ge0, p_zr, p_zr0, p_zr1, p_b0, p_b1', if_pos, if_neg, if_true, if_false, Bool.true_eq_false, Bool.false_eq_true, eq_self, hc, hW.1.1, isIn_eq, h]
    exact ⟨trivial, trivial⟩
  · right
    refine ⟨j, hj, rfl, ?_⟩
    simp (disch := omega) only [p_lit, p_mul, nI_add, nI_1, p_ck, p_cl, p_b1, p_b2, p_l1, p_le, p_lt, p_eq, p_shlN, p_shrN, p_or, p_and, p_xor, p_m1, p_m1', p_m0, p_ge0, p_zr, p_zr0, p_zr1, p_b0, p_b1', if_pos, if_neg, if_true, if_false, Bool.true_eq_false, Bool.false_eq_true, eq_self, hc, hW.1.1, isIn_eq, h]
    exact ⟨trivial, trivial⟩
theorem rgL (x : Int32) : (T_isLetter0 x = some (nI 0) ∧ C_isLetter x = some (nI 0)) ∨ ∃ l, l < 26 ∧ x = nI l ∧ T_isLetter0 x = some (nI 1) ∧ C_isLetter x = some (nI 1) := by
  unfold T_isLetter0 C_isLetter
  rcases p_rgc x (m := 25) (by omega) with h | ⟨j, hj, rfl, h⟩
  · left
    simp (disch := omega) only [p_lit, p_mul, nI_add, nI_1, p_ck, p_cl, p_b1, p_b2, p_l1, p_le, p_lt, p_eq, p_shlN, p_shrN, p_or, p_and, p_xor, p_m1, p_m1', p_m0, p_ge0, p_zr, p_zr0, p_zr1, p_b0, p_b1', if_pos, if_neg, if_true, if_false, Bool.true_eq_false, Bool.false_eq_true, eq_self, isIn_eq, h]
    exact ⟨trivial, trivial⟩
  · right
    refine ⟨j, by omega, rfl, ?_⟩
    simp (disch := omega) only [p_lit, p_mul, nI_add, nI_1, p_ck, p_cl, p_b1, p_b2, p_l1, p_le, p_lt, p_eq, p_shlN, p_shrN, p_or, p_and, p_xor, p_m1, p_m1', p_m0, p_ge0, p_zr, p_zr0, p_zr1, p_b0, p_b1', if_pos, if_neg, if_true, if_false, Bool.true_eq_false, Bool.false_eq_true, eq_self, isIn_eq, h]
    exact ⟨trivial, trivial⟩
theorem rgT (x : Int32) : (T_isSet x = some (nI 0) ∧ C_isSet x = some (nI 0)) ∨ ∃ l, 1 ≤ l ∧ l < 67108864 ∧ x = nI l ∧ T_isSet x = some (nI 1) ∧ C_isSet x = some (nI 1) := by
  unfold T_isSet C_isSet
  rcases p_rg1 x (m := 67108863) (by omega) with h | ⟨j, h1, hj, rfl, h⟩
  · left
    simp (disch := omega) only [p_lit, p_mul, nI_add, nI_1, p_ck, p_cl, p_b1, p_b2, p_l1, p_le, p_lt, p_eq, p_shlN, p_shrN, p_or, p_and, p_xor, p_m1, p_m1', p_m0, p_ge0, p_zr, p_zr0, p_zr1, p_b0, p_b1', if_pos, if_neg, if_true, if_false, Bool.true_eq_false, Bool.false_eq_true, eq_self, isIn_eq, h]
    exact ⟨trivial, trivial⟩
  · right
    refine ⟨j, h1, by omega, rfl, ?_⟩
    simp (disch := omega) only [p_lit, p_mul, nI_add, nI_1, p_ck, p_cl, p_b1, p_b2, p_l1, p_le, p_lt, p_eq, p_shlN, p_shrN, p_or, p_and, p_xor, p_m1, p_m1', p_m0, p_ge0, p_zr, p_zr0, p_zr1, p_b0, p_b1', if_pos, if_neg, if_true, if_false, Bool.true_eq_false, Bool.false_eq_true, eq_self, isIn_eq, h]
    exact ⟨trivial, trivial⟩
def lost (A : Nat → Int32) (m : Nat) : Nat := ctN (fun s => !saC A m s) (nA A 1)
theorem ctN_succ {p : Nat → Bool} {n : Nat} : ctN p (n + 1) = ctN p n + (if p n then 1 else 0) := rfl
theorem orN_succ {p : Nat → Nat} {n : Nat} : orN p (n + 1) = (orN p n ||| p n) := rfl
theorem T_silenced_lp {m : Nat} (hm : m < 67108864) (hW : Wds (t.1 0)) (hL : Lts (t.1 0)) (hS : Sys (t.1 0)) : ∀ k i, i + k = nA (t.1 0) 1 → ∀ n, k < n → T_silenced_4 t n (nI m) (nI (ctN (fun s => !saC (t.1 0) m s) i)) (nI i) = some (nI (lost (t.1 0) m)) := by
  have h8 := hS.1.2
  intro k
  induction k with
  | zero =>
    intro i hi n hn
    obtain ⟨n, rfl⟩ : ∃ m, n = m + 1 := ⟨n - 1, by omega⟩
    unfold T_silenced_4
    simp (disch := omega) only [p_lit, p_mul, nI_add, nI_1, p_ck, p_cl, p_b1, p_b2, p_l1, p_le, p_lt, p_eq, p_shlN, p_shrN, p_or, p_and, p_xor, p_m1, p_m1', p_m0, p_ge0, p_zr, p_zr0, p_zr1, p_b0, p_b1', if_pos, if_neg, if_true, if_false, Bool.true_eq_false, Bool.false_eq_true, eq_self, hS.1.1]
    unfold lost
    rw [← hi]; rfl
  | succ k ih =>
    intro i hi n hn
    obtain ⟨n, rfl⟩ : ∃ m, n = m + 1 := ⟨n - 1, by omega⟩
    unfold T_silenced_4
    have h2 := ih (i + 1) (by omega) n (by omega)
    rw [ctN_succ] at h2
    have h3 := T_canSay_s (t := t) (s := i) (b := false) (x2 := nI m) (by omega) hm (fun _ => rfl) hW hL (hS.2 i (by omega))
    rw [show bI false = nI 0 from rfl] at h3
    simp (disch := omega) only [p_lit, p_mul, nI_add, nI_1, p_ck, p_cl, p_b1, p_b2, p_l1, p_le, p_lt, p_eq, p_shlN, p_shrN, p_or, p_and, p_xor, p_m1, p_m1', p_m0, p_ge0, p_zr, p_zr0, p_zr1, p_b0, p_b1', if_pos, if_neg, if_true, if_false, Bool.true_eq_false, Bool.false_eq_true, eq_self, hS.1.1, h3]
    unfold T_silenced_30
    rw [canT_f]
    cases hb : saB (t.1 0) (canC (t.1 0) m) i
    · rw [show saC (t.1 0) m i = false from hb] at h2
      simp (disch := omega) only [p_lit, p_mul, nI_add, nI_1, p_ck, p_cl, p_b1, p_b2, p_l1, p_le, p_lt, p_eq, p_shlN, p_shrN, p_or, p_and, p_xor, p_m1, p_m1', p_m0, p_ge0, p_zr, p_zr0, p_zr1, p_b0, p_b1', if_pos, if_neg, if_true, if_false, Bool.true_eq_false, Bool.false_eq_true, eq_self]
      exact h2
    · rw [show saC (t.1 0) m i = true from hb] at h2
      simp (disch := omega) only [p_lit, p_mul, nI_add, nI_1, p_ck, p_cl, p_b1, p_b2, p_l1, p_le, p_lt, p_eq, p_shlN, p_shrN, p_or, p_and, p_xor, p_m1, p_m1', p_m0, p_ge0, p_zr, p_zr0, p_zr1, p_b0, p_b1', if_pos, if_neg, if_true, if_false, Bool.true_eq_false, Bool.false_eq_true, eq_self]
      exact h2
theorem T_silenced_s {m : Nat} (hm : m < 67108864) (hW : Wds (t.1 0)) (hL : Lts (t.1 0)) (hS : Sys (t.1 0)) : T_silenced t (nI m) = some (nI (lost (t.1 0) m)) := by
  have h8 := hS.1.2
  exact T_silenced_lp hm hW hL hS (nA (t.1 0) 1) 0 (by omega) fu (by unfold fu; omega)
theorem C_lost_lp {m : Nat} (hm : m < 67108864) : ∀ k i, i + k = nA A 1 → ∀ (c : CS), RN A c → ∀ n, k < n → ∃ c1, C_lost_p4 n c (nI m) (nI (ctN (fun s => !saC A m s) i)) (nI i) = some (nI (lost A m), c1) ∧ Sc c c1 := by
  intro k
  induction k with
  | zero =>
    intro i hi c hc n hn
    have h8 := hc.2.2.1.1.2
    obtain ⟨n, rfl⟩ : ∃ m, n = m + 1 := ⟨n - 1, by omega⟩
    unfold C_lost_p4
    simp (disch := omega) only [p_lit, p_mul, nI_add, nI_1, p_ck, p_cl, p_b1, p_b2, p_l1, p_le, p_lt, p_eq, p_shlN, p_shrN, p_or, p_and, p_xor, p_m1, p_m1', p_m0, p_ge0, p_zr, p_zr0, p_zr1, p_b0, p_b1', if_pos, if_neg, if_true, if_false, Bool.true_eq_false, Bool.false_eq_true, eq_self, hc.2.2.2.2.1.1, hc.2.2.1.1.1]
    refine ⟨c, ?_, Sc.rf⟩
    unfold lost
    rw [← hi]; rfl
  | succ k ih =>
    intro i hi c hc n hn
    have h8 := hc.2.2.1.1.2
    obtain ⟨n, rfl⟩ : ∃ m, n = m + 1 := ⟨n - 1, by omega⟩
    unfold C_lost_p4
    obtain ⟨c1, g1, g2, -⟩ := C_says_s (c := c) hm hc.1 hc.2.2.2.1 (show i < nA A 1 by omega) h8 (hc.2.2.1.2 i (by omega)) hc.2.2.2.2.1
    obtain ⟨c2, g3, g4⟩ := ih (i + 1) (by omega) c1 (hc.sc g2) n (by omega)
    rw [ctN_succ] at g3
    simp (disch := omega) only [p_lit, p_mul, nI_add, nI_1, p_ck, p_cl, p_b1, p_b2, p_l1, p_le, p_lt, p_eq, p_shlN, p_shrN, p_or, p_and, p_xor, p_m1, p_m1', p_m0, p_ge0, p_zr, p_zr0, p_zr1, p_b0, p_b1', if_pos, if_neg, if_true, if_false, Bool.true_eq_false, Bool.false_eq_true, eq_self, hc.2.2.2.2.1.1, hc.2.2.1.1.1, g1]
    unfold C_lost_p32
    refine ⟨c2, ?_, g2.tr g4⟩
    cases hb : saC A m i
    · rw [hb] at g3
      simp (disch := omega) only [p_lit, p_mul, nI_add, nI_1, p_ck, p_cl, p_b1, p_b2, p_l1, p_le, p_lt, p_eq, p_shlN, p_shrN, p_or, p_and, p_xor, p_m1, p_m1', p_m0, p_ge0, p_zr, p_zr0, p_zr1, p_b0, p_b1', if_pos, if_neg, if_true, if_false, Bool.true_eq_false, Bool.false_eq_true, eq_self]
      exact g3
    · rw [hb] at g3
      simp (disch := omega) only [p_lit, p_mul, nI_add, nI_1, p_ck, p_cl, p_b1, p_b2, p_l1, p_le, p_lt, p_eq, p_shlN, p_shrN, p_or, p_and, p_xor, p_m1, p_m1', p_m0, p_ge0, p_zr, p_zr0, p_zr1, p_b0, p_b1', if_pos, if_neg, if_true, if_false, Bool.true_eq_false, Bool.false_eq_true, eq_self]
      exact g3
theorem C_lost_s {m : Nat} (hm : m < 67108864) (hc : RN A c) : ∃ c1, C_lost c (nI m) = some (nI (lost A m), c1) ∧ Sc c c1 := by
  have h8 := hc.2.2.1.1.2
  exact C_lost_lp hm (nA A 1) 0 (by omega) c hc fu (by unfold fu; omega)
theorem lost_le {m : Nat} (hS : Sys A) : lost A m ≤ 8 := Nat.le_trans (ctN_le _ _) hS.1.2
/-- the first of those with the most -/
def bsN (f : Nat → Nat) : Nat → Nat
  | 0 => 0
  | n + 1 => if f (bsN f n) < f (n + 1) then n + 1 else bsN f n
theorem bsN_le (f : Nat → Nat) : ∀ n, bsN f n ≤ n
  | 0 => Nat.le_refl 0
  | n + 1 => by
    have := bsN_le f n
    unfold bsN
    split <;> omega
theorem bsN_succ {f : Nat → Nat} {n : Nat} : bsN f (n + 1) = if f (bsN f n) < f (n + 1) then n + 1 else bsN f n := rfl
def spB (A : Nat → Int32) : Nat := bsN (fun l => lost A (2 ^ l)) 25
theorem T_spared_lp {b : Bool} (hW : Wds (t.1 0)) (hL : Lts (t.1 0)) (hS : Sys (t.1 0)) : ∀ k i, i + k = 25 → ∀ n, k < n → T_spared_4 t n (bI b) (nI (bsN (fun l => lost (t.1 0) (2 ^ l)) i)) (nI (i + 1)) = some (nI (if b then lost (t.1 0) (2 ^ spB (t.1 0)) else spB (t.1 0))) := by
  intro k
  induction k with
  | zero =>
    intro i hi n hn
    obtain ⟨n, rfl⟩ : ∃ m, n = m + 1 := ⟨n - 1, by omega⟩
    unfold T_spared_4
    have hb := bsN_le (fun l => lost (t.1 0) (2 ^ l)) i
    have h1 : (2 : Nat) ^ bsN (fun l => lost (t.1 0) (2 ^ l)) i < 67108864 := p_2lt (m := 26) (by omega)
    simp (disch := omega) only [p_lit, p_mul, nI_add, nI_1, p_ck, p_cl, p_b1, p_b2, p_l1, p_le, p_lt, p_eq, p_shlN, p_shrN, p_or, p_and, p_xor, p_m1, p_m1', p_m0, p_ge0, p_zr, p_zr0, p_zr1, p_b0, p_b1', if_pos, if_neg, if_true, if_false, Bool.true_eq_false, Bool.false_eq_true, eq_self]
    rw [show i = 25 by omega] at h1 ⊢
    cases b
    · simp (disch := omega) only [p_lit, p_mul, nI_add, nI_1, p_ck, p_cl, p_b1, p_b2, p_l1, p_le, p_lt, p_eq, p_shlN, p_shrN, p_or, p_and, p_xor, p_m1, p_m1', p_m0, p_ge0, p_zr, p_zr0, p_zr1, p_b0, p_b1', if_pos, if_neg, if_true, if_false, Bool.true_eq_false, Bool.false_eq_true, eq_self]
      rfl
    · simp (disch := omega) only [p_lit, p_mul, nI_add, nI_1, p_ck, p_cl, p_b1, p_b2, p_l1, p_le, p_lt, p_eq, p_shlN, p_shrN, p_or, p_and, p_xor, p_m1, p_m1', p_m0, p_ge0, p_zr, p_zr0, p_zr1, p_b0, p_b1', if_pos, if_neg, if_true, if_false, Bool.true_eq_false, Bool.false_eq_true, eq_self, T_silenced_s h1 hW hL hS]
      rfl
  | succ k ih =>
    intro i hi n hn
    obtain ⟨n, rfl⟩ : ∃ m, n = m + 1 := ⟨n - 1, by omega⟩
    unfold T_spared_4
    have hb := bsN_le (fun l => lost (t.1 0) (2 ^ l)) i
    have h1 : (2 : Nat) ^ bsN (fun l => lost (t.1 0) (2 ^ l)) i < 67108864 := p_2lt (m := 26) (by omega)
    have h2 : (2 : Nat) ^ (i + 1) < 67108864 := p_2lt (m := 26) (by omega)
    have h3 := ih (i + 1) (by omega) n (by omega)
    have h4 := lost_le (m := 2 ^ (i + 1)) hS
    have h5 := lost_le (m := 2 ^ bsN (fun l => lost (t.1 0) (2 ^ l)) i) hS
    rw [bsN_succ] at h3
    simp (disch := omega) only [p_lit, p_mul, nI_add, nI_1, p_ck, p_cl, p_b1, p_b2, p_l1, p_le, p_lt, p_eq, p_shlN, p_shrN, p_or, p_and, p_xor, p_m1, p_m1', p_m0, p_ge0, p_zr, p_zr0, p_zr1, p_b0, p_b1', if_pos, if_neg, if_true, if_false, Bool.true_eq_false, Bool.false_eq_true, eq_self, T_silenced_s h1 hW hL hS, T_silenced_s h2 hW hL hS]
    unfold T_spared_29
    simp (disch := omega) only [p_lit, p_mul, nI_add, nI_1, p_ck, p_cl, p_b1, p_b2, p_l1, p_le, p_lt, p_eq, p_shlN, p_shrN, p_or, p_and, p_xor, p_m1, p_m1', p_m0, p_ge0, p_zr, p_zr0, p_zr1, p_b0, p_b1', if_pos, if_neg, if_true, if_false, Bool.true_eq_false, Bool.false_eq_true, eq_self]
    by_cases hlt : lost (t.1 0) (2 ^ bsN (fun l => lost (t.1 0) (2 ^ l)) i) < lost (t.1 0) (2 ^ (i + 1))
    · rw [if_neg (by omega)]
      rw [if_pos hlt] at h3
      exact h3
    · rw [if_pos (by omega)]
      rw [if_neg hlt] at h3
      exact h3
theorem C_spared_lp {b : Bool} : ∀ k i, i + k = 25 → ∀ (c : CS), RN A c → ∀ n, k < n → ∃ c1, C_spared_p7 n c (bI b) (nI (bsN (fun l => lost A (2 ^ l)) i)) (nI (lost A (2 ^ bsN (fun l => lost A (2 ^ l)) i))) (nI (i + 1)) = some (nI (if b then lost A (2 ^ spB A) else spB A), c1) ∧ Sc c c1 := by
  intro k
  induction k with
  | zero =>
    intro i hi c hc n hn
    obtain ⟨n, rfl⟩ : ∃ m, n = m + 1 := ⟨n - 1, by omega⟩
    unfold C_spared_p7
    simp (disch := omega) only [p_lit, p_mul, nI_add, nI_1, p_ck, p_cl, p_b1, p_b2, p_l1, p_le, p_lt, p_eq, p_shlN, p_shrN, p_or, p_and, p_xor, p_m1, p_m1', p_m0, p_ge0, p_zr, p_zr0, p_zr1, p_b0, p_b1', if_pos, if_neg, if_true, if_false, Bool.true_eq_false, Bool.false_eq_true, eq_self]
    refine ⟨c, ?_, Sc.rf⟩
    rw [show i = 25 by omega]
    cases b
    · simp (disch := omega) only [p_lit, p_mul, nI_add, nI_1, p_ck, p_cl, p_b1, p_b2, p_l1, p_le, p_lt, p_eq, p_shlN, p_shrN, p_or, p_and, p_xor, p_m1, p_m1', p_m0, p_ge0, p_zr, p_zr0, p_zr1, p_b0, p_b1', if_pos, if_neg, if_true, if_false, Bool.true_eq_false, Bool.false_eq_true, eq_self]
      rfl
    · simp (disch := omega) only [p_lit, p_mul, nI_add, nI_1, p_ck, p_cl, p_b1, p_b2, p_l1, p_le, p_lt, p_eq, p_shlN, p_shrN, p_or, p_and, p_xor, p_m1, p_m1', p_m0, p_ge0, p_zr, p_zr0, p_zr1, p_b0, p_b1', if_pos, if_neg, if_true, if_false, Bool.true_eq_false, Bool.false_eq_true, eq_self]
      rfl
  | succ k ih =>
    intro i hi c hc n hn
    obtain ⟨n, rfl⟩ : ∃ m, n = m + 1 := ⟨n - 1, by omega⟩
    unfold C_spared_p7
    have h2 : (2 : Nat) ^ (i + 1) < 67108864 := p_2lt (m := 26) (by omega)
    have h4 := lost_le (m := 2 ^ (i + 1)) hc.2.2.1
    have h5 := lost_le (m := 2 ^ bsN (fun l => lost A (2 ^ l)) i) hc.2.2.1
    obtain ⟨c1, g1, g2⟩ := C_lost_s h2 hc
    obtain ⟨c2, g3, g4⟩ := ih (i + 1) (by omega) c1 (hc.sc g2) n (by omega)
    rw [bsN_succ] at g3
    refine ⟨c2, ?_, g2.tr g4⟩
    simp (disch := omega) only [p_lit, p_mul, nI_add, nI_1, p_ck, p_cl, p_b1, p_b2, p_l1, p_le, p_lt, p_eq, p_shlN, p_shrN, p_or, p_and, p_xor, p_m1, p_m1', p_m0, p_ge0, p_zr, p_zr0, p_zr1, p_b0, p_b1', if_pos, if_neg, if_true, if_false, Bool.true_eq_false, Bool.false_eq_true, eq_self, g1]
    unfold C_spared_p39
    simp (disch := omega) only [p_lit, p_mul, nI_add, nI_1, p_ck, p_cl, p_b1, p_b2, p_l1, p_le, p_lt, p_eq, p_shlN, p_shrN, p_or, p_and, p_xor, p_m1, p_m1', p_m0, p_ge0, p_zr, p_zr0, p_zr1, p_b0, p_b1', if_pos, if_neg, if_true, if_false, Bool.true_eq_false, Bool.false_eq_true, eq_self]
    by_cases hlt : lost A (2 ^ bsN (fun l => lost A (2 ^ l)) i) < lost A (2 ^ (i + 1))
    · rw [if_pos hlt]
      rw [if_pos hlt] at g3
      exact g3
    · rw [if_neg hlt]
      rw [if_neg hlt] at g3
      exact g3
theorem h_spared {b : Bool} (hc : RN (t.1 0) c) : ∃ r c1, T_spared t (bI b) = some r ∧ C_spared c (bI b) = some (r, c1) ∧ Sc c c1 := by
  obtain ⟨c1, g1, g2⟩ := C_lost_s (m := 1) (by omega) hc
  have h4 := lost_le (m := 1) hc.2.2.1
  obtain ⟨c2, g3, g4⟩ := C_spared_lp (b := b) 25 0 rfl c1 (hc.sc g2) 99999 (by omega)
  refine ⟨_, c2, T_spared_lp hc.1 hc.2.1 hc.2.2.1 25 0 rfl fu (by unfold fu; omega), ?_, g2.tr g4⟩
  unfold C_spared
  rw [show fu = 99999 + 1 from rfl]
  unfold C_spared_p7
  rw [if_neg (show ¬ (26 : Int32) ≤ 0 by decide), show (1 : Int32) <<< ((0 : Int32) &&& 31) = nI 1 by decide, g1, p_b2, if_pos (show (-1 : Int32) < nI (lost (t.1 0) 1) by
    have := nI_pos' (n := lost (t.1 0) 1) (by omega)
    rw [Int32.lt_iff_toInt_lt]
    rw [Int32.le_iff_toInt_le] at this
    have e1 : (-1 : Int32).toInt = -1 := by decide
    have e0 : (0 : Int32).toInt = 0 := by decide
    omega)]
  exact g3
/-- parties -/
def Pty (A : Nat → Int32) : Prop := IvN A 8 4 ∧ ∀ p, p < nA A 8 → IvN A (538 + p) 67108863
def RPt (A : Nat → Int32) (c : CS) : Prop := c.1 2 5 = A 8 ∧ ∀ p, p < nA A 8 → c.1 5 p = A (538 + p)
def wrN (A : Nat → Int32) (m : Nat) : Nat := orN (fun p => if m.testBit p then nA A (538 + p) else 0) (nA A 8)
theorem wr_lt {m : Nat} (hP : Pty A) (n : Nat) (h : n ≤ nA A 8) : orN (fun p => if m.testBit p then nA A (538 + p) else 0) n < 67108864 := orN_lt (m := 26) _ fun k hk => by
  split
  · have := (hP.2 k (by omega)).2; omega
  · omega
theorem T_worthOf_lp {m : Nat} (hm : m < 16) (hW : Wds (t.1 0)) (hL : Lts (t.1 0)) (hS : Sys (t.1 0)) (hP : Pty (t.1 0)) : ∀ k i, i + k = nA (t.1 0) 8 → ∀ n, k < n → T_worthOf_4 t n (nI m) (nI (orN (fun p => if m.testBit p then nA (t.1 0) (538 + p) else 0) i)) (nI i) = some (nI (lost (t.1 0) (wrN (t.1 0) m))) := by
  have h8 := hP.1.2
  intro k
  induction k with
  | zero =>
    intro i hi n hn
    obtain ⟨n, rfl⟩ : ∃ m, n = m + 1 := ⟨n - 1, by omega⟩
    unfold T_worthOf_4
    have h1 := wr_lt (m := m) hP i (by omega)
    simp (disch := omega) only [p_lit, p_mul, nI_add, nI_1, p_ck, p_cl, p_b1, p_b2, p_l1, p_le, p_lt, p_eq, p_shlN, p_shrN, p_or, p_and, p_xor, p_m1, p_m1', p_m0, p_ge0, p_zr, p_zr0, p_zr1, p_b0, p_b1', if_pos, if_neg, if_true, if_false, Bool.true_eq_false, Bool.false_eq_true, eq_self, hP.1.1, T_silenced_s h1 hW hL hS]
    unfold wrN
    rw [← hi]; rfl
  | succ k ih =>
    intro i hi n hn
    obtain ⟨n, rfl⟩ : ∃ m, n = m + 1 := ⟨n - 1, by omega⟩
    unfold T_worthOf_4
    have h2 := ih (i + 1) (by omega) n (by omega)
    rw [orN_succ] at h2
    simp (disch := omega) only [p_lit, p_mul, nI_add, nI_1, p_ck, p_cl, p_b1, p_b2, p_l1, p_le, p_lt, p_eq, p_shlN, p_shrN, p_or, p_and, p_xor, p_m1, p_m1', p_m0, p_ge0, p_zr, p_zr0, p_zr1, p_b0, p_b1', if_pos, if_neg, if_true, if_false, Bool.true_eq_false, Bool.false_eq_true, eq_self, hP.1.1, p_hasT, (hP.2 i (by omega)).1]
    unfold T_worthOf_38
    simp (disch := omega) only [p_lit, p_mul, nI_add, nI_1, p_ck, p_cl, p_b1, p_b2, p_l1, p_le, p_lt, p_eq, p_shlN, p_shrN, p_or, p_and, p_xor, p_m1, p_m1', p_m0, p_ge0, p_zr, p_zr0, p_zr1, p_b0, p_b1', if_pos, if_neg, if_true, if_false, Bool.true_eq_false, Bool.false_eq_true, eq_self]
    cases hb : m.testBit i
    · rw [hb] at h2
      simp (disch := omega) only [p_lit, p_mul, nI_add, nI_1, p_ck, p_cl, p_b1, p_b2, p_l1, p_le, p_lt, p_eq, p_shlN, p_shrN, p_or, p_and, p_xor, p_m1, p_m1', p_m0, p_ge0, p_zr, p_zr0, p_zr1, p_b0, p_b1', if_pos, if_neg, if_true, if_false, Bool.true_eq_false, Bool.false_eq_true, eq_self]
      exact h2
    · rw [hb] at h2
      simp (disch := omega) only [p_lit, p_mul, nI_add, nI_1, p_ck, p_cl, p_b1, p_b2, p_l1, p_le, p_lt, p_eq, p_shlN, p_shrN, p_or, p_and, p_xor, p_m1, p_m1', p_m0, p_ge0, p_zr, p_zr0, p_zr1, p_b0, p_b1', if_pos, if_neg, if_true, if_false, Bool.true_eq_false, Bool.false_eq_true, eq_self]
      exact h2
theorem C_worthOf_lp {m : Nat} (hm : m < 16) (hc : RN A c) (hP : Pty A) (hp : RPt A c) : ∀ k i, i + k = nA A 8 → ∀ n, k < n → ∃ c1, C_worthOf_p4 n c (nI m) (nI (orN (fun p => if m.testBit p then nA A (538 + p) else 0) i)) (nI i) = some (nI (lost A (wrN A m)), c1) ∧ Sc c c1 := by
  have h8 := hP.1.2
  intro k
  induction k with
  | zero =>
    intro i hi n hn
    obtain ⟨n, rfl⟩ : ∃ m, n = m + 1 := ⟨n - 1, by omega⟩
    unfold C_worthOf_p4
    have h1 := wr_lt (m := m) hP i (by omega)
    obtain ⟨c1, g1, g2⟩ := C_lost_s h1 hc
    refine ⟨c1, ?_, g2⟩
    simp (disch := omega) only [p_lit, p_mul, nI_add, nI_1, p_ck, p_cl, p_b1, p_b2, p_l1, p_le, p_lt, p_eq, p_shlN, p_shrN, p_or, p_and, p_xor, p_m1, p_m1', p_m0, p_ge0, p_zr, p_zr0, p_zr1, p_b0, p_b1', if_pos, if_neg, if_true, if_false, Bool.true_eq_false, Bool.false_eq_true, eq_self, hp.1, hP.1.1, g1]
    unfold wrN
    rw [← hi]; rfl
  | succ k ih =>
    intro i hi n hn
    obtain ⟨n, rfl⟩ : ∃ m, n = m + 1 := ⟨n - 1, by omega⟩
    unfold C_worthOf_p4
    obtain ⟨c1, h2, g2⟩ := ih (i + 1) (by omega) n (by omega)
    refine ⟨c1, ?_, g2⟩
    rw [orN_succ] at h2
    simp (disch := omega) only [p_lit, p_mul, nI_add, nI_1, p_ck, p_cl, p_b1, p_b2, p_l1, p_le, p_lt, p_eq, p_shlN, p_shrN, p_or, p_and, p_xor, p_m1, p_m1', p_m0, p_ge0, p_zr, p_zr0, p_zr1, p_b0, p_b1', if_pos, if_neg, if_true, if_false, Bool.true_eq_false, Bool.false_eq_true, eq_self, hp.1, hP.1.1, p_has, hp.2 i (by omega), (hP.2 i (by omega)).1]
    unfold C_worthOf_p39
    simp (disch := omega) only [p_lit, p_mul, nI_add, nI_1, p_ck, p_cl, p_b1, p_b2, p_l1, p_le, p_lt, p_eq, p_shlN, p_shrN, p_or, p_and, p_xor, p_m1, p_m1', p_m0, p_ge0, p_zr, p_zr0, p_zr1, p_b0, p_b1', if_pos, if_neg, if_true, if_false, Bool.true_eq_false, Bool.false_eq_true, eq_self]
    cases hb : m.testBit i
    · rw [hb] at h2
      simp (disch := omega) only [p_lit, p_mul, nI_add, nI_1, p_ck, p_cl, p_b1, p_b2, p_l1, p_le, p_lt, p_eq, p_shlN, p_shrN, p_or, p_and, p_xor, p_m1, p_m1', p_m0, p_ge0, p_zr, p_zr0, p_zr1, p_b0, p_b1', if_pos, if_neg, if_true, if_false, Bool.true_eq_false, Bool.false_eq_true, eq_self]
      exact h2
    · rw [hb] at h2
      simp (disch := omega) only [p_lit, p_mul, nI_add, nI_1, p_ck, p_cl, p_b1, p_b2, p_l1, p_le, p_lt, p_eq, p_shlN, p_shrN, p_or, p_and, p_xor, p_m1, p_m1', p_m0, p_ge0, p_zr, p_zr0, p_zr1, p_b0, p_b1', if_pos, if_neg, if_true, if_false, Bool.true_eq_false, Bool.false_eq_true, eq_self]
      exact h2
theorem T_worthOf_s {m : Nat} (hm : m < 16) (hW : Wds (t.1 0)) (hL : Lts (t.1 0)) (hS : Sys (t.1 0)) (hP : Pty (t.1 0)) : T_worthOf t (nI m) = some (nI (lost (t.1 0) (wrN (t.1 0) m))) := by
  have h8 := hP.1.2
  exact T_worthOf_lp hm hW hL hS hP (nA (t.1 0) 8) 0 (by omega) fu (by unfold fu; omega)
theorem C_worthOf_s {m : Nat} (hm : m < 16) (hc : RN A c) (hP : Pty A) (hp : RPt A c) : ∃ c1, C_worthOf c (nI m) = some (nI (lost A (wrN A m)), c1) ∧ Sc c c1 := by
  have h8 := hP.1.2
  exact C_worthOf_lp hm hc hP hp (nA A 8) 0 (by omega) fu (by unfold fu; omega)
theorem h_worth {x : Int32} (hc : RN (t.1 0) c) (hP : Pty (t.1 0)) (hp : RPt (t.1 0) c) : ∃ r c1, T_worth t x = some r ∧ C_worth c x = some (r, c1) ∧ Sc c c1 := by
  have h8 := hP.1.2
  have h1 : (2 : Nat) ^ nA (t.1 0) 8 ≤ 16 := Nat.pow_le_pow_right (n := 2) (by decide) h8
  unfold T_worth C_worth
  rcases p_rg x (n := 2 ^ nA (t.1 0) 8) (by omega) with h | ⟨j, hj, rfl, h⟩
  · simp (disch := omega) only [p_lit, p_mul, nI_add, nI_1, p_ck, p_cl, p_b1, p_b2, p_l1, p_le, p_lt, p_eq, p_shlN, p_shrN, p_or, p_and, p_xor, p_m1, p_m1', p_m0, p_ge0, p_zr, p_zr0, p_zr1, p_b0, p_b1', if_pos, if_neg, if_true, if_false, Bool.true_eq_false, Bool.false_eq_true, eq_self, hp.1, hP.1.1, isIn_eq, h]
    exact ⟨_, c, rfl, rfl, Sc.rf⟩
  · obtain ⟨c1, g1, g2⟩ := C_worthOf_s (m := j) (by omega) hc hP hp
    simp (disch := omega) only [p_lit, p_mul, nI_add, nI_1, p_ck, p_cl, p_b1, p_b2, p_l1, p_le, p_lt, p_eq, p_shlN, p_shrN, p_or, p_and, p_xor, p_m1, p_m1', p_m0, p_ge0, p_zr, p_zr0, p_zr1, p_b0, p_b1', if_pos, if_neg, if_true, if_false, Bool.true_eq_false, Bool.false_eq_true, eq_self, hp.1, hP.1.1, isIn_eq, h, T_worthOf_s (m := j) (by omega) hc.1 hc.2.1 hc.2.2.1 hP, g1]
    exact ⟨_, c1, rfl, rfl, g2⟩
end PD
