/-! the words: the reference's readers, the component's readers -/
set_option maxRecDepth 20000
def wlt (A : Nat → Int32) (w k : Nat) : Nat := nA A (116 + 10 * w + k)
def wln (A : Nat → Int32) (w : Nat) : Nat := nA A (116 + 10 * w + 8)
def wse (A : Nat → Int32) (w : Nat) : Nat := nA A (116 + 10 * w + 9)
def orN (f : Nat → Nat) : Nat → Nat
  | 0 => 0
  | n + 1 => orN f n ||| f n
def ctN (p : Nat → Bool) : Nat → Nat
  | 0 => 0
  | n + 1 => ctN p n + (if p n then 1 else 0)
def alN (p : Nat → Bool) : Nat → Bool
  | 0 => true
  | n + 1 => alN p n && p n
theorem orN_lt {f : Nat → Nat} {m : Nat} : ∀ n, (∀ k, k < n → f k < 2 ^ m) → orN f n < 2 ^ m
  | 0, _ => Nat.two_pow_pos m
  | n + 1, h => Nat.or_lt_two_pow (orN_lt n fun k hk => h k (by omega)) (h n (by omega))
theorem orN_cong {f g : Nat → Nat} : ∀ n, (∀ k, k < n → f k = g k) → orN f n = orN g n
  | 0, _ => rfl
  | n + 1, h => by unfold orN; rw [orN_cong n fun k hk => h k (by omega), h n (by omega)]
theorem orN_bit {f : Nat → Nat} {l : Nat} : ∀ n, (orN f n).testBit l = true ↔ ∃ k, k < n ∧ (f k).testBit l = true
  | 0 => by simp [orN]
  | n + 1 => by
    unfold orN
    rw [Nat.testBit_or, Bool.or_eq_true, orN_bit n]
    constructor
    · rintro (⟨k, h1, h2⟩ | h)
      · exact ⟨k, by omega, h2⟩
      · exact ⟨n, by omega, h⟩
    · rintro ⟨k, h1, h2⟩
      rcases Nat.lt_or_ge k n with h | h
      · exact Or.inl ⟨k, h, h2⟩
      · exact Or.inr (by rw [show n = k by omega]; exact h2)
theorem ctN_le (p : Nat → Bool) : ∀ n, ctN p n ≤ n
  | 0 => Nat.le_refl 0
  | n + 1 => by
    have := ctN_le p n
    unfold ctN
    split <;> omega
theorem ctN_cong {p q : Nat → Bool} : ∀ n, (∀ k, k < n → p k = q k) → ctN p n = ctN q n
  | 0, _ => rfl
  | n + 1, h => by unfold ctN; rw [ctN_cong n fun k hk => h k (by omega), h n (by omega)]
theorem alN_iff {p : Nat → Bool} : ∀ n, alN p n = true ↔ ∀ k, k < n → p k = true
  | 0 => by simp [alN]
  | n + 1 => by
    unfold alN
    rw [Bool.and_eq_true, alN_iff n]
    exact ⟨fun h k hk => by rcases Nat.lt_or_ge k n with q | q; exact h.1 k q; rw [show k = n by omega]; exact h.2, fun h => ⟨fun k hk => h k (by omega), h n (by omega)⟩⟩
theorem alN_cong {p q : Nat → Bool} : ∀ n, (∀ k, k < n → p k = q k) → alN p n = alN q n
  | 0, _ => rfl
  | n + 1, h => by unfold alN; rw [alN_cong n fun k hk => h k (by omega), h n (by omega)]
theorem alN_no {p : Nat → Bool} {i : Nat} (h : p i = false) {n : Nat} (hi : i < n) : alN p n = false := by
  cases e : alN p n with
  | false => rfl
  | true => rw [(alN_iff n).mp e i hi] at h; cases h
def wset (A : Nat → Int32) (w : Nat) : Nat := orN (fun k => 2 ^ wlt A w k) (wln A w)
/-- words as they are told -/
def Wd (A : Nat → Int32) (w : Nat) : Prop := (∀ k, k < 8 → IvN A (116 + 10 * w + k) 25) ∧ IvN A (116 + 10 * w + 8) 8 ∧ 1 ≤ wln A w ∧ IvN A (116 + 10 * w + 9) 9
theorem Wd.lt {A : Nat → Int32} {w : Nat} (h : Wd A w) {k : Nat} (hk : k < 8) : wlt A w k ≤ 25 := (h.1 k hk).2
theorem Wd.ln {A : Nat → Int32} {w : Nat} (h : Wd A w) : wln A w ≤ 8 := h.2.1.2
theorem Wd.se {A : Nat → Int32} {w : Nat} (h : Wd A w) : wse A w ≤ 9 := h.2.2.2.2
theorem p_2lt {a m : Nat} (h : a < m) : 2 ^ a < 2 ^ m := Nat.pow_lt_pow_right (by decide) h
theorem Wd.set {A : Nat → Int32} {w : Nat} (h : Wd A w) : wset A w < 67108864 := by
  have := h.ln
  exact orN_lt (m := 26) _ fun k hk => p_2lt (by have := h.lt (k := k) (by omega); omega)
section PW
variable {t : TS} {w : Nat}
theorem T_lengthOf_s (hw : w < 24) (h : Wd (t.1 0) w) : T_lengthOf t (nI w) = some (nI (wln (t.1 0) w)) := by
  unfold T_lengthOf
  simp (disch := omega) only [p_lit, p_mul, nI_add, nI_1, p_ck, p_cl, p_b1, p_b2, p_l1, p_le, p_lt, p_eq, p_shlN, p_shrN, p_or, p_and, p_xor, p_m1, p_m1', p_m0, p_ge0, p_zr, p_zr0, p_zr1, p_b0, p_b1', h.2.1.1]
  rfl
theorem T_senseOf_s (hw : w < 24) (h : Wd (t.1 0) w) : T_senseOf t (nI w) = some (nI (wse (t.1 0) w)) := by
  unfold T_senseOf
  simp (disch := omega) only [p_lit, p_mul, nI_add, nI_1, p_ck, p_cl, p_b1, p_b2, p_l1, p_le, p_lt, p_eq, p_shlN, p_shrN, p_or, p_and, p_xor, p_m1, p_m1', p_m0, p_ge0, p_zr, p_zr0, p_zr1, p_b0, p_b1', h.2.2.2.1]
  rfl
theorem T_letterOf_s {k : Nat} (hw : w < 24) (hk : k < 8) (h : Wd (t.1 0) w) : T_letterOf t (nI w) (nI k) = some (nI (wlt (t.1 0) w k)) := by
  unfold T_letterOf
  simp (disch := omega) only [p_lit, p_mul, nI_add, nI_1, p_ck, p_cl, p_b1, p_b2, p_l1, p_le, p_lt, p_eq, p_shlN, p_shrN, p_or, p_and, p_xor, p_m1, p_m1', p_m0, p_ge0, p_zr, p_zr0, p_zr1, p_b0, p_b1', (h.1 k hk).1]
  rfl
theorem T_setOf_lp (hw : w < 24) (h : Wd (t.1 0) w) : ∀ k i, i + k = wln (t.1 0) w → ∀ n, k < n → T_setOf_4 t n (nI w) (nI (orN (fun k => 2 ^ wlt (t.1 0) w k) i)) (nI i) = some (nI (wset (t.1 0) w)) := by
  have hl := h.ln
  intro k
  induction k with
  | zero =>
    intro i hi n hn
    obtain ⟨n, rfl⟩ : ∃ m, n = m + 1 := ⟨n - 1, by omega⟩
    unfold T_setOf_4
    simp (disch := omega) only [p_lit, p_mul, nI_add, nI_1, p_ck, p_cl, p_b1, p_b2, p_l1, p_le, p_lt, p_eq, p_shlN, p_shrN, p_or, p_and, p_xor, p_m1, p_m1', p_m0, p_ge0, p_zr, p_zr0, p_zr1, p_b0, p_b1', if_pos, if_neg, if_true, if_false, Bool.true_eq_false, Bool.false_eq_true, eq_self, T_lengthOf_s hw h]
    unfold wset
    rw [← hi]
    rfl
  | succ k ih =>
    intro i hi n hn
    obtain ⟨n, rfl⟩ : ∃ m, n = m + 1 := ⟨n - 1, by omega⟩
    unfold T_setOf_4
    have h1 := h.lt (k := i) (by omega)
    simp (disch := omega) only [p_lit, p_mul, nI_add, nI_1, p_ck, p_cl, p_b1, p_b2, p_l1, p_le, p_lt, p_eq, p_shlN, p_shrN, p_or, p_and, p_xor, p_m1, p_m1', p_m0, p_ge0, p_zr, p_zr0, p_zr1, p_b0, p_b1', if_pos, if_neg, if_true, if_false, Bool.true_eq_false, Bool.false_eq_true, eq_self, T_lengthOf_s hw h, T_letterOf_s hw (show i < 8 by omega) h]
    exact ih (i + 1) (by omega) n (by omega)
theorem T_setOf_s (hw : w < 24) (h : Wd (t.1 0) w) : T_setOf t (nI w) = some (nI (wset (t.1 0) w)) := by
  have hl := h.ln
  exact T_setOf_lp hw h (wln (t.1 0) w) 0 (by omega) fu (by unfold fu; omega)
/-- so many words use a letter -/
def uses (A : Nat → Int32) (l : Nat) : Nat := ctN (fun w => (wset A w).testBit l) (nA A 0)
theorem T_usesOf_lp {l : Nat} (hl : l < 26) (h0 : IvN (t.1 0) 0 24) (h : ∀ w, w < nA (t.1 0) 0 → Wd (t.1 0) w) : ∀ k i, i + k = nA (t.1 0) 0 → ∀ n, k < n → T_usesOf_4 t n (nI l) (nI (ctN (fun w => (wset (t.1 0) w).testBit l) i)) (nI i) = some (nI (uses (t.1 0) l)) := by
  have h2 := h0.2
  intro k
  induction k with
  | zero =>
    intro i hi n hn
    obtain ⟨n, rfl⟩ : ∃ m, n = m + 1 := ⟨n - 1, by omega⟩
    unfold T_usesOf_4
    simp (disch := omega) only [p_lit, p_mul, nI_add, nI_1, p_ck, p_cl, p_b1, p_b2, p_l1, p_le, p_lt, p_eq, p_shlN, p_shrN, p_or, p_and, p_xor, p_m1, p_m1', p_m0, p_ge0, p_zr, p_zr0, p_zr1, p_b0, p_b1', if_pos, if_neg, if_true, if_false, Bool.true_eq_false, Bool.false_eq_true, eq_self, h0.1]
    unfold uses
    rw [← hi]
    rfl
  | succ k ih =>
    intro i hi n hn
    obtain ⟨n, rfl⟩ : ∃ m, n = m + 1 := ⟨n - 1, by omega⟩
    unfold T_usesOf_4
    have h1 := (h i (by omega)).set
    simp (disch := omega) only [p_lit, p_mul, nI_add, nI_1, p_ck, p_cl, p_b1, p_b2, p_l1, p_le, p_lt, p_eq, p_shlN, p_shrN, p_or, p_and, p_xor, p_m1, p_m1', p_m0, p_ge0, p_zr, p_zr0, p_zr1, p_b0, p_b1', if_pos, if_neg, if_true, if_false, Bool.true_eq_false, Bool.false_eq_true, eq_self, h0.1, T_setOf_s (show i < 24 by omega) (h i (by omega)), p_hasT]
    have h3 := ih (i + 1) (by omega) n (by omega)
    unfold ctN at h3
    unfold T_usesOf_32
    cases hb : (wset (t.1 0) i).testBit l
    · rw [hb] at h3
      simp (disch := omega) only [p_lit, p_mul, nI_add, nI_1, p_ck, p_cl, p_b1, p_b2, p_l1, p_le, p_lt, p_eq, p_shlN, p_shrN, p_or, p_and, p_xor, p_m1, p_m1', p_m0, p_ge0, p_zr, p_zr0, p_zr1, p_b0, p_b1', if_pos, if_neg, if_true, if_false, Bool.true_eq_false, Bool.false_eq_true, eq_self]
      exact h3
    · rw [hb] at h3
      simp (disch := omega) only [p_lit, p_mul, nI_add, nI_1, p_ck, p_cl, p_b1, p_b2, p_l1, p_le, p_lt, p_eq, p_shlN, p_shrN, p_or, p_and, p_xor, p_m1, p_m1', p_m0, p_ge0, p_zr, p_zr0, p_zr1, p_b0, p_b1', if_pos, if_neg, if_true, if_false, Bool.true_eq_false, Bool.false_eq_true, eq_self]
      exact h3
theorem T_usesOf_s {l : Nat} (hl : l < 26) (h0 : IvN (t.1 0) 0 24) (h : ∀ w, w < nA (t.1 0) 0 → Wd (t.1 0) w) : T_usesOf t (nI l) = some (nI (uses (t.1 0) l)) :=
  T_usesOf_lp hl h0 h (nA (t.1 0) 0) 0 (by omega) fu (by have := h0.2; unfold fu; omega)
end PW
