/-! learn -/
set_option maxRecDepth 20000
abbrev LeT : Type := Option (Nat × Nat)
def usd (A : Nat → Int32) : Nat := orN (fun w => wset A w) (nA A 0)
def rk (U l : Nat) : Nat := ctN (fun k => U.testBit k) l
def setM (mm row : Nat → Nat) (n : Nat) : Nat := orN (fun e => 2 ^ mm (row e)) n
def wwN (A : Nat → Int32) (m : Nat) : Nat := ctN (fun w => decide (wset A w &&& (m ^^^ 4294967295) = 0)) (nA A 0)
def leU (v m : Nat) (s : LeT) : LeT := match s with
  | none => some (v, m)
  | some q => if q.1 < v then some (v, m) else some q
def leS (A : Nat → Int32) (mm : Nat → Nat) (n : Nat) (row : Nat → Nat) (s : LeT) : Unit ⊕ LeT := .inr (leU (wwN A (setM mm row n)) (setM mm row n) s)
theorem setM_ext {mm r q : Nat → Nat} {n : Nat} (h : ∀ j, j < n → r j = q j) : setM mm r n = setM mm q n := orN_cong _ fun k hk => by rw [h k hk]
theorem leS_ext {A : Nat → Int32} {mm : Nat → Nat} {n : Nat} (r q : Nat → Nat) (u : LeT) (h : ∀ j, j < n → r j = q j) : leS A mm n r u = leS A mm n q u := by
  unfold leS
  rw [setM_ext h]
theorem leU_some {v m : Nat} {s : LeT} : ∃ q, leU v m s = some q := by
  unfold leU
  cases s with
  | none => exact ⟨_, rfl⟩
  | some q =>
    dsimp only
    split
    · exact ⟨_, rfl⟩
    · exact ⟨_, rfl⟩
theorem ctN_kth {p : Nat → Bool} {i : Nat} : ∀ n, i < ctN p n → ∃ l, l < n ∧ p l = true ∧ ctN p l = i
  | 0, h => by cases h
  | n + 1, h => by
    rw [ctN_succ] at h
    rcases Nat.lt_or_ge i (ctN p n) with h1 | h1
    · obtain ⟨l, a, b, c⟩ := ctN_kth n h1
      exact ⟨l, by omega, b, c⟩
    · cases hp : p n with
      | true => rw [hp, if_pos rfl] at h; exact ⟨n, by omega, hp, by omega⟩
      | false => rw [hp, if_neg (by decide)] at h; omega
theorem ctN_pos {p : Nat → Bool} : ∀ n, ctN p n = 0 ↔ ∀ k, k < n → p k = false
  | 0 => ⟨fun _ k h => absurd h (by omega), fun _ => rfl⟩
  | n + 1 => by
    rw [ctN_succ]
    constructor
    · intro h k hk
      have h1 : ctN p n = 0 := by omega
      rcases Nat.lt_or_ge k n with h2 | h2
      · exact (ctN_pos n).mp h1 k h2
      · rw [show k = n by omega]
        cases hp : p n with
        | false => rfl
        | true => rw [hp, if_pos rfl] at h; omega
    · intro h
      rw [(ctN_pos n).mpr fun k hk => h k (by omega), h n (by omega)]; rfl
theorem ctN_mono {p : Nat → Bool} {a b : Nat} (h : a ≤ b) : ctN p a ≤ ctN p b := by
  obtain ⟨d, rfl⟩ : ∃ d, b = a + d := ⟨b - a, by omega⟩
  rw [ctN_split]
  omega
theorem usd_lt {A : Nat → Int32} (hW : Wds A) : usd A < 67108864 := orN_lt (m := 26) _ fun w hw => (hW.2 w hw).set
theorem usd_bit {A : Nat → Int32} {l : Nat} : uses A l = 0 ↔ (usd A).testBit l = false := by
  unfold uses usd
  rw [ctN_pos]
  constructor
  · intro h
    cases e : (orN (fun w => wset A w) (nA A 0)).testBit l with
    | false => rfl
    | true =>
      obtain ⟨k, h1, h2⟩ := (orN_bit _).mp e
      rw [h k h1] at h2; cases h2
  · intro h k hk
    cases e : (wset A k).testBit l with
    | false => rfl
    | true => rw [(orN_bit _).mpr ⟨k, hk, e⟩] at h; cases h
theorem rk_succ {U l : Nat} : rk U (l + 1) = rk U l + (if U.testBit l then 1 else 0) := rfl
def CL (c : CS) (s : LeT) : Prop := match s with
  | none => c.1 0 19 = -nI 1
  | some q => c.1 0 19 = nI q.1 ∧ c.1 0 18 = nI q.2 ∧ q.1 ≤ 24
def tm (s : LeT) : Int32 := match s with
  | none => -nI 1
  | some q => nI q.1
def tf (s : LeT) : Int32 := match s with
  | none => nI 0
  | some q => nI q.2
def Ls (s : LeT) : Prop := match s with
  | none => True
  | some q => q.1 ≤ 24
section PK
variable {t : TS} {c : CS} {A : Nat → Int32}
theorem wwN_le {m : Nat} (hW : Wds A) : wwN A m ≤ 24 := Nat.le_trans (ctN_le _ _) hW.1.2
theorem Ls.step {s : LeT} {m : Nat} (hW : Wds A) (h : Ls s) : Ls (leU (wwN A m) m s) := by
  have := wwN_le (m := m) hW
  unfold leU
  cases s with
  | none => exact this
  | some q =>
    dsimp only
    split
    · exact this
    · exact h
theorem T_ww_lp {m : Nat} (hW : Wds (t.1 0)) : ∀ k i, i + k = nA (t.1 0) 0 → ∀ n, k < n → T_writtenWith_4 t n (nI m) (nI (ctN (fun w => decide (wset (t.1 0) w &&& (m ^^^ 4294967295) = 0)) i)) (nI i) = some (nI (wwN (t.1 0) m)) := by
  have h0 := hW.1.2
  intro k
  induction k with
  | zero =>
    intro i hi n hn
    obtain ⟨n, rfl⟩ : ∃ m, n = m + 1 := ⟨n - 1, by omega⟩
    unfold T_writtenWith_4
    simp (disch := omega) only [p_lit, p_mul, nI_add, nI_1, p_ck, p_cl, p_b1, p_b2, p_l1, p_le, p_lt, p_eq, p_shlN, p_shrN, p_or, p_and, p_xor, p_m1, p_m1', p_m0, p_ge0, p_zr, p_zr0, p_zr1, p_b0, p_b1', if_pos, if_neg, if_true, if_false, Bool.true_eq_false, Bool.false_eq_true, eq_self, hW.1.1]
    unfold wwN
    rw [← hi]; rfl
  | succ k ih =>
    intro i hi n hn
    obtain ⟨n, rfl⟩ : ∃ m, n = m + 1 := ⟨n - 1, by omega⟩
    unfold T_writtenWith_4
    have h2 := ih (i + 1) (by omega) n (by omega)
    have hw := hW.2 i (by omega)
    have h3 := hw.set
    have ha : wset (t.1 0) i &&& (m ^^^ 4294967295) ≤ wset (t.1 0) i := Nat.and_le_left
    rw [ctN_succ] at h2
    simp (disch := omega) only [p_lit, p_mul, nI_add, nI_1, p_ck, p_cl, p_b1, p_b2, p_l1, p_le, p_lt, p_eq, p_shlN, p_shrN, p_or, p_and, p_xor, p_m1, p_m1', p_m0, p_ge0, p_zr, p_zr0, p_zr1, p_b0, p_b1', if_pos, if_neg, if_true, if_false, Bool.true_eq_false, Bool.false_eq_true, eq_self, hW.1.1, T_setOf_s (t := t) (w := i) (by omega) hw, p_not]
    unfold T_writtenWith_32
    simp (disch := omega) only [p_lit, p_mul, nI_add, nI_1, p_ck, p_cl, p_b1, p_b2, p_l1, p_le, p_lt, p_eq, p_shlN, p_shrN, p_or, p_and, p_xor, p_m1, p_m1', p_m0, p_ge0, p_zr, p_zr0, p_zr1, p_b0, p_b1', if_pos, if_neg, if_true, if_false, Bool.true_eq_false, Bool.false_eq_true, eq_self]
    by_cases hc : wset (t.1 0) i &&& (m ^^^ 4294967295) = 0
    · rw [if_pos hc]
      rw [decide_eq_true hc, if_pos rfl] at h2
      exact h2
    · rw [if_neg hc]
      rw [decide_eq_false hc, if_neg (by decide)] at h2
      exact h2
theorem T_ww_s {m : Nat} (hW : Wds (t.1 0)) : T_writtenWith t (nI m) = some (nI (wwN (t.1 0) m)) := by
  have h0 := hW.1.2
  exact T_ww_lp hW (nA (t.1 0) 0) 0 (by omega) fu (by unfold fu; omega)
theorem C_can_g {w m : Nat} (hW : Wds A) (hc : RWd A c 2) (hw : w < nA A 0) : C_can c (nI w) (nI m) = some (bI (decide (wset A w &&& m = 0))) := by
  have h0 := hW.1.2
  obtain ⟨r, h1, h2⟩ := hc.get hw
  have h3 := (hW.2 w hw).set
  have h5 : wset A w &&& m ≤ wset A w := Nat.and_le_left
  unfold C_can
  simp (disch := omega) only [p_lit, p_mul, nI_add, nI_1, p_ck, p_cl, p_b1, p_b2, p_l1, p_le, p_lt, p_eq, p_shlN, p_shrN, p_or, p_and, p_xor, p_m1, p_m1', p_m0, p_ge0, p_zr, p_zr0, p_zr1, p_b0, p_b1', if_pos, if_neg, if_true, if_false, Bool.true_eq_false, Bool.false_eq_true, eq_self, h1, p_ckC h2.c, h2.bits]
  by_cases hz : wset A w &&& m = 0
  · rw [if_pos hz, decide_eq_true hz]; rfl
  · rw [if_neg hz, decide_eq_false hz]; rfl
theorem tm_lt {s : LeT} {v : Nat} (hL : Ls s) (hv : v ≤ 24) (m : Nat) : (nI v ≤ tm s ∧ leU v m s = s) ∨ (¬ nI v ≤ tm s ∧ leU v m s = some (v, m)) := by
  cases s with
  | none =>
    refine Or.inr ⟨?_, rfl⟩
    show ¬ nI v ≤ -nI 1
    have e1 : (-nI 1).toInt = -1 := by decide
    rw [Int32.le_iff_toInt_le, e1, nI_toInt (by omega)]
    omega
  | some q =>
    have : q.1 ≤ 24 := hL
    show (nI v ≤ nI q.1 ∧ leU v m (some q) = some q) ∨ (¬ nI v ≤ nI q.1 ∧ leU v m (some q) = some (v, m))
    rw [p_le (by omega) (by omega)]
    unfold leU
    dsimp only
    by_cases h : q.1 < v
    · rw [if_pos h]; exact Or.inr ⟨by omega, rfl⟩
    · rw [if_neg h]; exact Or.inl ⟨by omega, rfl⟩
theorem T_learn_it {n N : Nat} {b : Bool} {mm : Nat → Nat} (hn : n ≤ 4) (hN : n ≤ N) (hN2 : N ≤ 26) (hW : Wds A) (hmm : ∀ i, i < N → mm i < 26) : ∀ f (row : Nat → Nat) (t : TS) (s s1 : LeT), t.1 0 = A → (∀ i, i < N → t.1 30 i = nI (mm i)) → Bd N n row → Row t n row → Ls s → itT N n (leS A mm n) f row s = some (.inr s1) → ∀ g, f < g → ∃ t1, St t t1 ∧ T_learn_79 g t (bI b) (nI N) (nI n) (tf s) (tm s) (nI 1) = some (if b then tm s1 else tf s1, t1) := by
  intro f
  induction f with
  | zero => intro row t s s1 hA hM hBd hR hL h; cases h
  | succ f ih =>
    intro row t s s1 hA hM hBd hR hL h g hg
    obtain ⟨g, rfl⟩ : ∃ m, g = m + 1 := ⟨g - 1, by omega⟩
    subst hA
    have hr : ∀ j, j < n → row j < N := fun j hj => by have := hBd j hj; omega
    unfold T_learn_79
    rw [if_neg (show ¬ nI 1 = 0 by decide)]
    obtain ⟨t2, g1, g2, g3⟩ := T_nextRow_s (t := t) (N := N) (row := row) (show n ≤ 10 by omega) hN (by omega) (fun j hj => by have := hr j hj; omega) hR
    have lp : ∀ k i, i + k = n → ∀ F, k < F → T_learn_90 (T_learn_79 g) F t (bI b) (nI N) (nI n) (tf s) (tm s) (nI (setM mm row i)) (nI i) = T_learn_79 g t2 (bI b) (nI N) (nI n) (tf (leU (wwN (t.1 0) (setM mm row n)) (setM mm row n) s)) (tm (leU (wwN (t.1 0) (setM mm row n)) (setM mm row n) s)) (bI (nxF N n row).isSome) := by
      intro k
      induction k with
      | zero =>
        intro i hi F hF
        obtain ⟨F, rfl⟩ : ∃ m, F = m + 1 := ⟨F - 1, by omega⟩
        obtain rfl : i = n := by omega
        have hv := wwN_le (m := setM mm row i) hW
        unfold T_learn_90 T_learn_145
        simp (disch := omega) only [p_lit, p_mul, nI_add, nI_1, p_ck, p_cl, p_b1, p_b2, p_l1, p_le, p_lt, p_eq, p_shlN, p_shrN, p_or, p_and, p_xor, p_m1, p_m1', p_m0, p_ge0, p_zr, p_zr0, p_zr1, p_b0, p_b1', if_pos, if_neg, if_true, if_false, Bool.true_eq_false, Bool.false_eq_true, eq_self, T_ww_s hW, g1]
        rcases tm_lt hL hv (setM mm row i) with ⟨h1, h2⟩ | ⟨h1, h2⟩
        · rw [if_pos h1, h2]
        · rw [if_neg h1, h2]; rfl
      | succ k ihk =>
        intro i hi F hF
        obtain ⟨F, rfl⟩ : ∃ m, F = m + 1 := ⟨F - 1, by omega⟩
        have h1 := hr i (by omega)
        have h2 := hmm _ h1
        have h3 := ihk (i + 1) (by omega) F (by omega)
        unfold T_learn_90
        simp (disch := omega) only [p_lit, p_mul, nI_add, nI_1, p_ck, p_cl, p_b1, p_b2, p_l1, p_le, p_lt, p_eq, p_shlN, p_shrN, p_or, p_and, p_xor, p_m1, p_m1', p_m0, p_ge0, p_zr, p_zr0, p_zr1, p_b0, p_b1', if_pos, if_neg, if_true, if_false, Bool.true_eq_false, Bool.false_eq_true, eq_self, hR i (by omega), hM _ h1]
        exact h3
    rw [show (0 : Int32) = nI (setM mm row 0) from rfl, show (nI (setM mm row 0) : Int32) = nI 0 from rfl]
    have e := lp n 0 (by omega) fu (by unfold fu; omega)
    rw [show setM mm row 0 = 0 from rfl] at e
    rw [e]
    unfold itT leS at h
    have hL2 := hL.step (m := setM mm row n) hW
    cases hx : nxF N n row with
    | none =>
      rw [hx] at h
      have h9 : some (Sum.inr _) = some (Sum.inr s1) := h
      have h10 := Sum.inr.inj (Option.some.inj h9)
      obtain ⟨g, rfl⟩ : ∃ m, g = m + 1 := ⟨g - 1, by omega⟩
      unfold T_learn_79
      rw [if_pos (show bI (none : Option (Nat → Nat)).isSome = 0 from rfl), h10]
      refine ⟨t2, g2.st, ?_⟩
      cases b <;> rfl
    | some r =>
      rw [hx] at h
      obtain ⟨t3, k1, k2⟩ := ih r t2 _ s1 g2.st.1 (fun i hi => by rw [g2 30 (by decide)]; exact hM i hi) (hBd.next hx) (g3 r hx) hL2 h g (by omega)
      exact ⟨t3, g2.st.tr k1, k2⟩
theorem itT_some {N n : Nat} {mm : Nat → Nat} : ∀ f (row : Nat → Nat) (s s1 : LeT), itT N n (leS A mm n) f row s = some (.inr s1) → ∃ q, s1 = some q
  | 0, _, _, _, h => by cases h
  | f + 1, row, s, s1, h => by
    unfold itT leS at h
    cases hx : nxF N n row with
    | none =>
      rw [hx] at h
      have h9 : some (Sum.inr _) = some (Sum.inr s1) := h
      have h10 := Sum.inr.inj (Option.some.inj h9)
      rw [← h10]
      exact leU_some
    | some r =>
      rw [hx] at h
      exact itT_some f r _ s1 h
theorem C_learns_end {m : Nat} {s : LeT} {rec : CS → Int32 → Int32 → Int32 → Int32 → Option CS} (hc : RN A c) (hC : CL c s) : ∀ k i, i + k = nA A 0 → ∀ n, k < n → ∃ c1, C_learns_p10 rec n c (nI m) (nI (ctN (fun w => decide (wset A w &&& (m ^^^ 4294967295) = 0)) i)) (nI i) = some c1 ∧ Sc c c1 ∧ CL c1 (leU (wwN A m) m s) := by
  have h0 := hc.1.1.2
  have hv := wwN_le (m := m) hc.1
  intro k
  induction k with
  | zero =>
    intro i hi n hn
    obtain ⟨n, rfl⟩ : ∃ m, n = m + 1 := ⟨n - 1, by omega⟩
    unfold C_learns_p10
    obtain rfl : i = nA A 0 := by omega
    simp (disch := omega) only [p_lit, p_mul, nI_add, nI_1, p_ck, p_cl, p_b1, p_b2, p_l1, p_le, p_lt, p_eq, p_shlN, p_shrN, p_or, p_and, p_xor, p_m1, p_m1', p_m0, p_ge0, p_zr, p_zr0, p_zr1, p_b0, p_b1', if_pos, if_neg, if_true, if_false, Bool.true_eq_false, Bool.false_eq_true, eq_self, hc.2.2.2.1.1, hc.1.1.1]
    show ∃ c1, (if c.1 0 19 < nI (wwN A m) then _ else _) = some c1 ∧ _
    have hL : Ls s := by
      cases s with
      | none => trivial
      | some q => exact hC.2.2
    have hts : c.1 0 19 = tm s := by
      cases s with
      | none => exact hC
      | some q => exact hC.1
    rw [hts]
    rcases tm_lt hL hv m with ⟨h1, h2⟩ | ⟨h1, h2⟩
    · rw [if_neg (Int32.not_lt.mpr h1), h2]
      exact ⟨c, rfl, Sc.rf, hC⟩
    · rw [if_pos (Int32.not_le.mp h1), h2]
      exact ⟨_, rfl, (Sc.ci0 (by decide)).tr (Sc.ci0 (by decide)), by rw [ci_ne (by decide), ci_e]; rfl, ci_e, hv⟩
  | succ k ih =>
    intro i hi n hn
    obtain ⟨n, rfl⟩ : ∃ m, n = m + 1 := ⟨n - 1, by omega⟩
    unfold C_learns_p10
    obtain ⟨c1, g1, g2, g3⟩ := ih (i + 1) (by omega) n (by omega)
    rw [ctN_succ] at g1
    refine ⟨c1, ?_, g2, g3⟩
    simp (disch := omega) only [p_lit, p_mul, nI_add, nI_1, p_ck, p_cl, p_b1, p_b2, p_l1, p_le, p_lt, p_eq, p_shlN, p_shrN, p_or, p_and, p_xor, p_m1, p_m1', p_m0, p_ge0, p_zr, p_zr0, p_zr1, p_b0, p_b1', if_pos, if_neg, if_true, if_false, Bool.true_eq_false, Bool.false_eq_true, eq_self, hc.2.2.2.1.1, hc.1.1.1, p_not, C_can_g hc.1 hc.2.2.2.1 (show i < nA A 0 by omega)]
    unfold C_learns_p44
    simp (disch := omega) only [p_lit, p_mul, nI_add, nI_1, p_ck, p_cl, p_b1, p_b2, p_l1, p_le, p_lt, p_eq, p_shlN, p_shrN, p_or, p_and, p_xor, p_m1, p_m1', p_m0, p_ge0, p_zr, p_zr0, p_zr1, p_b0, p_b1', if_pos, if_neg, if_true, if_false, Bool.true_eq_false, Bool.false_eq_true, eq_self]
    by_cases hz : wset A i &&& (m ^^^ 4294967295) = 0
    · rw [decide_eq_true hz] at g1 ⊢
      simp (disch := omega) only [p_lit, p_mul, nI_add, nI_1, p_ck, p_cl, p_b1, p_b2, p_l1, p_le, p_lt, p_eq, p_shlN, p_shrN, p_or, p_and, p_xor, p_m1, p_m1', p_m0, p_ge0, p_zr, p_zr0, p_zr1, p_b0, p_b1', if_pos, if_neg, if_true, if_false, Bool.true_eq_false, Bool.false_eq_true, eq_self]
      exact g1
    · rw [decide_eq_false hz] at g1 ⊢
      simp (disch := omega) only [p_lit, p_mul, nI_add, nI_1, p_ck, p_cl, p_b1, p_b2, p_l1, p_le, p_lt, p_eq, p_shlN, p_shrN, p_or, p_and, p_xor, p_m1, p_m1', p_m0, p_ge0, p_zr, p_zr0, p_zr1, p_b0, p_b1', if_pos, if_neg, if_true, if_false, Bool.true_eq_false, Bool.false_eq_true, eq_self]
      exact g1
theorem C_learns_it {n U : Nat} {mm : Nat → Nat} (hn : n ≤ 4) (hU : U < 67108864) (hmm : ∀ l, l < 26 → U.testBit l = true → mm (rk U l) = l) (hmm2 : ∀ i, i < rk U 26 → mm i < 26) : ∀ d, d ≤ 26 → (∀ m, m ≤ n → ∀ (row : Nat → Nat) (c : CS) (s : LeT) (F : Nat), (∀ j, j < n - m → row j < rk U 26) → RN A c → CL c s → m < F → ∃ c1 s1, C_learns F c (nI U) (nI (26 - d)) (nI m) (nI (setM mm row (n - m))) = some c1 ∧ itC (rk U 26) n (leS A mm n) (rk U 26 - rk U (26 - d)) m row s = .inr s1 ∧ Sc c c1 ∧ CL c1 s1) ∧ (∀ m, m + 1 ≤ n → ∀ (row : Nat → Nat) (c : CS) (s : LeT) (F g : Nat), (∀ j, j < n - (m + 1) → row j < rk U 26) → RN A c → CL c s → m < F → d < g → ∃ c1 s1, C_learns_p79 (C_learns F) g c (nI U) (nI (m + 1)) (nI (setM mm row (n - (m + 1)))) (nI (26 - d)) = some c1 ∧ itC (rk U 26) n (leS A mm n) (rk U 26 - rk U (26 - d)) (m + 1) row s = .inr s1 ∧ Sc c c1 ∧ CL c1 s1) := by
  have hof : rk U 26 ≤ 26 := ctN_le _ _
  have PQ : ∀ d, (∀ m, m + 1 ≤ n → ∀ (row : Nat → Nat) (c : CS) (s : LeT) (F g : Nat), (∀ j, j < n - (m + 1) → row j < rk U 26) → RN A c → CL c s → m < F → d < g → ∃ c1 s1, C_learns_p79 (C_learns F) g c (nI U) (nI (m + 1)) (nI (setM mm row (n - (m + 1)))) (nI (26 - d)) = some c1 ∧ itC (rk U 26) n (leS A mm n) (rk U 26 - rk U (26 - d)) (m + 1) row s = .inr s1 ∧ Sc c c1 ∧ CL c1 s1) → d ≤ 26 → (∀ m, m ≤ n → ∀ (row : Nat → Nat) (c : CS) (s : LeT) (F : Nat), (∀ j, j < n - m → row j < rk U 26) → RN A c → CL c s → m < F → ∃ c1 s1, C_learns F c (nI U) (nI (26 - d)) (nI m) (nI (setM mm row (n - m))) = some c1 ∧ itC (rk U 26) n (leS A mm n) (rk U 26 - rk U (26 - d)) m row s = .inr s1 ∧ Sc c c1 ∧ CL c1 s1) := by
    intro d hQ hd m hm row c s F hr hc hC hF
    obtain ⟨F, rfl⟩ : ∃ m, F = m + 1 := ⟨F - 1, by omega⟩
    unfold C_learns C_learns_b
    cases m with
    | zero =>
      rw [Nat.sub_zero] at hr ⊢
      rw [if_pos (show nI 0 = 0 from rfl), itC_0]
      obtain ⟨c1, g1, g2, g3⟩ := C_learns_end (rec := C_learns F) (m := setM mm row n) hc hC (nA A 0) 0 (by omega) fu (by have := hc.1.1.2; unfold fu; omega)
      exact ⟨c1, _, g1, rfl, g2, g3⟩
    | succ m =>
      rw [if_neg (show ¬ nI (m + 1) = 0 from nI_ne0 (by omega) (by omega))]
      exact hQ m hm row c s F fu hr hc hC (by omega) (by unfold fu; omega)
  intro d
  induction d with
  | zero =>
    intro hd
    have hQ : (∀ m, m + 1 ≤ n → ∀ (row : Nat → Nat) (c : CS) (s : LeT) (F g : Nat), (∀ j, j < n - (m + 1) → row j < rk U 26) → RN A c → CL c s → m < F → 0 < g → ∃ c1 s1, C_learns_p79 (C_learns F) g c (nI U) (nI (m + 1)) (nI (setM mm row (n - (m + 1)))) (nI (26 - 0)) = some c1 ∧ itC (rk U 26) n (leS A mm n) (rk U 26 - rk U (26 - 0)) (m + 1) row s = .inr s1 ∧ Sc c c1 ∧ CL c1 s1) := by
      intro m hm row c s F g hr hc hC hF hg
      obtain ⟨g, rfl⟩ : ∃ m, g = m + 1 := ⟨g - 1, by omega⟩
      rw [Nat.sub_zero, Nat.sub_self]
      unfold C_learns_p79
      simp (disch := omega) only [p_lit, p_mul, nI_add, nI_1, p_ck, p_cl, p_b1, p_b2, p_l1, p_le, p_lt, p_eq, p_shlN, p_shrN, p_or, p_and, p_xor, p_m1, p_m1', p_m0, p_ge0, p_zr, p_zr0, p_zr1, p_b0, p_b1', if_pos, if_neg, if_true, if_false, Bool.true_eq_false, Bool.false_eq_true, eq_self]
      exact ⟨c, s, rfl, rfl, Sc.rf, hC⟩
    exact ⟨PQ 0 hQ hd, hQ⟩
  | succ d ih =>
    intro hd
    obtain ⟨ihP, ihQ⟩ := ih (by omega)
    obtain ⟨l, hl⟩ : ∃ l, l = 26 - (d + 1) := ⟨_, rfl⟩
    have hl1 : 26 - d = l + 1 := by omega
    have hrl : rk U l ≤ rk U 26 := ctN_mono (by omega)
    have hrl1 : rk U (l + 1) ≤ rk U 26 := ctN_mono (by omega)
    rw [hl1] at ihP ihQ
    have hQ : (∀ m, m + 1 ≤ n → ∀ (row : Nat → Nat) (c : CS) (s : LeT) (F g : Nat), (∀ j, j < n - (m + 1) → row j < rk U 26) → RN A c → CL c s → m < F → d + 1 < g → ∃ c1 s1, C_learns_p79 (C_learns F) g c (nI U) (nI (m + 1)) (nI (setM mm row (n - (m + 1)))) (nI (26 - (d + 1))) = some c1 ∧ itC (rk U 26) n (leS A mm n) (rk U 26 - rk U (26 - (d + 1))) (m + 1) row s = .inr s1 ∧ Sc c c1 ∧ CL c1 s1) := by
      intro m hm row c s F g hr hc hC hF hg
      obtain ⟨g, rfl⟩ : ∃ m, g = m + 1 := ⟨g - 1, by omega⟩
      rw [← hl]
      unfold C_learns_p79 C_learns_p114
      simp (disch := omega) only [p_lit, p_mul, nI_add, nI_1, p_ck, p_cl, p_b1, p_b2, p_l1, p_le, p_lt, p_eq, p_shlN, p_shrN, p_or, p_and, p_xor, p_m1, p_m1', p_m0, p_ge0, p_zr, p_zr0, p_zr1, p_b0, p_b1', if_pos, if_neg, if_true, if_false, Bool.true_eq_false, Bool.false_eq_true, eq_self, p_has, p_sub (show 1 ≤ m + 1 by omega), Nat.add_sub_cancel]
      cases hb : U.testBit l
      · simp (disch := omega) only [p_lit, p_mul, nI_add, nI_1, p_ck, p_cl, p_b1, p_b2, p_l1, p_le, p_lt, p_eq, p_shlN, p_shrN, p_or, p_and, p_xor, p_m1, p_m1', p_m0, p_ge0, p_zr, p_zr0, p_zr1, p_b0, p_b1', if_pos, if_neg, if_true, if_false, Bool.true_eq_false, Bool.false_eq_true, eq_self]
        have e : rk U (l + 1) = rk U l := by rw [rk_succ, hb]; rfl
        obtain ⟨c1, s1, k1, k2, k3, k4⟩ := ihQ m hm row c s F g hr hc hC hF (by omega)
        rw [e] at k2
        exact ⟨c1, s1, k1, k2, k3, k4⟩
      · simp (disch := omega) only [p_lit, p_mul, nI_add, nI_1, p_ck, p_cl, p_b1, p_b2, p_l1, p_le, p_lt, p_eq, p_shlN, p_shrN, p_or, p_and, p_xor, p_m1, p_m1', p_m0, p_ge0, p_zr, p_zr0, p_zr1, p_b0, p_b1', if_pos, if_neg, if_true, if_false, Bool.true_eq_false, Bool.false_eq_true, eq_self]
        have e : rk U (l + 1) = rk U l + 1 := by rw [rk_succ, hb]; rfl
        have hml := hmm l (by omega) hb
        obtain ⟨w, hw⟩ : ∃ w, rk U 26 - rk U (l + 1) = w := ⟨_, rfl⟩
        have hw2 : rk U 26 - rk U l = w + 1 := by omega
        have hw3 : rk U 26 - w - 1 = rk U l := by omega
        obtain ⟨row2, er⟩ : ∃ z, z = (fun j => if j = n - m - 1 then rk U 26 - w - 1 else row j) := ⟨_, rfl⟩
        obtain ⟨z, hz⟩ : ∃ z, n - m = z + 1 := ⟨n - m - 1, by omega⟩
        have er1 : row2 z = rk U l := by rw [er]; show (if z = n - m - 1 then _ else _) = _; rw [if_pos (by omega)]; exact hw3
        have er2 : ∀ j, j < z → row2 j = row j := fun j hj => by rw [er]; show (if j = n - m - 1 then _ else _) = _; rw [if_neg (by omega)]
        have es : setM mm row2 (n - m) = setM mm row (n - (m + 1)) ||| 2 ^ l := by
          rw [hz, show n - (m + 1) = z by omega]
          show orN _ z ||| 2 ^ mm (row2 z) = _
          rw [er1, hml]
          congr 1
          exact orN_cong _ fun k hk => by rw [er2 k hk]
        obtain ⟨c1, s1, k1, k2, k3, k4⟩ := ihP m (by omega) row2 c s F (fun j hj => by
          by_cases h : j = z
          · subst h; rw [er1]; omega
          · rw [er2 j (by omega)]; exact hr j (by omega)) hc hC hF
        obtain ⟨c2, s2, l1, l2, l3, l4⟩ := ihQ m hm row c1 s1 F g hr (hc.sc k3) k4 hF (by omega)
        rw [es] at k1
        simp (disch := omega) only [p_lit, p_mul, nI_add, nI_1, p_ck, p_cl, p_b1, p_b2, p_l1, p_le, p_lt, p_eq, p_shlN, p_shrN, p_or, p_and, p_xor, p_m1, p_m1', p_m0, p_ge0, p_zr, p_zr0, p_zr1, p_b0, p_b1', if_pos, if_neg, if_true, if_false, Bool.true_eq_false, Bool.false_eq_true, eq_self, k1]
        refine ⟨c2, s2, l1, ?_, k3.tr l3, l4⟩
        rw [hw2]
        unfold itC
        rw [hw] at k2 l2
        rw [← er, k2]
        exact l2
    exact ⟨PQ (d + 1) hQ hd, hQ⟩
theorem T_mem_lp {x1 : Int32} {b : Bool} {U : Nat} (hWt : Wds (t.1 0)) (hU : U = usd (t.1 0)) : ∀ k i, i + k = 26 → ∀ (t1 : TS), St t t1 → (∀ l, l < i → U.testBit l = true → t1.1 30 (rk U l) = nI l) → ∀ n, k < n → ∃ t2, St t t2 ∧ (∀ l, l < 26 → U.testBit l = true → t2.1 30 (rk U l) = nI l) ∧ T_learn_16 n t1 x1 (bI b) (nI (rk U i)) (nI i) = (if nI (rk U 26) ≤ x1 then T_learn_62 t2 (bI b) (nI (rk U 26)) (nI (rk U 26)) else T_learn_62 t2 (bI b) (nI (rk U 26)) x1) := by
  intro k
  induction k with
  | zero =>
    intro i hi t1 ht hM n hn
    obtain ⟨n, rfl⟩ : ∃ m, n = m + 1 := ⟨n - 1, by omega⟩
    obtain rfl : i = 26 := by omega
    unfold T_learn_16
    simp (disch := omega) only [p_lit, p_mul, nI_add, nI_1, p_ck, p_cl, p_b1, p_b2, p_l1, p_le, p_lt, p_eq, p_shlN, p_shrN, p_or, p_and, p_xor, p_m1, p_m1', p_m0, p_ge0, p_zr, p_zr0, p_zr1, p_b0, p_b1', if_pos, if_neg, if_true, if_false, Bool.true_eq_false, Bool.false_eq_true, eq_self]
    exact ⟨t1, ht, hM, rfl⟩
  | succ k ih =>
    intro i hi t1 ht hM n hn
    obtain ⟨n, rfl⟩ : ∃ m, n = m + 1 := ⟨n - 1, by omega⟩
    unfold T_learn_16
    have hrk : rk U i ≤ i := ctN_le _ _
    have hu : uses (t.1 0) i ≤ 24 := Nat.le_trans (ctN_le _ _) hWt.1.2
    have hus := T_usesOf_s (t := t1) (l := i) (by omega) (by rw [ht.1]; exact hWt.1) (by rw [ht.1]; exact hWt.2)
    rw [ht.1] at hus
    simp (disch := omega) only [p_lit, p_mul, nI_add, nI_1, p_ck, p_cl, p_b1, p_b2, p_l1, p_le, p_lt, p_eq, p_shlN, p_shrN, p_or, p_and, p_xor, p_m1, p_m1', p_m0, p_ge0, p_zr, p_zr0, p_zr1, p_b0, p_b1', if_pos, if_neg, if_true, if_false, Bool.true_eq_false, Bool.false_eq_true, eq_self, hus]
    unfold T_learn_46
    by_cases h0 : uses (t.1 0) i = 0
    · have hb : U.testBit i = false := by rw [hU]; exact usd_bit.mp h0
      have e : rk U (i + 1) = rk U i := by rw [rk_succ, hb]; rfl
      obtain ⟨t2, a1, a2, a3⟩ := ih (i + 1) (by omega) t1 ht (fun l hl h => by
        rcases Nat.lt_or_ge l i with h2 | h2
        · exact hM l h2 h
        · rw [show l = i by omega, hb] at h; cases h) n (by omega)
      rw [e] at a3
      refine ⟨t2, a1, a2, ?_⟩
      rw [if_pos h0]
      simp (disch := omega) only [p_lit, p_mul, nI_add, nI_1, p_ck, p_cl, p_b1, p_b2, p_l1, p_le, p_lt, p_eq, p_shlN, p_shrN, p_or, p_and, p_xor, p_m1, p_m1', p_m0, p_ge0, p_zr, p_zr0, p_zr1, p_b0, p_b1', if_pos, if_neg, if_true, if_false, Bool.true_eq_false, Bool.false_eq_true, eq_self]
      exact a3
    · have hb : U.testBit i = true := by
        cases hz : U.testBit i with
        | true => rfl
        | false => rw [hU] at hz; exact absurd (usd_bit.mpr hz) h0
      have e : rk U (i + 1) = rk U i + 1 := by rw [rk_succ, hb]; rfl
      obtain ⟨t2, a1, a2, a3⟩ := ih (i + 1) (by omega) (si t1 30 (rk U i) (nI i)) (ht.tr (St.si (by decide))) (fun l hl h => by
        rcases Nat.lt_or_ge l i with h2 | h2
        · have h3 : rk U (l + 1) ≤ rk U i := ctN_mono (by omega)
          rw [rk_succ, h, if_pos rfl] at h3
          rw [si_ne (by omega)]
          exact hM l h2 h
        · rw [show l = i by omega, si_e]) n (by omega)
      rw [e] at a3
      refine ⟨t2, a1, a2, ?_⟩
      rw [if_neg h0]
      simp (disch := omega) only [p_lit, p_mul, nI_add, nI_1, p_ck, p_cl, p_b1, p_b2, p_l1, p_le, p_lt, p_eq, p_shlN, p_shrN, p_or, p_and, p_xor, p_m1, p_m1', p_m0, p_ge0, p_zr, p_zr0, p_zr1, p_b0, p_b1', if_pos, if_neg, if_true, if_false, Bool.true_eq_false, Bool.false_eq_true, eq_self]
      exact a3
theorem h_learn {x1 : Int32} {b : Bool} (hc : RN (t.1 0) c) : ∃ r t1 c1, T_learn t x1 (bI b) = some (r, t1) ∧ C_learn c x1 (bI b) = some (r, c1) ∧ St t t1 ∧ Sc c c1 := by
  have h0 := hc.1.1.2
  have hW := hc.1
  unfold T_learn C_learn
  rcases p_rg1 x1 (m := 4) (by omega) with h | ⟨k, hk1, hk, rfl, h⟩
  · simp (disch := omega) only [p_lit, p_mul, nI_add, nI_1, p_ck, p_cl, p_b1, p_b2, p_l1, p_le, p_lt, p_eq, p_shlN, p_shrN, p_or, p_and, p_xor, p_m1, p_m1', p_m0, p_ge0, p_zr, p_zr0, p_zr1, p_b0, p_b1', if_pos, if_neg, if_true, if_false, Bool.true_eq_false, Bool.false_eq_true, eq_self, isIn_eq, h]
    exact ⟨_, t, c, rfl, rfl, St.rf, Sc.rf⟩
  simp (disch := omega) only [p_lit, p_mul, nI_add, nI_1, p_ck, p_cl, p_b1, p_b2, p_l1, p_le, p_lt, p_eq, p_shlN, p_shrN, p_or, p_and, p_xor, p_m1, p_m1', p_m0, p_ge0, p_zr, p_zr0, p_zr1, p_b0, p_b1', if_pos, if_neg, if_true, if_false, Bool.true_eq_false, Bool.false_eq_true, eq_self, isIn_eq, h]
  obtain ⟨U, hU⟩ : ∃ U, U = usd (t.1 0) := ⟨_, rfl⟩
  have hUl : U < 67108864 := by rw [hU]; exact usd_lt hW
  have hof : rk U 26 ≤ 26 := ctN_le _ _
  obtain ⟨t2, a1, a2, a3⟩ := T_mem_lp (x1 := nI k) (b := b) hW hU 26 0 rfl t St.rf (fun l hl => by omega) fu (by unfold fu; omega)
  obtain ⟨n, hn, hn4, hnof⟩ : ∃ n, n = (if rk U 26 ≤ k then rk U 26 else k) ∧ n ≤ 4 ∧ n ≤ rk U 26 := by
    refine ⟨_, rfl, ?_, ?_⟩ <;> split <;> omega
  have hT : T_learn_16 fu t (nI k) (bI b) (nI 0) (nI 0) = T_learn_62 t2 (bI b) (nI (rk U 26)) (nI n) := by
    have e0 : nI (rk U 0) = nI 0 := rfl
    rw [e0] at a3
    refine a3.trans ?_
    simp only [p_le (show rk U 26 < 2147483648 by omega) (show k < 2147483648 by omega)]
    by_cases h1 : rk U 26 ≤ k
    · rw [if_pos h1, hn, if_pos h1]
    · rw [if_neg h1, hn, if_neg h1]
  obtain ⟨mm, emm⟩ : ∃ mm : Nat → Nat, mm = fun i => (t2.1 30 i).toNatClampNeg := ⟨_, rfl⟩
  have hm1 : ∀ l, l < 26 → U.testBit l = true → mm (rk U l) = l := fun l hl h => by
    rw [emm]
    show (t2.1 30 (rk U l)).toNatClampNeg = l
    rw [a2 l hl h, nI_clamp (by omega)]
  have hm2 : ∀ i, i < rk U 26 → mm i < 26 ∧ t2.1 30 i = nI (mm i) := fun i hi => by
    obtain ⟨l, g1, g2, g3⟩ := ctN_kth 26 hi
    have g4 : rk U l = i := g3
    rw [← g4, hm1 l g1 g2]
    exact ⟨g1, a2 l g1 g2⟩
  obtain ⟨t3, f1, f2, f3⟩ := T_firstRow_s (t := t2) (n := n) (by omega)
  have lpC : ∀ j i, i + j = nA (t.1 0) 0 → ∀ g, j < g → C_learn_p16 g c (nI k) (bI b) (nI (orN (fun w => wset (t.1 0) w) i)) (nI i) = C_learn_p16 1 c (nI k) (bI b) (nI U) (nI (nA (t.1 0) 0)) := by
    intro j
    induction j with
    | zero =>
      intro i hi g hg
      obtain ⟨g, rfl⟩ : ∃ m, g = m + 1 := ⟨g - 1, by omega⟩
      obtain rfl : i = nA (t.1 0) 0 := by omega
      unfold C_learn_p16
      simp (disch := omega) only [p_lit, p_mul, nI_add, nI_1, p_ck, p_cl, p_b1, p_b2, p_l1, p_le, p_lt, p_eq, p_shlN, p_shrN, p_or, p_and, p_xor, p_m1, p_m1', p_m0, p_ge0, p_zr, p_zr0, p_zr1, p_b0, p_b1', if_pos, if_neg, if_true, if_false, Bool.true_eq_false, Bool.false_eq_true, eq_self, hc.2.2.2.1.1, hW.1.1]
      rw [hU]; rfl
    | succ j ih =>
      intro i hi g hg
      obtain ⟨g, rfl⟩ : ∃ m, g = m + 1 := ⟨g - 1, by omega⟩
      have h2 := ih (i + 1) (by omega) g (by omega)
      obtain ⟨q, q1, q2⟩ := hc.2.2.2.1.get (show i < nA (t.1 0) 0 by omega)
      conv => lhs; unfold C_learn_p16
      simp (disch := omega) only [p_lit, p_mul, nI_add, nI_1, p_ck, p_cl, p_b1, p_b2, p_l1, p_le, p_lt, p_eq, p_shlN, p_shrN, p_or, p_and, p_xor, p_m1, p_m1', p_m0, p_ge0, p_zr, p_zr0, p_zr1, p_b0, p_b1', if_pos, if_neg, if_true, if_false, Bool.true_eq_false, Bool.false_eq_true, eq_self, hc.2.2.2.1.1, hW.1.1, q1, p_ckC q2.c, q2.bits]
      exact h2
  have eC := lpC (nA (t.1 0) 0) 0 (by omega) fu (by unfold fu; omega)
  rw [show orN (fun w => wset (t.1 0) w) 0 = 0 from rfl] at eC
  have hsc : Sc c (ci_ c 0 19 (-nI 1)) := Sc.ci0 (by decide)
  obtain ⟨c1, s1, k1, k2, k3, k4⟩ := (C_learns_it (A := t.1 0) (n := n) hn4 hUl hm1 (fun i hi => (hm2 i hi).1) 26 (Nat.le_refl _)).1 n (Nat.le_refl _) (fun _ => 0) (ci_ c 0 19 (-nI 1)) none 64 (fun j hj => by omega) (hc.sc hsc) ci_e (by omega)
  rw [show rk U (26 - 26) = 0 from rfl, Nat.sub_zero] at k2
  rw [show 26 - 26 = 0 from rfl, Nat.sub_self, show setM mm (fun _ => 0) 0 = 0 from rfl] at k1
  obtain ⟨f, hf, hf2⟩ : ∃ f, chs (rk U 26) n ≤ f ∧ f < fu := ⟨14950, chs_le _ hof n hn4, by unfold fu; omega⟩
  have e1 := it_all (N := rk U 26) (n := n) (leS_ext (A := t.1 0) (mm := mm) (n := n)) hnof (fun _ => 0) none hf
  rw [k2] at e1
  obtain ⟨t4, j1, j2⟩ := T_learn_it (A := t.1 0) (b := b) (mm := mm) hn4 hnof hof hW (fun i hi => (hm2 i hi).1) f (fun j => j) t3 none s1 (f2.st.1.trans a1.1) (fun i hi => by rw [f2 30 (by decide)]; exact (hm2 i hi).2) (Bd.first hnof) f3 trivial e1 fu hf2
  obtain ⟨q, rfl⟩ := itT_some f _ _ _ e1
  rw [hT, eC]
  unfold T_learn_62 C_learn_p16
  simp (disch := omega) only [p_lit, p_mul, nI_add, nI_1, p_ck, p_cl, p_b1, p_b2, p_l1, p_le, p_lt, p_eq, p_shlN, p_shrN, p_or, p_and, p_xor, p_m1, p_m1', p_m0, p_ge0, p_zr, p_zr0, p_zr1, p_b0, p_b1', if_pos, if_neg, if_true, if_false, Bool.true_eq_false, Bool.false_eq_true, eq_self, f1, hc.2.2.2.1.1, hW.1.1, J_bits_s hUl]
  refine ⟨if b then nI q.1 else nI q.2, t4, c1, ?_, ?_, (a1.tr f2.st).tr j1, hsc.tr k3⟩
  · exact j2
  · have hmin : (if cnt1 U < k then nI (cnt1 U) else nI k) = nI n := by
      rw [hn, show cnt1 U = rk U 26 from rfl]
      by_cases h1 : rk U 26 < k
      · rw [if_pos h1, if_pos (by omega)]
      · rw [if_neg h1]
        by_cases h2 : rk U 26 ≤ k
        · rw [if_pos h2]; congr 1; omega
        · rw [if_neg h2]
    have hcn := cnt1_le (s := U)
    simp (disch := omega) only [p_lit, p_mul, nI_add, nI_1, p_ck, p_cl, p_b1, p_b2, p_l1, p_le, p_lt, p_eq, p_shlN, p_shrN, p_or, p_and, p_xor, p_m1, p_m1', p_m0, p_ge0, p_zr, p_zr0, p_zr1, p_b0, p_b1', if_pos, if_neg, if_true, if_false, Bool.true_eq_false, Bool.false_eq_true, eq_self, hmin, k1]
    cases b
    · simp (disch := omega) only [p_lit, p_mul, nI_add, nI_1, p_ck, p_cl, p_b1, p_b2, p_l1, p_le, p_lt, p_eq, p_shlN, p_shrN, p_or, p_and, p_xor, p_m1, p_m1', p_m0, p_ge0, p_zr, p_zr0, p_zr1, p_b0, p_b1', if_pos, if_neg, if_true, if_false, Bool.true_eq_false, Bool.false_eq_true, eq_self]
      rw [k4.2.1]
    · simp (disch := omega) only [p_lit, p_mul, nI_add, nI_1, p_ck, p_cl, p_b1, p_b2, p_l1, p_le, p_lt, p_eq, p_shlN, p_shrN, p_or, p_and, p_xor, p_m1, p_m1', p_m0, p_ge0, p_zr, p_zr0, p_zr1, p_b0, p_b1', if_pos, if_neg, if_true, if_false, Bool.true_eq_false, Bool.false_eq_true, eq_self]
      rw [k4.1]
end PK
