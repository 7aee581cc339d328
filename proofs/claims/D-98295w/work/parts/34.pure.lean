/-! the component's readers of words, letters, sayings -/
set_option maxRecDepth 20000
theorem oI_some {f : Nat} : oI (some f) = nI f := rfl
theorem g_I {c : CS} {r ci k : Nat} {fs : List Value} {v : Int32} (h : c.2.2.1 r = some (.inr (ci, fs))) (hv : fs[k]? = some (.int v)) : gI c r ci k = some v := by
  unfold gI gV
  rw [h]
  simp only [if_true, hv]
theorem g_R {c : CS} {r ci k : Nat} {fs : List Value} {v : Nat} (h : c.2.2.1 r = some (.inr (ci, fs))) (hv : fs[k]? = some (.ref v)) : gR c r ci k = some v := by
  unfold gR gV
  rw [h]
  simp only [if_true, hv]
theorem g_C {c : CS} {r ci : Nat} {fs : List Value} (h : c.2.2.1 r = some (.inr (ci, fs))) : gC c r = some ci := by
  unfold gC
  rw [h]
theorem g_N {c : CS} {r n : Nat} {f : Nat → Int32} (h : c.2.2.1 r = some (.inl (0, n, .inl f))) : aN c r = some n := by
  unfold aN
  rw [h]
  exact if_pos ⟨show 0 < 8 by decide, Or.inl rfl⟩
theorem g_A {c : CS} {r n k : Nat} {f : Nat → Int32} (h : c.2.2.1 r = some (.inl (0, n, .inl f))) (hk : k < n) (hn : n < 2147483648) : aI c r (nI k) = some (f k) := by
  unfold aI
  rw [h]
  show (if nI k < 0 ∨ n ≤ (nI k).toNatClampNeg then none else some (f (nI k).toNatClampNeg)) = _
  rw [if_neg (nI_in hk hn), nI_clamp (by omega)]
theorem p_ckC {α : Type} {c : CS} {r ci : Nat} {x : Option α} (h : gC c r = some ci) : ckC c r ci x = x := if_pos h
def canC (A : Nat → Int32) (m w : Nat) : Bool := decide (wset A w &&& m = 0)
def WdC (A : Nat → Int32) (c : CS) (r w : Nat) : Prop := ∃ (q : Nat) (f : Nat → Int32), c.2.2.1 r = some (.inr (3, [.ref q, .int (nI (wset A w)), .int (nI (wse A w))])) ∧ c.2.2.1 q = some (.inl (0, wln A w, .inl f)) ∧ ∀ k, k < wln A w → f k = nI (wlt A w k)
theorem WdC.c {A : Nat → Int32} {c : CS} {r w : Nat} (h : WdC A c r w) : gC c r = some 3 := by
  obtain ⟨q, f, h1, -⟩ := h
  exact g_C h1
theorem WdC.bits {A : Nat → Int32} {c : CS} {r w : Nat} (h : WdC A c r w) : C_X3_bits c r = some (nI (wset A w)) := by
  obtain ⟨q, f, h1, -⟩ := h
  unfold C_X3_bits
  rw [g_I h1 (k := 1) rfl]; rfl
theorem WdC.sense {A : Nat → Int32} {c : CS} {r w : Nat} (h : WdC A c r w) : C_X3_sense c r = some (nI (wse A w)) := by
  obtain ⟨q, f, h1, -⟩ := h
  unfold C_X3_sense
  rw [g_I h1 (k := 2) rfl]; rfl
theorem WdC.length {A : Nat → Int32} {c : CS} {r w : Nat} (h : WdC A c r w) : C_X3_length c r = some (nI (wln A w)) := by
  obtain ⟨q, f, h1, h2, -⟩ := h
  unfold C_X3_length
  rw [g_R h1 (k := 0) rfl, p_b1, g_N h2]; rfl
theorem WdC.letter {A : Nat → Int32} {c : CS} {r w : Nat} (h : WdC A c r w) (hw : Wd A w) : ∃ q, C_X3_letter c r = some q ∧ aN c q = some (wln A w) ∧ ∀ k, k < wln A w → aI c q (nI k) = some (nI (wlt A w k)) := by
  obtain ⟨q, f, h1, h2, h3⟩ := h
  have := hw.ln
  refine ⟨q, ?_, g_N h2, fun k hk => ?_⟩
  · unfold C_X3_letter
    rw [g_R h1 (k := 0) rfl]; rfl
  · rw [g_A h2 hk (by omega), h3 k hk]
def RWd (A : Nat → Int32) (c : CS) (o : Nat) : Prop := c.1 o 0 = A 0 ∧ ∀ w, w < nA A 0 → ∃ r, c.2.1 (o + 4) w = some r ∧ WdC A c r w
def RSy (A : Nat → Int32) (c : CS) (o : Nat) : Prop := c.1 o 1 = A 1 ∧ ∀ s, s < nA A 1 → ∃ (r : Nat) (f : Nat → Int32), c.2.1 (o + 5) s = some r ∧ c.2.2.1 r = some (.inl (0, sln A s, .inl f)) ∧ ∀ k, k < sln A s → f k = nI (sse A s k)
def RRw (f : Nat → Int32) (A : Nat → Int32) : Prop := f 0 = A 7 ∧ f 1 = A 2 ∧ f 2 = A 3 ∧ (∀ l, l < 26 → f (3 + l) = A (38 + l) ∧ f (29 + l) = A (12 + l) ∧ f (55 + l) = A (64 + l)) ∧ f 81 = A 10 ∧ ∀ i j, i < nA A 10 → j < 11 → f (82 + 11 * i + j) = A (428 + 11 * i + j)
theorem RWd.get {A : Nat → Int32} {c : CS} (h : RWd A c 2) {w : Nat} (hw : w < nA A 0) : ∃ r, c.2.1 6 w = some r ∧ WdC A c r w := h.2 w hw
theorem RSy.get {A : Nat → Int32} {c : CS} (h : RSy A c 2) {s : Nat} (hs : s < nA A 1) (hS : Sy A s) : ∃ r, c.2.1 7 s = some r ∧ aN c r = some (sln A s) ∧ ∀ k, k < sln A s → aI c r (nI k) = some (nI (sse A s k)) := by
  obtain ⟨r, f, h1, h2, h3⟩ := h.2 s hs
  have : sln A s ≤ 8 := hS.1.2
  exact ⟨r, h1, g_N h2, fun k hk => by rw [g_A h2 hk (by omega), h3 k hk]⟩
section PC
variable {A : Nat → Int32} {c : CS} {w : Nat}
theorem C_isOut_s {l : Nat} (hl : l < 26) (h7 : IvN A 7 67108863) (hr : RRw (c.1 3) A) : C_X1_isOut c (nI l) = some (bI (outB A l)) := by
  have := h7.2
  unfold C_X1_isOut
  simp (disch := omega) only [p_lit, p_mul, nI_add, nI_1, p_ck, p_cl, p_b1, p_b2, p_l1, p_le, p_lt, p_eq, p_shlN, p_shrN, p_or, p_and, p_xor, p_m1, p_m1', p_m0, p_ge0, p_zr, p_zr0, p_zr1, p_b0, p_b1', if_pos, if_neg, if_true, if_false, Bool.true_eq_false, Bool.false_eq_true, eq_self, hr.1, h7.1, p_has]
  rfl
theorem C_silent_lp (hL : Lts A) (hr : RRw (c.1 3) A) : ∀ k i, i + k = 26 → ∀ n, k < n → C_X1_silent_p4 c n (nI (orN (fun l => if mutB A l then 2 ^ l else 0) i)) (nI i) = some (nI (silN A)) := by
  intro k
  induction k with
  | zero =>
    intro i hi n hn
    obtain ⟨n, rfl⟩ : ∃ m, n = m + 1 := ⟨n - 1, by omega⟩
    unfold C_X1_silent_p4
    simp (disch := omega) only [p_lit, p_mul, nI_add, nI_1, p_ck, p_cl, p_b1, p_b2, p_l1, p_le, p_lt, p_eq, p_shlN, p_shrN, p_or, p_and, p_xor, p_m1, p_m1', p_m0, p_ge0, p_zr, p_zr0, p_zr1, p_b0, p_b1', if_pos, if_neg, if_true, if_false, Bool.true_eq_false, Bool.false_eq_true, eq_self]
    unfold silN
    rw [← hi]; rfl
  | succ k ih =>
    intro i hi n hn
    obtain ⟨n, rfl⟩ : ∃ m, n = m + 1 := ⟨n - 1, by omega⟩
    unfold C_X1_silent_p4
    have h2 := ih (i + 1) (by omega) n (by omega)
    unfold orN at h2
    simp (disch := omega) only [p_lit, p_mul, nI_add, nI_1, p_ck, p_cl, p_b1, p_b2, p_l1, p_le, p_lt, p_eq, p_shlN, p_shrN, p_or, p_and, p_xor, p_m1, p_m1', p_m0, p_ge0, p_zr, p_zr0, p_zr1, p_b0, p_b1', if_pos, if_neg, if_true, if_false, Bool.true_eq_false, Bool.false_eq_true, eq_self, C_isOut_s (show i < 26 by omega) hL.1 hr, (hr.2.2.2.1 i (by omega)).2.2]
    unfold C_X1_silent_p38 C_X1_silent_p39
    simp (disch := omega) only [p_lit, p_mul, nI_add, nI_1, p_ck, p_cl, p_b1, p_b2, p_l1, p_le, p_lt, p_eq, p_shlN, p_shrN, p_or, p_and, p_xor, p_m1, p_m1', p_m0, p_ge0, p_zr, p_zr0, p_zr1, p_b0, p_b1', if_pos, if_neg, if_true, if_false, Bool.true_eq_false, Bool.false_eq_true, eq_self]
    cases hb : outB A i
    · have hm : mutB A i = false := by unfold mutB; rw [hb]; rfl
      rw [hm] at h2
      simp (disch := omega) only [p_lit, p_mul, nI_add, nI_1, p_ck, p_cl, p_b1, p_b2, p_l1, p_le, p_lt, p_eq, p_shlN, p_shrN, p_or, p_and, p_xor, p_m1, p_m1', p_m0, p_ge0, p_zr, p_zr0, p_zr1, p_b0, p_b1', if_pos, if_neg, if_true, if_false, Bool.true_eq_false, Bool.false_eq_true, eq_self]
      exact h2
    · simp (disch := omega) only [p_lit, p_mul, nI_add, nI_1, p_ck, p_cl, p_b1, p_b2, p_l1, p_le, p_lt, p_eq, p_shlN, p_shrN, p_or, p_and, p_xor, p_m1, p_m1', p_m0, p_ge0, p_zr, p_zr0, p_zr1, p_b0, p_b1', if_pos, if_neg, if_true, if_false, Bool.true_eq_false, Bool.false_eq_true, eq_self]
      by_cases hs : A (64 + i) = -1
      · have hm : mutB A i = true := by unfold mutB; rw [hb, hs]; rfl
        rw [hm] at h2
        refine (if_pos (show A (64 + i) = -nI 1 from hs)).trans ?_
        exact h2
      · have hm : mutB A i = false := by unfold mutB; rw [hb, decide_eq_false hs]; rfl
        rw [hm] at h2
        refine (if_neg (show ¬ A (64 + i) = -nI 1 from hs)).trans ?_
        exact h2
theorem C_silent_s (hL : Lts A) (hr : RRw (c.1 3) A) : C_X1_silent c = some (nI (silN A)) := C_silent_lp hL hr 26 0 rfl fu (by unfold fu; omega)
theorem C_can_s {m : Nat} (hW : Wds A) (hc : RWd A c 2) (hw : w < nA A 0) (hm : m < 67108864) : C_can c (nI w) (nI m) = some (bI (decide (wset A w &&& m = 0))) := by
  have h0 := hW.1.2
  obtain ⟨r, h1, h2⟩ := hc.get hw
  have h3 := (hW.2 w hw).set
  have h5 : wset A w &&& m < 67108864 := Nat.and_lt_two_pow (n := 26) _ hm
  unfold C_can
  simp (disch := omega) only [p_lit, p_mul, nI_add, nI_1, p_ck, p_cl, p_b1, p_b2, p_l1, p_le, p_lt, p_eq, p_shlN, p_shrN, p_or, p_and, p_xor, p_m1, p_m1', p_m0, p_ge0, p_zr, p_zr0, p_zr1, p_b0, p_b1', if_pos, if_neg, if_true, if_false, Bool.true_eq_false, Bool.false_eq_true, eq_self, h1, p_ckC h2.c, h2.bits]
  by_cases hz : wset A w &&& m = 0
  · rw [if_pos hz, decide_eq_true hz]; rfl
  · rw [if_neg hz, decide_eq_false hz]; rfl
theorem C_wordFor_lp {s m : Nat} (hs : s < 10) (hm : m < 67108864) (hW : Wds A) (hc : RWd A c 2) : ∀ k i, i + k = nA A 0 → ∀ n, k < n → C_wordFor_p5 c n (nI s) (nI m) (oI (wfN A (canC A m) s i)) (nI i) = some (oI (wfN A (canC A m) s (nA A 0))) := by
  have h0 := hW.1.2
  intro k
  induction k with
  | zero =>
    intro i hi n hn
    obtain ⟨n, rfl⟩ : ∃ m, n = m + 1 := ⟨n - 1, by omega⟩
    unfold C_wordFor_p5
    simp (disch := omega) only [p_lit, p_mul, nI_add, nI_1, p_ck, p_cl, p_b1, p_b2, p_l1, p_le, p_lt, p_eq, p_shlN, p_shrN, p_or, p_and, p_xor, p_m1, p_m1', p_m0, p_ge0, p_zr, p_zr0, p_zr1, p_b0, p_b1', if_pos, if_neg, if_true, if_false, Bool.true_eq_false, Bool.false_eq_true, eq_self, hc.1, hW.1.1]
    rw [← hi]; rfl
  | succ k ih =>
    intro i hi n hn
    obtain ⟨n, rfl⟩ : ∃ m, n = m + 1 := ⟨n - 1, by omega⟩
    unfold C_wordFor_p5
    have hw := hW.2 i (by omega)
    have h1 := hw.se
    have h2 := ih (i + 1) (by omega) n (by omega)
    have h3 := hw.ln
    obtain ⟨r, hr1, hr2⟩ := hc.get (show i < nA A 0 by omega)
    simp (disch := omega) only [p_lit, p_mul, nI_add, nI_1, p_ck, p_cl, p_b1, p_b2, p_l1, p_le, p_lt, p_eq, p_shlN, p_shrN, p_or, p_and, p_xor, p_m1, p_m1', p_m0, p_ge0, p_zr, p_zr0, p_zr1, p_b0, p_b1', if_pos, if_neg, if_true, if_false, Bool.true_eq_false, Bool.false_eq_true, eq_self, hc.1, hW.1.1, hr1, p_ckC hr2.c, hr2.sense]
    rw [wfN_succ] at h2
    unfold wfS at h2
    by_cases hse : wse A i = s
    · rw [if_pos hse]
      rw [if_pos hse] at h2
      simp (disch := omega) only [p_lit, p_mul, nI_add, nI_1, p_ck, p_cl, p_b1, p_b2, p_l1, p_le, p_lt, p_eq, p_shlN, p_shrN, p_or, p_and, p_xor, p_m1, p_m1', p_m0, p_ge0, p_zr, p_zr0, p_zr1, p_b0, p_b1', if_pos, if_neg, if_true, if_false, Bool.true_eq_false, Bool.false_eq_true, eq_self, C_can_s hW hc (show i < nA A 0 by omega) hm]
      unfold C_wordFor_p79 C_wordFor_p82
      by_cases hz : wset A i &&& m = 0
      · rw [decide_eq_true hz]
        rw [show canC A m i = true from decide_eq_true hz, if_pos rfl] at h2
        simp (disch := omega) only [p_lit, p_mul, nI_add, nI_1, p_ck, p_cl, p_b1, p_b2, p_l1, p_le, p_lt, p_eq, p_shlN, p_shrN, p_or, p_and, p_xor, p_m1, p_m1', p_m0, p_ge0, p_zr, p_zr0, p_zr1, p_b0, p_b1', if_pos, if_neg, if_true, if_false, Bool.true_eq_false, Bool.false_eq_true, eq_self, hr2.length]
        cases ho : wfN A (canC A m) s i with
        | none =>
          rw [ho] at h2
          rw [if_pos (show oI none = -nI 1 by rfl)]
          exact h2
        | some f =>
          rw [ho] at h2
          have hf := wfN_lt i ho
          have hwf := hW.2 f (by omega)
          have := hwf.ln
          obtain ⟨q, hq1, hq2⟩ := hc.get (show f < nA A 0 by omega)
          rw [if_neg (show ¬ oI (some f) = -nI 1 from fun e => by have e : nI f = -1 := e; rw [p_m1 (by omega)] at e; exact e)]
          show ck (nI f) 24 _ = _
          simp (disch := omega) only [p_lit, p_mul, nI_add, nI_1, p_ck, p_cl, p_b1, p_b2, p_l1, p_le, p_lt, p_eq, p_shlN, p_shrN, p_or, p_and, p_xor, p_m1, p_m1', p_m0, p_ge0, p_zr, p_zr0, p_zr1, p_b0, p_b1', if_pos, if_neg, if_true, if_false, Bool.true_eq_false, Bool.false_eq_true, eq_self, oI_some, hq1, p_ckC hq2.c, hq2.length]
          by_cases hlt : wln A i < wln A f
          · rw [if_neg (by omega)]
            dsimp only at h2
            rw [if_pos hlt] at h2
            exact h2
          · rw [if_pos (by omega)]
            dsimp only at h2
            rw [if_neg hlt] at h2
            exact h2
      · rw [decide_eq_false hz]
        rw [show canC A m i = false from decide_eq_false hz, if_neg (by decide)] at h2
        simp (disch := omega) only [p_lit, p_mul, nI_add, nI_1, p_ck, p_cl, p_b1, p_b2, p_l1, p_le, p_lt, p_eq, p_shlN, p_shrN, p_or, p_and, p_xor, p_m1, p_m1', p_m0, p_ge0, p_zr, p_zr0, p_zr1, p_b0, p_b1', if_pos, if_neg, if_true, if_false, Bool.true_eq_false, Bool.false_eq_true, eq_self]
        exact h2
    · rw [if_neg hse]
      rw [if_neg hse] at h2
      unfold C_wordFor_p82
      simp (disch := omega) only [p_lit, p_mul, nI_add, nI_1, p_ck, p_cl, p_b1, p_b2, p_l1, p_le, p_lt, p_eq, p_shlN, p_shrN, p_or, p_and, p_xor, p_m1, p_m1', p_m0, p_ge0, p_zr, p_zr0, p_zr1, p_b0, p_b1', if_pos, if_neg, if_true, if_false, Bool.true_eq_false, Bool.false_eq_true, eq_self]
      exact h2
theorem C_wordFor_s {s m : Nat} (hs : s < 10) (hm : m < 67108864) (hW : Wds A) (hc : RWd A c 2) : C_wordFor c (nI s) (nI m) = some (oI (wfN A (canC A m) s (nA A 0))) := by
  have := hW.1.2
  exact C_wordFor_lp hs hm hW hc (nA A 0) 0 (by omega) fu (by unfold fu; omega)
/-- the component's scratch -/
def Sc (c c1 : CS) : Prop := (∀ k, 0 < k → k < 106 → c1.1 k = c.1 k) ∧ (∀ j, j < 6 → c1.1 0 j = c.1 0 j) ∧ c1.2 = c.2
theorem Sc.rf : Sc c c := ⟨fun _ _ _ => rfl, fun _ _ => rfl, rfl⟩
theorem Sc.tr {c1 c2 : CS} (h : Sc c c1) (h2 : Sc c1 c2) : Sc c c2 := ⟨fun k h3 h4 => (h2.1 k h3 h4).trans (h.1 k h3 h4), fun j hj => (h2.2.1 j hj).trans (h.2.1 j hj), h2.2.2.trans h.2.2⟩
theorem ci_n {z k j : Nat} {v : Int32} (h : z ≠ k) : (ci_ c k j v).1 z = c.1 z := funext fun x => if_neg h
theorem ci_e {k j : Nat} {v : Int32} : (ci_ c k j v).1 k j = v := by
  show (if k = k then (if j = j then v else c.1 k j) else c.1 k j) = v
  rw [if_pos rfl, if_pos rfl]
theorem ci_ne {k j z : Nat} {v : Int32} (h : z ≠ j) : (ci_ c k j v).1 k z = c.1 k z := by
  show (if k = k then (if z = j then v else c.1 k z) else c.1 k z) = c.1 k z
  rw [if_pos rfl, if_neg h]
theorem ca_n {z k : Nat} {f : Nat → Int32} (h : z ≠ k) : (ca_ c k f).1 z = c.1 z := funext fun x => if_neg h
theorem Sc.ci {k j : Nat} {v : Int32} (h : 106 ≤ k) : Sc c (ci_ c k j v) := ⟨fun z _ h2 => ci_n (by omega), fun z _ => by rw [ci_n (by omega)], rfl⟩
theorem Sc.ci0 {j : Nat} {v : Int32} (h : 6 ≤ j) : Sc c (ci_ c 0 j v) := ⟨fun z h1 h2 => ci_n (by omega), fun z h1 => ci_ne (by omega), rfl⟩
theorem Sc.ca {k : Nat} {f : Nat → Int32} (h : 106 ≤ k) : Sc c (ca_ c k f) := ⟨fun z _ h2 => ca_n (by omega), fun z _ => by rw [ca_n (by omega)], rfl⟩
theorem WdC.sc {c1 : CS} {r : Nat} (h : WdC A c r w) (hs : c1.2 = c.2) : WdC A c1 r w := by
  unfold WdC
  rw [hs]
  exact h
theorem RWd.sc {c1 : CS} (h : RWd A c 2) (hs : Sc c c1) : RWd A c1 2 := by
  refine ⟨by rw [hs.1 2 (by omega) (by omega)]; exact h.1, fun w hw => ?_⟩
  rw [hs.2.2]
  obtain ⟨r, h1, h2⟩ := h.2 w hw
  exact ⟨r, h1, h2.sc hs.2.2⟩
theorem RSy.sc {c1 : CS} (h : RSy A c 2) (hs : Sc c c1) : RSy A c1 2 := by
  refine ⟨by rw [hs.1 2 (by omega) (by omega)]; exact h.1, fun w hw => ?_⟩
  rw [hs.2.2]
  exact h.2 w hw
/-- says: the words of it are laid down -/
def spk (A : Nat → Int32) (m s : Nat) (k : Nat) : Option Nat := wfN A (canC A m) (sse A s k) (nA A 0)
def saC (A : Nat → Int32) (m s : Nat) : Bool := saB A (canC A m) s
theorem alN_succ {p : Nat → Bool} {n : Nat} : alN p (n + 1) = (alN p n && p n) := rfl
theorem C_says_lp {s m r : Nat} (hm : m < 67108864) (hW : Wds A) (hS : Sy A s) : ∀ k i, i + k = sln A s → ∀ (c : CS), RWd A c 2 → aN c r = some (sln A s) → (∀ k, k < sln A s → aI c r (nI k) = some (nI (sse A s k))) → alN (fun k => (spk A m s k).isSome) i = true → (∀ j, j < i → c.1 107 j = oI (spk A m s j)) → ∀ n, k < n → ∃ c1, C_says_p13 n c (nI m) r (nI i) = some (bI (saC A m s), c1) ∧ Sc c c1 ∧ (saC A m s = true → ∀ j, j < sln A s → c1.1 107 j = oI (spk A m s j)) := by
  have h1 : sln A s ≤ 8 := hS.1.2
  have h0 := hW.1.2
  intro k
  induction k with
  | zero =>
    intro i hi c hc hN hI ha hj n hn
    obtain ⟨n, rfl⟩ : ∃ m, n = m + 1 := ⟨n - 1, by omega⟩
    unfold C_says_p13
    simp (disch := omega) only [p_lit, p_mul, nI_add, nI_1, p_ck, p_cl, p_b1, p_b2, p_l1, p_le, p_lt, p_eq, p_shlN, p_shrN, p_or, p_and, p_xor, p_m1, p_m1', p_m0, p_ge0, p_zr, p_zr0, p_zr1, p_b0, p_b1', if_pos, if_neg, if_true, if_false, Bool.true_eq_false, Bool.false_eq_true, eq_self, hN]
    have : saC A m s = true := by unfold saC saB; rw [← hi]; exact ha
    rw [this]
    exact ⟨c, rfl, Sc.rf, fun _ j h => hj j (by omega)⟩
  | succ k ih =>
    intro i hi c hc hN hI ha hj n hn
    obtain ⟨n, rfl⟩ : ∃ m, n = m + 1 := ⟨n - 1, by omega⟩
    unfold C_says_p13
    have h2 : sse A s i ≤ 9 := (hS.2.2 i (by unfold sln at hi; omega)).2
    simp (disch := omega) only [p_lit, p_mul, nI_add, nI_1, p_ck, p_cl, p_b1, p_b2, p_l1, p_le, p_lt, p_eq, p_shlN, p_shrN, p_or, p_and, p_xor, p_m1, p_m1', p_m0, p_ge0, p_zr, p_zr0, p_zr1, p_b0, p_b1', if_pos, if_neg, if_true, if_false, Bool.true_eq_false, Bool.false_eq_true, eq_self, hN, hI i (by omega), C_wordFor_s (show sse A s i < 10 by omega) hm hW hc]
    obtain ⟨c2, e2⟩ : ∃ z, z = ci_ c 107 i (oI (wfN A (canC A m) (sse A s i) (nA A 0))) := ⟨_, rfl⟩
    rw [← e2]
    have hv : c2.1 107 i = oI (spk A m s i) := by rw [e2, ci_e]; rfl
    have hs2 : Sc c c2 := by rw [e2]; exact Sc.ci (by omega)
    rw [hv]
    cases ho : spk A m s i with
    | none =>
      rw [if_pos (show oI none = -nI 1 from rfl)]
      have : saC A m s = false := by unfold saC saB; exact alN_no (i := i) (by show (spk A m s i).isSome = false; rw [ho]; rfl) (by omega)
      rw [this]
      exact ⟨c2, rfl, hs2, fun h => by cases h⟩
    | some f =>
      have hf := wfN_lt _ ho
      rw [if_neg (show ¬ oI (some f) = -nI 1 from fun e => by have e : nI f = -1 := e; rw [p_m1 (by omega)] at e; exact e)]
      obtain ⟨c1, g1, g2, g3⟩ := ih (i + 1) (by omega) c2 (hc.sc hs2) (by unfold aN; rw [hs2.2.2]; exact hN) (fun k hk => by unfold aI; rw [hs2.2.2]; exact hI k hk) (by rw [alN_succ, ha, ho]; rfl) (fun j hj2 => by
        by_cases hji : j = i
        · subst hji; rw [hv]
        · rw [e2, ci_ne hji]
          exact hj j (by omega)) n (by omega)
      exact ⟨c1, g1, hs2.tr g2, g3⟩
theorem C_says_s {s m : Nat} (hm : m < 67108864) (hW : Wds A) (hc : RWd A c 2) (hs : s < nA A 1) (hs8 : nA A 1 ≤ 8) (hS : Sy A s) (hy : RSy A c 2) : ∃ c1, C_says c (nI s) (nI m) = some (bI (saC A m s), c1) ∧ Sc c c1 ∧ (saC A m s = true → ∀ j, j < sln A s → c1.1 107 j = oI (spk A m s j)) := by
  have h1 : sln A s ≤ 8 := hS.1.2
  obtain ⟨r, g1, g2, g3⟩ := hy.get hs hS
  unfold C_says
  simp (disch := omega) only [p_lit, p_mul, nI_add, nI_1, p_ck, p_cl, p_b1, p_b2, p_l1, p_le, p_lt, p_eq, p_shlN, p_shrN, p_or, p_and, p_xor, p_m1, p_m1', p_m0, p_ge0, p_zr, p_zr0, p_zr1, p_b0, p_b1', if_pos, if_neg, if_true, if_false, Bool.true_eq_false, Bool.false_eq_true, eq_self, g1]
  exact C_says_lp hm hW hS (sln A s) 0 (by omega) c hc g2 g3 rfl (fun j h => absurd h (by omega)) fu (by unfold fu; omega)
end PC
