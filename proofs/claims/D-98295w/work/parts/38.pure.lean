/-! stop -/
set_option maxRecDepth 20000
def Bd (N n : Nat) (row : Nat → Nat) : Prop := ∀ j, j < n → row j + n ≤ N + j
theorem lnm_ne {N n d : Nat} {row : Nat → Nat} : ∀ k, lnm N n row k = some d → ¬ row d + n = N + d
  | 0, h => by cases h
  | k + 1, h => by
    unfold lnm at h
    split at h
    · exact lnm_ne k h
    · cases h; assumption
theorem Bd.next {N n : Nat} {row r : Nat → Nat} (h : Bd N n row) (hr : nxF N n row = some r) : Bd N n r := by
  unfold nxF at hr
  obtain ⟨d, h1, rfl⟩ := Option.map_eq_some_iff.mp hr
  have h2 := lnm_lt n h1
  have h3 := lnm_ne n h1
  have h4 := h d h2
  intro j hj
  by_cases h5 : j < d
  · rw [nxR_lt h5]; exact h j hj
  · rw [nxR_ge h5]; omega
theorem Bd.first {N n : Nat} (h : n ≤ N) : Bd N n (fun j => j) := fun j hj => by
  show j + n ≤ N + j
  omega
theorem setR_lt {row : Nat → Nat} {n : Nat} (h : ∀ j, j < n → row j < 26) : setR row n < 67108864 := orN_lt (m := 26) _ fun k hk => p_2lt (h k hk)
theorem setR_ext {r q : Nat → Nat} {n : Nat} (h : ∀ j, j < n → r j = q j) : setR r n = setR q n := orN_cong _ fun k hk => by rw [h k hk]
def stS (A : Nat → Int32) (s n : Nat) (row : Nat → Nat) (_ : Unit) : Nat ⊕ Unit := if saC A (setR row n) s then .inr () else .inl (setR row n)
theorem stS_ext {A : Nat → Int32} {s n : Nat} (r q : Nat → Nat) (u : Unit) (h : ∀ j, j < n → r j = q j) : stS A s n r u = stS A s n q u := by
  unfold stS
  rw [setR_ext h]
theorem itC_P {σ ρ : Type} {N n : Nat} {step : (Nat → Nat) → σ → ρ ⊕ σ} {P : ρ → Prop} (h : ∀ row s r, (∀ j, j < n → row j < N) → step row s = .inl r → P r) : ∀ w m, m ≤ n → w ≤ N → ∀ (row : Nat → Nat) (s : σ) (r : ρ), (∀ j, j < n - m → row j < N) → itC N n step w m row s = .inl r → P r
  | w, 0, _, _, row, s, r, h1, h2 => by
    rw [itC_0] at h2
    exact h row s r h1 h2
  | 0, m + 1, _, _, _, _, _, _, h2 => by cases h2
  | w + 1, m + 1, hm, hw, row, s, r, h1, h2 => by
    unfold itC at h2
    cases e : itC N n step w m (fun j => if j = n - m - 1 then N - w - 1 else row j) s with
    | inl x =>
      rw [e] at h2
      cases h2
      exact itC_P h w m (by omega) (by omega) _ _ r (fun j hj => by
        show (if j = n - m - 1 then N - w - 1 else row j) < N
        by_cases h3 : j = n - m - 1
        · rw [if_pos h3]; omega
        · rw [if_neg h3]; exact h1 j (by omega)) e
    | inr s1 =>
      rw [e] at h2
      exact itC_P h w (m + 1) hm (by omega) row s1 r h1 h2
def oS (r : Nat ⊕ Unit) : Int32 := match r with
  | .inl x => nI x
  | .inr _ => -nI 1
section PH
variable {t : TS} {c : CS} {A : Nat → Int32}
theorem T_stop_it {s n : Nat} {k12 : TS → Int32 → Int32 → Option (Int32 × TS)} (hn : n ≤ 4) (hW : Wds A) (hL : Lts A) (hS : Sy A s) (hs : s < 8) : ∀ f (row : Nat → Nat) (t : TS) (res : Nat ⊕ Unit), t.1 0 = A → Bd 26 n row → Row t n row → itT 26 n (stS A s n) f row () = some res → ∀ g, f < g → ∃ t1, St t t1 ∧ T_stop_24 k12 g t (nI s) (nI n) (nI 1) = (match res with
    | .inl x => some (nI x, t1)
    | .inr _ => k12 t1 (nI s) (nI (n + 1))) := by
  intro f
  induction f with
  | zero => intro row t res hA hB hR h; cases h
  | succ f ih =>
    intro row t res hA hB hR h g hg
    obtain ⟨g, rfl⟩ : ∃ m, g = m + 1 := ⟨g - 1, by omega⟩
    subst hA
    have hr : ∀ j, j < n → row j < 26 := fun j hj => by have := hB j hj; omega
    have hset := setR_lt hr
    have hcs := T_canSay_c (t := t) (s := s) (b := false) (x2 := nI (setR row n)) hs hset (fun _ => rfl) (fun h => by cases h) hW hL hS
    rw [show bI false = nI 0 from rfl] at hcs
    unfold T_stop_24
    obtain ⟨t1, g1, g2, g3⟩ := T_nextRow_s (t := t) (N := 26) (row := row) (show n ≤ 10 by omega) (by omega) (by omega) (fun j hj => by have := hr j hj; omega) hR
    replace g2 := g2.st
    simp (disch := omega) only [p_lit, p_mul, nI_add, nI_1, p_ck, p_cl, p_b1, p_b2, p_l1, p_le, p_lt, p_eq, p_shlN, p_shrN, p_or, p_and, p_xor, p_m1, p_m1', p_m0, p_ge0, p_zr, p_zr0, p_zr1, p_b0, p_b1', if_pos, if_neg, if_true, if_false, Bool.true_eq_false, Bool.false_eq_true, eq_self, T_setOfRow_s (show n ≤ 10 by omega) hr hR, hcs, g1]
    unfold itT stS at h
    cases hsa : saC (t.1 0) (setR row n) s
    · rw [hsa] at h
      cases h
      simp (disch := omega) only [p_lit, p_mul, nI_add, nI_1, p_ck, p_cl, p_b1, p_b2, p_l1, p_le, p_lt, p_eq, p_shlN, p_shrN, p_or, p_and, p_xor, p_m1, p_m1', p_m0, p_ge0, p_zr, p_zr0, p_zr1, p_b0, p_b1', if_pos, if_neg, if_true, if_false, Bool.true_eq_false, Bool.false_eq_true, eq_self]
      exact ⟨t, St.rf, rfl⟩
    · rw [hsa] at h
      rw [if_pos rfl] at h
      simp (disch := omega) only [p_lit, p_mul, nI_add, nI_1, p_ck, p_cl, p_b1, p_b2, p_l1, p_le, p_lt, p_eq, p_shlN, p_shrN, p_or, p_and, p_xor, p_m1, p_m1', p_m0, p_ge0, p_zr, p_zr0, p_zr1, p_b0, p_b1', if_pos, if_neg, if_true, if_false, Bool.true_eq_false, Bool.false_eq_true, eq_self]
      cases hx : nxF 26 n row with
      | none =>
        rw [hx] at h
        have h9 : some (Sum.inr ()) = some res := h
        cases h9
        obtain ⟨g, rfl⟩ : ∃ m, g = m + 1 := ⟨g - 1, by omega⟩
        unfold T_stop_24
        rw [if_pos (show bI (none : Option (Nat → Nat)).isSome = 0 from rfl)]
        refine ⟨t1, g2, ?_⟩
        simp (disch := omega) only [p_lit, p_mul, nI_add, nI_1, p_ck, p_cl, p_b1, p_b2, p_l1, p_le, p_lt, p_eq, p_shlN, p_shrN, p_or, p_and, p_xor, p_m1, p_m1', p_m0, p_ge0, p_zr, p_zr0, p_zr1, p_b0, p_b1', if_pos, if_neg, if_true, if_false, Bool.true_eq_false, Bool.false_eq_true, eq_self]
      | some r =>
        rw [hx] at h
        obtain ⟨t2, k1, k2⟩ := ih r t1 res g2.1 (hB.next hx) (g3 r hx) h g (by omega)
        exact ⟨t2, g2.tr k1, k2⟩
theorem C_stops_it {s n : Nat} (hn : n ≤ 4) (hs : s < nA A 1) : ∀ w, w ≤ 26 → (∀ m, m ≤ n → ∀ (row : Nat → Nat) (c : CS) (F : Nat), (∀ j, j < n - m → row j < 26) → RN A c → m < F → ∃ c1, C_stops F c (nI s) (nI (26 - w)) (nI m) (nI (setR row (n - m))) = some (oS (itC 26 n (stS A s n) w m row ()), c1) ∧ Sc c c1) ∧ (∀ m, m + 1 ≤ n → ∀ (row : Nat → Nat) (c : CS) (F g : Nat), (∀ j, j < n - (m + 1) → row j < 26) → RN A c → m < F → w < g → ∃ c1, C_stops_p24 (C_stops F) g c (nI s) (nI (m + 1)) (nI (setR row (n - (m + 1)))) (nI (26 - w)) = some (oS (itC 26 n (stS A s n) w (m + 1) row ()), c1) ∧ Sc c c1) := by
  have says : ∀ w (row : Nat → Nat) (c : CS) (F : Nat), (∀ j, j < n → row j < 26) → RN A c → 0 < F → ∃ c1, C_stops F c (nI s) (nI (26 - w)) (nI 0) (nI (setR row n)) = some (oS (itC 26 n (stS A s n) w 0 row ()), c1) ∧ Sc c c1 := by
    intro w row c F hr hc hF
    obtain ⟨F, rfl⟩ : ∃ m, F = m + 1 := ⟨F - 1, by omega⟩
    obtain ⟨c1, g1, g2, -⟩ := C_says_s (c := c) (setR_lt hr) hc.1 hc.2.2.2.1 hs hc.2.2.1.1.2 (hc.2.2.1.2 s hs) hc.2.2.2.2.1
    unfold C_stops C_stops_b
    rw [if_pos (show nI 0 = 0 from rfl), g1, itC_0]
    refine ⟨c1, ?_, g2⟩
    unfold stS
    cases saC A (setR row n) s <;> rfl
  have PQ : ∀ w, (∀ m, m + 1 ≤ n → ∀ (row : Nat → Nat) (c : CS) (F g : Nat), (∀ j, j < n - (m + 1) → row j < 26) → RN A c → m < F → w < g → ∃ c1, C_stops_p24 (C_stops F) g c (nI s) (nI (m + 1)) (nI (setR row (n - (m + 1)))) (nI (26 - w)) = some (oS (itC 26 n (stS A s n) w (m + 1) row ()), c1) ∧ Sc c c1) → w ≤ 26 → ∀ m, m ≤ n → ∀ (row : Nat → Nat) (c : CS) (F : Nat), (∀ j, j < n - m → row j < 26) → RN A c → m < F → ∃ c1, C_stops F c (nI s) (nI (26 - w)) (nI m) (nI (setR row (n - m))) = some (oS (itC 26 n (stS A s n) w m row ()), c1) ∧ Sc c c1 := by
    intro w hQ hw m hm row c F hr hc hF
    cases m with
    | zero => exact says w row c F hr hc hF
    | succ m =>
      obtain ⟨F, rfl⟩ : ∃ m, F = m + 1 := ⟨F - 1, by omega⟩
      unfold C_stops C_stops_b
      rw [if_neg (show ¬ nI (m + 1) = 0 from nI_ne0 (by omega) (by omega))]
      exact hQ m hm row c F fu hr hc (by omega) (by unfold fu; omega)
  intro w
  induction w with
  | zero =>
    intro hw
    have hQ : (∀ m, m + 1 ≤ n → ∀ (row : Nat → Nat) (c : CS) (F g : Nat), (∀ j, j < n - (m + 1) → row j < 26) → RN A c → m < F → 0 < g → ∃ c1, C_stops_p24 (C_stops F) g c (nI s) (nI (m + 1)) (nI (setR row (n - (m + 1)))) (nI (26 - 0)) = some (oS (itC 26 n (stS A s n) 0 (m + 1) row ()), c1) ∧ Sc c c1) := by
      intro m hm row c F g hr hc hF hg
      obtain ⟨g, rfl⟩ : ∃ m, g = m + 1 := ⟨g - 1, by omega⟩
      unfold C_stops_p24
      simp (disch := omega) only [p_lit, p_mul, nI_add, nI_1, p_ck, p_cl, p_b1, p_b2, p_l1, p_le, p_lt, p_eq, p_shlN, p_shrN, p_or, p_and, p_xor, p_m1, p_m1', p_m0, p_ge0, p_zr, p_zr0, p_zr1, p_b0, p_b1', if_pos, if_neg, if_true, if_false, Bool.true_eq_false, Bool.false_eq_true, eq_self]
      exact ⟨c, rfl, Sc.rf⟩
    exact ⟨PQ 0 hQ hw, hQ⟩
  | succ w ih =>
    intro hw
    obtain ⟨ihP, ihQ⟩ := ih (by omega)
    have hQ : (∀ m, m + 1 ≤ n → ∀ (row : Nat → Nat) (c : CS) (F g : Nat), (∀ j, j < n - (m + 1) → row j < 26) → RN A c → m < F → w + 1 < g → ∃ c1, C_stops_p24 (C_stops F) g c (nI s) (nI (m + 1)) (nI (setR row (n - (m + 1)))) (nI (26 - (w + 1))) = some (oS (itC 26 n (stS A s n) (w + 1) (m + 1) row ()), c1) ∧ Sc c c1) := by
      intro m hm row c F g hr hc hF hg
      obtain ⟨g, rfl⟩ : ∃ m, g = m + 1 := ⟨g - 1, by omega⟩
      obtain ⟨c1, k1, k2⟩ := ihP m (by omega) (fun j => if j = n - m - 1 then 26 - w - 1 else row j) c F (fun j hj => by
        by_cases h : j = n - m - 1
        · rw [if_pos h]; omega
        · rw [if_neg h]; exact hr j (by omega)) hc hF
      have e1 : setR (fun j => if j = n - m - 1 then 26 - w - 1 else row j) (n - m) = setR row (n - (m + 1)) ||| 2 ^ (26 - (w + 1)) := by
        obtain ⟨d, hd⟩ : ∃ d, n - m = d + 1 := ⟨n - m - 1, by omega⟩
        rw [hd, show n - (m + 1) = d by omega]
        unfold setR
        rw [orN_succ]
        show orN _ d ||| 2 ^ (if d = d + 1 - 1 then 26 - w - 1 else row d) = _
        rw [if_pos (by omega), show 26 - w - 1 = 26 - (w + 1) by omega]
        congr 1
        exact orN_cong _ fun k hk => by
          show 2 ^ (if k = d + 1 - 1 then 26 - w - 1 else row k) = _
          rw [if_neg (by omega)]
      rw [e1] at k1
      unfold C_stops_p24 itC
      simp (disch := omega) only [p_lit, p_mul, nI_add, nI_1, p_ck, p_cl, p_b1, p_b2, p_l1, p_le, p_lt, p_eq, p_shlN, p_shrN, p_or, p_and, p_xor, p_m1, p_m1', p_m0, p_ge0, p_zr, p_zr0, p_zr1, p_b0, p_b1', if_pos, if_neg, if_true, if_false, Bool.true_eq_false, Bool.false_eq_true, eq_self, p_sub (show 1 ≤ m + 1 by omega), Nat.add_sub_cancel, show 26 - (w + 1) + 1 = 26 - w by omega, k1]
      cases hi : itC 26 n (stS A s n) w m (fun j => if j = n - m - 1 then 26 - w - 1 else row j) () with
      | inl x =>
        refine ⟨c1, ?_, k2⟩
        have hx : ¬ oS (.inl x) = -nI 1 := by
          intro e
          have e2 : nI x = -nI 1 := e
          have hx := itC_P (P := fun x => x < 67108864) (fun row u r h1 h2 => by
            unfold stS at h2
            split at h2
            · cases h2
            · cases h2; exact setR_lt h1) w m (by omega) (by omega) _ _ x (fun j hj => by
            show (if j = n - m - 1 then 26 - w - 1 else row j) < 26
            by_cases h : j = n - m - 1
            · rw [if_pos h]; omega
            · rw [if_neg h]; exact hr j (by omega)) hi
          rw [p_nm1 (by omega)] at e2
          exact e2
        rw [if_neg hx]
      | inr u =>
        obtain ⟨c2, k3, k4⟩ := ihQ m hm row c1 F g hr (hc.sc k2) hF (by omega)
        refine ⟨c2, ?_, k2.tr k4⟩
        rw [if_pos (show oS (.inr u) = -nI 1 from rfl)]
        exact k3
    exact ⟨PQ (w + 1) hQ hw, hQ⟩
theorem stop_lp {s : Nat} (hs : s < nA (t.1 0) 1) : ∀ k n, n + k = 5 → ∀ (t1 : TS) (c : CS), St t t1 → RN (t.1 0) c → ∀ f g, k < f → k < g → ∃ r t2 c2, T_stop_12 f t1 (nI s) (nI n) = some (r, t2) ∧ C_stop_p12 g c (nI s) (nI n) = some (r, c2) ∧ St t t2 ∧ Sc c c2 := by
  intro k
  induction k with
  | zero =>
    intro n hn t1 c ht hc f g hf hg
    obtain ⟨f, rfl⟩ : ∃ m, f = m + 1 := ⟨f - 1, by omega⟩
    obtain ⟨g, rfl⟩ : ∃ m, g = m + 1 := ⟨g - 1, by omega⟩
    unfold T_stop_12 C_stop_p12
    simp (disch := omega) only [p_lit, p_mul, nI_add, nI_1, p_ck, p_cl, p_b1, p_b2, p_l1, p_le, p_lt, p_eq, p_shlN, p_shrN, p_or, p_and, p_xor, p_m1, p_m1', p_m0, p_ge0, p_zr, p_zr0, p_zr1, p_b0, p_b1', if_pos, if_neg, if_true, if_false, Bool.true_eq_false, Bool.false_eq_true, eq_self]
    exact ⟨_, t1, c, rfl, rfl, ht, Sc.rf⟩
  | succ k ih =>
    intro n hn t1 c ht hc f g hf hg
    obtain ⟨f, rfl⟩ : ∃ m, f = m + 1 := ⟨f - 1, by omega⟩
    obtain ⟨g, rfl⟩ : ∃ m, g = m + 1 := ⟨g - 1, by omega⟩
    have h8 := hc.2.2.1.1.2
    have hS := hc.2.2.1.2 s hs
    obtain ⟨t2, g1, g2, g3⟩ := T_firstRow_s (t := t1) (n := n) (by omega)
    replace g2 := g2.st
    obtain ⟨c1, k1, k2⟩ := (C_stops_it (A := t.1 0) (n := n) (by omega) hs 26 (Nat.le_refl _)).1 n (Nat.le_refl _) (fun _ => 0) c 64 (fun j hj => by omega) hc (by omega)
    have e1 := it_all (N := 26) (n := n) (stS_ext (A := t.1 0) (s := s) (n := n)) (by omega) (fun _ => 0) () (f := 14950) (chs_le 26 (Nat.le_refl _) n (by omega))
    obtain ⟨t3, j1, j2⟩ := T_stop_it (k12 := T_stop_12 f) (n := n) (by omega) hc.1 hc.2.1 hS (by omega) 14950 (fun j => j) t2 _ (g2.1.trans ht.1) (Bd.first (by omega)) g3 e1 fu (by unfold fu; omega)
    rw [show 26 - 26 = 0 from rfl, show n - n = 0 by omega, show setR (fun _ => 0) 0 = 0 from rfl] at k1
    unfold T_stop_12 C_stop_p12
    simp (disch := omega) only [p_lit, p_mul, nI_add, nI_1, p_ck, p_cl, p_b1, p_b2, p_l1, p_le, p_lt, p_eq, p_shlN, p_shrN, p_or, p_and, p_xor, p_m1, p_m1', p_m0, p_ge0, p_zr, p_zr0, p_zr1, p_b0, p_b1', if_pos, if_neg, if_true, if_false, Bool.true_eq_false, Bool.false_eq_true, eq_self, g1, k1, j2]
    cases hi : itC 26 n (stS (t.1 0) s n) 26 n (fun _ => 0) () with
    | inl x =>
      have hx := itC_P (P := fun x => x < 67108864) (fun row u r h1 h2 => by
            unfold stS at h2
            split at h2
            · cases h2
            · cases h2; exact setR_lt h1) 26 n (Nat.le_refl _) (by omega) _ _ x (fun j hj => by omega) hi
      refine ⟨nI x, t3, c1, rfl, ?_, (ht.tr g2).tr j1, k2⟩
      rw [if_neg (show ¬ oS (.inl x) = -nI 1 from fun e => by have e2 : nI x = -nI 1 := e; rw [p_nm1 (by omega)] at e2; exact e2)]
      rfl
    | inr u =>
      obtain ⟨r, t4, c2, l1, l2, l3, l4⟩ := ih (n + 1) (by omega) t3 c1 ((ht.tr g2).tr j1) (hc.sc k2) f g (by omega) (by omega)
      refine ⟨r, t4, c2, l1, ?_, l3, k2.tr l4⟩
      rw [if_pos (show oS (.inr u) = -nI 1 from rfl)]
      exact l2
theorem h_stop {x1 : Int32} (hc : RN (t.1 0) c) : ∃ r t1 c1, T_stop t x1 = some (r, t1) ∧ C_stop c x1 = some (r, c1) ∧ St t t1 ∧ Sc c c1 := by
  unfold T_stop C_stop
  rcases rgS (c := c) x1 hc.2.2.1 hc.2.2.2.2.1.1 with ⟨h1, h2⟩ | ⟨s, hs, rfl, h1, h2⟩
  · simp (disch := omega) only [p_lit, p_mul, nI_add, nI_1, p_ck, p_cl, p_b1, p_b2, p_l1, p_le, p_lt, p_eq, p_shlN, p_shrN, p_or, p_and, p_xor, p_m1, p_m1', p_m0, p_ge0, p_zr, p_zr0, p_zr1, p_b0, p_b1', if_pos, if_neg, if_true, if_false, Bool.true_eq_false, Bool.false_eq_true, eq_self, h1, h2]
    exact ⟨_, t, c, rfl, rfl, St.rf, Sc.rf⟩
  simp (disch := omega) only [p_lit, p_mul, nI_add, nI_1, p_ck, p_cl, p_b1, p_b2, p_l1, p_le, p_lt, p_eq, p_shlN, p_shrN, p_or, p_and, p_xor, p_m1, p_m1', p_m0, p_ge0, p_zr, p_zr0, p_zr1, p_b0, p_b1', if_pos, if_neg, if_true, if_false, Bool.true_eq_false, Bool.false_eq_true, eq_self, h1, h2]
  exact stop_lp hs 5 0 rfl t c St.rf hc fu fu (by unfold fu; omega) (by unfold fu; omega)
end PH
