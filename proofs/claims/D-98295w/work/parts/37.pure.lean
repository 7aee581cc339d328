/-! rows of letters, the lowest first: the reference's next row against the component's recursion -/
set_option maxRecDepth 20000
/-- the reference's scratch -/
def St (t t1 : TS) : Prop := t1.1 0 = t.1 0 ∧ t1.1 1 = t.1 1 ∧ t1.1 2 = t.1 2 ∧ t1.1 7 = t.1 7 ∧ t1.1 8 = t.1 8 ∧ t1.1 9 = t.1 9 ∧ t1.1 10 = t.1 10
theorem St.rf {t : TS} : St t t := ⟨rfl, rfl, rfl, rfl, rfl, rfl, rfl⟩
theorem St.tr {t t1 t2 : TS} (h : St t t1) (g : St t1 t2) : St t t2 := ⟨g.1.trans h.1, g.2.1.trans h.2.1, g.2.2.1.trans h.2.2.1, g.2.2.2.1.trans h.2.2.2.1, g.2.2.2.2.1.trans h.2.2.2.2.1, g.2.2.2.2.2.1.trans h.2.2.2.2.2.1, g.2.2.2.2.2.2.trans h.2.2.2.2.2.2⟩
theorem si_n {t : TS} {z k j : Nat} {v : Int32} (h : z ≠ k) : (si t k j v).1 z = t.1 z := funext fun x => if_neg h
theorem si_e {t : TS} {k j : Nat} {v : Int32} : (si t k j v).1 k j = v := by
  show (if k = k then (if j = j then v else t.1 k j) else t.1 k j) = v
  rw [if_pos rfl, if_pos rfl]
theorem si_ne {t : TS} {k j z : Nat} {v : Int32} (h : z ≠ j) : (si t k j v).1 k z = t.1 k z := by
  show (if k = k then (if z = j then v else t.1 k z) else t.1 k z) = t.1 k z
  rw [if_pos rfl, if_neg h]
theorem St.si {t : TS} {k j : Nat} {v : Int32} (h : k ∉ [0, 1, 2, 7, 8, 9, 10]) : St t (si t k j v) := by
  simp only [List.mem_cons, List.not_mem_nil, or_false, not_or] at h
  exact ⟨si_n (Ne.symm h.1), si_n (Ne.symm h.2.1), si_n (Ne.symm h.2.2.1), si_n (Ne.symm h.2.2.2.1), si_n (Ne.symm h.2.2.2.2.1), si_n (Ne.symm h.2.2.2.2.2.1), si_n (Ne.symm h.2.2.2.2.2.2)⟩
/-- the row as it stands -/
def Row (t : TS) (n : Nat) (row : Nat → Nat) : Prop := ∀ k, k < n → t.1 29 k = nI (row k)
def lnm (N n : Nat) (row : Nat → Nat) : Nat → Option Nat
  | 0 => none
  | k + 1 => if row k + n = N + k then lnm N n row k else some k
def nxR (row : Nat → Nat) (d : Nat) : Nat → Nat := fun j => if j < d then row j else row d + 1 + (j - d)
def nxF (N n : Nat) (row : Nat → Nat) : Option (Nat → Nat) := (lnm N n row n).map (nxR row)
theorem lnm_lt {N n d : Nat} {row : Nat → Nat} : ∀ k, lnm N n row k = some d → d < k
  | 0, h => by cases h
  | k + 1, h => by
    unfold lnm at h
    split at h
    · have := lnm_lt k h; omega
    · cases h; omega
/-- nothing but the row changes -/
def S29 (t t1 : TS) : Prop := ∀ k, k ≠ 29 → t1.1 k = t.1 k
theorem S29.rf {t : TS} : S29 t t := fun _ _ => rfl
theorem S29.tr {t t1 t2 : TS} (h : S29 t t1) (g : S29 t1 t2) : S29 t t2 := fun k hk => (g k hk).trans (h k hk)
theorem S29.si {t : TS} {j : Nat} {v : Int32} : S29 t (si t 29 j v) := fun k hk => si_n hk
theorem S29.st {t t1 : TS} (h : S29 t t1) : St t t1 := ⟨h 0 (by decide), h 1 (by decide), h 2 (by decide), h 7 (by decide), h 8 (by decide), h 9 (by decide), h 10 (by decide)⟩
section PF
variable {t : TS}
theorem T_firstRow_lp {n v : Nat} (hn : n ≤ 10) : ∀ k i, i + k = n → ∀ (t : TS), Row t i (fun j => j) → ∀ f, k < f → ∃ t1, T_firstRow_2 f t (nI n) (nI i) = some t1 ∧ S29 t t1 ∧ Row t1 n (fun j => j) := by
  intro k
  induction k with
  | zero =>
    intro i hi t hR f hf
    obtain ⟨f, rfl⟩ : ∃ m, f = m + 1 := ⟨f - 1, by omega⟩
    unfold T_firstRow_2
    simp (disch := omega) only [p_lit, p_mul, nI_add, nI_1, p_ck, p_cl, p_b1, p_b2, p_l1, p_le, p_lt, p_eq, p_shlN, p_shrN, p_or, p_and, p_xor, p_m1, p_m1', p_m0, p_ge0, p_zr, p_zr0, p_zr1, p_b0, p_b1', if_pos, if_neg, if_true, if_false, Bool.true_eq_false, Bool.false_eq_true, eq_self]
    exact ⟨t, rfl, S29.rf, fun j hj => hR j (by omega)⟩
  | succ k ih =>
    intro i hi t hR f hf
    obtain ⟨f, rfl⟩ : ∃ m, f = m + 1 := ⟨f - 1, by omega⟩
    unfold T_firstRow_2
    simp (disch := omega) only [p_lit, p_mul, nI_add, nI_1, p_ck, p_cl, p_b1, p_b2, p_l1, p_le, p_lt, p_eq, p_shlN, p_shrN, p_or, p_and, p_xor, p_m1, p_m1', p_m0, p_ge0, p_zr, p_zr0, p_zr1, p_b0, p_b1', if_pos, if_neg, if_true, if_false, Bool.true_eq_false, Bool.false_eq_true, eq_self]
    obtain ⟨t1, g1, g2, g3⟩ := ih (i + 1) (by omega) (si t 29 i (nI i)) (fun j hj => by
      by_cases h : j = i
      · subst h; exact si_e
      · rw [si_ne h]; exact hR j (by omega)) f (by omega)
    exact ⟨t1, g1, S29.si.tr g2, g3⟩
theorem T_firstRow_s {n : Nat} (hn : n ≤ 10) : ∃ t1, T_firstRow t (nI n) = some t1 ∧ S29 t t1 ∧ Row t1 n (fun j => j) :=
  T_firstRow_lp (v := 0) hn n 0 (by omega) t (fun j h => absurd h (by omega)) fu (by unfold fu; omega)
theorem T_next_up {n d : Nat} {row : Nat → Nat} (hn : n ≤ 10) : ∀ k i, i + k = n → d < i → ∀ (t : TS), Row t i (nxR row d) → ∀ f, k < f → ∃ t1, T_nextRow_49 f t (nI n) (nI i) = some (nI 1, t1) ∧ S29 t t1 ∧ Row t1 n (nxR row d) := by
  intro k
  induction k with
  | zero =>
    intro i hi hd t hR f hf
    obtain ⟨f, rfl⟩ : ∃ m, f = m + 1 := ⟨f - 1, by omega⟩
    unfold T_nextRow_49
    simp (disch := omega) only [p_lit, p_mul, nI_add, nI_1, p_ck, p_cl, p_b1, p_b2, p_l1, p_le, p_lt, p_eq, p_shlN, p_shrN, p_or, p_and, p_xor, p_m1, p_m1', p_m0, p_ge0, p_zr, p_zr0, p_zr1, p_b0, p_b1', if_pos, if_neg, if_true, if_false, Bool.true_eq_false, Bool.false_eq_true, eq_self]
    exact ⟨t, rfl, S29.rf, fun j hj => hR j (by omega)⟩
  | succ k ih =>
    intro i hi hd t hR f hf
    obtain ⟨f, rfl⟩ : ∃ m, f = m + 1 := ⟨f - 1, by omega⟩
    unfold T_nextRow_49
    simp (disch := omega) only [p_lit, p_mul, nI_add, nI_1, p_ck, p_cl, p_b1, p_b2, p_l1, p_le, p_lt, p_eq, p_shlN, p_shrN, p_or, p_and, p_xor, p_m1, p_m1', p_m0, p_ge0, p_zr, p_zr0, p_zr1, p_b0, p_b1', if_pos, if_neg, if_true, if_false, Bool.true_eq_false, Bool.false_eq_true, eq_self, p_sub (show 1 ≤ i by omega), hR (i - 1) (by omega)]
    obtain ⟨t1, g1, g2, g3⟩ := ih (i + 1) (by omega) (by omega) (si t 29 i (nI (nxR row d (i - 1) + 1))) (fun j hj => by
      by_cases h : j = i
      · subst h
        rw [si_e]
        congr 1
        unfold nxR
        by_cases h2 : j - 1 < d
        · omega
        · rw [if_neg h2, if_neg (by omega)]; omega
      · rw [si_ne h]; exact hR j (by omega)) f (by omega)
    exact ⟨t1, g1, S29.si.tr g2, g3⟩
theorem T_next_dn {N n : Nat} {row : Nat → Nat} (hn : n ≤ 10) (hN : n ≤ N) (hN2 : N < 1000) (hrow : ∀ j, j < n → row j < 1000) (hR : Row t n row) : ∀ k, k ≤ n → ∀ f, k < f → ∃ t1, T_nextRow_4 f t (nI n) (nI N) (nI k - nI 1) = some (bI (lnm N n row k).isSome, t1) ∧ S29 t t1 ∧ (∀ d, lnm N n row k = some d → Row t1 n (nxR row d)) := by
  intro k
  induction k with
  | zero =>
    intro hk f hf
    obtain ⟨f, rfl⟩ : ∃ m, f = m + 1 := ⟨f - 1, by omega⟩
    unfold T_nextRow_4
    rw [if_pos (show nI 0 - nI 1 < 0 by decide)]
    unfold T_nextRow_28
    rw [if_neg (by decide)]
    exact ⟨t, rfl, S29.rf, fun d h => by cases h⟩
  | succ k ih =>
    intro hk f hf
    obtain ⟨f, rfl⟩ : ∃ m, f = m + 1 := ⟨f - 1, by omega⟩
    unfold T_nextRow_4
    have h1 := hrow k (by omega)
    rw [p_sub (by omega), Nat.add_sub_cancel]
    simp (disch := omega) only [p_lit, p_mul, nI_add, nI_1, p_ck, p_cl, p_b1, p_b2, p_l1, p_le, p_lt, p_eq, p_shlN, p_shrN, p_or, p_and, p_xor, p_m1, p_m1', p_m0, p_ge0, p_zr, p_zr0, p_zr1, p_b0, p_b1', if_pos, if_neg, if_true, if_false, Bool.true_eq_false, Bool.false_eq_true, eq_self, hR k (by omega), p_sub hN]
    unfold lnm
    by_cases hm : row k + n = N + k
    · rw [if_pos (by omega), if_pos hm]
      obtain ⟨t1, g1, g2, g3⟩ := ih (by omega) f (by omega)
      rw [show nI k + -nI 1 = nI k - nI 1 by rw [Int32.sub_eq_add_neg]]
      exact ⟨t1, g1, g2, g3⟩
    · rw [if_neg (by omega), if_neg hm]
      unfold T_nextRow_28
      simp (disch := omega) only [p_lit, p_mul, nI_add, nI_1, p_ck, p_cl, p_b1, p_b2, p_l1, p_le, p_lt, p_eq, p_shlN, p_shrN, p_or, p_and, p_xor, p_m1, p_m1', p_m0, p_ge0, p_zr, p_zr0, p_zr1, p_b0, p_b1', if_pos, if_neg, if_true, if_false, Bool.true_eq_false, Bool.false_eq_true, eq_self, hR k (by omega)]
      obtain ⟨t1, g1, g2, g3⟩ := T_next_up (row := row) (d := k) hn (n - (k + 1)) (k + 1) (by omega) (by omega) (si t 29 k (nI (row k + 1))) (fun j hj => by
        by_cases h : j = k
        · subst h
          rw [si_e]
          unfold nxR
          rw [if_neg (by omega)]; congr 1; omega
        · rw [si_ne h, hR j (by omega)]
          unfold nxR
          rw [if_pos (by omega)]) fu (by unfold fu; omega)
      refine ⟨t1, g1, S29.si.tr g2, fun d h => ?_⟩
      cases h
      exact g3
theorem T_nextRow_s {N n : Nat} {row : Nat → Nat} (hn : n ≤ 10) (hN : n ≤ N) (hN2 : N < 1000) (hrow : ∀ j, j < n → row j < 1000) (hR : Row t n row) : ∃ t1, T_nextRow t (nI n) (nI N) = some (bI (nxF N n row).isSome, t1) ∧ S29 t t1 ∧ (∀ r, nxF N n row = some r → Row t1 n r) := by
  unfold T_nextRow
  obtain ⟨t1, g1, g2, g3⟩ := T_next_dn hn hN hN2 hrow hR n (Nat.le_refl _) fu (by unfold fu; omega)
  refine ⟨t1, ?_, g2, fun r h => ?_⟩
  · simp (disch := omega) only [p_lit, p_mul, nI_add, nI_1, p_ck, p_cl, p_b1, p_b2, p_l1, p_le, p_lt, p_eq, p_shlN, p_shrN, p_or, p_and, p_xor, p_m1, p_m1', p_m0, p_ge0, p_zr, p_zr0, p_zr1, p_b0, p_b1', if_pos, if_neg, if_true, if_false, Bool.true_eq_false, Bool.false_eq_true, eq_self]
    rw [g1]
    unfold nxF
    rw [Option.isSome_map]
  · unfold nxF at h
    obtain ⟨d, h1, rfl⟩ := Option.map_eq_some_iff.mp h
    exact g3 d h1
def setR (row : Nat → Nat) (n : Nat) : Nat := orN (fun k => 2 ^ row k) n
theorem T_setOfRow_lp {n : Nat} {row : Nat → Nat} (hn : n ≤ 10) (hrow : ∀ j, j < n → row j < 26) (hR : Row t n row) : ∀ k i, i + k = n → ∀ f, k < f → T_setOfRow_4 t f (nI n) (nI (setR row i)) (nI i) = some (nI (setR row n)) := by
  intro k
  induction k with
  | zero =>
    intro i hi f hf
    obtain ⟨f, rfl⟩ : ∃ m, f = m + 1 := ⟨f - 1, by omega⟩
    unfold T_setOfRow_4
    simp (disch := omega) only [p_lit, p_mul, nI_add, nI_1, p_ck, p_cl, p_b1, p_b2, p_l1, p_le, p_lt, p_eq, p_shlN, p_shrN, p_or, p_and, p_xor, p_m1, p_m1', p_m0, p_ge0, p_zr, p_zr0, p_zr1, p_b0, p_b1', if_pos, if_neg, if_true, if_false, Bool.true_eq_false, Bool.false_eq_true, eq_self]
    rw [show i = n by omega]
  | succ k ih =>
    intro i hi f hf
    obtain ⟨f, rfl⟩ : ∃ m, f = m + 1 := ⟨f - 1, by omega⟩
    unfold T_setOfRow_4
    have h1 := hrow i (by omega)
    simp (disch := omega) only [p_lit, p_mul, nI_add, nI_1, p_ck, p_cl, p_b1, p_b2, p_l1, p_le, p_lt, p_eq, p_shlN, p_shrN, p_or, p_and, p_xor, p_m1, p_m1', p_m0, p_ge0, p_zr, p_zr0, p_zr1, p_b0, p_b1', if_pos, if_neg, if_true, if_false, Bool.true_eq_false, Bool.false_eq_true, eq_self, hR i (by omega)]
    exact ih (i + 1) (by omega) f (by omega)
theorem T_setOfRow_s {n : Nat} {row : Nat → Nat} (hn : n ≤ 10) (hrow : ∀ j, j < n → row j < 26) (hR : Row t n row) : T_setOfRow t (nI n) = some (nI (setR row n)) :=
  T_setOfRow_lp hn hrow hR n 0 (by omega) fu (by unfold fu; omega)
end PF
/-! both ways to go through all rows -/
section PG
variable {σ ρ : Type}
def itT (N n : Nat) (step : (Nat → Nat) → σ → ρ ⊕ σ) : Nat → (Nat → Nat) → σ → Option (ρ ⊕ σ)
  | 0, _, _ => none
  | f + 1, row, s => match step row s with
    | .inl r => some (.inl r)
    | .inr s1 => match nxF N n row with
      | none => some (.inr s1)
      | some row1 => itT N n step f row1 s1
def itA (N n : Nat) (step : (Nat → Nat) → σ → ρ ⊕ σ) (f : Nat) (row : Nat → Nat) (s : σ) : Option (ρ ⊕ σ) := match nxF N n row with
  | none => some (.inr s)
  | some row1 => itT N n step f row1 s
def itC (N n : Nat) (step : (Nat → Nat) → σ → ρ ⊕ σ) : Nat → Nat → (Nat → Nat) → σ → ρ ⊕ σ
  | _, 0, row, s => step row s
  | 0, _ + 1, _, s => .inr s
  | w + 1, m + 1, row, s => match itC N n step w m (fun j => if j = n - m - 1 then N - w - 1 else row j) s with
    | .inl r => .inl r
    | .inr s1 => itC N n step w (m + 1) row s1
def chs : Nat → Nat → Nat
  | _, 0 => 1
  | 0, _ + 1 => 0
  | w + 1, m + 1 => chs w m + chs w (m + 1)
variable {N n : Nat} {step : (Nat → Nat) → σ → ρ ⊕ σ}
theorem itC_0 {w : Nat} {row : Nat → Nat} {s : σ} : itC N n step w 0 row s = step row s := by cases w <;> rfl
theorem chs_0 {w : Nat} : chs w 0 = 1 := by cases w <;> rfl
theorem itC_no : ∀ w m (row : Nat → Nat) (s : σ), w < m → itC N n step w m row s = .inr s
  | w, 0, _, _, h => by omega
  | 0, m + 1, _, _, _ => rfl
  | w + 1, m + 1, row, s, h => by
    unfold itC
    rw [itC_no w m _ s (by omega)]
    exact itC_no w (m + 1) row s (by omega)
theorem chs_no : ∀ w m, w < m → chs w m = 0
  | w, 0, h => by omega
  | 0, m + 1, _ => rfl
  | w + 1, m + 1, h => by
    unfold chs
    rw [chs_no w m (by omega), chs_no w (m + 1) (by omega)]
theorem itC_ext (hs : ∀ (r q : Nat → Nat) s, (∀ j, j < n → r j = q j) → step r s = step q s) : ∀ w m, m ≤ n → ∀ (r q : Nat → Nat) s, (∀ j, j < n - m → r j = q j) → itC N n step w m r s = itC N n step w m q s
  | w, 0, _, r, q, s, h => by rw [itC_0, itC_0]; exact hs r q s h
  | 0, m + 1, _, r, q, s, h => rfl
  | w + 1, m + 1, hm, r, q, s, h => by
    unfold itC
    rw [itC_ext hs w m (by omega) (fun j => if j = n - m - 1 then N - w - 1 else r j) (fun j => if j = n - m - 1 then N - w - 1 else q j) s (fun j hj => by
      by_cases h1 : j = n - m - 1
      · rw [if_pos h1, if_pos h1]
      · rw [if_neg h1, if_neg h1]; exact h j (by omega))]
    split
    · rfl
    · exact itC_ext hs w (m + 1) hm r q _ h
theorem lnm_ext {r q : Nat → Nat} : ∀ k, (∀ j, j < k → r j = q j) → lnm N n r k = lnm N n q k
  | 0, _ => rfl
  | k + 1, h => by
    unfold lnm
    rw [h k (by omega), lnm_ext k fun j hj => h j (by omega)]
theorem lnm_is {row : Nat → Nat} {d : Nat} : ∀ k, d < k → (∀ j, d < j → j < k → row j + n = N + j) → ¬ row d + n = N + d → lnm N n row k = some d
  | 0, h, _, _ => by omega
  | k + 1, h, h1, h2 => by
    unfold lnm
    by_cases hk : k = d
    · subst hk; rw [if_neg h2]
    · rw [if_pos (h1 k (by omega) (by omega))]
      exact lnm_is k (by omega) (fun j h3 h4 => h1 j h3 (by omega)) h2
theorem lnm_none {row : Nat → Nat} : ∀ k, (∀ j, j < k → row j + n = N + j) → lnm N n row k = none
  | 0, _ => rfl
  | k + 1, h => by
    unfold lnm
    rw [if_pos (h k (by omega))]
    exact lnm_none k fun j hj => h j (by omega)
theorem itT_ext (hs : ∀ (r q : Nat → Nat) s, (∀ j, j < n → r j = q j) → step r s = step q s) : ∀ f (r q : Nat → Nat) s, (∀ j, j < n → r j = q j) → itT N n step f r s = itT N n step f q s
  | 0, _, _, _, _ => rfl
  | f + 1, r, q, s, h => by
    unfold itT nxF
    rw [hs r q s h, lnm_ext n h]
    cases step q s with
    | inl x => rfl
    | inr s1 =>
      cases e : lnm N n q n with
      | none => rfl
      | some d =>
        have := lnm_lt n e
        exact itT_ext hs f _ _ s1 fun j hj => by
          unfold nxR
          rw [h d (by omega)]
          by_cases h1 : j < d
          · rw [if_pos h1, if_pos h1]; exact h j hj
          · rw [if_neg h1, if_neg h1]
theorem itA_ext (hs : ∀ (r q : Nat → Nat) s, (∀ j, j < n → r j = q j) → step r s = step q s) {f : Nat} {r q : Nat → Nat} {s : σ} (h : ∀ j, j < n → r j = q j) : itA N n step f r s = itA N n step f q s := by
  unfold itA nxF
  rw [lnm_ext n h]
  cases e : lnm N n q n with
  | none => rfl
  | some d =>
    have := lnm_lt n e
    exact itT_ext hs f _ _ s fun j hj => by
      unfold nxR
      rw [h d (by omega)]
      by_cases h1 : j < d
      · rw [if_pos h1, if_pos h1]; exact h j hj
      · rw [if_neg h1, if_neg h1]
def lastR (N n m : Nat) (row : Nat → Nat) : Nat → Nat := fun j => if j < n - m then row j else N - n + j
theorem lastR_lt {m : Nat} {row : Nat → Nat} {j : Nat} (h : j < n - m) : lastR N n m row j = row j := if_pos h
theorem lastR_ge {m : Nat} {row : Nat → Nat} {j : Nat} (h : ¬ j < n - m) : lastR N n m row j = N - n + j := if_neg h
theorem nxR_lt {row : Nat → Nat} {d j : Nat} (h : j < d) : nxR row d j = row j := if_pos h
theorem nxR_ge {row : Nat → Nat} {d j : Nat} (h : ¬ j < d) : nxR row d j = row d + 1 + (j - d) := if_neg h
/-- from the first row behind a beginning: all of it, then on from the last -/
theorem it_main (hs : ∀ (r q : Nat → Nat) s, (∀ j, j < n → r j = q j) → step r s = step q s) (hnN : n ≤ N) : ∀ w m, m ≤ w → m ≤ n → w ≤ N → ∀ (row : Nat → Nat) (s : σ) (f : Nat), (∀ j, n - m ≤ j → j < n → row j = N - w + (j - (n - m))) → itT N n step (f + chs w m) row s = (match itC N n step w m row s with
    | .inl r => some (.inl r)
    | .inr s1 => itA N n step f (lastR N n m row) s1)
  | w, 0, _, _, _, row, s, f, _ => by
    rw [chs_0, itC_0]
    unfold itT
    cases step row s with
    | inl r => rfl
    | inr s1 => exact itA_ext hs fun j hj => (lastR_lt (by omega)).symm
  | 0, m + 1, h, _, _, _, _, _, _ => by omega
  | w + 1, m + 1, h, hn, hN, row, s, f, hr => by
    have hd : row (n - m - 1) = N - w - 1 := by rw [hr (n - m - 1) (by omega) (by omega)]; omega
    have e1 := it_main hs hnN w m (by omega) (by omega) (by omega) row s (f + chs w (m + 1)) (fun j h1 h2 => by rw [hr j (by omega) h2]; omega)
    have ec : itC N n step w m (fun j => if j = n - m - 1 then N - w - 1 else row j) s = itC N n step w m row s := itC_ext hs w m (by omega) _ _ s fun j hj => by
      by_cases h1 : j = n - m - 1
      · rw [if_pos h1, h1, hd]
      · rw [if_neg h1]
    unfold chs itC
    rw [ec, show f + (chs w m + chs w (m + 1)) = f + chs w (m + 1) + chs w m by omega, e1]
    cases itC N n step w m row s with
    | inl r => rfl
    | inr s1 =>
      dsimp only
      by_cases hw : m + 1 ≤ w
      · have hl : lnm N n (lastR N n m row) n = some (n - m - 1) := lnm_is n (by omega) (fun j h1 h2 => by
          rw [lastR_ge (by omega)]; omega) (by
          rw [lastR_lt (by omega), hd]; omega)
        have e2 := it_main hs hnN w (m + 1) hw hn (by omega) (nxR (lastR N n m row) (n - m - 1)) s1 f (fun j h1 h2 => by
          rw [nxR_ge (by omega), lastR_lt (by omega), hd]; omega)
        have e3 : itA N n step (f + chs w (m + 1)) (lastR N n m row) s1 = itT N n step (f + chs w (m + 1)) (nxR (lastR N n m row) (n - m - 1)) s1 := by
          unfold itA nxF
          rw [hl]; rfl
        rw [e3, e2]
        have e4 : itC N n step w (m + 1) (nxR (lastR N n m row) (n - m - 1)) s1 = itC N n step w (m + 1) row s1 := itC_ext hs w (m + 1) hn _ _ s1 fun j hj => by
          rw [nxR_lt (by omega), lastR_lt (by omega)]
        rw [e4]
        cases itC N n step w (m + 1) row s1 with
        | inl r => rfl
        | inr s2 =>
          exact itA_ext hs fun j hj => by
            by_cases h1 : j < n - (m + 1)
            · rw [lastR_lt h1, lastR_lt h1, nxR_lt (by omega), lastR_lt (by omega)]
            · rw [lastR_ge h1, lastR_ge h1]
      · rw [chs_no w (m + 1) (by omega), itC_no w (m + 1) row s1 (by omega)]
        exact itA_ext hs fun j hj => by
          by_cases h1 : j < n - (m + 1)
          · rw [lastR_lt h1, lastR_lt (by omega)]
          · rw [lastR_ge h1]
            by_cases h2 : j < n - m
            · rw [lastR_lt h2, show j = n - m - 1 by omega, hd]; omega
            · rw [lastR_ge h2]
/-- all rows -/
theorem it_all (hs : ∀ (r q : Nat → Nat) s, (∀ j, j < n → r j = q j) → step r s = step q s) (hN : n ≤ N) (row : Nat → Nat) (s : σ) {f : Nat} (hf : chs N n ≤ f) : itT N n step f (fun j => j) s = some (itC N n step N n row s) := by
  have e := it_main hs hN N n hN (Nat.le_refl _) (Nat.le_refl _) (fun j => j) s (f - chs N n) (fun j _ _ => by omega)
  rw [Nat.sub_add_cancel hf] at e
  rw [e, itC_ext hs N n (Nat.le_refl _) (fun j => j) row s fun j hj => by omega]
  cases itC N n step N n row s with
  | inl r => rfl
  | inr s1 =>
    show itA _ _ _ _ _ _ = _
    unfold itA nxF
    rw [lnm_none n fun j hj => by rw [lastR_ge (by omega)]; omega]
    rfl
theorem chs_le : ∀ w, w ≤ 26 → ∀ m, m ≤ 4 → chs w m ≤ 14950 := by decide +kernel
end PG
