/-! rows that make cells, and that write the dynamic ones -/
def mo (t t1 : CS) : Prop := t.2.2.2 0 ≤ t1.2.2.2 0 ∧ t.2.2.2 1 ≤ t1.2.2.2 1
theorem mo.rf {t : CS} : mo t t := ⟨Nat.le_refl _, Nat.le_refl _⟩
theorem mo.tr {t t1 t2 : CS} (h : mo t t1) (h1 : mo t1 t2) : mo t t2 := ⟨Nat.le_trans h.1 h1.1, Nat.le_trans h.2 h1.2⟩
theorem mo.nn {t t1 : CS} (h : t1.2.2.2 = t.2.2.2) : mo t t1 := by unfold mo; rw [h]; exact ⟨Nat.le_refl _, Nat.le_refl _⟩
theorem mo.ni {t t1 : CS} (h : ∀ i, 0 ≤ i → t1.2.2.2 i = t.2.2.2 i) : mo t t1 := mo.nn (funext fun i => h i (Nat.zero_le _))
theorem lt1_ex {α β : Type} {x : α} {f : α → β} {o : β} (h : lt1 x f = o) : ∃ y, y = x ∧ f y = o := ⟨x, rfl, h⟩
theorem ite_or {α : Type} {c : Prop} [Decidable c] {x y : α} {o : α} (h : (if c then x else y) = o) : (c ∧ x = o) ∨ (¬ c ∧ y = o) := by
  by_cases hc : c
  · exact Or.inl ⟨hc, (if_pos hc).symm.trans h⟩
  · exact Or.inr ⟨hc, (if_neg hc).symm.trans h⟩
def dset (t : CS) (r : Nat) (x : va_E) : CS := (t.1, t.2.1, fun q => if q = r then some x else t.2.2.1 q, t.2.2.2)
def dnew (t : CS) (x : va_E) (n : Nat) : CS := (t.1, t.2.1, fun q => if q = t.2.2.2 0 then some x else t.2.2.1 q, fun i => if i = 0 then t.2.2.2 0 + 1 else if i = 1 then t.2.2.2 1 + n else t.2.2.2 i)
def dpf (t : CS) (r ci j : Nat) (v : Value) : Option CS := match t.2.2.1 r with
  | some (.inr o) => if o.1 = ci ∧ j < o.2.length ∧ t.2.2.2 2 ≤ r then some (dset t r (.inr (o.1, o.2.set j v))) else none
  | _ => none
def das (t : CS) (r : Nat) (i v : Int32) : Option CS := match t.2.2.1 r with
  | some (.inl (0, n, .inl f)) => if (i < 0 ∨ n ≤ i.toNatClampNeg) ∨ r < t.2.2.2 2 then none else some (dset t r (.inl (0, n, .inl (upd f i.toNatClampNeg v))))
  | _ => none
theorem dpf_some {t t1 : CS} {r ci j : Nat} {v : Value} (h : dpf t r ci j v = some t1) : ∃ fs, t.2.2.1 r = some (.inr (ci, fs)) ∧ j < fs.length ∧ t.2.2.2 2 ≤ r ∧ t1 = dset t r (.inr (ci, fs.set j v)) := by
  unfold dpf at h
  split at h
  · rename_i o ho
    split at h
    · rename_i hc
      obtain ⟨h1, h2, h3⟩ := hc
      cases h
      refine ⟨o.2, ?_, h2, h3, ?_⟩
      · rw [ho, ← h1]
      · rw [← h1]
    · cases h
  · cases h
theorem das_some {t t1 : CS} {r : Nat} {i v : Int32} (h : das t r i v = some t1) : ∃ n f, t.2.2.1 r = some (.inl (0, n, .inl f)) ∧ vp_in i n ∧ t.2.2.2 2 ≤ r ∧ t1 = dset t r (.inl (0, n, .inl (upd f i.toNatClampNeg v))) := by
  unfold das at h
  split at h
  · rename_i n f ho
    split at h
    · cases h
    · rename_i hc
      cases h
      exact ⟨n, f, ho, fun z => hc (Or.inl z), Nat.not_lt.mp fun z => hc (Or.inr z), rfl⟩
  · cases h
theorem mo.dpf {t t1 : CS} {r ci j : Nat} {v : Value} (h : dpf t r ci j v = some t1) : mo t t1 := by
  obtain ⟨fs, -, -, -, e⟩ := dpf_some h
  exact mo.nn (by rw [e]; rfl)
theorem mo.das {t t1 : CS} {r : Nat} {i v : Int32} (h : das t r i v = some t1) : mo t t1 := by
  obtain ⟨n, f, -, -, -, e⟩ := das_some h
  exact mo.nn (by rw [e]; rfl)
theorem dpf_N {t t1 : CS} {r ci j : Nat} {v : Value} (h : dpf t r ci j v = some t1) : t1.2.2.2 = t.2.2.2 := by
  obtain ⟨fs, -, -, -, e⟩ := dpf_some h
  rw [e]; rfl
theorem das_N {t t1 : CS} {r : Nat} {i v : Int32} (h : das t r i v = some t1) : t1.2.2.2 = t.2.2.2 := by
  obtain ⟨n, f, -, -, -, e⟩ := das_some h
  rw [e]; rfl
theorem mo.bk {t t1 t9 : CS} (h : t1.2.2.2 = t.2.2.2) (h9 : mo t t9) : mo t1 t9 := by unfold mo; rw [h]; exact h9
def ngt {α : Type} (n : Int32) (x : Option α) : Option α := if n < 0 ∨ 100000 < n.toNatClampNeg then none else x
theorem ngt_some {α : Type} {n : Int32} {x : Option α} {o : α} (h : ngt n x = some o) : (¬ n < 0 ∧ n.toNatClampNeg ≤ 100000) ∧ x = some o := by
  unfold ngt at h
  split at h
  · cases h
  · rename_i hc
    exact ⟨⟨fun z => hc (Or.inl z), Nat.not_lt.mp fun z => hc (Or.inr z)⟩, h⟩
def aF (t : CS) (r n : Nat) : Option (Nat → Int32) := match t.2.2.1 r with
  | some (.inl (0, m, .inl f)) => if m = n then some f else none
  | _ => none
theorem aF_some {t : CS} {r n : Nat} {f : Nat → Int32} (h : aF t r n = some f) : t.2.2.1 r = some (.inl (0, n, .inl f)) := by
  unfold aF at h
  split at h
  · rename_i m g hg
    split at h
    · rename_i hm
      cases h
      rw [hg, hm]
    · cases h
  · cases h
def okI (t : CS) (o : Option Nat) : Bool := match o with
  | none => true
  | some r => match t.2.2.1 r with
    | some (.inl (0, _, .inl _)) => true
    | _ => false
def okE (t : CS) (ci : Nat) (o : Option Nat) : Bool := match o with
  | none => true
  | some r => gC t r == some ci
theorem okI_some {t : CS} {r : Nat} (h : okI t (some r) = true) : ∃ n f, t.2.2.1 r = some (.inl (0, n, .inl f)) := by
  unfold okI at h
  dsimp only at h
  split at h
  · exact ⟨_, _, by assumption⟩
  · cases h
theorem okE_some {t : CS} {ci r : Nat} (h : okE t ci (some r) = true) : gC t r = some ci := by
  simpa [okE] using h
def ckA {α : Type} (t : CS) (r : Nat) (x : Option α) : Option α := if okI t (some r) = true then x else none
theorem ckA_some {α : Type} {t : CS} {r : Nat} {x : Option α} {o : α} (h : ckA t r x = some o) : (∃ n f, t.2.2.1 r = some (.inl (0, n, .inl f))) ∧ x = some o := by
  unfold ckA at h
  split at h
  · exact ⟨okI_some (by assumption), h⟩
  · cases h
def ckL {α : Type} (p : Nat → Bool) (n : Nat) (x : Option α) : Option α := if (∀ i, i < n → p i = true) then x else none
theorem ckL_some {α : Type} {p : Nat → Bool} {n : Nat} {x : Option α} {o : α} (h : ckL p n x = some o) : (∀ i, i < n → p i = true) ∧ x = some o := by
  unfold ckL at h
  split at h
  · exact ⟨by assumption, h⟩
  · cases h
def acp {α : Type} (sp dp n : Int32) (n0 n1 : Nat) (x : Option α) : Option α := if ((sp < 0 ∨ dp < 0) ∨ n < 0) ∨ (n0 < sp.toNatClampNeg + n.toNatClampNeg ∨ n1 < dp.toNatClampNeg + n.toNatClampNeg) then none else x
theorem acp_some {α : Type} {sp dp n : Int32} {n0 n1 : Nat} {x : Option α} {o : α} (h : acp sp dp n n0 n1 x = some o) : (¬ sp < 0 ∧ ¬ dp < 0 ∧ ¬ n < 0 ∧ sp.toNatClampNeg + n.toNatClampNeg ≤ n0 ∧ dp.toNatClampNeg + n.toNatClampNeg ≤ n1) ∧ x = some o := by
  unfold acp at h
  split at h
  · cases h
  · rename_i hc
    exact ⟨⟨fun z => hc (Or.inl (Or.inl (Or.inl z))), fun z => hc (Or.inl (Or.inl (Or.inr z))), fun z => hc (Or.inl (Or.inr z)), Nat.not_lt.mp fun z => hc (Or.inr (Or.inl z)), Nat.not_lt.mp fun z => hc (Or.inr (Or.inr z))⟩, h⟩
theorem fits_o {C : String} (o : Option Nat) : fits (.object C) (va_rf o) = true := by cases o <;> rfl
theorem nar_o {C : String} (o : Option Nat) : narrow (.object C) (va_rf o) = va_rf o := by cases o <;> rfl
theorem mo.new {t t1 : CS} {x : va_E} {n : Nat} (h : t1 = dnew t x n) : mo t t1 := by
  rw [h]
  exact ⟨Nat.le_succ _, Nat.le_add_right _ _⟩
theorem mo_s {t0 t t1 : CS} (h : mo t t1) : t.2.2.2 0 - t0.2.2.2 0 ≤ t1.2.2.2 0 - t0.2.2.2 0 ∧ t.2.2.2 1 - t0.2.2.2 1 ≤ t1.2.2.2 1 - t0.2.2.2 1 := ⟨Nat.sub_le_sub_right h.1 _, Nat.sub_le_sub_right h.2 _⟩
theorem mo_z {t0 t t9 : CS} (h : mo t t9) : t.2.2.2 0 - t0.2.2.2 0 + 0 ≤ t9.2.2.2 0 - t0.2.2.2 0 ∧ t.2.2.2 1 - t0.2.2.2 1 + 0 ≤ t9.2.2.2 1 - t0.2.2.2 1 := mo_s h
theorem mo_n {t0 t t1 t9 : CS} {x : va_E} {n : Nat} (h0 : mo t0 t) (h : t1 = dnew t x n) (h9 : mo t1 t9) : t.2.2.2 0 - t0.2.2.2 0 + 1 ≤ t9.2.2.2 0 - t0.2.2.2 0 ∧ t.2.2.2 1 - t0.2.2.2 1 + n ≤ t9.2.2.2 1 - t0.2.2.2 1 := by
  have e0 : t1.2.2.2 0 = t.2.2.2 0 + 1 := by rw [h]; rfl
  have e1 : t1.2.2.2 1 = t.2.2.2 1 + n := by rw [h]; rfl
  obtain ⟨a1, a2⟩ := h9
  obtain ⟨b1, b2⟩ := h0
  omega
theorem mo_n1 {t0 t t1 : CS} {x : va_E} {n : Nat} (h0 : mo t0 t) (h : t1 = dnew t x n) : t.2.2.2 0 - t0.2.2.2 0 + 1 ≤ t1.2.2.2 0 - t0.2.2.2 0 ∧ t.2.2.2 1 - t0.2.2.2 1 + n ≤ t1.2.2.2 1 - t0.2.2.2 1 := mo_n h0 h mo.rf
theorem mo_c {t0 t t1 t9 : CS} (h0 : mo t0 t) (h : mo t t1) (h9 : mo t1 t9) : t.2.2.2 0 - t0.2.2.2 0 + (t1.2.2.2 0 - t.2.2.2 0) ≤ t9.2.2.2 0 - t0.2.2.2 0 ∧ t.2.2.2 1 - t0.2.2.2 1 + (t1.2.2.2 1 - t.2.2.2 1) ≤ t9.2.2.2 1 - t0.2.2.2 1 := by
  obtain ⟨a1, a2⟩ := h9
  obtain ⟨b1, b2⟩ := h0
  obtain ⟨c1, c2⟩ := h
  omega
theorem cW.dput {D : va_G} {dA : Nat → ClassId} {a : Nat} {k : KP a} {t : CS} {H H1 : Heap} (h : cW D dA a k t H) {r : Nat} {x0 x : va_E} (h0 : t.2.2.1 r = some x0) (har : a ≤ r) (he : va_at D classes (r, cv dA x) H1) (z : H1.size = H.size) (oq : ∀ q : Nat, q ≠ r → H1[q]? = H[q]?) : cW D dA a k (dset t r x) H1 := by
  obtain ⟨w1, w2, w3, w4⟩ := h.2.2.2.2.2 r x0 h0
  refine ⟨h.1.put he oq (fun q y hy => ?_), z.trans h.2.1, h.2.2.1, h.2.2.2.1, h.2.2.2.2.1, fun q y hy => ?_⟩
  · unfold cw at hy ⊢
    split at hy
    · rename_i hq
      exact ⟨fun e => absurd hq (by omega), fun e => by rw [if_pos hq]; exact hy⟩
    · rename_i hq
      rw [if_neg hq]
      split at hy
      · rename_i hk
        exact ⟨fun e => absurd (e ▸ hk) w2, fun e => by rw [if_pos hk]; exact hy⟩
      · rename_i hk
        rw [if_neg hk]
        split at hy
        · cases hy
        · rename_i hqa
          rw [if_neg hqa]
          refine ⟨fun e => ?_, fun e => ?_⟩
          · simp only [dset, e, if_true, Option.map_some, Option.some.injEq] at hy
            exact hy.symm
          · simpa [dset, e] using hy
  · by_cases e : q = r
    · subst e; exact ⟨w1, w2, w3, fun z => absurd har (Nat.not_le.mpr z)⟩
    · simp only [dset, e, if_false] at hy
      obtain ⟨b1, b2, b3, b4⟩ := h.2.2.2.2.2 q y hy
      exact ⟨b1, b2, b3, fun z => (b4 z).kept (oq q e)⟩
theorem cW.dnw {D : va_G} {dA : Nat → ClassId} {a : Nat} {k : KP a} {t : CS} {H H1 : Heap} (h : cW D dA a k t H) {x : va_E} (n : Nat) (he : va_at D classes (H.size, cv dA x) H1) (z : H1.size = H.size + 1) (oq : ∀ q : Nat, q < H.size → H1[q]? = H[q]?) : cW D dA a k (dnew t x n) H1 := by
  obtain ⟨hw, hz, h2, h3, ⟨h4, h5⟩, h6⟩ := h
  refine ⟨fun q y hy => ?_, by rw [z, hz]; rfl, h2, Nat.le_succ_of_le h3, ⟨h4, Nat.lt_succ_of_lt h5⟩, fun q y hy => ?_⟩
  · by_cases e : q = t.2.2.2 0
    · rw [e, ← hz]
      unfold cw at hy
      rw [if_neg (by omega), if_neg (by omega), if_neg (by omega)] at hy
      simp only [dnew, e, if_true, Option.map_some, Option.some.injEq] at hy
      rw [← hy]
      exact he
    · have hy2 : cw dA a k t q = some y := by
        unfold cw at hy ⊢
        simpa [dnew, e] using hy
      have h7 := hw q y hy2
      exact h7.kept (oq q h7.lt)
  · by_cases e : q = t.2.2.2 0
    · subst e; exact ⟨Or.inr h3, by omega, by show _ < t.2.2.2 0 + 1; omega, fun z => by omega⟩
    · simp only [dnew, e, if_false] at hy
      obtain ⟨b1, b2, b3, b4⟩ := h6 q y hy
      exact ⟨b1, b2, by show _ < t.2.2.2 0 + 1; omega, fun z => (b4 z).kept (oq q (b4 z).lt)⟩
theorem cS.nw {a : Nat} {H0 H H1 : Heap} {locs : List Loc} {N0 : Nat → Nat} {t : CS} (h : cS a H0 H locs N0 2 t) (h3 : a + 134 ≤ H.size) (x : va_E) (n : Nat) (z : H1.size = H.size + 1) (oq : ∀ q : Nat, q < H.size → H1[q]? = H[q]?) : cS a H0 H1 locs N0 2 (dnew t x n) := by
  refine ⟨by rw [z]; exact Nat.le_succ_of_le h.1, fun q h1 => ?_, h.2.2.1, fun i hi => ?_⟩
  · have : q < H.size := Nat.not_le.mp fun z => h1 (Or.inr (by omega))
    exact (oq q this).trans (h.2.1 q h1)
  · have e : (dnew t x n).2.2.2 i = t.2.2.2 i := by simp [dnew, show ¬ i = 0 by omega, show ¬ i = 1 by omega]
    rw [e]
    exact h.2.2.2 i hi
theorem kC.nw {D : va_G} {dA : Nat → ClassId} {a : Nat} {k : KP a} {t : CS} {s : State} (h : kC D dA a k t.2.2.2 s) (x : va_E) (n : Nat) : kC D dA a k (dnew t x n).2.2.2 s := ⟨h.1, h.2.1, h.2.2.1.go (Or.inr rfl) (fun _ _ => rfl) (fun i hi => by simp [dnew, show ¬ i = 0 by omega, show ¬ i = 1 by omega]), h.2.2.2⟩
section CX3
variable {p : Program} {l : Launch} {e : Env} {R : Room} {s : State} {m : MethodId} {args : Array Value} {below : List Frame} {meth : Method} {c : Code} {H : Heap} {locs : List Loc} {cells slots : Nat} {Q : State → Prop}
variable {cc : ByteArray} {pc nL : Nat} {ls : Array Slot} {rest st0 : List Value} {own : String} {ret : Option FieldType} {D : va_G} {dA : Nat → ClassId} {a : Nat} {k : KP a} {t : CS}
theorem n_new {CC : String} {TT : u_T} {N ci : Nat} (hin : ∀ w ∈ u_ws CC TT N, w ∈ lw_all) (ty : Nat → FieldType) (hty : ∀ k, k < N → parseFieldDescriptor (TT k).2.2.1 = some (ty k)) (hc : classes[ci]? = some (CC, TT, N)) (C : cx p s m args meth c cc own nL ret) (hK : kC D dA a k t.2.2.2 s) (hT : cW D dA a k t H) {N0 : Nat → Nat} (hS : cS a s.heap H locs N0 2 t) {index : Nat} (h1 : (Cond.classLink own index CC) ∈ lw_all) (h2 : (Cond.instantiable CC N) ∈ lw_all) (h3 : (Cond.initialized CC) ∈ lw_all) {fs : List Value} (hfs : ∀ j, j < N → defaultValue (ty j) = vp_V fs j) (hcs : cells + 1 ≤ R.cells ∧ slots + N ≤ R.slots) (hdg : decode cc pc = .ok (.new index, 3))
    (kc : ∀ (t1 : CS) (H1 : Heap), t1 = dnew t (.inr (ci, fs)) N → cW D dA a k t1 H1 → cS a s.heap H1 locs N0 2 t1 → kC D dA a k t1.2.2.2 s → W p l e R s m args below meth c H1 locs (cells + 1) (slots + N) Q (F0 m (pc + 3) ls (.ref (t.2.2.2 0) :: rest))) : W p l e R s m args below meth c H locs cells slots Q (F0 m pc ls rest) := by
  obtain ⟨hx, hb, -, hml, hown, hts, -⟩ := C
  have hKn := hK.1.1 ci _ hc
  refine W.newcK hx hb hown (hts _ h1) (hts _ h2) (hts _ h3) rfl hdg hcs.1 hcs.2 hKn.2.1 hT.2.1 fun H1 kC hkC e1 z1 o1 => ?_
  have hz := hT.2.1
  refine kc _ H1 rfl (hT.dnw (x := .inr (ci, fs)) N ?_ (by rw [z1, hz]) (fun q hq => o1 q (hz ▸ hq))) (hS.nw (by rw [hz]; exact hT.2.2.2.1) _ _ (by rw [z1, hz]) (fun q hq => o1 q (hz ▸ hq))) (hK.nw _ _)
  rw [hz]
  exact ⟨_, hc, (u_born ty hts hin hKn hkC e1 hty).to hfs⟩
theorem n_newi (C : cx p s m args meth c cc own nL ret) (hK : kC D dA a k t.2.2.2 s) (hT : cW D dA a k t H) {N0 : Nat → Nat} (hS : cS a s.heap H locs N0 2 t) {n : Int32} (hn : ¬ n < 0) (hbd : n.toNatClampNeg ≤ 100000) (hcs : cells + 1 ≤ R.cells ∧ slots + n.toNatClampNeg ≤ R.slots) (hdg : decode cc pc = .ok (.newarray .int, 2))
    (kc : ∀ (t1 : CS) (H1 : Heap), t1 = dnew t (.inl (0, n.toNatClampNeg, .inl (fun _ => 0))) n.toNatClampNeg → cW D dA a k t1 H1 → cS a s.heap H1 locs N0 2 t1 → kC D dA a k t1.2.2.2 s → W p l e R s m args below meth c H1 locs (cells + 1) (slots + n.toNatClampNeg) Q (F0 m (pc + 2) ls (.ref (t.2.2.2 0) :: rest))) : W p l e R s m args below meth c H locs cells slots Q (F0 m pc ls (.int n :: rest)) := by
  obtain ⟨hx, hb, -, hml, hown, hts, -⟩ := C
  have hz := hT.2.1
  refine va_newaK (atype := .int) hx hb (hts _ q258) rfl hdg rfl hn rfl (by show n.toNatClampNeg * 4 ≤ _; omega) hcs.1 hcs.2 hz fun H1 cA e1 z1 o1 hAr hNm => ?_
  have hcA : cA = dA 0 := Option.some.inj (hNm.symm.trans (hK.1.2 0 _ rfl).2)
  subst hcA
  refine kc _ H1 rfl (hT.dnw (x := .inl (0, n.toNatClampNeg, .inl (fun _ => 0))) _ ?_ (by rw [z1, hz]) (fun q hq => o1 q (hz ▸ hq))) (hS.nw (by rw [hz]; exact hT.2.2.2.1) _ _ (by rw [z1, hz]) (fun q hq => o1 q (hz ▸ hq))) (hK.nw _ _)
  rw [hz]
  exact e1
/-- a field of a dynamic cell is written -/
theorem d_put {CC : String} {TT : u_T} {N ci : Nat} (hin : ∀ w ∈ u_ws CC TT N, w ∈ lw_all) (ty0 : Nat → FieldType) (hty : ∀ k, k < N → parseFieldDescriptor (TT k).2.2.1 = some (ty0 k)) (hnm : ∀ a, a < N → ∀ b, b < N → a ≠ b → (TT a).2.1 ≠ (TT b).2.1) (hc : classes[ci]? = some (CC, TT, N)) (C : cx p s m args meth c cc own nL ret) (hK : kC D dA a k t.2.2.2 s) (hT : cW D dA a k t H) {N0 : Nat → Nat} {lo : Nat} (hS : cS a s.heap H locs N0 lo t) (j : Nat) (hj : j < N) {index : Nat} (hq : (Cond.fieldLink own index CC (TT j).2.1 (TT j).2.2.1) ∈ lw_all) (hC : (TT j).1 = CC) (hfin : (TT j).2.2.2 = false ∨ ((TT j).2.2.2 = true ∧ meth.name = "<init>" ∧ (TT j).1 = own)) {r : Nat} {v : Value} {t1 : CS} (hp : dpf t r ci j v = some t1) {ty : FieldType} (hd : parseFieldDescriptor (TT j).2.2.1 = some ty) (hn : narrow ty v = v) (hfit : fits ty v = true) (hdg : decode cc pc = .ok (.putfield index, 3))
    (kc : ∀ (H1 : Heap) (locs1 : List Loc), cW D dA a k t1 H1 → cS a s.heap H1 locs1 N0 lo t1 → kC D dA a k t1.2.2.2 s → W p l e R s m args below meth c H1 locs1 cells slots Q (F0 m (pc + 3) ls rest)) : W p l e R s m args below meth c H locs cells slots Q (F0 m pc ls (v :: .ref r :: rest)) := by
  obtain ⟨hx, hb, -, hml, hown, hts, -⟩ := C
  obtain ⟨fs, g1, g2, g3, g4⟩ := dpf_some hp
  subst g4
  have hP := d_atO hT g1 g3
  have hap := va_apart (own := own) hts hin ty0 hty hnm hK.1 hc
  obtain ⟨r0, e1, cell, q1, q2, q3, q4⟩ := hP 0 _ rfl
  have hr : r0 = (CC, TT, N) := Option.some.inj (e1.symm.trans hc)
  subst hr
  obtain ⟨hSl, hfc, kC, hkC, hkind⟩ := hK.1.1 ci _ hc
  obtain ⟨cf, kf, fi, f, hi, hsl⟩ := hSl j hj
  have hlay := hts _ (hin _ (u_in_lay hj))
  have hst := (u_facts hfc hkC (u_lays hts hin hj) hi).1
  have hi2 := hi
  rw [hC] at hi2
  have hca : ca a r := by
    obtain ⟨w1, -, -⟩ := hT.2.2.2.2.2 r _ g1
    exact Or.inr (by rw [← hT.2.2.1]; exact g3)
  have fin : ∀ (H' : Heap), H'[r]? = some (cell.setSlot f.slot v) → H'.size = H.size → (∀ q : Nat, q ≠ r → H'[q]? = H[q]?) → W p l e R s m args below meth c H' (locs ++ [⟨r, f.slot⟩]) cells slots Q (F0 m (pc + 3) ls rest) := by
    intro H' e1 e2 e3
    rw [hsl] at e1
    refine kc H' _ (hT.dput g1 (by have := hT.2.2.1; omega) ?_ e2 e3) (hS.put e2 e3 hca rfl) hK
    exact ⟨_, hc, t_OB.to (V := updV (vp_V fs) j v) ⟨_, e1, q2, q3, t_set q4 hap hj v⟩ (fun z _ => vp_updV_set g2 v z)⟩
  unfold u_lay at hlay
  rcases hfin with hfin | ⟨hfin, hin2, hdecl⟩
  · rw [if_neg (by rw [hfin]; decide)] at hlay
    have h6 := u_store hfc hkC hkind hlay hi hd hn hfit
    exact W.putK hx hb (f := f) ⟨hown, hts _ hq, ⟨_, _, _, hi2⟩, hst⟩ (by rw [q2]; exact h6) q1 q3 (by rw [hsl]; exact k2_hasslot (q4 j hj)) rfl rfl hdg fin
  · rw [if_pos hfin] at hlay
    have hcf : m.cls = cf := by
      obtain ⟨_, _, c', _, _, _, -, -, hf', -, -, -, hown2, -⟩ := Cond.laysFinal_spec hlay
      have e1 : c' = cf := by have := hi.symm.trans hf'; simp at this; exact this.1.symm
      rw [hdecl] at hown2
      rw [← e1]; exact Option.some.inj (hown.symm.trans hown2)
    have h6 := u_fits hfc hkC hkind (Or.inr hlay) hi hd hn hfit
    exact W.putFinK hx hb hown (hts _ hq) hi2 hst hcf hin2 (by rw [q2]; exact h6) q1 q3 (by rw [hsl]; exact k2_hasslot (q4 j hj)) rfl rfl hdg fin
theorem d_ist (C : cx p s m args meth c cc own nL ret) (hK : kC D dA a k t.2.2.2 s) (hT : cW D dA a k t H) {N0 : Nat → Nat} {lo : Nat} (hS : cS a s.heap H locs N0 lo t) {r : Nat} {x v : Int32} {t1 : CS} (hp : das t r x v = some t1) (hdg : decode cc pc = .ok (.iastore, 1)) (kc : ∀ (H1 : Heap) (locs1 : List Loc), cW D dA a k t1 H1 → cS a s.heap H1 locs1 N0 lo t1 → kC D dA a k t1.2.2.2 s → W p l e R s m args below meth c H1 locs1 cells slots Q (F0 m (pc + 1) ls rest)) : W p l e R s m args below meth c H locs cells slots Q (F0 m pc ls (.int v :: .int x :: .ref r :: rest)) := by
  obtain ⟨n, f, g1, hin, g3, g4⟩ := das_some hp
  subst g4
  have hca : ca a r := Or.inr (by rw [← hT.2.2.1]; exact g3)
  refine W.iast C.1 C.2.1 (d_at hT g1 0 _ rfl) ((hK.1.2 0 _ rfl).1 n (fun j => .int (f j))) (fun q => by cases q) (by show ¬ (x < 0 ∨ (arrV _ _ _).slots.size ≤ _); rw [arrV_size]; exact hin) rfl rfl hdg fun H1 e z oq => ?_
  refine kc H1 _ (hT.dput g1 (by have := hT.2.2.1; omega) ?_ z oq) (hS.put z oq hca rfl) hK
  show H1[r]? = some (vp_cell _ _)
  rw [e]
  show some ((vp_cell (dA 0) (n, .inl f)).setSlot _ _) = _
  rw [vp_cell_i, vp_cell_i, arrV_store]
  congr 2
  funext q
  by_cases hq : q = x.toNatClampNeg
  · subst hq
    simp [updV, upd]
  · simp [updV, upd, hq]
/-- a reference is put into a fixed array: word, text (of a class), saying (an int array) -/
theorem cr_ast (i n : Nat) (hi : i < 115) {f : Nat → Int32} {g : Nat → Option Nat} (cA : ClassId) (x : Int32) (r : Nat) (hT : cW D dA a k t H) {H1 : Heap} (ha : ∀ f g, cwd dA a i f g = .inl (cA, n, qrf g)) (e : H1[a + i]? = some ((vp_cell cA (n, qrf (t.2.1 i))).setSlot x.toNatClampNeg (.ref r))) (z : H1.size = H.size) (oq : ∀ q : Nat, q ≠ a + i → H1[q]? = H[q]?) : cW D dA a k (cr_ t i x.toNatClampNeg (some r)) H1 := by
  refine hT.put i hi ?_ z oq (fun _ _ => rfl) (fun w hw => by funext y; simp [cr_, hw]) rfl
  rw [ha]
  show H1[a + i]? = some (vp_cell _ _)
  rw [e]
  unfold qrf
  rw [vp_cell_q, vp_cell_q, arrV_store]
  congr 2
  funext q
  by_cases hq : q = x.toNatClampNeg
  · subst hq
    simp [updV, cr_, va_rf]
  · simp [updV, cr_, hq]
theorem c_astC {CC : String} {TT : u_T} {N ci : Nat} (hc : classes[ci]? = some (CC, TT, N)) (C : cx p s m args meth c cc own nL ret) (hK : kC D dA a k t.2.2.2 s) (hT : cW D dA a k t H) {N0 : Nat → Nat} {lo : Nat} (hS : cS a s.heap H locs N0 lo t) (i n j : Nat) (hi : i < 115) (ha : ∀ f g, cwd dA a i f g = .inl (dA j, n, qrf g)) (hj : (tysA dA)[j]? = some (dA j, .object CC)) {x : Int32} {r : Nat} (hin : vp_in x n) (hr : gC t r = some ci) (hdg : decode cc pc = .ok (.aastore, 1))
    (kc : ∀ (t1 : CS) (H1 : Heap) (locs1 : List Loc), t1 = cr_ t i x.toNatClampNeg (some r) → cW D dA a k t1 H1 → cS a s.heap H1 locs1 N0 lo t1 → kC D dA a k t1.2.2.2 s → W p l e R s m args below meth c H1 locs1 cells slots Q (F0 m (pc + 1) ls rest)) : W p l e R s m args below meth c H locs cells slots Q (F0 m pc ls (.ref r :: .int x :: .ref (a + i) :: rest)) := by
  have hlt : x.toNatClampNeg < n := Nat.not_le.mp fun q => hin (Or.inr q)
  obtain ⟨fs, hg⟩ := gC_some hr
  obtain ⟨cellV, g1, g2, g3, -⟩ := d_ob hT hg hc
  have hcls := (hK.1.1 ci _ hc).2
  obtain ⟨kA, comp, k1, k2, k3, -⟩ := (hK.1.2 j _ hj).2
  have hcomp : comp = D.1 ci := Option.some.inj (k3.symm.trans hcls.1)
  subst hcomp
  obtain ⟨kC, hkC, -⟩ := hcls.2
  refine W.aast C.1 C.2.1 (c_cell hT i hi (ha _ _) 0 _ rfl) (fun q h => by cases h) (fun h => by cases h) k1 k2 rfl hkC ⟨fun q => hin (Or.inl q), by show _ < (arrV _ _ _).slots.size; rw [arrV_size]; exact hlt⟩ g1 (fun q h => by rw [h] at g3; cases g3) (by rw [g2]; exact hkC) (by rw [g2]; exact va_assign hcls) rfl rfl hdg fun H1 e z oq => ?_
  exact kc _ H1 _ rfl (cr_ast i n hi (f := t.1 i) (g := t.2.1 i) (dA j) x r hT ha e z oq) (hS.put z oq (Or.inl ⟨Nat.le_add_right _ _, by omega⟩) rfl) hK
theorem c_astG (C : cx p s m args meth c cc own nL ret) (hK : kC D dA a k t.2.2.2 s) (hT : cW D dA a k t H) {N0 : Nat → Nat} {lo : Nat} (hS : cS a s.heap H locs N0 lo t) (i n : Nat) (hi : i < 115) (ha : ∀ f g, cwd dA a i f g = .inl (dA 6, n, qrf g)) {x : Int32} {r n2 : Nat} {f2 : Nat → Int32} (hin : vp_in x n) (hr : t.2.2.1 r = some (.inl (0, n2, .inl f2))) (hdg : decode cc pc = .ok (.aastore, 1))
    (kc : ∀ (t1 : CS) (H1 : Heap) (locs1 : List Loc), t1 = cr_ t i x.toNatClampNeg (some r) → cW D dA a k t1 H1 → cS a s.heap H1 locs1 N0 lo t1 → kC D dA a k t1.2.2.2 s → W p l e R s m args below meth c H1 locs1 cells slots Q (F0 m (pc + 1) ls rest)) : W p l e R s m args below meth c H locs cells slots Q (F0 m pc ls (.ref r :: .int x :: .ref (a + i) :: rest)) := by
  have hlt : x.toNatClampNeg < n := Nat.not_le.mp fun q => hin (Or.inr q)
  obtain ⟨k0, kA, w1, w2, w3, w4⟩ := hK.2.2.2.1
  have g1 : H[r]? = some (vp_cell (dA 0) (n2, .inl f2)) := d_at hT hr 0 _ rfl
  refine W.aast C.1 C.2.1 (c_cell hT i hi (ha _ _) 0 _ rfl) (fun q h => by cases h) (fun h => by cases h) w2 w3 rfl w1 ⟨fun q => hin (Or.inl q), by show _ < (arrV _ _ _).slots.size; rw [arrV_size]; exact hlt⟩ g1 (fun q h => by cases h) w1 w4 rfl rfl hdg fun H1 e z oq => ?_
  exact kc _ H1 _ rfl (cr_ast i n hi (f := t.1 i) (g := t.2.1 i) (dA 6) x r hT ha e z oq) (hS.put z oq (Or.inl ⟨Nat.le_add_right _ _, by omega⟩) rfl) hK
theorem sub0 {x y : Nat} {g : JFrame} (h : W p l e R s m args below meth c H locs (x - x) (y - y) Q g) : W p l e R s m args below meth c H locs 0 0 Q g := by
  rw [Nat.sub_self, Nat.sub_self] at h
  exact h
theorem wa_any {v0 : Option Value} {t1 : CS} {a0 : Array Value} {N0 : Nat → Nat} {mc ms : Nat} (hS : cS a s.heap H locs N0 2 t) (hK : kC D dA a k t.2.2.2 s) (hr : va_Run p l e R s m args below meth c H locs cells slots mc ms (F0 m pc ls st0) rest (cQ D dA a k 2 t t1 v0 a0) (ca a)) (kc : ∀ (H1 : Heap) (locs1 : List Loc), cW D dA a k t1 H1 → cS a s.heap H1 locs1 N0 2 t1 → kC D dA a k t1.2.2.2 s → W p l e R s m args below meth c H1 locs1 (cells + mc) (slots + ms) Q (F0 m (pc + 3) ls (v0.toList ++ rest))) : W p l e R s m args below meth c H locs cells slots Q (F0 m pc ls st0) := wc_any (Nat.le_refl _) hS hK (by decide) hr (fun H1 l1 x y z _ => kc H1 l1 x y z)
theorem wa_int {r : Int32} {t1 : CS} {a0 : Array Value} {N0 : Nat → Nat} {mc ms : Nat} (hS : cS a s.heap H locs N0 2 t) (hK : kC D dA a k t.2.2.2 s) (hr : va_Run p l e R s m args below meth c H locs cells slots mc ms (F0 m pc ls st0) rest (cQ D dA a k 2 t t1 (some (.int r)) a0) (ca a)) (kc : ∀ (H1 : Heap) (locs1 : List Loc), cW D dA a k t1 H1 → cS a s.heap H1 locs1 N0 2 t1 → kC D dA a k t1.2.2.2 s → W p l e R s m args below meth c H1 locs1 (cells + mc) (slots + ms) Q (F0 m (pc + 3) ls (.int r :: rest))) : W p l e R s m args below meth c H locs cells slots Q (F0 m pc ls st0) := wa_any hS hK hr kc
theorem wa_ref {r : Nat} {t1 : CS} {a0 : Array Value} {N0 : Nat → Nat} {mc ms : Nat} (hS : cS a s.heap H locs N0 2 t) (hK : kC D dA a k t.2.2.2 s) (hr : va_Run p l e R s m args below meth c H locs cells slots mc ms (F0 m pc ls st0) rest (cQ D dA a k 2 t t1 (some (.ref r)) a0) (ca a)) (kc : ∀ (H1 : Heap) (locs1 : List Loc), cW D dA a k t1 H1 → cS a s.heap H1 locs1 N0 2 t1 → kC D dA a k t1.2.2.2 s → W p l e R s m args below meth c H1 locs1 (cells + mc) (slots + ms) Q (F0 m (pc + 3) ls (.ref r :: rest))) : W p l e R s m args below meth c H locs cells slots Q (F0 m pc ls st0) := wa_any hS hK hr kc
theorem wa_void {t1 : CS} {a0 : Array Value} {N0 : Nat → Nat} {mc ms : Nat} (hS : cS a s.heap H locs N0 2 t) (hK : kC D dA a k t.2.2.2 s) (hr : va_Run p l e R s m args below meth c H locs cells slots mc ms (F0 m pc ls st0) rest (cQ D dA a k 2 t t1 none a0) (ca a)) (kc : ∀ (H1 : Heap) (locs1 : List Loc), cW D dA a k t1 H1 → cS a s.heap H1 locs1 N0 2 t1 → kC D dA a k t1.2.2.2 s → W p l e R s m args below meth c H1 locs1 (cells + mc) (slots + ms) Q (F0 m (pc + 3) ls rest)) : W p l e R s m args below meth c H locs cells slots Q (F0 m pc ls st0) := wa_any hS hK hr kc
theorem r_void {a0 : Array Value} (hr : va_Run p l e R s m args below meth c H locs cells slots 0 0 (F0 m pc ls st0) rest (rQv none a0) nof) (kc : W p l e R s m args below meth c H locs cells slots Q (F0 m (pc + 3) ls rest)) : W p l e R s m args below meth c H locs cells slots Q (F0 m pc ls st0) := r_ref hr kc
theorem e_rv {r : Unit} (C : cx p s m args meth c cc own nL none) (h : some () = some r) (hdg : decode cc pc = .ok (.return_, 1)) : W p l e R s m args below meth c s.heap [] 0 0 (MQ below (rQv none) args s 0 0 nof) (F0 m pc ls []) := by
  obtain ⟨hx, hb, hr, -, -, -, hlocks⟩ := C
  exact W.vret hx hb hr (fun u hu _ => ⟨rfl, hu⟩) (fun _ h => by cases h) hdg hlocks
theorem ec_r {r v : Nat} {ty : FieldType} {t1 t0 : CS} {lo : Nat} (C : cx p s m args meth c cc own nL (some ty)) (hty : (∃ n, ty = FieldType.object n) ∨ ∃ z, ty = FieldType.array z) (hT : cW D dA a k t H) (hS : cS a s.heap H locs t0.2.2.2 lo t) (h : some (v, t) = some (r, t1)) (hdg : decode cc pc = .ok (.areturn, 1)) : W p l e R s m args below meth c H locs cells slots (MQ below (cQ D dA a k lo t0 t1 (some (.ref r))) args s cells slots (ca a)) (F0 m pc ls [.ref v]) := by
  obtain ⟨hx, hb, hr, -, -, -, hlocks⟩ := C
  cases h
  exact W.aret hx hb hr hty (Or.inr ⟨_, rfl⟩) (fun u hu _ => ⟨rfl, by rw [hu]; exact hT, by rw [hu]; exact hS.1, by rw [hu]; exact hS.2.1, hS.2.2.2⟩) hS.2.2.1 hdg hlocks
theorem en_Ci {y : MethodName} {maxL mc ms : Nat} {rm : Room} {av : List Value} {Qc : Array Value → State → Outcome → State → Prop} {free : Addr → Prop} (hy : plainName y.cls = true) (hc : y.cls = own) (hlen : (lg_sl av).length ≤ maxL)
    (body : ∀ (p : Program) (e : Env) (s : State) (m : MethodId) (below : List Frame) (meth : Method) (c : Code) (ls : Array Slot), cx p s m av.toArray meth c cc own maxL ret → meth.name = y.name → kC D dA a k t.2.2.2 s → cW D dA a k t s.heap → lv_has ls maxL (lv_args 0 av) → W p l e rm s m av.toArray below meth c s.heap [] 0 0 (MQ below Qc av.toArray s mc ms free) (F0 m 0 ls [])) : Met l y (ws_ y cc maxL ret) rm (cPc D dA a k t av) Qc mc ms free := by
  refine Met.ofW (cc := cc) (maxL := maxL) (ret := ret) hy rfl ?_
  intro p e s m args below meth c s₁ B hml hv
  obtain ⟨rfl, hK, hT⟩ := hv
  have hts := atoms_spec (ws := ws_ y cc maxL ret) B.pre
  have hl := lv_entry av (n := maxL) hlen
  rw [lg_entry_eq]
  exact body p e s m below meth c _ ⟨B.exec, B.bytes, B.returns, hml, by rw [← hc]; exact findClass_of_methodNamed B.named, fun w h => hts w (List.mem_cons_of_mem _ h), B.notSynchronized⟩ (name_of_methodNamed B.named B.method).1 hK hT hl
theorem run_i {y : MethodName} {bytes : ByteArray} {maxL n index bb mc ms : Nat} {rm : Room} {As : List Value} {Qc : Array Value → State → Outcome → State → Prop} {free : Addr → Prop} (C : cx p s m args meth c cc own nL ret) (hK : kC D dA a k t.2.2.2 s) (hT : cW D dA a k t H) (hh : ∀ q : Nat, ¬ ca a q → H[q]? = s.heap[q]?) (hM : Met l y (ws_ y bytes maxL none) rm (cPc D dA a k t (.ref bb :: As)) Qc mc ms free) (h1 : (Cond.methodLink own index y) ∈ lw_all) (h2 : (Cond.instanceMethod y) ∈ lw_all) (h4 : (Cond.initialized y.cls) ∈ lw_all) (h5 : (Cond.code y bytes maxL none) ∈ lw_all) (hrm : rm.cells = mc ∧ rm.slots = ms) (hd : y.name = "<init>" ∧ y.cls ≠ "java/lang/invoke/MethodHandle" ∧ y.cls ≠ "java/lang/invoke/VarHandle" ∧ (parseMethodDescriptor y.desc).map (fun d => d.parameters.length) = some n) (hR : rm.frames + 1 ≤ R.frames ∧ 8 + (maxL + 11) + rm.locals ≤ R.locals) (hc : cells + mc ≤ R.cells ∧ slots + ms ≤ R.slots)
    (hn : As.length = n) (hl : ls.size = nL) (hst : st0 = As.reverse ++ .ref bb :: rest) (hro : (rest.map fun v => v.category).sum ≤ 8) (hdg : decode cc pc = .ok (.invokespecial index, 3)) : va_Run p l e R s m args below meth c H locs cells slots mc ms (F0 m pc ls st0) rest (Qc (Value.ref bb :: As).toArray) free := by
  obtain ⟨hx, hb, -, hml, hown, hts, -⟩ := C
  exact va_runI (As := As) (rest := rest) ⟨hx, hb, hml, hown, hts⟩ hM (cwI n hts (lw_meth h5) rfl hrm.1 hrm.2 (hts _ h4) (hts _ h1) (hts _ h2) hd.1 hd.2 hR) ⟨fb_c, fun U hU hW => ⟨rfl, hK.go hW (by rw [hU]; exact hh) (fun _ _ => rfl), by rw [hU]; exact hT⟩⟩ rfl hn hl hst (lv_room hro) hdg hc
theorem run_iN {host : String} {y : MethodName} {bytes : ByteArray} {maxL n index bb mc ms : Nat} {rm : Room} {As : List Value} {Qc : Array Value → State → Outcome → State → Prop} {free : Addr → Prop} (C : cx p s m args meth c cc own nL ret) (hK : kC D dA a k t.2.2.2 s) (hT : cW D dA a k t H) (hh : ∀ q : Nat, ¬ ca a q → H[q]? = s.heap[q]?) (hM : Met l y (ws_ y bytes maxL none) rm (cPc D dA a k t (.ref bb :: As)) Qc mc ms free) (h1 : va_Nw (.methodLinkNest own index y host) s) (h2 : (Cond.instanceMethod y) ∈ lw_all) (h4 : (Cond.initialized y.cls) ∈ lw_all) (h5 : (Cond.code y bytes maxL none) ∈ lw_all) (hrm : rm.cells = mc ∧ rm.slots = ms) (hd : y.name = "<init>" ∧ y.cls ≠ "java/lang/invoke/MethodHandle" ∧ y.cls ≠ "java/lang/invoke/VarHandle" ∧ (parseMethodDescriptor y.desc).map (fun d => d.parameters.length) = some n) (hR : rm.frames + 1 ≤ R.frames ∧ 8 + (maxL + 11) + rm.locals ≤ R.locals) (hc : cells + mc ≤ R.cells ∧ slots + ms ≤ R.slots)
    (hn : As.length = n) (hl : ls.size = nL) (hst : st0 = As.reverse ++ .ref bb :: rest) (hro : (rest.map fun v => v.category).sum ≤ 8) (hdg : decode cc pc = .ok (.invokespecial index, 3)) : va_Run p l e R s m args below meth c H locs cells slots mc ms (F0 m pc ls st0) rest (Qc (Value.ref bb :: As).toArray) free := by
  obtain ⟨hx, hb, -, hml, hown, hts, -⟩ := C
  exact va_runIN (As := As) (rest := rest) ⟨hx, hb, hml, hown, hts⟩ hM ⟨va_cnB n hts (lw_meth h5) rfl hrm.1 hrm.2 h1 (hts _ h4) hd.2 hR, hd.1, hts _ h2⟩ ⟨fb_c, fun U hU hW => ⟨rfl, hK.go hW (by rw [hU]; exact hh) (fun _ _ => rfl), by rw [hU]; exact hT⟩⟩ rfl hn hl hst (lv_room hro) hdg hc
/-- System.arraycopy of references -/
theorem W_copyq (hexec : p.tables.exec = Jvm.exec) (hb : c.code = cc) (hml : c.maxLocals = ls.size) {own : String} {index : Nat} (hown : s.vm.findClass own = some m.cls) (hlink : (Cond.methodLink own index arraycopyName).before args s = true) (hnat : (Cond.native arraycopyName).before args s = true) (hstat : (Cond.static arraycopyName).before args s = true) (hini : (Cond.initialized "java/lang/System").before args s = true)
    {a0 a1 : Nat} {c0 c1 : ClassId} {n0 n1 : Nat} {f g : Nat → Option Nat} {ty : FieldType} (hty : ty = .array .int ∨ ∃ C, ty = .object C) (hc0 : H[a0]? = some (vp_cell c0 (n0, qrf f))) (hc1 : H[a1]? = some (vp_cell c1 (n1, qrf g))) (ht0 : ArrOfT s c0 ty) {kA kE : Class} {comp : ClassId} (r1 : s.vm.classes[c1]? = some kA) (r2 : kA.kind = .array comp ty) (r3 : s.vm.classes[comp]? = some kE)
    {sp dp n : Int32} (h1 : ¬ sp < 0) (h2 : ¬ dp < 0) (h3 : ¬ n < 0) (h4 : sp.toNatClampNeg + n.toNatClampNeg ≤ n0) (h5 : dp.toNatClampNeg + n.toNatClampNeg ≤ n1) (hel : ∀ i : Nat, i < n.toNatClampNeg → ∀ y : Nat, f (sp.toNatClampNeg + i) = some y → ∃ (cellV : Cell) (kC : Class), H[y]? = some cellV ∧ cellV.vm.isStatics = false ∧ s.vm.classes[cellV.cls]? = some kC ∧ s.vm.assignable cellV.cls comp = true)
    (hframes : 1 ≤ R.frames) (hlocals : (rest.map fun v => v.category).sum + (nativeFrameWords "java/lang/System" "arraycopy" 5 + 11) ≤ R.locals) (hdg : decode cc pc = .ok (.invokestatic index, 3))
    (kc : ∀ (H1 : Heap) (L : List Loc), (∀ q ∈ L, q.base = a1) → H1[a1]? = some (vp_cell c1 (n1, qrf (va_cpy f g sp.toNatClampNeg dp.toNatClampNeg n.toNatClampNeg))) → H1.size = H.size → (∀ q : Nat, q ≠ a1 → H1[q]? = H[q]?) → W p l e R s m args below meth c H1 (locs ++ L) cells slots Q (F0 m (pc + 3) ls rest)) : W p l e R s m args below meth c H locs cells slots Q (F0 m pc ls (.int n :: .int dp :: .ref a1 :: .int sp :: .ref a0 :: rest)) := by
  have nn : ∀ z : Int32, ¬ z < 0 → z.toInt = (z.toNatClampNeg : Int) := by
    intro z hz
    have hz0 : (0 : Int) ≤ z.toInt := by
      have := Int32.not_lt.mp hz
      simpa using Int32.le_iff_toInt_le.mp this
    show z.toInt = ((z.toInt.toNat : Nat) : Int)
    omega
  intro T hT X
  obtain ⟨-, k0, hk0, cm0, hkk0⟩ := ht0 n0 (fun j => va_rf (f j))
  obtain ⟨vm', X', step⟩ := X.arraycopy hexec hown hlink hnat hstat hini (src := a0) (dst := a1) (cs := vp_cell c0 (n0, qrf f)) (cd := vp_cell c1 (n1, qrf g)) (srcPos := sp) (destPos := dp) (n := n) (by rw [hT]; exact hc0) (by rw [hT]; exact hc1)
    (fun _ h => by cases h) (fun _ h => by cases h) (fun h => by cases h) (fun h => by cases h) hk0 r1 hkk0 r2 (by rcases hty with rfl | ⟨C, rfl⟩ <;> rfl) h1 h2 h3
    (by rw [nn sp h1, nn n h3]; show ¬ _ > ((arrV c0 n0 (fun j => va_rf (f j))).slots.size : Int); rw [arrV_size]; omega)
    (by rw [nn dp h2, nn n h3]; show ¬ _ > ((arrV c1 n1 (fun j => va_rf (g j))).slots.size : Int); rw [arrV_size]; omega)
    (fun vm₁ hal i hi => by
      have e : (vp_cell c0 (n0, qrf f)).slots.getD (sp.toNatClampNeg + i) .null = va_rf (f (sp.toNatClampNeg + i)) := by
        show (arrV c0 n0 (fun j => va_rf (f j))).slots.getD _ _ = _
        rw [Array.getD_eq_getD_getElem?, arrV_read _ _ (by omega)]
        rfl
      rw [e]
      cases hy : f (sp.toNatClampNeg + i) with
      | none => exact ⟨by rcases hty with rfl | ⟨C, rfl⟩ <;> rfl, trivial⟩
      | some y =>
        obtain ⟨cellV, kC, g1, g2, g3, g4⟩ := hel i hi y hy
        obtain ⟨kC', hkC', -⟩ := hal.2.2 _ _ g3
        obtain ⟨kE', hkE', -⟩ := hal.2.2 _ _ r3
        refine ⟨by rcases hty with rfl | ⟨C, rfl⟩ <;> rfl, cellV, (show T.heap[y]? = some cellV by rw [hT]; exact g1), (fun q h => by rw [h] at g2; cases g2), ⟨kC', hkC'⟩, ?_, ?_⟩
        · exact ⟨kE', hkE'⟩
        · show vm₁.assignable _ _ = true
          rw [hal.assignable]
          exact g4)
    (g := F0 m pc ls (.int n :: .int dp :: .ref a1 :: .int sp :: .ref a0 :: rest)) rfl (by rw [hml]) (rest := rest) rfl (by rw [hb]; exact hdg) hframes (by show 2 * 0 + _ + _ ≤ _; omega)
  have e1 : copied (vp_cell c0 (n0, qrf f)) (vp_cell c1 (n1, qrf g)) sp dp n = vp_cell c1 (n1, qrf (va_cpy f g sp.toNatClampNeg dp.toNatClampNeg n.toNatClampNeg)) := va_copied (fun z => va_rf z) c0 c1 f g h4
  rw [e1] at X' step
  have hl : a1 < H.size := (Array.getElem?_eq_some_iff.mp hc1).1
  have hheap : ((T.setVm vm').setCell a1 (vp_cell c1 (n1, qrf (va_cpy f g sp.toNatClampNeg dp.toNatClampNeg n.toNatClampNeg)))).heap = H.setIfInBounds a1 (vp_cell c1 (n1, qrf (va_cpy f g sp.toNatClampNeg dp.toNatClampNeg n.toNatClampNeg))) := by rw [← hT]; rfl
  obtain ⟨t, b1, b2⟩ := kc _ _ (fun q h => by
      obtain ⟨z, -, hz⟩ := List.mem_map.mp h
      rw [← hz]) (show (H.setIfInBounds a1 _)[a1]? = some _ by simp [Array.getElem?_setIfInBounds, hl]) (by simp) (fun q hq => by simp [Array.getElem?_setIfInBounds, Ne.symm hq]) _ hheap X'
  exact ⟨t, step t b1, b2⟩
theorem cra_at (i j n : Nat) (hj : j < 115) (cA : ClassId) (hT : cW D dA a k t H) {H1 : Heap} (ha : ∀ f g, cwd dA a j f g = .inl (cA, n, qrf g)) {n2 : Int32} (hn : n2.toNatClampNeg = n) (e : H1[a + j]? = some (vp_cell cA (n, qrf (va_cpy (t.2.1 i) (t.2.1 j) (0 : Int32).toNatClampNeg (0 : Int32).toNatClampNeg n2.toNatClampNeg)))) (z : H1.size = H.size) (oq : ∀ q : Nat, q ≠ a + j → H1[q]? = H[q]?) : cW D dA a k (cra_ t j (t.2.1 i)) H1 := by
  refine hT.put j hj ?_ z oq (fun _ _ => rfl) (fun w hw => by funext y; simp [cra_, hw]) rfl
  rw [ha]
  show H1[a + j]? = some (vp_cell _ _)
  rw [e]
  unfold qrf
  rw [vp_cell_q, vp_cell_q]
  exact congrArg some (arrV_ext (fun q hq => by
    rw [hn]
    simp [va_cpy, cra_, hq, show (0 : Int32).toNatClampNeg = 0 by decide]))
theorem c_copyC {CC : String} {TT : u_T} {N ci : Nat} (hc : classes[ci]? = some (CC, TT, N)) (C : cx p s m args meth c cc own nL ret) (hK : kC D dA a k t.2.2.2 s) (hT : cW D dA a k t H) {N0 : Nat → Nat} {lo : Nat} (hS : cS a s.heap H locs N0 lo t) (hl : ls.size = nL) (i j n w : Nat) (hi : i < 115) (hj : j < 115) (hai : ∀ f g, cwd dA a i f g = .inl (dA w, n, qrf g)) (haj : ∀ f g, cwd dA a j f g = .inl (dA w, n, qrf g)) (hw : (tysA dA)[w]? = some (dA w, .object CC)) {index : Nat} (hq : (Cond.methodLink own index arraycopyName) ∈ lw_all) {n2 : Int32} (hn0 : ¬ n2 < 0) (hn : n2.toNatClampNeg = n) (hel : ∀ z, z < n → okE t ci (t.2.1 i z) = true) (hR : 1 ≤ R.frames ∧ 30 ≤ R.locals) (hro : (rest.map fun v => v.category).sum ≤ 8) (hdg : decode cc pc = .ok (.invokestatic index, 3))
    (kc : ∀ (t1 : CS) (H1 : Heap) (locs1 : List Loc), t1 = cra_ t j (t.2.1 i) → cW D dA a k t1 H1 → cS a s.heap H1 locs1 N0 lo t1 → kC D dA a k t1.2.2.2 s → W p l e R s m args below meth c H1 locs1 cells slots Q (F0 m (pc + 3) ls rest)) : W p l e R s m args below meth c H locs cells slots Q (F0 m pc ls (.int n2 :: .int 0 :: .ref (a + j) :: .int 0 :: .ref (a + i) :: rest)) := by
  obtain ⟨hx, hb, -, hml, hown, hts, -⟩ := C
  have hcls := (hK.1.1 ci _ hc).2
  obtain ⟨kA, comp, k1, k2, k3, -⟩ := (hK.1.2 w _ hw).2
  have hcomp : comp = D.1 ci := Option.some.inj (k3.symm.trans hcls.1)
  subst hcomp
  obtain ⟨kE, hkE, -⟩ := hcls.2
  have z0 : (0 : Int32).toNatClampNeg = 0 := by decide
  refine W_copyq hx hb (hml.trans hl.symm) hown (hts _ hq) (hts _ q268) (hts _ q267) (hts _ q161) (Or.inr ⟨CC, rfl⟩) (c_cell hT i hi (hai _ _) 0 _ rfl) (c_cell hT j hj (haj _ _) 0 _ rfl) (hK.1.2 w _ hw).1 k1 k2 hkE (by decide) (by decide) hn0 (by rw [z0, hn]; omega) (by rw [z0, hn]; omega) (fun z hz y hy => ?_) hR.1 (nfw_le hro hR.2) hdg (fun H1 L hL e1 e2 e3 => ?_)
  · rw [z0, Nat.zero_add] at hy
    have h1 := hel z (hn ▸ hz)
    rw [hy] at h1
    obtain ⟨fs, hg⟩ := gC_some (okE_some h1)
    obtain ⟨cellV, g1, g2, g3, -⟩ := d_ob hT hg hc
    exact ⟨cellV, kE, g1, g3, by rw [g2]; exact hkE, by rw [g2]; exact va_assign hcls⟩
  · exact kc _ H1 _ rfl (cra_at i j n hj (dA w) hT haj hn e1 e2 e3) (hS.puts e2 e3 (Or.inl ⟨Nat.le_add_right _ _, by omega⟩) hL rfl) hK
theorem c_copyG (C : cx p s m args meth c cc own nL ret) (hK : kC D dA a k t.2.2.2 s) (hT : cW D dA a k t H) {N0 : Nat → Nat} {lo : Nat} (hS : cS a s.heap H locs N0 lo t) (hl : ls.size = nL) (i j n : Nat) (hi : i < 115) (hj : j < 115) (hai : ∀ f g, cwd dA a i f g = .inl (dA 6, n, qrf g)) (haj : ∀ f g, cwd dA a j f g = .inl (dA 6, n, qrf g)) {index : Nat} (hq : (Cond.methodLink own index arraycopyName) ∈ lw_all) {n2 : Int32} (hn0 : ¬ n2 < 0) (hn : n2.toNatClampNeg = n) (hel : ∀ z, z < n → okI t (t.2.1 i z) = true) (hR : 1 ≤ R.frames ∧ 30 ≤ R.locals) (hro : (rest.map fun v => v.category).sum ≤ 8) (hdg : decode cc pc = .ok (.invokestatic index, 3))
    (kc : ∀ (t1 : CS) (H1 : Heap) (locs1 : List Loc), t1 = cra_ t j (t.2.1 i) → cW D dA a k t1 H1 → cS a s.heap H1 locs1 N0 lo t1 → kC D dA a k t1.2.2.2 s → W p l e R s m args below meth c H1 locs1 cells slots Q (F0 m (pc + 3) ls rest)) : W p l e R s m args below meth c H locs cells slots Q (F0 m pc ls (.int n2 :: .int 0 :: .ref (a + j) :: .int 0 :: .ref (a + i) :: rest)) := by
  obtain ⟨hx, hb, -, hml, hown, hts, -⟩ := C
  obtain ⟨k0, kA, w1, w2, w3, w4⟩ := hK.2.2.2.1
  have z0 : (0 : Int32).toNatClampNeg = 0 := by decide
  refine W_copyq hx hb (hml.trans hl.symm) hown (hts _ hq) (hts _ q268) (hts _ q267) (hts _ q161) (Or.inl rfl) (c_cell hT i hi (hai _ _) 0 _ rfl) (c_cell hT j hj (haj _ _) 0 _ rfl) (hK.1.2 6 _ rfl).1 w2 w3 w1 (by decide) (by decide) hn0 (by rw [z0, hn]; omega) (by rw [z0, hn]; omega) (fun z hz y hy => ?_) hR.1 (nfw_le hro hR.2) hdg (fun H1 L hL e1 e2 e3 => ?_)
  · rw [z0, Nat.zero_add] at hy
    have h1 := hel z (hn ▸ hz)
    rw [hy] at h1
    obtain ⟨n3, f3, hg⟩ := okI_some h1
    exact ⟨_, k0, d_at hT hg 0 _ rfl, rfl, w1, w4⟩
  · exact kc _ H1 _ rfl (cra_at i j n hj (dA 6) hT haj hn e1 e2 e3) (hS.puts e2 e3 (Or.inl ⟨Nat.le_add_right _ _, by omega⟩) hL rfl) hK
/-- State.copy of a dynamic row -/
theorem c_copyid (C : cx p s m args meth c cc own nL ret) (hK : kC D dA a k t.2.2.2 s) (hT : cW D dA a k t H) {H0 : Heap} {N0 : Nat → Nat} {lo : Nat} (hS : cS a H0 H locs N0 lo t) (hl : ls.size = nL) (r j n : Nat) (hj : j < 115) {f : Nat → Int32} (hr : t.2.2.1 r = some (.inl (0, n, .inl f))) (haj : ∀ f g, cwd dA a j f g = .inl (dA 0, n, .inl f)) {index : Nat} (hq : (Cond.methodLink own index arraycopyName) ∈ lw_all) {n2 : Int32} (hn0 : ¬ n2 < 0) (hn : n2.toNatClampNeg = n) (hR : 1 ≤ R.frames ∧ 30 ≤ R.locals) (hro : (rest.map fun v => v.category).sum ≤ 8) (hdg : decode cc pc = .ok (.invokestatic index, 3))
    (kc : ∀ (t1 : CS) (H1 : Heap) (locs1 : List Loc), t1 = ca_ t j f → cW D dA a k t1 H1 → cS a H0 H1 locs1 N0 lo t1 → kC D dA a k t1.2.2.2 s → W p l e R s m args below meth c H1 locs1 cells slots Q (F0 m (pc + 3) ls rest)) : W p l e R s m args below meth c H locs cells slots Q (F0 m pc ls (.int n2 :: .int 0 :: .ref (a + j) :: .int 0 :: .ref r :: rest)) := by
  obtain ⟨hx, hb, -, hml, hown, hts, -⟩ := C
  have z0 : (0 : Int32).toNatClampNeg = 0 := by decide
  refine W_copyi hx hb (hml.trans hl.symm) hown (hts _ hq) (hts _ q268) (hts _ q267) (hts _ q161) (d_at hT hr 0 _ rfl) (c_cell hT j hj (haj _ _) 0 _ rfl) (hK.1.2 0 _ rfl).1 (hK.1.2 0 _ rfl).1 rfl (by decide) (by decide) hn0 (by rw [z0, hn]; omega) (by rw [z0, hn]; omega) (fun _ _ => rfl) hR.1 (nfw_le hro hR.2) hdg (fun H1 L hL e1 e2 e3 => ?_)
  refine kc _ H1 _ rfl (hT.put j hj ?_ e2 e3 (fun w hw => by funext y; simp [ca_, hw]) (fun _ _ => rfl) rfl) (hS.puts e2 e3 (Or.inl ⟨Nat.le_add_right _ _, by omega⟩) hL rfl) hK
  rw [haj]
  show H1[a + j]? = some (vp_cell _ _)
  rw [e1, vp_cell_i, vp_cell_i]
  exact congrArg some (arrV_ext (fun q hq => by rw [hn]; simp [va_cpy, ca_, hq, z0]))
theorem mX1_copyd (r j n : Nat) (hj : j < 115) (hn : n < 1000) {f : Nat → Int32} (hr : t.2.2.1 r = some (.inl (0, n, .inl f))) (haj : ∀ f g, cwd dA a j f g = .inl (dA 0, n, .inl f)) : Met l yX1_copy (ws_ yX1_copy cX1_copy 2 none) rmX1_copy (cPc D dA a k t [.ref r, .ref (a + j)]) (cQ D dA a k 0 t (ca_ t j f) none) 0 0 (ca a) :=
  en_C (by decide +kernel) rfl (Nat.le_of_ble_eq_true rfl) (fun p e s m below meth c ls C hK hT hl => by
    obtain ⟨hx, hb, -, hml, hown, hts, hlocks⟩ := id C
    refine lv_aload_n hx hb dX1_copy_0 rfl (lv_at hl 0 rfl) ?_
    refine lv_iconst (v := 0) hx hb dX1_copy_1 (by decide) ?_
    refine lv_aload_n hx hb dX1_copy_2 rfl (lv_at hl 1 rfl) ?_
    refine lv_iconst (v := 0) hx hb dX1_copy_3 (by decide) ?_
    refine lv_aload_n hx hb dX1_copy_4 rfl (lv_at hl 0 rfl) ?_
    refine va_alen hx hb hK.1 (d_at hT hr) 0 0 (x := (n, .inl f)) rfl (ty := .int) rfl (v := nI n) rfl dX1_copy_5 ?_
    refine c_copyid C hK hT (cS.rf (lo := 0)) hl.1 r j n hj hr haj q266 (nI_pos (by omega)) (nI_clamp (by omega)) ⟨Nat.le_refl _, Nat.le_refl _⟩ (Nat.le_of_ble_eq_true rfl) dX1_copy_6 (fun t1 H locs e1 hT hS hK => ?_)
    subst e1
    exact ec_v C hT hS rfl dX1_copy_9)
theorem x_copydN {host : String} (C : cx p s m args meth c cc own nL ret) (hK : kC D dA a k t.2.2.2 s) (hT : cW D dA a k t H) {N0 : Nat → Nat} {lo : Nat} (hS : cS a s.heap H locs N0 lo t) (r j n : Nat) (hj : j < 115) {f : Nat → Int32} (hr : t.2.2.1 r = some (.inl (0, n, .inl f))) (haj : ∀ f g, cwd dA a j f g = .inl (dA 0, n, .inl f)) (hn : n < 1000) (hl : ls.size = nL) (hro : (rest.map fun v => v.category).sum ≤ 8) (hR : rmX1_copy.frames + 1 ≤ R.frames ∧ 8 + (2 + 11) + rmX1_copy.locals ≤ R.locals) (hc : cells ≤ R.cells ∧ slots ≤ R.slots) {index : Nat} (hq : va_Nw (.methodLinkNest own index yX1_copy host) s) (hdg : decode cc pc = .ok (.invokestatic index, 3)) (kc : ∀ (t1 : CS) (H1 : Heap) (locs1 : List Loc), t1 = ca_ t j f → cW D dA a k t1 H1 → cS a s.heap H1 locs1 N0 lo t1 → kC D dA a k t1.2.2.2 s → W p l e R s m args below meth c H1 locs1 cells slots Q (F0 m (pc + 3) ls rest)) : W p l e R s m args below meth c H locs cells slots Q (F0 m pc ls (.ref (a + j) :: .ref r :: rest)) :=
  wc_void hS hK (run_csN (As := [.ref r, .ref (a + j)]) (rest := rest) C hK hT hS.2.1 (mX1_copyd r j n hj hn hr haj) hq q264 q159 q265 ⟨rfl, rfl⟩ hdX1_copy hR hc rfl hl rfl hro hdg) (fun H1 l1 a1 a2 a3 _ => kc _ H1 l1 rfl a1 a2 a3)
end CX3
