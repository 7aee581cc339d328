section CW
variable {p : Program} {l : Launch} {e : Env} {R : Room} {s : State} {m : MethodId} {args : Array Value} {below : List Frame} {meth : Method} {c : Code} {H : Heap} {locs : List Loc} {cells slots : Nat} {Q : State → Prop}
variable {cc : ByteArray} {pc nL : Nat} {ls : Array Slot} {rest st0 : List Value} {own : String} {ret : Option FieldType} {D : va_G} {dA : Nat → ClassId} {a : Nat} {k : KP a} {t : CS}

theorem c_cell (hT : cW D dA a k t H) (i : Nat) (hi : i < 115) {x : va_E} (hx : cwd dA a i (t.1 i) (t.2.1 i) = x) : va_P D classes [(a + i, x)] H := hT.1.one (by rw [cw_at i hi, hx])
theorem c_cell0 (hT : cW D dA a k t H) : va_P D classes [(a, .inr (0, cxO a (t.1 0)))] H := c_cell hT 0 (by decide) rfl
theorem c_getX (C : cx p s m args meth c cc RX0 nL ret) (hK : kC D dA a k t.2.2.2 s) (hT : cW D dA a k t H) (j : Nat) (hj : j < 20) {index : Nat} (hq : (Cond.fieldLink RX0 index RX0 (TX0 j).2.1 (TX0 j).2.2.1) ∈ lw_all) (hC : (TX0 j).1 = RX0) {v : Value} (hv : (cxO a (t.1 0))[j]? = some v) (hdg : decode cc pc = .ok (.getfield index, 3)) (kc : W p l e R s m args below meth c H locs cells slots Q (F0 m (pc + 3) ls (v :: rest))) : W p l e R s m args below meth c H locs cells slots Q (F0 m pc ls (.ref a :: rest)) :=
  va_get (ci := 0) (C := RX0) (T := TX0) (N := 20) C.1 C.2.1 C.2.2.2.2.2.1 in_X0 C.2.2.2.2.1 hK.1 (c_cell0 hT) 0 rfl rfl j hj (C.2.2.2.2.2.1 _ hq) (fun x h => by rw [hC] at h; exact h) hv hdg kc
theorem c_getS (C : cx p s m args meth c cc RX1 nL ret) (hK : kC D dA a k t.2.2.2 s) (hT : cW D dA a k t H) {i : Nat} (hi : i = 1 ∨ i = 53) (j : Nat) (hj : j < 9) {index : Nat} (hq : (Cond.fieldLink RX1 index RX1 (TX1 j).2.1 (TX1 j).2.2.1) ∈ lw_all) (hC : (TX1 j).1 = RX1) {v : Value} (hv : (csO (a + i))[j]? = some v) (hdg : decode cc pc = .ok (.getfield index, 3)) (kc : W p l e R s m args below meth c H locs cells slots Q (F0 m (pc + 3) ls (v :: rest))) : W p l e R s m args below meth c H locs cells slots Q (F0 m pc ls (.ref (a + i) :: rest)) :=
  va_get (ci := 1) (C := RX1) (T := TX1) (N := 9) C.1 C.2.1 C.2.2.2.2.2.1 in_X1 C.2.2.2.2.1 hK.1 (c_cell hT i (by rcases hi with rfl | rfl <;> decide) (x := .inr (1, csO (a + i))) (by rcases hi with rfl | rfl <;> rfl)) 0 rfl rfl j hj (C.2.2.2.2.2.1 _ hq) (fun x h => by rw [hC] at h; exact h) hv hdg kc
theorem c_getSN {host : String} (C : cx p s m args meth c cc own nL ret) (hK : kC D dA a k t.2.2.2 s) (hT : cW D dA a k t H) {i : Nat} (hi : i = 1 ∨ i = 53) (j : Nat) (hj : j < 9) {index : Nat} (hq : (Cond.fieldLinkNest own index RX1 (TX1 j).2.1 (TX1 j).2.2.1 host).before args s = true) (hC : (TX1 j).1 = RX1) {v : Value} (hv : (csO (a + i))[j]? = some v) (hdg : decode cc pc = .ok (.getfield index, 3)) (kc : W p l e R s m args below meth c H locs cells slots Q (F0 m (pc + 3) ls (v :: rest))) : W p l e R s m args below meth c H locs cells slots Q (F0 m pc ls (.ref (a + i) :: rest)) :=
  va_getN (ci := 1) (C := RX1) (T := TX1) (N := 9) C.1 C.2.1 C.2.2.2.2.2.1 in_X1 C.2.2.2.2.1 hK.1 (c_cell hT i (by rcases hi with rfl | rfl <;> decide) (x := .inr (1, csO (a + i))) (by rcases hi with rfl | rfl <;> rfl)) 0 rfl rfl j hj hq (fun x h => by rw [hC] at h; exact h) hv hdg kc
theorem c_putX (C : cx p s m args meth c cc RX0 nL ret) (hK : kC D dA a k t.2.2.2 s) (hT : cW D dA a k t H) {H0 : Heap} {N0 : Nat → Nat} {lo : Nat} (hS : cS a H0 H locs N0 lo t) (j : Nat) (hj : j < 20) {index : Nat} (hq : (Cond.fieldLink RX0 index RX0 (TX0 j).2.1 (TX0 j).2.2.1) ∈ lw_all) (hC : (TX0 j).1 = RX0) (hfin : (TX0 j).2.2.2 = false) {x : Int32} (hd : parseFieldDescriptor (TX0 j).2.2.1 = some .int) (ho : (cxO a (t.1 0)).set j (.int x) = cxO a ((ci_ t 0 j x).1 0)) (hdg : decode cc pc = .ok (.putfield index, 3)) (kc : ∀ (t1 : CS) (H1 : Heap) (locs1 : List Loc), t1 = ci_ t 0 j x → cW D dA a k t1 H1 → cS a H0 H1 locs1 N0 lo t1 → kC D dA a k t1.2.2.2 s → W p l e R s m args below meth c H1 locs1 cells slots Q (F0 m (pc + 3) ls rest)) : W p l e R s m args below meth c H locs cells slots Q (F0 m pc ls (.int x :: .ref a :: rest)) := by
  obtain ⟨hx, hb, -, -, hown, hts, -⟩ := C
  have hP := c_cell0 hT
  have hc : classes[0]? = some (RX0, TX0, 20) := rfl
  have hap := va_apart (own := RX0) hts in_X0 tyX0 tyX0_ok nmX0 hK.1 hc
  obtain ⟨r, e1, cell, q1, q2, q3, q4⟩ := hP 0 _ rfl
  have hr : r = (RX0, TX0, 20) := Option.some.inj (e1.symm.trans hc)
  subst hr
  obtain ⟨hSl, hfc, kC, hkC, hkind⟩ := hK.1.1 0 _ hc
  obtain ⟨cf, kf, fi, f, hi, hsl⟩ := hSl j hj
  have hlay := hts _ (in_X0 _ (u_in_lay hj))
  unfold u_lay at hlay
  rw [if_neg (by rw [hfin]; decide)] at hlay
  have hst := (u_facts hfc hkC (u_lays hts in_X0 hj) hi).1
  have h6 := u_store hfc hkC hkind hlay hi hd (v := .int x) rfl rfl
  have hi2 := hi
  rw [hC] at hi2
  refine W.putK hx hb (f := f) ⟨hown, hts _ hq, ⟨_, _, _, hi2⟩, hst⟩ (by rw [q2]; exact h6) q1 q3 (by rw [hsl]; exact k2_hasslot (q4 j hj)) rfl rfl hdg fun H' e1 e2 e3 => ?_
  rw [hsl] at e1 ⊢
  have hat : va_at D classes (a, (.inr (0, (cxO a (t.1 0)).set j (.int x)) : va_E)) H' := ⟨_, hc, t_OB.to (V := updV (vp_V (cxO a (t.1 0))) j (.int x)) ⟨_, e1, q2, q3, t_set q4 hap hj (.int x)⟩ (fun z _ => vp_updV_set (by exact hj) (.int x) z)⟩
  rw [ho] at hat
  exact kc _ H' _ rfl (hT.put 0 (by decide) hat e2 e3 (fun z hz => by funext w; simp [ci_, hz]) (fun z hz => rfl) rfl) (hS.put e2 e3 (Or.inl ⟨Nat.le_refl _, by omega⟩) rfl) hK
theorem c_ild (C : cx p s m args meth c cc own nL ret) (hK : kC D dA a k t.2.2.2 s) (hT : cW D dA a k t H) (i n : Nat) (hi : i < 115) (ha : ∀ f g, cwd dA a i f g = .inl (dA 0, n, .inl f)) {x : Int32} (hin : vp_in x n) (hdg : decode cc pc = .ok (.iaload, 1)) (kc : W p l e R s m args below meth c H locs cells slots Q (F0 m (pc + 1) ls (.int (t.1 i x.toNatClampNeg) :: rest))) : W p l e R s m args below meth c H locs cells slots Q (F0 m pc ls (.int x :: .ref (a + i) :: rest)) :=
  va_iald C.1 C.2.1 hK.1 (c_cell hT i hi (ha _ _)) 0 0 rfl rfl hin hdg kc
theorem c_bld (C : cx p s m args meth c cc own nL ret) (hK : kC D dA a k t.2.2.2 s) (hT : cW D dA a k t H) (i n : Nat) (hi : i < 115) (ha : ∀ f g, cwd dA a i f g = .inl (dA 1, n, .inl f)) {x : Int32} (hin : vp_in x n) (hdg : decode cc pc = .ok (.baload, 1)) (kc : W p l e R s m args below meth c H locs cells slots Q (F0 m (pc + 1) ls (.int (t.1 i x.toNatClampNeg) :: rest))) : W p l e R s m args below meth c H locs cells slots Q (F0 m pc ls (.int x :: .ref (a + i) :: rest)) :=
  va_bald C.1 C.2.1 hK.1 (c_cell hT i hi (ha _ _)) 0 1 rfl rfl hin hdg kc
theorem c_ist (C : cx p s m args meth c cc own nL ret) (hK : kC D dA a k t.2.2.2 s) (hT : cW D dA a k t H) {H0 : Heap} {N0 : Nat → Nat} {lo : Nat} (hS : cS a H0 H locs N0 lo t) (i n : Nat) (hi : i < 115) (ha : ∀ f g, cwd dA a i f g = .inl (dA 0, n, .inl f)) {x v : Int32} (hin : vp_in x n) (hdg : decode cc pc = .ok (.iastore, 1)) (kc : ∀ (t1 : CS) (H1 : Heap) (locs1 : List Loc), t1 = ci_ t i x.toNatClampNeg v → cW D dA a k t1 H1 → cS a H0 H1 locs1 N0 lo t1 → kC D dA a k t1.2.2.2 s → W p l e R s m args below meth c H1 locs1 cells slots Q (F0 m (pc + 1) ls rest)) : W p l e R s m args below meth c H locs cells slots Q (F0 m pc ls (.int v :: .int x :: .ref (a + i) :: rest)) := by
  refine W.iast C.1 C.2.1 (c_cell hT i hi (ha _ _) 0 _ rfl) ((hK.1.2 0 _ rfl).1 n (fun j => .int (t.1 i j))) (fun q => by cases q) (by show ¬ (x < 0 ∨ (arrV _ _ _).slots.size ≤ _); rw [arrV_size]; exact hin) rfl rfl hdg fun H1 e z oq => ?_
  refine kc _ H1 _ rfl (hT.put i hi ?_ z oq (fun w hw => by funext y; simp [ci_, hw]) (fun _ _ => rfl) rfl) (hS.put z oq (Or.inl ⟨Nat.le_add_right _ _, by omega⟩) rfl) hK
  rw [ha]
  show H1[a + i]? = some (vp_cell _ _)
  rw [e]
  rw [vp_cell_i, vp_cell_i, arrV_store]
  congr 2
  funext q
  by_cases hq : q = x.toNatClampNeg
  · subst hq
    simp [updV, ci_]
  · simp [updV, ci_, hq]
theorem c_bst (C : cx p s m args meth c cc own nL ret) (hK : kC D dA a k t.2.2.2 s) (hT : cW D dA a k t H) {H0 : Heap} {N0 : Nat → Nat} {lo : Nat} (hS : cS a H0 H locs N0 lo t) (i n : Nat) (hi : i < 115) (ha : ∀ f g, cwd dA a i f g = .inl (dA 1, n, .inl f)) {x v : Int32} (hin : vp_in x n) (hdg : decode cc pc = .ok (.bastore, 1)) (kc : ∀ (t1 : CS) (H1 : Heap) (locs1 : List Loc), t1 = ci_ t i x.toNatClampNeg v.toInt8.toInt32 → cW D dA a k t1 H1 → cS a H0 H1 locs1 N0 lo t1 → kC D dA a k t1.2.2.2 s → W p l e R s m args below meth c H1 locs1 cells slots Q (F0 m (pc + 1) ls rest)) : W p l e R s m args below meth c H locs cells slots Q (F0 m pc ls (.int v :: .int x :: .ref (a + i) :: rest)) := by
  refine W.bast C.1 C.2.1 (c_cell hT i hi (ha _ _) 0 _ rfl) ((hK.1.2 1 _ rfl).1 n (fun j => .int (t.1 i j))) (fun q => by cases q) (by show ¬ (x < 0 ∨ (arrV _ _ _).slots.size ≤ _); rw [arrV_size]; exact hin) rfl rfl hdg fun H1 e z oq => ?_
  refine kc _ H1 _ rfl (hT.put i hi ?_ z oq (fun w hw => by funext y; simp [ci_, hw]) (fun _ _ => rfl) rfl) (hS.put z oq (Or.inl ⟨Nat.le_add_right _ _, by omega⟩) rfl) hK
  rw [ha]
  show H1[a + i]? = some (vp_cell _ _)
  rw [e]
  rw [vp_cell_i, vp_cell_i, arrV_store]
  congr 2
  funext q
  by_cases hq : q = x.toNatClampNeg
  · subst hq
    simp [updV, ci_]; rfl
  · simp [updV, ci_, hq]
/-- references out of the fixed arrays -/
theorem c_ald (C : cx p s m args meth c cc own nL ret) (hK : kC D dA a k t.2.2.2 s) (hT : cW D dA a k t H) (i n j : Nat) (hi : i < 115) {g : Nat → Option Nat} (ha : cwd dA a i (t.1 i) (t.2.1 i) = .inl (dA j, n, qrf g)) {ty : FieldType} (hj : (tysA dA)[j]? = some (dA j, ty)) (hty : ty.isReference = true) {x : Int32} (hin : vp_in x n) {r : Nat} (hr : g x.toNatClampNeg = some r) (hdg : decode cc pc = .ok (.aaload, 1)) (kc : W p l e R s m args below meth c H locs cells slots Q (F0 m (pc + 1) ls (.ref r :: rest))) : W p l e R s m args below meth c H locs cells slots Q (F0 m pc ls (.int x :: .ref (a + i) :: rest)) := by
  have hlt : x.toNatClampNeg < n := Nat.not_le.mp fun q => hin (Or.inr q)
  exact W.aald (v := .ref r) (ty := ty) C.1 C.2.1 (c_cell hT i hi ha 0 _ rfl) ((hK.1.2 j _ hj).1 n (fun j => va_rf (g j))) hty (fun q => by cases q) (by show ¬ (x < 0 ∨ (arrV _ _ _).slots.size ≤ _); rw [arrV_size]; exact hin) (by show (arrV _ _ _).slots[_]? = _; rw [arrV_read _ _ hlt, hr]; rfl) rfl rfl hdg kc
/-- dynamic cells -/
theorem d_at (hT : cW D dA a k t H) {r : Nat} {x : Nat × vp_A} (hr : t.2.2.1 r = some (.inl x)) : va_P D classes [(r, .inl (dA x.1, x.2))] H := hT.1.one (cw_dyn hT hr (Nat.not_lt.mp fun z => (hT.2.2.2.2.2 r _ hr).2.2.2 z))
theorem d_atO (hT : cW D dA a k t H) {r : Nat} {o : Nat × List Value} (hr : t.2.2.1 r = some (.inr o)) (h2 : t.2.2.2 2 ≤ r) : va_P D classes [(r, .inr o)] H := hT.1.one (cw_dyn hT hr (by rw [hT.2.2.1] at h2; omega))
/-- an object, one of ours or one from the start -/
theorem d_ob (hT : cW D dA a k t H) {r : Nat} {o : Nat × List Value} (hr : t.2.2.1 r = some (.inr o)) {q : vw_C} (hc : classes[o.1]? = some q) : ∃ cell : Cell, H[r]? = some cell ∧ cell.cls = D.1 o.1 ∧ cell.vm.isStatics = false ∧ cell.vm ≠ .unknown ∧ ∀ k, k < q.2.2 → cell.slots[D.2 o.1 k]? = some (vp_V o.2 k) := by
  obtain ⟨b1, b2, b3, b4⟩ := hT.2.2.2.2.2 r _ hr
  by_cases hra : r < a
  · obtain ⟨q', cell, h1, h2, h3, h4, h5, h6⟩ := b4 hra
    cases h1.symm.trans hc
    exact ⟨cell, h2, h3, h4, h5, h6⟩
  · obtain ⟨q', h1, cell, h2, h3, h4, h5⟩ := hT.1 r _ (cw_dyn hT hr (Nat.not_lt.mp hra))
    cases h1.symm.trans hc
    exact ⟨cell, h2, h3, (by rw [h4]; rfl), (by rw [h4]; exact fun h => nomatch h), h5⟩
theorem d_get {CC : String} {TT : u_T} {N ci : Nat} (hin : ∀ w ∈ u_ws CC TT N, w ∈ lw_all) (hc : classes[ci]? = some (CC, TT, N)) (C : cx p s m args meth c cc own nL ret) (hK : kC D dA a k t.2.2.2 s) (hT : cW D dA a k t H) (j : Nat) (hj : j < N) {index : Nat} (hq : (Cond.fieldLink own index CC (TT j).2.1 (TT j).2.2.1) ∈ lw_all) (hC : (TT j).1 = CC) {r : Nat} {v : Value} (hv : gV t r ci j = some v) (hdg : decode cc pc = .ok (.getfield index, 3)) (kc : W p l e R s m args below meth c H locs cells slots Q (F0 m (pc + 3) ls (v :: rest))) : W p l e R s m args below meth c H locs cells slots Q (F0 m pc ls (.ref r :: rest)) := by
  obtain ⟨fs, h1, h2⟩ := gV_some hv
  obtain ⟨hS0, hfc, kC, hkC, hkind⟩ := hK.1.1 ci _ hc
  obtain ⟨cf, kf, fi, f, hi, hsl⟩ := hS0 j hj
  obtain ⟨cell, q1, q2, q3, q4, q5⟩ := d_ob hT h1 hc
  have hi2 := hi
  rw [hC] at hi2
  refine W.getf C.1 C.2.1 C.2.2.2.2.1 (C.2.2.2.2.2.1 _ hq) hi2 (u_facts hfc hkC (u_lays C.2.2.2.2.2.1 hin hj) hi).1 q1 q4 (v := v) ?_ rfl rfl hdg kc
  rw [hsl, q5 j hj]
  simp [vp_V, h2]
theorem d_getN {CC host : String} {TT : u_T} {N ci : Nat} (hin : ∀ w ∈ u_ws CC TT N, w ∈ lw_all) (hc : classes[ci]? = some (CC, TT, N)) (C : cx p s m args meth c cc own nL ret) (hK : kC D dA a k t.2.2.2 s) (hT : cW D dA a k t H) (j : Nat) (hj : j < N) {index : Nat} (hq : (Cond.fieldLinkNest own index CC (TT j).2.1 (TT j).2.2.1 host).before args s = true) (hC : (TT j).1 = CC) {r : Nat} {v : Value} (hv : gV t r ci j = some v) (hdg : decode cc pc = .ok (.getfield index, 3)) (kc : W p l e R s m args below meth c H locs cells slots Q (F0 m (pc + 3) ls (v :: rest))) : W p l e R s m args below meth c H locs cells slots Q (F0 m pc ls (.ref r :: rest)) := by
  obtain ⟨fs, h1, h2⟩ := gV_some hv
  obtain ⟨hS0, hfc, kC, hkC, hkind⟩ := hK.1.1 ci _ hc
  obtain ⟨cf, kf, fi, f, hi, hsl⟩ := hS0 j hj
  obtain ⟨cell, q1, q2, q3, q4, q5⟩ := d_ob hT h1 hc
  have hi2 := hi
  rw [hC] at hi2
  refine va_Wgetf C.1 C.2.1 C.2.2.2.2.1 hq hi2 (u_facts hfc hkC (u_lays C.2.2.2.2.2.1 hin hj) hi).1 q1 q4 (v := v) ?_ rfl rfl hdg kc
  rw [hsl, q5 j hj]
  simp [vp_V, h2]
theorem d_ild (C : cx p s m args meth c cc own nL ret) (hK : kC D dA a k t.2.2.2 s) (hT : cW D dA a k t H) {r : Nat} {x v : Int32} (hv : aI t r x = some v) (hdg : decode cc pc = .ok (.iaload, 1)) (kc : W p l e R s m args below meth c H locs cells slots Q (F0 m (pc + 1) ls (.int v :: rest))) : W p l e R s m args below meth c H locs cells slots Q (F0 m pc ls (.int x :: .ref r :: rest)) := by
  unfold aI at hv
  split at hv
  · rename_i n f h1
    split at hv
    · cases hv
    · rename_i hin
      cases hv
      exact va_iald C.1 C.2.1 hK.1 (d_at hT h1) 0 0 rfl rfl hin hdg kc
  · cases hv
theorem d_aln (C : cx p s m args meth c cc own nL ret) (hK : kC D dA a k t.2.2.2 s) (hT : cW D dA a k t H) {r n : Nat} (hv : aN t r = some n) (hdg : decode cc pc = .ok (.arraylength, 1)) (kc : W p l e R s m args below meth c H locs cells slots Q (F0 m (pc + 1) ls (.int (nI n) :: rest))) : W p l e R s m args below meth c H locs cells slots Q (F0 m pc ls (.ref r :: rest)) := by
  unfold aN at hv
  split at hv
  · rename_i x h1
    split at hv
    · rename_i hj
      cases hv
      obtain ⟨j, y⟩ := x
      obtain ⟨hj1, rfl | rfl⟩ := hj
      · exact va_alen C.1 C.2.1 hK.1 (d_at hT h1) 0 0 (x := y) rfl (ty := .int) rfl rfl hdg kc
      · exact va_alen C.1 C.2.1 hK.1 (d_at hT h1) 0 7 (x := y) rfl (ty := .object "java/lang/Object") rfl rfl hdg kc
    · cases hv
  · cases hv
/-- loads and stores of a reference or null -/
theorem lv_aload_nO (hexec : p.tables.exec = Jvm.exec) (hb : c.code = cc) {k0 : Fin 4} {i : Nat} {x : Option Nat} (hdg : decode cc pc = .ok (.aload_n k0, 1)) (hi : (k0 : Nat) = i) (hl : ls[i]? = some (.val (va_rf x))) (kc : W p l e R s m args below meth c H locs cells slots Q (F0 m (pc + 1) ls (va_rf x :: rest))) : W p l e R s m args below meth c H locs cells slots Q (F0 m pc ls rest) := by
  cases x with
  | none => exact lv_aload_nN hexec hb hdg hi hl kc
  | some v => exact lv_aload_n hexec hb hdg hi hl kc
theorem lv_aloadO (hexec : p.tables.exec = Jvm.exec) (hb : c.code = cc) {i : Nat} {x : Option Nat} (hdg : decode cc pc = .ok (.aload i, 2)) (hl : ls[i]? = some (.val (va_rf x))) (kc : W p l e R s m args below meth c H locs cells slots Q (F0 m (pc + 2) ls (va_rf x :: rest))) : W p l e R s m args below meth c H locs cells slots Q (F0 m pc ls rest) := by
  cases x with
  | none => exact lv_aloadN hexec hb hdg hl kc
  | some v => exact lv_aload hexec hb hdg hl kc
theorem lv_astore_nO (hexec : p.tables.exec = Jvm.exec) (hb : c.code = cc) {k0 : Fin 4} {i n0 : Nat} {x : Option Nat} {lv lv' : List (Nat × Value)} (hdg : decode cc pc = .ok (.astore_n k0, 1)) (hi : (k0 : Nat) = i) (h : lv_has ls n0 lv) (hn : i < n0) (hl : (i, va_rf x) :: lv.filter (fun q => !(q.1 == i) && !(q.1 + 1 == i && q.2.category == 2)) = lv') (kc : ∀ ls' : Array Slot, lv_has ls' n0 lv' → W p l e R s m args below meth c H locs cells slots Q (F0 m (pc + 1) ls' rest)) : W p l e R s m args below meth c H locs cells slots Q (F0 m pc ls (va_rf x :: rest)) := by
  cases x with
  | none => exact lv_astore_nN hexec hb hdg hi h hn hl kc
  | some v => exact lv_astore_n hexec hb hdg hi h hn hl kc
theorem lv_astoreO (hexec : p.tables.exec = Jvm.exec) (hb : c.code = cc) {i n0 : Nat} {x : Option Nat} {lv lv' : List (Nat × Value)} (hdg : decode cc pc = .ok (.astore i, 2)) (h : lv_has ls n0 lv) (hn : i < n0) (hl : (i, va_rf x) :: lv.filter (fun q => !(q.1 == i) && !(q.1 + 1 == i && q.2.category == 2)) = lv') (kc : ∀ ls' : Array Slot, lv_has ls' n0 lv' → W p l e R s m args below meth c H locs cells slots Q (F0 m (pc + 2) ls' rest)) : W p l e R s m args below meth c H locs cells slots Q (F0 m pc ls (va_rf x :: rest)) := by
  cases x with
  | none => exact lv_astoreN hexec hb hdg h hn hl kc
  | some v => exact lv_astore hexec hb hdg h hn hl kc
/-- ends -/
theorem e_rr {r v : Nat} {ty : FieldType} (C : cx p s m args meth c cc own nL (some ty)) (hty : (∃ n, ty = FieldType.object n) ∨ ∃ z, ty = FieldType.array z) (h : some v = some r) (hdg : decode cc pc = .ok (.areturn, 1)) : W p l e R s m args below meth c s.heap [] 0 0 (MQ below (rQv (some (.ref r))) args s 0 0 nof) (F0 m pc ls [.ref v]) := by
  obtain ⟨hx, hb, hr, -, -, -, hlocks⟩ := C
  cases h
  exact W.aret hx hb hr hty (Or.inr ⟨_, rfl⟩) (fun u hu _ => ⟨rfl, hu⟩) (fun _ h => by cases h) hdg hlocks
theorem ec_i {r v : Int32} {t1 t0 : CS} {lo : Nat} (C : cx p s m args meth c cc own nL (some .int)) (hT : cW D dA a k t H) (hS : cS a s.heap H locs t0.2.2.2 lo t) (h : some (v, t) = some (r, t1)) (hdg : decode cc pc = .ok (.ireturn, 1)) : W p l e R s m args below meth c H locs cells slots (MQ below (cQ D dA a k lo t0 t1 (some (.int r))) args s cells slots (ca a)) (F0 m pc ls [.int v]) := by
  obtain ⟨hx, hb, hr, -, -, -, hlocks⟩ := C
  cases h
  exact W.iret hx hb hr (fun u hu _ => ⟨rfl, by rw [hu]; exact hT, by rw [hu]; exact hS.1, by rw [hu]; exact hS.2.1, hS.2.2.2⟩) hS.2.2.1 hdg hlocks
theorem ec_z {r v : Int32} {t1 t0 : CS} {lo : Nat} (C : cx p s m args meth c cc own nL (some .boolean)) (hT : cW D dA a k t H) (hS : cS a s.heap H locs t0.2.2.2 lo t) (hz : v = 0 ∨ v = 1) (h : some (v, t) = some (r, t1)) (hdg : decode cc pc = .ok (.ireturn, 1)) : W p l e R s m args below meth c H locs cells slots (MQ below (cQ D dA a k lo t0 t1 (some (.int r))) args s cells slots (ca a)) (F0 m pc ls [.int v]) := by
  obtain ⟨hx, hb, hr, -, -, -, hlocks⟩ := C
  cases h
  exact W.zret hx hb hr (zr_nar hz) (fun u hu _ => ⟨rfl, by rw [hu]; exact hT, by rw [hu]; exact hS.1, by rw [hu]; exact hS.2.1, hS.2.2.2⟩) hS.2.2.1 hdg hlocks
theorem ec_v {t1 t0 : CS} {lo : Nat} (C : cx p s m args meth c cc own nL none) (hT : cW D dA a k t H) (hS : cS a s.heap H locs t0.2.2.2 lo t) (h : some t = some t1) (hdg : decode cc pc = .ok (.return_, 1)) : W p l e R s m args below meth c H locs cells slots (MQ below (cQ D dA a k lo t0 t1 none) args s cells slots (ca a)) (F0 m pc ls []) := by
  obtain ⟨hx, hb, hr, -, -, -, hlocks⟩ := C
  cases h
  exact W.vret hx hb hr (fun u hu _ => ⟨rfl, by rw [hu]; exact hT, by rw [hu]; exact hS.1, by rw [hu]; exact hS.2.1, hS.2.2.2⟩) hS.2.2.1 hdg hlocks
/-- entry -/
theorem en_C {y : MethodName} {maxL mc ms : Nat} {rm : Room} {av : List Value} {Qc : Array Value → State → Outcome → State → Prop} {free : Addr → Prop} (hy : plainName y.cls = true) (hc : y.cls = own) (hlen : (lg_sl av).length ≤ maxL)
    (body : ∀ (p : Program) (e : Env) (s : State) (m : MethodId) (below : List Frame) (meth : Method) (c : Code) (ls : Array Slot), cx p s m av.toArray meth c cc own maxL ret → kC D dA a k t.2.2.2 s → cW D dA a k t s.heap → lv_has ls maxL (lv_args 0 av) → W p l e rm s m av.toArray below meth c s.heap [] 0 0 (MQ below Qc av.toArray s mc ms free) (F0 m 0 ls [])) : Met l y (ws_ y cc maxL ret) rm (cPc D dA a k t av) Qc mc ms free := by
  refine Met.ofW (cc := cc) (maxL := maxL) (ret := ret) hy rfl ?_
  intro p e s m args below meth c s₁ B hml hv
  obtain ⟨rfl, hK, hT⟩ := hv
  have hts := atoms_spec (ws := ws_ y cc maxL ret) B.pre
  have hl := lv_entry av (n := maxL) hlen
  rw [lg_entry_eq]
  exact body p e s m below meth c _ ⟨B.exec, B.bytes, B.returns, hml, by rw [← hc]; exact findClass_of_methodNamed B.named, fun w h => hts w (List.mem_cons_of_mem _ h), B.notSynchronized⟩ hK hT hl
/-- calls -/
theorem fb_c {av : List Value} : FrameBlind (cPc D dA a k t av) := fun A U g mk q => ⟨q.1, ⟨q.2.1.1.moved (u := U) (U := U.calling g mk A) (Vm.Alike.refl U.vm), q.2.1.2.1.same (U := U.calling g mk A) rfl, q.2.1.2.2.1.go (U := U.calling g mk A) (Or.inr rfl) (fun _ _ => rfl) (fun _ _ => rfl), q.2.1.2.2.2.1.moved (u := U) (U := U.calling g mk A) (Vm.Alike.refl U.vm), k.2.2 U (U.calling g mk A) (Or.inr rfl) (fun _ _ => rfl) q.2.1.2.2.2.2⟩, q.2.2⟩
theorem rv_X (hK : kC D dA a k t.2.2.2 s) (hT : cW D dA a k t H) : ∃ cell : Cell, H[a]? = some cell ∧ cell.vm.isStatics = false ∧ s.vm.findClass RX0 = some cell.cls := va_recv (ci := 0) (q0 := 0) (q := (RX0, TX0, 20)) hK.1 (c_cell0 hT) rfl rfl
theorem rv_S (hK : kC D dA a k t.2.2.2 s) (hT : cW D dA a k t H) {i : Nat} (hi : i = 1 ∨ i = 53) : ∃ cell : Cell, H[a + i]? = some cell ∧ cell.vm.isStatics = false ∧ s.vm.findClass RX1 = some cell.cls := va_recv (ci := 1) (q0 := 0) (q := (RX1, TX1, 9)) (fs := csO (a + i)) hK.1 (c_cell hT i (by rcases hi with rfl | rfl <;> decide) (x := .inr (1, csO (a + i))) (by rcases hi with rfl | rfl <;> rfl)) rfl rfl
theorem rv_D {CC : String} {TT : u_T} {N ci : Nat} (hc : classes[ci]? = some (CC, TT, N)) (hK : kC D dA a k t.2.2.2 s) (hT : cW D dA a k t H) {r : Nat} (hr : gC t r = some ci) : ∃ cell : Cell, H[r]? = some cell ∧ cell.vm.isStatics = false ∧ s.vm.findClass CC = some cell.cls := by
  obtain ⟨fs, h1⟩ := gC_some hr
  obtain ⟨cell, q1, q2, q3, -⟩ := d_ob hT h1 hc
  exact ⟨cell, q1, q3, by rw [q2]; exact (hK.1.1 ci _ hc).2.1⟩
theorem run_c {y : MethodName} {CC : String} {bytes : ByteArray} {maxL n index bb mc ms : Nat} {rt : Option FieldType} {rm : Room} {As : List Value} {Qc : Array Value → State → Outcome → State → Prop} {free : Addr → Prop} (C : cx p s m args meth c cc own nL ret) (hK : kC D dA a k t.2.2.2 s) (hT : cW D dA a k t H) (hh : ∀ q : Nat, ¬ ca a q → H[q]? = s.heap[q]?) (hrv : ∃ cell : Cell, H[bb]? = some cell ∧ cell.vm.isStatics = false ∧ s.vm.findClass CC = some cell.cls) (hM : Met l y (ws_ y bytes maxL rt) rm (cPc D dA a k t (.ref bb :: As)) Qc mc ms free) (h1 : (Cond.methodLink own index y) ∈ lw_all) (h2 : (Cond.instanceMethod y) ∈ lw_all) (h3 : (Cond.selects CC y y) ∈ lw_all) (h4 : (Cond.initialized CC) ∈ lw_all) (h5 : (Cond.code y bytes maxL rt) ∈ lw_all) (hrm : rm.cells = mc ∧ rm.slots = ms) (hd : y.cls = CC ∧ y.cls ≠ "java/lang/invoke/MethodHandle" ∧ y.cls ≠ "java/lang/invoke/VarHandle" ∧ (parseMethodDescriptor y.desc).map (fun d => d.parameters.length) = some n) (hR : rm.frames + 1 ≤ R.frames ∧ 8 + (maxL + 11) + rm.locals ≤ R.locals) (hc : cells + mc ≤ R.cells ∧ slots + ms ≤ R.slots)
    (hn : As.length = n) (hl : ls.size = nL) (hst : st0 = As.reverse ++ .ref bb :: rest) (hro : (rest.map fun v => v.category).sum ≤ 8) (hdg : decode cc pc = .ok (.invokevirtual index, 3)) : va_Run p l e R s m args below meth c H locs cells slots mc ms (F0 m pc ls st0) rest (Qc (Value.ref bb :: As).toArray) free := by
  obtain ⟨hx, hb, -, hml, hown, hts, -⟩ := C
  exact va_runV (As := As) (rest := rest) ⟨hx, hb, hml, hown, hts⟩ hM (cwV n hts (lw_V h1 h2 h3 h4 h5) rfl hrm.1 hrm.2 hd hR) ⟨fb_c, hrv, fun U hU hW => ⟨rfl, hK.go hW (by rw [hU]; exact hh) (fun _ _ => rfl), by rw [hU]; exact hT⟩⟩ rfl hn hl hst (lv_room hro) hdg hc
theorem run_cs {y : MethodName} {bytes : ByteArray} {maxL n index mc ms : Nat} {rt : Option FieldType} {rm : Room} {As : List Value} {Qc : Array Value → State → Outcome → State → Prop} {free : Addr → Prop} (C : cx p s m args meth c cc own nL ret) (hK : kC D dA a k t.2.2.2 s) (hT : cW D dA a k t H) (hh : ∀ q : Nat, ¬ ca a q → H[q]? = s.heap[q]?) (hM : Met l y (ws_ y bytes maxL rt) rm (cPc D dA a k t As) Qc mc ms free) (h1 : (Cond.methodLink own index y) ∈ lw_all) (h2 : (Cond.static y) ∈ lw_all) (h4 : (Cond.initialized y.cls) ∈ lw_all) (h5 : (Cond.code y bytes maxL rt) ∈ lw_all) (hrm : rm.cells = mc ∧ rm.slots = ms) (hd : y.cls ≠ "java/lang/invoke/MethodHandle" ∧ y.cls ≠ "java/lang/invoke/VarHandle" ∧ (parseMethodDescriptor y.desc).map (fun d => d.parameters.length) = some n) (hR : rm.frames + 1 ≤ R.frames ∧ 8 + (maxL + 11) + rm.locals ≤ R.locals) (hc : cells + mc ≤ R.cells ∧ slots + ms ≤ R.slots)
    (hn : As.length = n) (hl : ls.size = nL) (hst : st0 = As.reverse ++ rest) (hro : (rest.map fun v => v.category).sum ≤ 8) (hdg : decode cc pc = .ok (.invokestatic index, 3)) : va_Run p l e R s m args below meth c H locs cells slots mc ms (F0 m pc ls st0) rest (Qc As.toArray) free := by
  obtain ⟨hx, hb, -, hml, hown, hts, -⟩ := C
  exact va_runS (As := As) (rest := rest) ⟨hx, hb, hml, hown, hts⟩ hM (va_cwS n hts (lw_S h1 h2 h4 h5) rfl hrm.1 hrm.2 hd hR) ⟨fb_c, fun U hU hW => ⟨rfl, hK.go hW (by rw [hU]; exact hh) (fun _ _ => rfl), by rw [hU]; exact hT⟩⟩ rfl hn hl hst (lv_room hro) hdg hc
theorem r_ref {v : Option Value} {a0 : Array Value} (hr : va_Run p l e R s m args below meth c H locs cells slots 0 0 (F0 m pc ls st0) rest (rQv v a0) nof) (kc : W p l e R s m args below meth c H locs cells slots Q (F0 m (pc + 3) ls (v.toList ++ rest))) : W p l e R s m args below meth c H locs cells slots Q (F0 m pc ls st0) := by
  intro T hT X
  obtain ⟨v, st₀, u, T', L, h0, X', hL, e1, e2, ⟨hv, hh⟩, st⟩ := hr T hT X
  cases hv
  rw [nof_nil hL, List.append_nil] at X'
  obtain ⟨t2, a1, b1⟩ := kc T' (by rw [e1, hh, h0]) X'
  exact ⟨t2, st t2 a1, b1⟩
theorem r_ref1 {v : Nat} {a0 : Array Value} (hr : va_Run p l e R s m args below meth c H locs cells slots 0 0 (F0 m pc ls st0) rest (rQv (some (.ref v)) a0) nof) (kc : W p l e R s m args below meth c H locs cells slots Q (F0 m (pc + 3) ls (.ref v :: rest))) : W p l e R s m args below meth c H locs cells slots Q (F0 m pc ls st0) := r_ref hr kc
theorem wc_any {v0 : Option Value} {t1 : CS} {a0 : Array Value} {H0 : Heap} {N0 : Nat → Nat} {lo lo1 mc ms : Nat} (hlo : lo1 ≤ lo) (hS : cS a H0 H locs N0 lo t) (hK : kC D dA a k t.2.2.2 s) (hlo3 : lo1 ≤ 3) (hr : va_Run p l e R s m args below meth c H locs cells slots mc ms (F0 m pc ls st0) rest (cQ D dA a k lo1 t t1 v0 a0) (ca a)) (kc : ∀ (H1 : Heap) (locs1 : List Loc), cW D dA a k t1 H1 → cS a H0 H1 locs1 N0 lo t1 → kC D dA a k t1.2.2.2 s → (∀ i, lo1 ≤ i → t1.2.2.2 i = t.2.2.2 i) → W p l e R s m args below meth c H1 locs1 (cells + mc) (slots + ms) Q (F0 m (pc + 3) ls (v0.toList ++ rest))) : W p l e R s m args below meth c H locs cells slots Q (F0 m pc ls st0) := by
  intro T hT X
  obtain ⟨v, st₀, u, T', L, h0, X', hL, e1, e2, ⟨hv, hw, hz, hq, hN⟩, st⟩ := hr T hT X
  cases hv
  rw [h0] at hz hq
  obtain ⟨t2, a1, b1⟩ := kc T'.heap (locs ++ L) (by rw [e1]; exact hw) ⟨by rw [e1]; exact Nat.le_trans hS.1 hz, fun q h => by rw [e1, hq q h]; exact hS.2.1 q h, fun q h => by
    rcases List.mem_append.mp h with h | h
    · exact hS.2.2.1 q h
    · exact hL q h, fun i hi => (hN i (by omega)).trans (hS.2.2.2 i hi)⟩ ⟨hK.1, hK.2.1, hK.2.2.1.go (Or.inr rfl) (fun _ _ => rfl) (fun i hi => hN i (Nat.le_trans hlo3 hi)), hK.2.2.2⟩ hN T' rfl X'
  exact ⟨t2, st t2 a1, b1⟩
theorem wc_int {r : Int32} {t1 : CS} {a0 : Array Value} {H0 : Heap} {N0 : Nat → Nat} {lo : Nat} (hS : cS a H0 H locs N0 lo t) (hK : kC D dA a k t.2.2.2 s) (hr : va_Run p l e R s m args below meth c H locs cells slots 0 0 (F0 m pc ls st0) rest (cQ D dA a k 0 t t1 (some (.int r)) a0) (ca a)) (kc : ∀ (H1 : Heap) (locs1 : List Loc), cW D dA a k t1 H1 → cS a H0 H1 locs1 N0 lo t1 → kC D dA a k t1.2.2.2 s → (∀ i, 0 ≤ i → t1.2.2.2 i = t.2.2.2 i) → W p l e R s m args below meth c H1 locs1 cells slots Q (F0 m (pc + 3) ls (.int r :: rest))) : W p l e R s m args below meth c H locs cells slots Q (F0 m pc ls st0) := wc_any (Nat.zero_le _) hS hK (by decide) hr kc
theorem wc_void {t1 : CS} {a0 : Array Value} {H0 : Heap} {N0 : Nat → Nat} {lo : Nat} (hS : cS a H0 H locs N0 lo t) (hK : kC D dA a k t.2.2.2 s) (hr : va_Run p l e R s m args below meth c H locs cells slots 0 0 (F0 m pc ls st0) rest (cQ D dA a k 0 t t1 none a0) (ca a)) (kc : ∀ (H1 : Heap) (locs1 : List Loc), cW D dA a k t1 H1 → cS a H0 H1 locs1 N0 lo t1 → kC D dA a k t1.2.2.2 s → (∀ i, 0 ≤ i → t1.2.2.2 i = t.2.2.2 i) → W p l e R s m args below meth c H1 locs1 cells slots Q (F0 m (pc + 3) ls rest)) : W p l e R s m args below meth c H locs cells slots Q (F0 m pc ls st0) := wc_any (Nat.zero_le _) hS hK (by decide) hr kc
theorem cg0 (C : cx p s m args meth c cc RX0 nL ret) (hK : kC D dA a k t.2.2.2 s) (hT : cW D dA a k t H) (hdg : decode cc pc = .ok (.getfield 12, 3)) (kc : W p l e R s m args below meth c H locs cells slots Q (F0 m (pc + 3) ls (.ref (a + 1) :: rest))) : W p l e R s m args below meth c H locs cells slots Q (F0 m pc ls (.ref a :: rest)) := c_getX C hK hT 0 (by decide) q272 rfl rfl hdg kc
theorem cg1 (C : cx p s m args meth c cc RX0 nL ret) (hK : kC D dA a k t.2.2.2 s) (hT : cW D dA a k t H) (hdg : decode cc pc = .ok (.getfield 16, 3)) (kc : W p l e R s m args below meth c H locs cells slots Q (F0 m (pc + 3) ls (.ref (a + 53) :: rest))) : W p l e R s m args below meth c H locs cells slots Q (F0 m pc ls (.ref a :: rest)) := c_getX C hK hT 1 (by decide) q273 rfl rfl hdg kc
theorem cg2 (C : cx p s m args meth c cc RX0 nL ret) (hK : kC D dA a k t.2.2.2 s) (hT : cW D dA a k t H) (hdg : decode cc pc = .ok (.getfield 19, 3)) (kc : W p l e R s m args below meth c H locs cells slots Q (F0 m (pc + 3) ls (.ref (a + 105) :: rest))) : W p l e R s m args below meth c H locs cells slots Q (F0 m pc ls (.ref a :: rest)) := c_getX C hK hT 2 (by decide) q274 rfl rfl hdg kc
theorem cg3 (C : cx p s m args meth c cc RX0 nL ret) (hK : kC D dA a k t.2.2.2 s) (hT : cW D dA a k t H) (hdg : decode cc pc = .ok (.getfield 116, 3)) (kc : W p l e R s m args below meth c H locs cells slots Q (F0 m (pc + 3) ls (.int (t.1 0 3) :: rest))) : W p l e R s m args below meth c H locs cells slots Q (F0 m pc ls (.ref a :: rest)) := c_getX C hK hT 3 (by decide) q275 rfl rfl hdg kc
theorem cp3 {x : Int32} (C : cx p s m args meth c cc RX0 nL ret) (hK : kC D dA a k t.2.2.2 s) (hT : cW D dA a k t H) {H0 : Heap} {N0 : Nat → Nat} {lo : Nat} (hS : cS a H0 H locs N0 lo t) (hdg : decode cc pc = .ok (.putfield 116, 3)) (kc : ∀ (t1 : CS) (H1 : Heap) (locs1 : List Loc), t1 = ci_ t 0 3 x → cW D dA a k t1 H1 → cS a H0 H1 locs1 N0 lo t1 → kC D dA a k t1.2.2.2 s → W p l e R s m args below meth c H1 locs1 cells slots Q (F0 m (pc + 3) ls rest)) : W p l e R s m args below meth c H locs cells slots Q (F0 m pc ls (.int x :: .ref a :: rest)) := c_putX C hK hT hS 3 (by decide) q275 rfl rfl (by decide +kernel) rfl hdg kc
theorem cg4 (C : cx p s m args meth c cc RX0 nL ret) (hK : kC D dA a k t.2.2.2 s) (hT : cW D dA a k t H) (hdg : decode cc pc = .ok (.getfield 23, 3)) (kc : W p l e R s m args below meth c H locs cells slots Q (F0 m (pc + 3) ls (.int (t.1 0 4) :: rest))) : W p l e R s m args below meth c H locs cells slots Q (F0 m pc ls (.ref a :: rest)) := c_getX C hK hT 4 (by decide) q276 rfl rfl hdg kc
theorem cp4 {x : Int32} (C : cx p s m args meth c cc RX0 nL ret) (hK : kC D dA a k t.2.2.2 s) (hT : cW D dA a k t H) {H0 : Heap} {N0 : Nat → Nat} {lo : Nat} (hS : cS a H0 H locs N0 lo t) (hdg : decode cc pc = .ok (.putfield 23, 3)) (kc : ∀ (t1 : CS) (H1 : Heap) (locs1 : List Loc), t1 = ci_ t 0 4 x → cW D dA a k t1 H1 → cS a H0 H1 locs1 N0 lo t1 → kC D dA a k t1.2.2.2 s → W p l e R s m args below meth c H1 locs1 cells slots Q (F0 m (pc + 3) ls rest)) : W p l e R s m args below meth c H locs cells slots Q (F0 m pc ls (.int x :: .ref a :: rest)) := c_putX C hK hT hS 4 (by decide) q276 rfl rfl (by decide +kernel) rfl hdg kc
theorem cg5 (C : cx p s m args meth c cc RX0 nL ret) (hK : kC D dA a k t.2.2.2 s) (hT : cW D dA a k t H) (hdg : decode cc pc = .ok (.getfield 27, 3)) (kc : W p l e R s m args below meth c H locs cells slots Q (F0 m (pc + 3) ls (.int (t.1 0 5) :: rest))) : W p l e R s m args below meth c H locs cells slots Q (F0 m pc ls (.ref a :: rest)) := c_getX C hK hT 5 (by decide) q277 rfl rfl hdg kc
theorem cp5 {x : Int32} (C : cx p s m args meth c cc RX0 nL ret) (hK : kC D dA a k t.2.2.2 s) (hT : cW D dA a k t H) {H0 : Heap} {N0 : Nat → Nat} {lo : Nat} (hS : cS a H0 H locs N0 lo t) (hdg : decode cc pc = .ok (.putfield 27, 3)) (kc : ∀ (t1 : CS) (H1 : Heap) (locs1 : List Loc), t1 = ci_ t 0 5 x → cW D dA a k t1 H1 → cS a H0 H1 locs1 N0 lo t1 → kC D dA a k t1.2.2.2 s → W p l e R s m args below meth c H1 locs1 cells slots Q (F0 m (pc + 3) ls rest)) : W p l e R s m args below meth c H locs cells slots Q (F0 m pc ls (.int x :: .ref a :: rest)) := c_putX C hK hT hS 5 (by decide) q277 rfl rfl (by decide +kernel) rfl hdg kc
theorem cg6 (C : cx p s m args meth c cc RX0 nL ret) (hK : kC D dA a k t.2.2.2 s) (hT : cW D dA a k t H) (hdg : decode cc pc = .ok (.getfield 30, 3)) (kc : W p l e R s m args below meth c H locs cells slots Q (F0 m (pc + 3) ls (.ref (a + 106) :: rest))) : W p l e R s m args below meth c H locs cells slots Q (F0 m pc ls (.ref a :: rest)) := c_getX C hK hT 6 (by decide) q278 rfl rfl hdg kc
theorem cg7 (C : cx p s m args meth c cc RX0 nL ret) (hK : kC D dA a k t.2.2.2 s) (hT : cW D dA a k t H) (hdg : decode cc pc = .ok (.getfield 34, 3)) (kc : W p l e R s m args below meth c H locs cells slots Q (F0 m (pc + 3) ls (.ref (a + 107) :: rest))) : W p l e R s m args below meth c H locs cells slots Q (F0 m pc ls (.ref a :: rest)) := c_getX C hK hT 7 (by decide) q279 rfl rfl hdg kc
theorem cg8 (C : cx p s m args meth c cc RX0 nL ret) (hK : kC D dA a k t.2.2.2 s) (hT : cW D dA a k t H) (hdg : decode cc pc = .ok (.getfield 37, 3)) (kc : W p l e R s m args below meth c H locs cells slots Q (F0 m (pc + 3) ls (.ref (a + 108) :: rest))) : W p l e R s m args below meth c H locs cells slots Q (F0 m pc ls (.ref a :: rest)) := c_getX C hK hT 8 (by decide) q280 rfl rfl hdg kc
theorem cg9 (C : cx p s m args meth c cc RX0 nL ret) (hK : kC D dA a k t.2.2.2 s) (hT : cW D dA a k t H) (hdg : decode cc pc = .ok (.getfield 40, 3)) (kc : W p l e R s m args below meth c H locs cells slots Q (F0 m (pc + 3) ls (.ref (a + 109) :: rest))) : W p l e R s m args below meth c H locs cells slots Q (F0 m pc ls (.ref a :: rest)) := c_getX C hK hT 9 (by decide) q281 rfl rfl hdg kc
theorem cg10 (C : cx p s m args meth c cc RX0 nL ret) (hK : kC D dA a k t.2.2.2 s) (hT : cW D dA a k t H) (hdg : decode cc pc = .ok (.getfield 43, 3)) (kc : W p l e R s m args below meth c H locs cells slots Q (F0 m (pc + 3) ls (.ref (a + 110) :: rest))) : W p l e R s m args below meth c H locs cells slots Q (F0 m pc ls (.ref a :: rest)) := c_getX C hK hT 10 (by decide) q282 rfl rfl hdg kc
theorem cg11 (C : cx p s m args meth c cc RX0 nL ret) (hK : kC D dA a k t.2.2.2 s) (hT : cW D dA a k t H) (hdg : decode cc pc = .ok (.getfield 46, 3)) (kc : W p l e R s m args below meth c H locs cells slots Q (F0 m (pc + 3) ls (.ref (a + 111) :: rest))) : W p l e R s m args below meth c H locs cells slots Q (F0 m pc ls (.ref a :: rest)) := c_getX C hK hT 11 (by decide) q283 rfl rfl hdg kc
theorem cg12 (C : cx p s m args meth c cc RX0 nL ret) (hK : kC D dA a k t.2.2.2 s) (hT : cW D dA a k t H) (hdg : decode cc pc = .ok (.getfield 391, 3)) (kc : W p l e R s m args below meth c H locs cells slots Q (F0 m (pc + 3) ls (.int (t.1 0 12) :: rest))) : W p l e R s m args below meth c H locs cells slots Q (F0 m pc ls (.ref a :: rest)) := c_getX C hK hT 12 (by decide) q284 rfl rfl hdg kc
theorem cp12 {x : Int32} (C : cx p s m args meth c cc RX0 nL ret) (hK : kC D dA a k t.2.2.2 s) (hT : cW D dA a k t H) {H0 : Heap} {N0 : Nat → Nat} {lo : Nat} (hS : cS a H0 H locs N0 lo t) (hdg : decode cc pc = .ok (.putfield 391, 3)) (kc : ∀ (t1 : CS) (H1 : Heap) (locs1 : List Loc), t1 = ci_ t 0 12 x → cW D dA a k t1 H1 → cS a H0 H1 locs1 N0 lo t1 → kC D dA a k t1.2.2.2 s → W p l e R s m args below meth c H1 locs1 cells slots Q (F0 m (pc + 3) ls rest)) : W p l e R s m args below meth c H locs cells slots Q (F0 m pc ls (.int x :: .ref a :: rest)) := c_putX C hK hT hS 12 (by decide) q284 rfl rfl (by decide +kernel) rfl hdg kc
theorem cg13 (C : cx p s m args meth c cc RX0 nL ret) (hK : kC D dA a k t.2.2.2 s) (hT : cW D dA a k t H) (hdg : decode cc pc = .ok (.getfield 49, 3)) (kc : W p l e R s m args below meth c H locs cells slots Q (F0 m (pc + 3) ls (.ref (a + 112) :: rest))) : W p l e R s m args below meth c H locs cells slots Q (F0 m pc ls (.ref a :: rest)) := c_getX C hK hT 13 (by decide) q285 rfl rfl hdg kc
theorem cg14 (C : cx p s m args meth c cc RX0 nL ret) (hK : kC D dA a k t.2.2.2 s) (hT : cW D dA a k t H) (hdg : decode cc pc = .ok (.getfield 52, 3)) (kc : W p l e R s m args below meth c H locs cells slots Q (F0 m (pc + 3) ls (.ref (a + 113) :: rest))) : W p l e R s m args below meth c H locs cells slots Q (F0 m pc ls (.ref a :: rest)) := c_getX C hK hT 14 (by decide) q286 rfl rfl hdg kc
theorem cg15 (C : cx p s m args meth c cc RX0 nL ret) (hK : kC D dA a k t.2.2.2 s) (hT : cW D dA a k t H) (hdg : decode cc pc = .ok (.getfield 55, 3)) (kc : W p l e R s m args below meth c H locs cells slots Q (F0 m (pc + 3) ls (.ref (a + 114) :: rest))) : W p l e R s m args below meth c H locs cells slots Q (F0 m pc ls (.ref a :: rest)) := c_getX C hK hT 15 (by decide) q287 rfl rfl hdg kc
theorem cg16 (C : cx p s m args meth c cc RX0 nL ret) (hK : kC D dA a k t.2.2.2 s) (hT : cW D dA a k t H) (hdg : decode cc pc = .ok (.getfield 426, 3)) (kc : W p l e R s m args below meth c H locs cells slots Q (F0 m (pc + 3) ls (.int (t.1 0 16) :: rest))) : W p l e R s m args below meth c H locs cells slots Q (F0 m pc ls (.ref a :: rest)) := c_getX C hK hT 16 (by decide) q288 rfl rfl hdg kc
theorem cp16 {x : Int32} (C : cx p s m args meth c cc RX0 nL ret) (hK : kC D dA a k t.2.2.2 s) (hT : cW D dA a k t H) {H0 : Heap} {N0 : Nat → Nat} {lo : Nat} (hS : cS a H0 H locs N0 lo t) (hdg : decode cc pc = .ok (.putfield 426, 3)) (kc : ∀ (t1 : CS) (H1 : Heap) (locs1 : List Loc), t1 = ci_ t 0 16 x → cW D dA a k t1 H1 → cS a H0 H1 locs1 N0 lo t1 → kC D dA a k t1.2.2.2 s → W p l e R s m args below meth c H1 locs1 cells slots Q (F0 m (pc + 3) ls rest)) : W p l e R s m args below meth c H locs cells slots Q (F0 m pc ls (.int x :: .ref a :: rest)) := c_putX C hK hT hS 16 (by decide) q288 rfl rfl (by decide +kernel) rfl hdg kc
theorem cg17 (C : cx p s m args meth c cc RX0 nL ret) (hK : kC D dA a k t.2.2.2 s) (hT : cW D dA a k t H) (hdg : decode cc pc = .ok (.getfield 423, 3)) (kc : W p l e R s m args below meth c H locs cells slots Q (F0 m (pc + 3) ls (.int (t.1 0 17) :: rest))) : W p l e R s m args below meth c H locs cells slots Q (F0 m pc ls (.ref a :: rest)) := c_getX C hK hT 17 (by decide) q289 rfl rfl hdg kc
theorem cp17 {x : Int32} (C : cx p s m args meth c cc RX0 nL ret) (hK : kC D dA a k t.2.2.2 s) (hT : cW D dA a k t H) {H0 : Heap} {N0 : Nat → Nat} {lo : Nat} (hS : cS a H0 H locs N0 lo t) (hdg : decode cc pc = .ok (.putfield 423, 3)) (kc : ∀ (t1 : CS) (H1 : Heap) (locs1 : List Loc), t1 = ci_ t 0 17 x → cW D dA a k t1 H1 → cS a H0 H1 locs1 N0 lo t1 → kC D dA a k t1.2.2.2 s → W p l e R s m args below meth c H1 locs1 cells slots Q (F0 m (pc + 3) ls rest)) : W p l e R s m args below meth c H locs cells slots Q (F0 m pc ls (.int x :: .ref a :: rest)) := c_putX C hK hT hS 17 (by decide) q289 rfl rfl (by decide +kernel) rfl hdg kc
theorem cg18 (C : cx p s m args meth c cc RX0 nL ret) (hK : kC D dA a k t.2.2.2 s) (hT : cW D dA a k t H) (hdg : decode cc pc = .ok (.getfield 436, 3)) (kc : W p l e R s m args below meth c H locs cells slots Q (F0 m (pc + 3) ls (.int (t.1 0 18) :: rest))) : W p l e R s m args below meth c H locs cells slots Q (F0 m pc ls (.ref a :: rest)) := c_getX C hK hT 18 (by decide) q290 rfl rfl hdg kc
theorem cp18 {x : Int32} (C : cx p s m args meth c cc RX0 nL ret) (hK : kC D dA a k t.2.2.2 s) (hT : cW D dA a k t H) {H0 : Heap} {N0 : Nat → Nat} {lo : Nat} (hS : cS a H0 H locs N0 lo t) (hdg : decode cc pc = .ok (.putfield 436, 3)) (kc : ∀ (t1 : CS) (H1 : Heap) (locs1 : List Loc), t1 = ci_ t 0 18 x → cW D dA a k t1 H1 → cS a H0 H1 locs1 N0 lo t1 → kC D dA a k t1.2.2.2 s → W p l e R s m args below meth c H1 locs1 cells slots Q (F0 m (pc + 3) ls rest)) : W p l e R s m args below meth c H locs cells slots Q (F0 m pc ls (.int x :: .ref a :: rest)) := c_putX C hK hT hS 18 (by decide) q290 rfl rfl (by decide +kernel) rfl hdg kc
theorem cg19 (C : cx p s m args meth c cc RX0 nL ret) (hK : kC D dA a k t.2.2.2 s) (hT : cW D dA a k t H) (hdg : decode cc pc = .ok (.getfield 433, 3)) (kc : W p l e R s m args below meth c H locs cells slots Q (F0 m (pc + 3) ls (.int (t.1 0 19) :: rest))) : W p l e R s m args below meth c H locs cells slots Q (F0 m pc ls (.ref a :: rest)) := c_getX C hK hT 19 (by decide) q291 rfl rfl hdg kc
theorem cp19 {x : Int32} (C : cx p s m args meth c cc RX0 nL ret) (hK : kC D dA a k t.2.2.2 s) (hT : cW D dA a k t H) {H0 : Heap} {N0 : Nat → Nat} {lo : Nat} (hS : cS a H0 H locs N0 lo t) (hdg : decode cc pc = .ok (.putfield 433, 3)) (kc : ∀ (t1 : CS) (H1 : Heap) (locs1 : List Loc), t1 = ci_ t 0 19 x → cW D dA a k t1 H1 → cS a H0 H1 locs1 N0 lo t1 → kC D dA a k t1.2.2.2 s → W p l e R s m args below meth c H1 locs1 cells slots Q (F0 m (pc + 3) ls rest)) : W p l e R s m args below meth c H locs cells slots Q (F0 m pc ls (.int x :: .ref a :: rest)) := c_putX C hK hT hS 19 (by decide) q291 rfl rfl (by decide +kernel) rfl hdg kc
end CW
