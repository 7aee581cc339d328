/-! rows: inherited fields, nest mates' fields written, clone, casts of int arrays, ends of throwing methods -/
set_option maxRecDepth 20000
theorem sf_via {s : State} {args : Array Value} {R0 O n d : String} (w : (Cond.sameField R0 O n d).before args s = true) : ∀ x, s.fieldFound? O n d = some x → s.fieldFound? R0 n d = some x := fun x hx => by
  cases hr : s.fieldFound? R0 n d with
  | none => simp [Cond.before, Cond.holds, Cond.value, hr] at w
  | some y => obtain ⟨c1, k1, i1, f1⟩ := y; rw [Cond.sameField_spec hr w] at hx; exact hx
def nch {α : Type} (v : Int32) (x : Option α) : Option α := if v.toUInt32.toUInt16.toUInt32.toInt32 = v then x else none
theorem nch_some {α : Type} {v : Int32} {x : Option α} {o : α} (h : nch v x = some o) : v.toUInt32.toUInt16.toUInt32.toInt32 = v ∧ x = some o := by
  unfold nch at h
  split at h
  · exact ⟨by assumption, h⟩
  · cases h
def nby {α : Type} (v : Int32) (x : Option α) : Option α := if v.toInt8.toInt32 = v then x else none
theorem nby_some {α : Type} {v : Int32} {x : Option α} {o : α} (h : nby v x = some o) : v.toInt8.toInt32 = v ∧ x = some o := by
  unfold nby at h
  split at h
  · exact ⟨by assumption, h⟩
  · cases h
section CX11
variable {p : Program} {l : Launch} {e : Env} {R : Room} {s : State} {m : MethodId} {args : Array Value} {below : List Frame} {meth : Method} {c : Code} {H : Heap} {locs : List Loc} {cells slots : Nat} {Q : State → Prop}
variable {cc : ByteArray} {pc nL : Nat} {ls : Array Slot} {rest st0 : List Value} {own : String} {ret : Option FieldType} {D : va_G} {dA : Nat → ClassId} {a : Nat} {k : KP a} {t : CS}
theorem d_putN {CC host : String} {TT : u_T} {N ci : Nat} (hin : ∀ w ∈ u_ws CC TT N, w ∈ lw_all) (ty0 : Nat → FieldType) (hty : ∀ k, k < N → parseFieldDescriptor (TT k).2.2.1 = some (ty0 k)) (hnm : ∀ a, a < N → ∀ b, b < N → a ≠ b → (TT a).2.1 ≠ (TT b).2.1) (hc : classes[ci]? = some (CC, TT, N)) (C : cx p s m args meth c cc own nL ret) (hK : kC D dA a k t.2.2.2 s) (hT : cW D dA a k t H) {N0 : Nat → Nat} {lo : Nat} (hS : cS a s.heap H locs N0 lo t) (j : Nat) (hj : j < N) {index : Nat} (hq : (Cond.fieldLinkNest own index CC (TT j).2.1 (TT j).2.2.1 host).before args s = true) (hC : (TT j).1 = CC) (hfin : (TT j).2.2.2 = false ∨ ((TT j).2.2.2 = true ∧ meth.name = "<init>" ∧ (TT j).1 = own)) (hfin0 : (TT j).2.2.2 = false) {r : Nat} {v : Value} {t1 : CS} (hp : dpf t r ci j v = some t1) {ty : FieldType} (hd : parseFieldDescriptor (TT j).2.2.1 = some ty) (hn : narrow ty v = v) (hfit : fits ty v = true) (hdg : decode cc pc = .ok (.putfield index, 3))
    (kc : ∀ (H1 : Heap) (locs1 : List Loc), cW D dA a k t1 H1 → cS a s.heap H1 locs1 N0 lo t1 → kC D dA a k t1.2.2.2 s → W p l e R s m args below meth c H1 locs1 cells slots Q (F0 m (pc + 3) ls rest)) : W p l e R s m args below meth c H locs cells slots Q (F0 m pc ls (v :: .ref r :: rest)) := by
  obtain ⟨hx, hb, -, hml, hown, hts, -⟩ := C
  obtain ⟨fs, g1, g2, g3, g4⟩ := dpf_some hp
  subst g4
  have hP := d_atO hT g1 g3
  have hap := va_apart (own := own) hts hin ty0 hty hnm hK.1 hc
  obtain ⟨r0, e1, cell, q1, q2, q3, q4⟩ := hP 0 _ rfl
  have hr : r0 = (CC, TT, N) := Option.some.inj (e1.symm.trans hc)
  subst hr
  obtain ⟨hSl, hfc, kC, hkC, hkind⟩ := hK.1.1 ci _ hc
  obtain ⟨cf, kf, fi, f, hi, hsl⟩ := hSl j hj
  have hlay := hts _ (hin _ (u_in_lay hj))
  have hst := (u_facts hfc hkC (u_lays hts hin hj) hi).1
  have hi2 := hi
  rw [hC] at hi2
  have hca : ca a r := by
    obtain ⟨w1, -, -⟩ := hT.2.2.2.2.2 r _ g1
    exact Or.inr (by rw [← hT.2.2.1]; exact g3)
  unfold u_lay at hlay
  rw [if_neg (by rw [hfin0]; decide)] at hlay
  have h6 := u_store hfc hkC hkind hlay hi hd hn hfit
  refine va_WputK hx hb hown hq hi2 hst (by rw [q2]; exact h6) q1 q3 (by rw [hsl]; exact k2_hasslot (q4 j hj)) rfl rfl hdg fun H' e1 e2 e3 => ?_
  rw [hsl] at e1
  refine kc H' _ (hT.dput g1 (by have := hT.2.2.1; omega) ?_ e2 e3) (hS.put e2 e3 hca rfl) hK
  exact ⟨_, hc, t_OB.to (V := updV (vp_V fs) j v) ⟨_, e1, q2, q3, t_set q4 hap hj v⟩ (fun z _ => vp_updV_set g2 v z)⟩
theorem d_castI (C : cx p s m args meth c cc own nL ret) (hK : kC D dA a k t.2.2.2 s) (hT : cW D dA a k t H) {r : Nat} {x : Nat × (Nat → Int32)} (hr : aIn t r = some x) {index : Nat} (hq : (Cond.classLink own index "[I") ∈ lw_all) (hdg : decode cc pc = .ok (.checkcast index, 3))
    (kc : W p l e R s m args below meth c H locs cells slots Q (F0 m (pc + 3) ls (.ref r :: rest))) : W p l e R s m args below meth c H locs cells slots Q (F0 m pc ls (.ref r :: rest)) := by
  obtain ⟨hx, hb, -, hml, hown, hts, -⟩ := C
  exact va_castA hx hb hown (hts _ hq) (d_at hT (aIn_some hr)) 0 rfl (hK.1.2 0 _ rfl).2 hdg kc
theorem n_clone (C : cx p s m args meth c cc own nL ret) (hK : kC D dA a k t.2.2.2 s) (hT : cW D dA a k t H) {N0 : Nat → Nat} (hS : cS a s.heap H locs N0 2 t) (hl : ls.size = nL) {r : Nat} {x : Nat × (Nat → Int32)} (hr : aIn t r = some x) {index : Nat}
    (hlink : (Cond.methodLink own index ⟨"[I", "clone", "()Ljava/lang/Object;"⟩) ∈ lw_all) (hcs : cells + 1 ≤ R.cells ∧ slots + x.1 ≤ R.slots) (hR : 1 ≤ R.frames ∧ 30 ≤ R.locals) (hro : (rest.map fun v => v.category).sum ≤ 8) (hdg : decode cc pc = .ok (.invokevirtual index, 3))
    (kc : ∀ (t1 : CS) (H1 : Heap), t1 = dnew t (.inl (0, x.1, .inl x.2)) x.1 → cW D dA a k t1 H1 → cS a s.heap H1 locs N0 2 t1 → kC D dA a k t1.2.2.2 s → W p l e R s m args below meth c H1 locs (cells + 1) (slots + x.1) Q (F0 m (pc + 3) ls (.ref (t.2.2.2 0) :: rest))) : W p l e R s m args below meth c H locs cells slots Q (F0 m pc ls (.ref r :: rest)) := by
  obtain ⟨hx, hb, -, hml, hown, hts, -⟩ := C
  have hz := hT.2.1
  have hcell0 : H[r]? = some (vp_cell (dA 0) (x.1, .inl x.2)) := d_at hT (aIn_some hr) 0 _ rfl
  have hsz : (vp_cell (dA 0) (x.1, .inl x.2)).slots.size = x.1 := arrV_size _ _ _
  have hvm0 : (vp_cell (dA 0) (x.1, .inl x.2)).vm = .none := rfl
  have hcl0 : (vp_cell (dA 0) (x.1, .inl x.2)).cls = dA 0 := rfl
  have hcellE : ({ cls := (vp_cell (dA 0) (x.1, .inl x.2)).cls, slots := (vp_cell (dA 0) (x.1, .inl x.2)).slots } : Cell) = vp_cell (dA 0) (x.1, .inl x.2) := rfl
  have hnm : s.vm.findClass "[I" = some (dA 0) := (hK.1.2 0 _ rfl).2
  obtain ⟨c0, t0', f1, f2, f3⟩ := Cond.castable_spec (va_Nw.use (A := args) rfl (hK.2.1.2.2.1 ("[I", "java/lang/Cloneable") (by decide +kernel)))
  cases Option.some.inj (hnm.symm.trans f1)
  intro T hTT X
  have hcellT : T.heap[r]? = some (vp_cell (dA 0) (x.1, .inl x.2)) := by rw [hTT]; exact hcell0
  obtain ⟨-, kA, hkA, comp, hkind⟩ := State.isArrayOf_alike X.warmed.alike ((hK.1.2 0 _ rfl).1 0 (fun _ => .null))
  obtain ⟨-, kS, hkS, compS, hkindS⟩ := (hK.1.2 0 _ rfl).1 0 (fun _ => .null)
  obtain ⟨vm', X', st⟩ := X.cloneArray hx hown (hts _ hlink) (hts _ q1026) (hts _ q1027) (hts _ q1028) (hts _ q1029) (a := r) (cell := vp_cell (dA 0) (x.1, .inl x.2)) hcellT (fun k h => by rw [hvm0] at h; cases h) (by rw [hvm0]; exact fun h => by cases h) (by rw [hcl0]; exact hnm) f2 (by rw [hcl0]; exact f3)
    (fun i v hv => by
      rw [hcl0]
      have hk' : T.vm.classes[dA 0]? = some kA := hkA
      have hfit : fits .int v = true := va_fit (F := fun j => .int (x.2 j)) (fun i _ => rfl) i v hv
      simpa [State.fitsSlot, State.slotType?, hk', hkind] using hfit)
    (g := F0 m pc ls (.ref r :: rest)) rfl (by rw [hml, ← hl]) rfl (by rw [hb]; exact hdg) hR.1 (by show 2 * 0 + _ + 14 ≤ _; omega) hcs.1 (by rw [hsz]; exact hcs.2) (hloader := by rw [hcl0]; exact Vm.clonesLoader_of_array hkS hkindS)
  rw [hcellE, hsz] at X'
  generalize hH1 : H.push (vp_cell (dA 0) (x.1, .inl x.2)) = H1
  have z1 : H1.size = H.size + 1 := by rw [← hH1, Array.size_push]
  have e1 : H1[H.size]? = some (vp_cell (dA 0) (x.1, .inl x.2)) := by rw [← hH1, Array.getElem?_push_size]
  have o1 : ∀ q : Nat, q < H.size → H1[q]? = H[q]? := fun q hq => by rw [← hH1, Array.getElem?_push, if_neg (Nat.ne_of_lt hq)]
  have hk := kc _ H1 rfl (hT.dnw (x := .inl (0, x.1, .inl x.2)) _ e1 z1 o1) (hS.nw (by rw [hz]; exact hT.2.2.2.1) _ _ z1 o1) (hK.nw _ _)
  obtain ⟨t9, b1, b2⟩ := hk ((T.setVm vm').pushCell (vp_cell (dA 0) (x.1, .inl x.2))) (by rw [← hH1, ← hTT]; rfl) X'
  refine ⟨t9, st t9 ?_, b2⟩
  rw [hcellE, hTT, hz]
  exact b1
theorem toX {Qc : Array Value → State → Outcome → State → Prop} {XC : Addr → String → State → State → Prop} {mc ms : Nat} {free : Addr → Prop} {g : JFrame} (h : W p l e R s m args below meth c H locs cells slots (MQ below Qc args s mc ms free) g) : W p l e R s m args below meth c H locs cells slots (vx_MQ below Qc XC args s mc ms free) g := by
  intro T hT X
  obtain ⟨t9, st, o, h1, h2, h3, h4⟩ := h T hT X
  exact ⟨t9, st, o, h1, h2, Or.inl ⟨h3, h4⟩⟩
theorem ex_okI {t1 : CS} {v0 : Int32} {a0 : Array Value} {N0 : Nat → Nat} {mc ms : Nat} (hS : cS a s.heap H locs N0 2 t) (hK : kC D dA a k t.2.2.2 s) (hr : vx_Run p l e R s m args below meth c H locs cells slots mc ms (F0 m pc ls st0) rest (xQ D dA a k t t1 fI (.ok v0) a0) (xX D dA a k t t1 (.ok v0 : Except Nat Int32)) (ca a)) (kc : ∀ (H1 : Heap) (locs1 : List Loc), cW D dA a k t1 H1 → cS a s.heap H1 locs1 N0 2 t1 → kC D dA a k t1.2.2.2 s → W p l e R s m args below meth c H1 locs1 (cells + mc) (slots + ms) Q (F0 m (pc + 3) ls (.int v0 :: rest))) : W p l e R s m args below meth c H locs cells slots Q (F0 m pc ls st0) := ex_ok hS hK hr kc
theorem ex_okR {t1 : CS} {v0 : Nat} {a0 : Array Value} {N0 : Nat → Nat} {mc ms : Nat} (hS : cS a s.heap H locs N0 2 t) (hK : kC D dA a k t.2.2.2 s) (hr : vx_Run p l e R s m args below meth c H locs cells slots mc ms (F0 m pc ls st0) rest (xQ D dA a k t t1 fR (.ok v0) a0) (xX D dA a k t t1 (.ok v0 : Except Nat Nat)) (ca a)) (kc : ∀ (H1 : Heap) (locs1 : List Loc), cW D dA a k t1 H1 → cS a s.heap H1 locs1 N0 2 t1 → kC D dA a k t1.2.2.2 s → W p l e R s m args below meth c H1 locs1 (cells + mc) (slots + ms) Q (F0 m (pc + 3) ls (.ref v0 :: rest))) : W p l e R s m args below meth c H locs cells slots Q (F0 m pc ls st0) := ex_ok hS hK hr kc
theorem ex_okU {t1 : CS} {v0 : Unit} {a0 : Array Value} {N0 : Nat → Nat} {mc ms : Nat} (hS : cS a s.heap H locs N0 2 t) (hK : kC D dA a k t.2.2.2 s) (hr : vx_Run p l e R s m args below meth c H locs cells slots mc ms (F0 m pc ls st0) rest (xQ D dA a k t t1 fU (.ok v0) a0) (xX D dA a k t t1 (.ok v0 : Except Nat Unit)) (ca a)) (kc : ∀ (H1 : Heap) (locs1 : List Loc), cW D dA a k t1 H1 → cS a s.heap H1 locs1 N0 2 t1 → kC D dA a k t1.2.2.2 s → W p l e R s m args below meth c H1 locs1 (cells + mc) (slots + ms) Q (F0 m (pc + 3) ls rest)) : W p l e R s m args below meth c H locs cells slots Q (F0 m pc ls st0) := ex_ok hS hK hr kc
theorem e_rch {r v : Int32} (C : cx p s m args meth c cc own nL (some (.char))) (hz : v.toUInt32.toUInt16.toUInt32.toInt32 = v) (h : some v = some r) (hdg : decode cc pc = .ok (.ireturn, 1)) : W p l e R s m args below meth c s.heap [] 0 0 (MQ below (rQi r) args s 0 0 nof) (F0 m pc ls [.int v]) := by
  obtain ⟨hx, hb, hr, -, -, -, hlocks⟩ := C
  cases h
  exact W.zret hx hb hr (show Value.int _ = _ from congrArg Value.int hz) (fun u hu _ => ⟨rfl, hu⟩) (fun _ h => by cases h) hdg hlocks
theorem e_rby {r v : Int32} (C : cx p s m args meth c cc own nL (some (.byte))) (hz : v.toInt8.toInt32 = v) (h : some v = some r) (hdg : decode cc pc = .ok (.ireturn, 1)) : W p l e R s m args below meth c s.heap [] 0 0 (MQ below (rQi r) args s 0 0 nof) (F0 m pc ls [.int v]) := by
  obtain ⟨hx, hb, hr, -, -, -, hlocks⟩ := C
  cases h
  exact W.zret hx hb hr (show Value.int _ = _ from congrArg Value.int hz) (fun u hu _ => ⟨rfl, hu⟩) (fun _ h => by cases h) hdg hlocks
end CX11
