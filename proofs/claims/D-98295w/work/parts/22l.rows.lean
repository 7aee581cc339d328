/-! rows: methods that throw a Wrong -/
def bdx {α β : Type} (x : Option (Except Nat α × CS)) (f : α → CS → Option (Except Nat β × CS)) : Option (Except Nat β × CS) := match x with
  | none => none
  | some (.error e, t) => some (.error e, t)
  | some (.ok v, t) => f v t
theorem bdx_some {α β : Type} {x : Option (Except Nat α × CS)} {f : α → CS → Option (Except Nat β × CS)} {r : Except Nat β} {t9 : CS} (h : bdx x f = some (r, t9)) : (∃ q, x = some (.error q, t9) ∧ r = .error q) ∨ ∃ v t, x = some (.ok v, t) ∧ f v t = some (r, t9) := by
  unfold bdx at h
  split at h
  · cases h
  · cases h; exact Or.inl ⟨_, rfl, rfl⟩
  · exact Or.inr ⟨_, _, rfl, h⟩
def ckW {α : Type} (t : CS) (r : Nat) (x : Option α) : Option α := if gC t r = some 6 ∧ t.2.2.2 2 ≤ r then x else none
theorem ckW_some {α : Type} {t : CS} {r : Nat} {x : Option α} {o : α} (h : ckW t r x = some o) : (gC t r = some 6 ∧ t.2.2.2 2 ≤ r) ∧ x = some o := by
  unfold ckW at h
  split at h
  · exact ⟨by assumption, h⟩
  · cases h
def fI : Int32 → Option Value := fun v => some (.int v)
def fR : Nat → Option Value := fun v => some (.ref v)
def fU : Unit → Option Value := fun _ => none
def xQ {α : Type} (D : va_G) (dA : Nat → ClassId) (a : Nat) (k : KP a) (t0 t9 : CS) (f : α → Option Value) (r : Except Nat α) : Array Value → State → Outcome → State → Prop := match r with
  | .ok v => cQ D dA a k 2 t0 t9 (f v)
  | .error _ => fun _ _ _ _ => False
def xX {α : Type} (D : va_G) (dA : Nat → ClassId) (a : Nat) (k : KP a) (t0 t9 : CS) (r : Except Nat α) : Addr → String → State → State → Prop := match r with
  | .ok _ => fun _ _ _ _ => False
  | .error q' => fun q E st u => q = q' ∧ E = "LettersOnStrike$Wrong" ∧ cW D dA a k t9 u.heap ∧ st.heap.size ≤ u.heap.size ∧ (∀ q : Nat, ¬ ca a q → u.heap[q]? = st.heap[q]?) ∧ ∀ i, 2 ≤ i → t9.2.2.2 i = t0.2.2.2 i
section CX10
variable {p : Program} {l : Launch} {e : Env} {R : Room} {s : State} {m : MethodId} {args : Array Value} {below : List Frame} {meth : Method} {c : Code} {H : Heap} {locs : List Loc} {cells slots : Nat} {Q : State → Prop}
variable {cc : ByteArray} {pc nL : Nat} {ls : Array Slot} {rest st0 : List Value} {own : String} {ret : Option FieldType} {D : va_G} {dA : Nat → ClassId} {a : Nat} {k : KP a} {t : CS}
theorem ex_thr {α : Type} {f : α → Option Value} {t0 : CS} {r : Nat} (C : cx p s m args meth c cc own nL ret) (hxt : ∀ x ∈ c.exceptionTable.toList, False) (hK : kC D dA a k t.2.2.2 s) (hT : cW D dA a k t H) (hS : cS a s.heap H locs t0.2.2.2 2 t) (hw : gC t r = some 6 ∧ t.2.2.2 2 ≤ r) (hdg : decode cc pc = .ok (.athrow, 1)) : W p l e R s m args below meth c H locs cells slots (vx_MQ below (xQ D dA a k t0 t f (.error r)) (xX D dA a k t0 t (.error r : Except Nat α)) args s cells slots (ca a)) (F0 m pc ls (.ref r :: rest)) := by
  obtain ⟨hx, hb, -, -, -, -, hlocks⟩ := C
  obtain ⟨fs, hg⟩ := gC_some hw.1
  obtain ⟨r0, e1, cell, q1, q2, q3, q4⟩ := d_atO hT hg hw.2 0 _ rfl
  exact vx_athrow hx hb hdg (vx_out (E := "LettersOnStrike$Wrong") (fun x hx => (hxt x hx).elim) hlocks q1 q3 (by rw [q2]; exact (hK.1.1 6 _ rfl).2.1) (fun u hu _ => ⟨rfl, rfl, by rw [hu]; exact hT, by rw [hu]; exact hS.1, by rw [hu]; exact hS.2.1, hS.2.2.2⟩) hS.2.2.1 (Nat.le_refl _) (Nat.le_refl _))
theorem ex_err {α β : Type} {f : α → Option Value} {g : β → Option Value} {t0 t1 : CS} {q : Nat} {a0 : Array Value} {mc ms mc9 ms9 : Nat} (C : cx p s m args meth c cc own nL ret) (hxt : ∀ x ∈ c.exceptionTable.toList, False) (hS : cS a s.heap H locs t0.2.2.2 2 t) (hr : vx_Run p l e R s m args below meth c H locs cells slots mc ms (F0 m pc ls st0) rest (xQ D dA a k t t1 g (.error q) a0) (xX D dA a k t t1 (.error q : Except Nat β)) (ca a)) (hc : cells + mc ≤ mc9 ∧ slots + ms ≤ ms9) : W p l e R s m args below meth c H locs cells slots (vx_MQ below (xQ D dA a k t0 t1 f (.error q)) (xX D dA a k t0 t1 (.error q : Except Nat α)) args s mc9 ms9 (ca a)) (F0 m pc ls st0) := by
  obtain ⟨hx, hb, -, -, -, -, hlocks⟩ := C
  intro T hTh X
  rcases hr T hTh X with ⟨v, st₀, u, T', L, h0, X', hL, e1, e2, hq, st⟩ | ⟨q', st₀, u, T', L, E, ce, h0, X', hL, e1, e2, ⟨hq1, hq2, hw, hz, hq, hN⟩, hce, hcv, hcl, st⟩
  · exact hq.elim
  · subst hq1; subst hq2
    rw [h0] at hz hq
    obtain ⟨t2, a1, b1⟩ := vx_out (Qc := xQ D dA a k t0 t1 f (.error q')) (XC := xX D dA a k t0 t1 (.error q' : Except Nat α)) (pc := pc) (ls := ls) (rest := rest) (H := T'.heap) (free := ca a) (fun x hx => (hxt x hx).elim) hlocks (by rw [e1]; exact hce) hcv hcl (fun w hw2 _ => ⟨rfl, rfl, by rw [hw2, e1]; exact hw, by rw [hw2, e1]; exact Nat.le_trans hS.1 hz, fun z hz2 => by rw [hw2, e1, hq z hz2]; exact hS.2.1 z hz2, fun i hi => (hN i hi).trans (hS.2.2.2 i hi)⟩) (fun z hz2 => by
      rcases List.mem_append.mp hz2 with h | h
      · exact hS.2.2.1 z h
      · exact hL z h) hc.1 hc.2 T' rfl X'
    exact ⟨t2, st.trans a1, b1⟩
theorem ex_ok {β : Type} {g : β → Option Value} {t1 : CS} {v0 : β} {a0 : Array Value} {N0 : Nat → Nat} {mc ms : Nat} (hS : cS a s.heap H locs N0 2 t) (hK : kC D dA a k t.2.2.2 s) (hr : vx_Run p l e R s m args below meth c H locs cells slots mc ms (F0 m pc ls st0) rest (xQ D dA a k t t1 g (.ok v0) a0) (xX D dA a k t t1 (.ok v0 : Except Nat β)) (ca a)) (kc : ∀ (H1 : Heap) (locs1 : List Loc), cW D dA a k t1 H1 → cS a s.heap H1 locs1 N0 2 t1 → kC D dA a k t1.2.2.2 s → W p l e R s m args below meth c H1 locs1 (cells + mc) (slots + ms) Q (F0 m (pc + 3) ls ((g v0).toList ++ rest))) : W p l e R s m args below meth c H locs cells slots Q (F0 m pc ls st0) := by
  refine wa_any (v0 := g v0) (t1 := t1) (a0 := a0) hS hK ?_ kc
  intro T hTh X
  rcases hr T hTh X with h | ⟨q', st₀, u, T', L, E, ce, h0, X', hL, e1, e2, hq, -⟩
  · exact h
  · exact hq.elim
theorem en_X {y : MethodName} {maxL mc ms : Nat} {rm : Room} {av : List Value} {Qc : Array Value → State → Outcome → State → Prop} {XC : Addr → String → State → State → Prop} {free : Addr → Prop} (hy : plainName y.cls = true) (hc : y.cls = own) (hlen : (lg_sl av).length ≤ maxL)
    (body : ∀ (p : Program) (e : Env) (s : State) (m : MethodId) (below : List Frame) (meth : Method) (c : Code) (ls : Array Slot), cx p s m av.toArray meth c cc own maxL ret → (∀ x ∈ c.exceptionTable.toList, False) → kC D dA a k t.2.2.2 s → cW D dA a k t s.heap → lv_has ls maxL (lv_args 0 av) → W p l e rm s m av.toArray below meth c s.heap [] 0 0 (vx_MQ below Qc XC av.toArray s mc ms free) (F0 m 0 ls [])) : vx_Met l y (ws_ y cc maxL ret) rm (cPc D dA a k t av) Qc XC mc ms free := by
  refine vx_ofW (cc := cc) (maxL := maxL) (ret := ret) hy rfl ?_
  intro p e s m args below meth c s₁ B hml hxt hv
  obtain ⟨rfl, hK, hT⟩ := hv
  have hts := atoms_spec (ws := ws_ y cc maxL ret) B.pre
  have hl := lv_entry av (n := maxL) hlen
  rw [lg_entry_eq]
  exact body p e s m below meth c _ ⟨B.exec, B.bytes, B.returns, hml, by rw [← hc]; exact findClass_of_methodNamed B.named, fun w h => hts w (List.mem_cons_of_mem _ h), B.notSynchronized⟩ hxt hK hT hl
theorem run_x {y : MethodName} {CC : String} {bytes : ByteArray} {maxL n index bb mc ms : Nat} {rt : Option FieldType} {rm : Room} {As : List Value} {Qc : Array Value → State → Outcome → State → Prop} {XC : Addr → String → State → State → Prop} {free : Addr → Prop} (C : cx p s m args meth c cc own nL ret) (hK : kC D dA a k t.2.2.2 s) (hT : cW D dA a k t H) (hh : ∀ q : Nat, ¬ ca a q → H[q]? = s.heap[q]?) (hrv : ∃ cell : Cell, H[bb]? = some cell ∧ cell.vm.isStatics = false ∧ s.vm.findClass CC = some cell.cls) (hM : vx_Met l y (ws_ y bytes maxL rt) rm (cPc D dA a k t (.ref bb :: As)) Qc XC mc ms free) (h1 : (Cond.methodLink own index y) ∈ lw_all) (h2 : (Cond.instanceMethod y) ∈ lw_all) (h3 : (Cond.selects CC y y) ∈ lw_all) (h4 : (Cond.initialized CC) ∈ lw_all) (h5 : (Cond.code y bytes maxL rt) ∈ lw_all) (hrm : rm.cells = mc ∧ rm.slots = ms) (hd : y.cls = CC ∧ y.cls ≠ "java/lang/invoke/MethodHandle" ∧ y.cls ≠ "java/lang/invoke/VarHandle" ∧ (parseMethodDescriptor y.desc).map (fun d => d.parameters.length) = some n) (hR : rm.frames + 1 ≤ R.frames ∧ 8 + (maxL + 11) + rm.locals ≤ R.locals) (hc : cells + mc ≤ R.cells ∧ slots + ms ≤ R.slots)
    (hn : As.length = n) (hl : ls.size = nL) (hst : st0 = As.reverse ++ .ref bb :: rest) (hro : (rest.map fun v => v.category).sum ≤ 8) (hdg : decode cc pc = .ok (.invokevirtual index, 3)) : vx_Run p l e R s m args below meth c H locs cells slots mc ms (F0 m pc ls st0) rest (Qc (Value.ref bb :: As).toArray) XC free := by
  obtain ⟨hx, hb, -, hml, hown, hts, -⟩ := C
  exact vx_runV (As := As) (rest := rest) ⟨hx, hb, hml, hown, hts⟩ hM (cwV n hts (lw_V h1 h2 h3 h4 h5) rfl hrm.1 hrm.2 hd hR) ⟨fb_c, hrv, fun U hU hW => ⟨rfl, hK.go hW (by rw [hU]; exact hh) (fun _ _ => rfl), by rw [hU]; exact hT⟩⟩ rfl hn hl hst (lv_room hro) hdg hc
end CX10
