/-! rows: dynamic references, casts, calls through an interface -/
def aR1 (t : CS) (r : Nat) (i : Int32) : Option Nat := match aR t r i with
  | some (some v) => some v
  | _ => none
theorem aR1_some {t : CS} {r v : Nat} {i : Int32} (h : aR1 t r i = some v) : ∃ n f, t.2.2.1 r = some (.inl (7, n, qrf f)) ∧ vp_in i n ∧ f i.toNatClampNeg = some v := by
  unfold aR1 at h
  split at h
  · rename_i w hw
    cases h
    unfold aR at hw
    split at hw
    · rename_i n f hg
      split at hw
      · cases hw
      · rename_i hin
        exact ⟨n, f, hg, hin, Option.some.inj hw⟩
    · cases hw
  · cases h
def ckS {α : Type} (t : CS) (r : Nat) (x : Option α) : Option α := if (gC t r = some 8 ∨ gC t r = some 9) ∨ (gC t r = some 10 ∨ gC t r = some 11) then x else none
theorem ckS_some {α : Type} {t : CS} {r : Nat} {x : Option α} {o : α} (h : ckS t r x = some o) : ((gC t r = some 8 ∨ gC t r = some 9) ∨ (gC t r = some 10 ∨ gC t r = some 11)) ∧ x = some o := by
  unfold ckS at h
  split at h
  · exact ⟨by assumption, h⟩
  · cases h
def ckK {α : Type} (t : CS) (r : Nat) (x : Option α) : Option α := if gC t r = some 7 ∨ (gC t r = some 12 ∨ gC t r = some 13) then x else none
theorem ckK_some {α : Type} {t : CS} {r : Nat} {x : Option α} {o : α} (h : ckK t r x = some o) : (gC t r = some 7 ∨ (gC t r = some 12 ∨ gC t r = some 13)) ∧ x = some o := by
  unfold ckK at h
  split at h
  · exact ⟨by assumption, h⟩
  · cases h
/-- a method got through an interface: the receiver's class, its method, its contract -/
def ifM (l : Launch) (D : va_G) (dA : Nat → ClassId) (a : Nat) (k : KP a) (x : MethodName) (rt : FieldType) (Fb Lb : Nat) (t : CS) (r : Nat) (Qc : Array Value → State → Outcome → State → Prop) : Prop := ∃ (ci : Nat) (CC : String) (TT : u_T) (Ncl : Nat) (y : MethodName) (bytes : ByteArray) (maxL : Nat) (rm : Room), classes[ci]? = some (CC, TT, Ncl) ∧ gC t r = some ci ∧ Met l y (ws_ y bytes maxL (some rt)) rm (cPc D dA a k t [.ref r, .ref (a + 106)]) Qc 0 0 nof ∧ (Cond.selects CC x y) ∈ lw_all ∧ (Cond.instanceMethod y) ∈ lw_all ∧ (Cond.initialized y.cls) ∈ lw_all ∧ (Cond.code y bytes maxL (some rt)) ∈ lw_all ∧ (CC, x, y) ∈ kxI ∧ rm.cells = 0 ∧ rm.slots = 0 ∧ rm.frames + 1 ≤ Fb ∧ 8 + (maxL + 11) + rm.locals ≤ Lb
section CX4
variable {p : Program} {l : Launch} {e : Env} {R : Room} {s : State} {m : MethodId} {args : Array Value} {below : List Frame} {meth : Method} {c : Code} {H : Heap} {locs : List Loc} {cells slots : Nat} {Q : State → Prop}
variable {cc : ByteArray} {pc nL : Nat} {ls : Array Slot} {rest st0 : List Value} {own : String} {ret : Option FieldType} {D : va_G} {dA : Nat → ClassId} {a : Nat} {k : KP a} {t : CS}
theorem d_aldR (C : cx p s m args meth c cc own nL ret) (hK : kC D dA a k t.2.2.2 s) (hT : cW D dA a k t H) {r v : Nat} {x : Int32} (hv : aR1 t r x = some v) (hdg : decode cc pc = .ok (.aaload, 1)) (kc : W p l e R s m args below meth c H locs cells slots Q (F0 m (pc + 1) ls (.ref v :: rest))) : W p l e R s m args below meth c H locs cells slots Q (F0 m pc ls (.int x :: .ref r :: rest)) := by
  obtain ⟨n, f, hg, hin, hf⟩ := aR1_some hv
  have hlt : x.toNatClampNeg < n := Nat.not_le.mp fun q => hin (Or.inr q)
  exact W.aald (v := .ref v) (ty := .object "java/lang/Object") C.1 C.2.1 (d_at hT hg 0 _ rfl) ((hK.1.2 7 _ rfl).1 n (fun j => va_rf (f j))) rfl (fun q => by cases q) (by show ¬ (x < 0 ∨ (arrV _ _ _).slots.size ≤ _); rw [arrV_size]; exact hin) (by show (arrV _ _ _).slots[_]? = _; rw [arrV_read _ _ hlt, hf]; rfl) rfl rfl hdg kc
theorem c_castY (CC nm : String) (TT : u_T) (N ci : Nat) (hc : classes[ci]? = some (CC, TT, N)) (hk : (CC, nm) ∈ kxC) (C : cx p s m args meth c cc own nL ret) (hK : kC D dA a k t.2.2.2 s) (hT : cW D dA a k t H) {r index : Nat} (hr : gC t r = some ci) (hq : (Cond.classLink own index nm) ∈ lw_all) (hdg : decode cc pc = .ok (.checkcast index, 3)) (kc : W p l e R s m args below meth c H locs cells slots Q (F0 m (pc + 3) ls (.ref r :: rest))) : W p l e R s m args below meth c H locs cells slots Q (F0 m pc ls (.ref r :: rest)) :=
  va_castY C.1 C.2.1 C.2.2.2.2.1 (C.2.2.2.2.2.1 _ hq) (hK.2.1.2.2.1 _ hk) (rv_D hc hK hT hr) hdg kc
theorem c_castS {CC : String} {TT : u_T} {N ci : Nat} (hc : classes[ci]? = some (CC, TT, N)) (C : cx p s m args meth c cc own nL ret) (hK : kC D dA a k t.2.2.2 s) (hT : cW D dA a k t H) {r index : Nat} (hr : gC t r = some ci) (hq : (Cond.classLink own index CC) ∈ lw_all) (hdg : decode cc pc = .ok (.checkcast index, 3)) (kc : W p l e R s m args below meth c H locs cells slots Q (F0 m (pc + 3) ls (.ref r :: rest))) : W p l e R s m args below meth c H locs cells slots Q (F0 m pc ls (.ref r :: rest)) :=
  va_castS C.1 C.2.1 C.2.2.2.2.1 (C.2.2.2.2.2.1 _ hq) (hK.1.1 ci _ hc).2 (rv_D hc hK hT hr) hdg kc
theorem c_castSum (C : cx p s m args meth c cc own nL ret) (hK : kC D dA a k t.2.2.2 s) (hT : cW D dA a k t H) {r index : Nat} (hr : (gC t r = some 8 ∨ gC t r = some 9) ∨ (gC t r = some 10 ∨ gC t r = some 11)) (hq : (Cond.classLink own index "LettersOnStrike$Sum") ∈ lw_all) (hdg : decode cc pc = .ok (.checkcast index, 3)) (kc : W p l e R s m args below meth c H locs cells slots Q (F0 m (pc + 3) ls (.ref r :: rest))) : W p l e R s m args below meth c H locs cells slots Q (F0 m pc ls (.ref r :: rest)) := by
  rcases hr with (h | h) | (h | h)
  · exact c_castY RX8 _ TX8 3 8 rfl (List.mem_of_getElem? (i := 4) rfl) C hK hT h hq hdg kc
  · exact c_castY RX9 _ TX9 1 9 rfl (List.mem_of_getElem? (i := 7) rfl) C hK hT h hq hdg kc
  · exact c_castY RX10 _ TX10 1 10 rfl (List.mem_of_getElem? (i := 6) rfl) C hK hT h hq hdg kc
  · exact c_castY RX11 _ TX11 1 11 rfl (List.mem_of_getElem? (i := 5) rfl) C hK hT h hq hdg kc
theorem c_castAsk (C : cx p s m args meth c cc own nL ret) (hK : kC D dA a k t.2.2.2 s) (hT : cW D dA a k t H) {r index : Nat} (hr : gC t r = some 7 ∨ (gC t r = some 12 ∨ gC t r = some 13)) (hq : (Cond.classLink own index "LettersOnStrike$Asked") ∈ lw_all) (hdg : decode cc pc = .ok (.checkcast index, 3)) (kc : W p l e R s m args below meth c H locs cells slots Q (F0 m (pc + 3) ls (.ref r :: rest))) : W p l e R s m args below meth c H locs cells slots Q (F0 m pc ls (.ref r :: rest)) := by
  rcases hr with h | (h | h)
  · exact c_castY RX7 _ TX7 1 7 rfl (List.mem_of_getElem? (i := 8) rfl) C hK hT h hq hdg kc
  · exact c_castY RX12 _ TX12 3 12 rfl (List.mem_of_getElem? (i := 3) rfl) C hK hT h hq hdg kc
  · exact c_castY RX13 _ TX13 2 13 rfl (List.mem_of_getElem? (i := 2) rfl) C hK hT h hq hdg kc
theorem run_if {x : MethodName} {rt : FieldType} {Fb Lb : Nat} {r index count : Nat} {Qc : Array Value → State → Outcome → State → Prop} (C : cx p s m args meth c cc own nL ret) (hK : kC D dA a k t.2.2.2 s) (hT : cW D dA a k t H) (hh : ∀ q : Nat, ¬ ca a q → H[q]? = s.heap[q]?) (hM : ifM l D dA a k x rt Fb Lb t r Qc) (hb : Fb ≤ R.frames ∧ Lb ≤ R.locals) (h1 : (Cond.methodLink own index x) ∈ lw_all) (hd : x.cls ≠ "java/lang/invoke/MethodHandle" ∧ x.cls ≠ "java/lang/invoke/VarHandle" ∧ (parseMethodDescriptor x.desc).map (fun d => d.parameters.length) = some 1) (hc : cells + 0 ≤ R.cells ∧ slots + 0 ≤ R.slots) (hl : ls.size = nL) (hst : st0 = .ref (a + 106) :: .ref r :: rest) (hro : (rest.map fun v => v.category).sum ≤ 8) (hdg : decode cc pc = .ok (.invokeinterface index count, 5)) : va_Run5 p l e R s m args below meth c H locs cells slots 0 0 (F0 m pc ls st0) rest (Qc #[.ref r, .ref (a + 106)]) nof := by
  obtain ⟨ci, CC, TT, Ncl, y, bytes, maxL, rm, g1, g2, g3, g4, g5, g6, g7, g8, g9, g10, g11, g12⟩ := hM
  obtain ⟨hx, hb', -, hml, hown, hts, -⟩ := C
  refine va_runF (As := [.ref (a + 106)]) (rest := rest) (hK.1.1 ci _ g1).2 ⟨hx, hb', hml, hown, hts⟩ g3 (va_cwF 1 hts (lw_app (fun w hw => ?_) (lw_meth g7)) rfl g9 g10 (hK.2.1.2.2.2.2 _ g8) hd ⟨Nat.le_trans g11 hb.1, Nat.le_trans g12 hb.2⟩) ⟨fb_c, rv_D g1 hK hT g2, fun U hU hW => ⟨rfl, hK.go hW (by rw [hU]; exact hh) (fun _ _ => rfl), by rw [hU]; exact hT⟩⟩ rfl rfl hl hst (lv_room hro) hdg hc
  simp only [List.mem_cons, List.not_mem_nil, or_false] at hw
  rcases hw with e | e | e | e
  · rw [e]; exact h1
  · rw [e]; exact g4
  · rw [e]; exact g5
  · rw [e]; exact g6
theorem r_int5 {r : Int32} {a0 : Array Value} (hr : va_Run5 p l e R s m args below meth c H locs cells slots 0 0 (F0 m pc ls st0) rest (rQi r a0) nof) (kc : W p l e R s m args below meth c H locs cells slots Q (F0 m (pc + 5) ls (.int r :: rest))) : W p l e R s m args below meth c H locs cells slots Q (F0 m pc ls st0) := by
  intro T hT X
  obtain ⟨v, st₀, u, T', L, h0, X', hL, e1, e2, ⟨hv, hh⟩, st⟩ := hr T hT X
  cases hv
  rw [nof_nil hL, List.append_nil] at X'
  obtain ⟨t2, a1, b1⟩ := kc T' (by rw [e1, hh, h0]) X'
  exact ⟨t2, st t2 a1, b1⟩
theorem r_long5 {r : Int64} {a0 : Array Value} (hr : va_Run5 p l e R s m args below meth c H locs cells slots 0 0 (F0 m pc ls st0) rest (rQl r a0) nof) (kc : W p l e R s m args below meth c H locs cells slots Q (F0 m (pc + 5) ls (.long r :: rest))) : W p l e R s m args below meth c H locs cells slots Q (F0 m pc ls st0) := by
  intro T hT X
  obtain ⟨v, st₀, u, T', L, h0, X', hL, e1, e2, ⟨hv, hh⟩, st⟩ := hr T hT X
  cases hv
  rw [nof_nil hL, List.append_nil] at X'
  obtain ⟨t2, a1, b1⟩ := kc T' (by rw [e1, hh, h0]) X'
  exact ⟨t2, st t2 a1, b1⟩
end CX4
def xOf : MethodName := ⟨"LettersOnStrike$Sum", "of", "([I)J"⟩
def xIs : MethodName := ⟨"LettersOnStrike$Asked", "is", "([I)Z"⟩
theorem hdxOf : xOf.cls ≠ "java/lang/invoke/MethodHandle" ∧ xOf.cls ≠ "java/lang/invoke/VarHandle" ∧ (parseMethodDescriptor xOf.desc).map (fun d => d.parameters.length) = some 1 := by decide +kernel
theorem hdxIs : xIs.cls ≠ "java/lang/invoke/MethodHandle" ∧ xIs.cls ≠ "java/lang/invoke/VarHandle" ∧ (parseMethodDescriptor xIs.desc).map (fun d => d.parameters.length) = some 1 := by decide +kernel
