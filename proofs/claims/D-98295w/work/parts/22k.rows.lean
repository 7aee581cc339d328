/-! rows: Wrong.<init>, Tokens.wrong; methods that throw -/
set_option maxRecDepth 20000
def PcW (D : va_G) (dA : Nat → ClassId) (a : Nat) (k : KP a) (t : CS) (r : Nat) (av : List Value) : Array Value → State → Prop := va_Pc av (fun U => kC D dA a k t.2.2.2 U ∧ cW D dA a k t U.heap ∧ ∃ kX : Class, U.vm.classes[D.1 6]? = some kX ∧ U.heap[r]? = some (freshCell (D.1 6) kX))
theorem fb_w {D : va_G} {dA : Nat → ClassId} {a : Nat} {k : KP a} {t : CS} {r : Nat} {av : List Value} : FrameBlind (PcW D dA a k t r av) := fun A U g mk q => ⟨q.1, (fb_c A U g mk ⟨q.1, q.2.1, q.2.2.1⟩).2.1, q.2.2.1, q.2.2.2⟩
/-- new Wrong(f, place) -/
def wnew (t : CS) (f : Int32) : CS := dnew t (.inr (6, [.int f, .int (t.1 200 3)])) 8
def C_wrong (t : CS) (f : Int32) : Option (Nat × CS) := some (t.2.2.2 0, wnew t f)
abbrev rmX6_init : Room := { frames := 12, cells := 0, slots := 0, locals := 130 }
theorem hdX6_init : yX6_init.name = "<init>" ∧ yX6_init.cls ≠ "java/lang/invoke/MethodHandle" ∧ yX6_init.cls ≠ "java/lang/invoke/VarHandle" ∧ (parseMethodDescriptor yX6_init.desc).map (fun d => d.parameters.length) = some 2 := by decide +kernel
section CX9
variable {p : Program} {l : Launch} {e : Env} {R : Room} {s : State} {m : MethodId} {args : Array Value} {below : List Frame} {meth : Method} {c : Code} {H : Heap} {locs : List Loc} {cells slots : Nat} {Q : State → Prop}
variable {cc : ByteArray} {pc nL : Nat} {ls : Array Slot} {rest st0 : List Value} {own : String} {ret : Option FieldType} {D : va_G} {dA : Nat → ClassId} {a : Nat} {k : KP a} {t : CS}
theorem run_iw {y : MethodName} {bytes : ByteArray} {maxL n index bb mc ms : Nat} {rm : Room} {As : List Value} {Qc : Array Value → State → Outcome → State → Prop} {free : Addr → Prop} (C : cx p s m args meth c cc own nL ret) (hK : kC D dA a k t.2.2.2 s) (hT : cW D dA a k t H) (hh : ∀ q : Nat, ¬ ca a q → H[q]? = s.heap[q]?) {kX : Class} (hkX : s.vm.classes[D.1 6]? = some kX) (hfr : H[bb]? = some (freshCell (D.1 6) kX)) (hM : Met l y (ws_ y bytes maxL none) rm (PcW D dA a k t bb (.ref bb :: As)) Qc mc ms free) (h1 : (Cond.methodLink own index y) ∈ lw_all) (h2 : (Cond.instanceMethod y) ∈ lw_all) (h4 : (Cond.initialized y.cls) ∈ lw_all) (h5 : (Cond.code y bytes maxL none) ∈ lw_all) (hrm : rm.cells = mc ∧ rm.slots = ms) (hd : y.name = "<init>" ∧ y.cls ≠ "java/lang/invoke/MethodHandle" ∧ y.cls ≠ "java/lang/invoke/VarHandle" ∧ (parseMethodDescriptor y.desc).map (fun d => d.parameters.length) = some n) (hR : rm.frames + 1 ≤ R.frames ∧ 8 + (maxL + 11) + rm.locals ≤ R.locals) (hc : cells + mc ≤ R.cells ∧ slots + ms ≤ R.slots)
    (hn : As.length = n) (hl : ls.size = nL) (hst : st0 = As.reverse ++ .ref bb :: rest) (hro : (rest.map fun v => v.category).sum ≤ 8) (hdg : decode cc pc = .ok (.invokespecial index, 3)) : va_Run p l e R s m args below meth c H locs cells slots mc ms (F0 m pc ls st0) rest (Qc (Value.ref bb :: As).toArray) free := by
  obtain ⟨hx, hb, -, hml, hown, hts, -⟩ := C
  refine va_runI (As := As) (rest := rest) ⟨hx, hb, hml, hown, hts⟩ hM (cwI n hts (lw_meth h5) rfl hrm.1 hrm.2 (hts _ h4) (hts _ h1) (hts _ h2) hd.1 hd.2 hR) ⟨fb_w, fun U hU hW => ⟨rfl, hK.go hW (by rw [hU]; exact hh) (fun _ _ => rfl), by rw [hU]; exact hT, ?_⟩⟩ rfl hn hl hst (lv_room hro) hdg hc
  obtain ⟨kX', g1, g2⟩ := hW.alike.2.2 _ _ hkX
  exact ⟨kX', g1, by rw [hU, hfr, g2]⟩
theorem en_W {y : MethodName} {maxL mc ms r : Nat} {rm : Room} {av : List Value} {Qc : Array Value → State → Outcome → State → Prop} {free : Addr → Prop} (hy : plainName y.cls = true) (hc : y.cls = own) (hlen : (lg_sl av).length ≤ maxL)
    (body : ∀ (p : Program) (e : Env) (s : State) (m : MethodId) (below : List Frame) (meth : Method) (c : Code) (ls : Array Slot) (kX : Class), cx p s m av.toArray meth c cc own maxL ret → meth.name = y.name → kC D dA a k t.2.2.2 s → cW D dA a k t s.heap → s.vm.classes[D.1 6]? = some kX → s.heap[r]? = some (freshCell (D.1 6) kX) → lv_has ls maxL (lv_args 0 av) → W p l e rm s m av.toArray below meth c s.heap [] 0 0 (MQ below Qc av.toArray s mc ms free) (F0 m 0 ls [])) : Met l y (ws_ y cc maxL ret) rm (PcW D dA a k t r av) Qc mc ms free := by
  refine Met.ofW (cc := cc) (maxL := maxL) (ret := ret) hy rfl ?_
  intro p e s m args below meth c s₁ B hml hv
  obtain ⟨rfl, hK, hT, kX, hkX, hfr⟩ := hv
  have hts := atoms_spec (ws := ws_ y cc maxL ret) B.pre
  have hl := lv_entry av (n := maxL) hlen
  rw [lg_entry_eq]
  exact body p e s m below meth c _ kX ⟨B.exec, B.bytes, B.returns, hml, by rw [← hc]; exact findClass_of_methodNamed B.named, fun w h => hts w (List.mem_cons_of_mem _ h), B.notSynchronized⟩ (name_of_methodNamed B.named B.method).1 hK hT hkX hfr hl
theorem mX6_init (hst : l.stackTraces = false) {r : Nat} {x1 x2 : Int32} (hr : t.2.2.1 r = some (.inr (6, [.int 0, .int 0]))) (h2 : t.2.2.2 2 ≤ r) : Met l yX6_init (ws_ yX6_init cX6_init 3 none) rmX6_init (PcW D dA a k t r [.ref r, .int x1, .int x2]) (cQ D dA a k 0 t (dset t r (.inr (6, [.int x1, .int x2]))) none) 0 0 (ca a) := by
  refine en_W (by decide +kernel) rfl (Nat.le_of_ble_eq_true rfl) (fun p e s m below meth c ls kX C hin hK hT hkX hfr hl => ?_)
  obtain ⟨hx, hb, hr0, hml, hown, hts, hlocks⟩ := id C
  refine lv_aload_n hx hb dX6_init_0 rfl (lv_at hl 0 rfl) ?_
  refine x_exc hst C hK hT (cS.rf (lo := 0)) hl.1 hr h2 hkX hfr ⟨Nat.le_of_ble_eq_true rfl, Nat.le_of_ble_eq_true rfl⟩ (Nat.le_of_ble_eq_true rfl) dX6_init_1 (fun H locs hT hS => ?_)
  refine lv_aload_n hx hb dX6_init_4 rfl (lv_at hl 0 rfl) ?_
  refine lv_iload_n hx hb dX6_init_5 rfl (lv_at hl 1 rfl) ?_
  have g1 : dpf t r 6 0 (.int x1) = some (dset t r (.inr (6, [.int x1, .int 0]))) := by
    unfold dpf
    rw [hr]
    exact if_pos ⟨rfl, by decide, h2⟩
  refine d_put (ci := 6) in_X6w tyX6w tyX6w_ok nmX6w rfl C hK hT hS 0 (by decide) q720 rfl (Or.inr ⟨rfl, hin, rfl⟩) g1 (tyX6w_ok 0 (by decide)) rfl rfl dX6_init_6 (fun H locs hT hS hK => ?_)
  refine lv_aload_n hx hb dX6_init_9 rfl (lv_at hl 0 rfl) ?_
  refine lv_iload_n hx hb dX6_init_10 rfl (lv_at hl 2 rfl) ?_
  have g2 : dpf (dset t r (.inr (6, [.int x1, .int 0]))) r 6 1 (.int x2) = some (dset t r (.inr (6, [.int x1, .int x2]))) := by
    have e1 : (dset t r (.inr (6, [.int x1, .int 0]))).2.2.1 r = some (.inr (6, [.int x1, .int 0])) := if_pos rfl
    have e2 : dset (dset t r (.inr (6, [.int x1, .int 0]))) r (.inr (6, [.int x1, .int x2])) = dset t r (.inr (6, [.int x1, .int x2])) := by
      unfold dset
      congr 3
      funext q
      by_cases hq : q = r
      · simp [hq]
      · simp [hq]
    unfold dpf
    rw [e1]
    rw [← e2]
    exact if_pos ⟨rfl, (by show 1 < 2; omega), h2⟩
  refine d_put (ci := 6) in_X6w tyX6w tyX6w_ok nmX6w rfl C hK hT hS 1 (by decide) q722 rfl (Or.inr ⟨rfl, hin, rfl⟩) g2 (tyX6w_ok 1 (by decide)) rfl rfl dX6_init_11 (fun H locs hT hS hK => ?_)
  exact ec_v C hT hS rfl dX6_init_14
abbrev rmX4_wrong (t t9 : CS) : Room := { frames := 20, cells := t9.2.2.2 0 - t.2.2.2 0, slots := t9.2.2.2 1 - t.2.2.2 1, locals := 200 }
theorem hdX4_wrong : yX4_wrong.cls = RX4 ∧ yX4_wrong.cls ≠ "java/lang/invoke/MethodHandle" ∧ yX4_wrong.cls ≠ "java/lang/invoke/VarHandle" ∧ (parseMethodDescriptor yX4_wrong.desc).map (fun d => d.parameters.length) = some 1 := by decide +kernel
theorem mo_C_wrong {t : CS} {x1 : Int32} {r : Nat} {t9 : CS} (h : C_wrong t x1 = some (r, t9)) : mo t t9 := by
  cases h
  exact mo.new rfl
theorem mX4_wrong (hkl : k.1 ≠ a ∧ l.stackTraces = false) {x1 : Int32} {r : Nat} {t9 : CS} (h : C_wrong t x1 = some (r, t9)) : Met l yX4_wrong (ws_ yX4_wrong cX4_wrong 2 (some (.object "LettersOnStrike$Wrong"))) (rmX4_wrong t t9) (cPc D dA a k t [.ref k.1, .int x1]) (cQ D dA a k 2 t t9 (some (.ref r))) (t9.2.2.2 0 - t.2.2.2 0) (t9.2.2.2 1 - t.2.2.2 1) (ca a) := by
  refine en_C (by decide +kernel) rfl (Nat.le_of_ble_eq_true rfl) (fun p e s m below meth c ls C hK hT hl => ?_)
  obtain ⟨hx, hb, hr0, hml, hown, hts, hlocks⟩ := id C
  obtain ⟨hk, hst⟩ := hkl
  cases h
  have c1 : (wnew t x1).2.2.2 0 - t.2.2.2 0 = 1 := by show t.2.2.2 0 + 1 - t.2.2.2 0 = 1; omega
  have c8 : (wnew t x1).2.2.2 1 - t.2.2.2 1 = 8 := by show t.2.2.2 1 + 8 - t.2.2.2 1 = 8; omega
  have hKn := hK.1.1 6 _ rfl
  have hz := hT.2.1
  refine W.newcK hx hb hown (hts _ q676) (hts _ q677) (hts _ q183) rfl dX4_wrong_0 (by show 0 + 1 ≤ (wnew t x1).2.2.2 0 - t.2.2.2 0; omega) (by show 0 + 8 ≤ (wnew t x1).2.2.2 1 - t.2.2.2 1; omega) hKn.2.1 hT.2.1 fun H1 kX hkX e1 z1 o1 => ?_
  have hat : va_at D classes (s.heap.size, .inr (6, [.int 0, .int 0])) H1 := by
    rw [hz]
    exact ⟨_, rfl, (u_born tyX6w hts in_X6w hKn hkX e1 tyX6w_ok).to (fun j hj => by rcases (show j = 0 ∨ j = 1 by have : j < 2 := hj; omega) with rfl | rfl <;> rfl)⟩
  have hT1 : cW D dA a k (dnew t (.inr (6, [.int 0, .int 0])) 8) H1 := hT.dnw (x := .inr (6, [.int 0, .int 0])) 8 hat (by rw [z1, hz]) (fun q hq => o1 q (hz ▸ hq))
  have hS1 : cS a s.heap H1 [] t.2.2.2 2 (dnew t (.inr (6, [.int 0, .int 0])) 8) := cS.rf.nw (by rw [hz]; exact hT.2.2.2.1) _ _ (by rw [z1, hz]) (fun q hq => o1 q (hz ▸ hq))
  have hK1 : kC D dA a k (dnew t (.inr (6, [.int 0, .int 0])) 8).2.2.2 s := hK.nw _ _
  refine lv_dup hx hb dX4_wrong_3 rfl ?_
  refine lv_iload_n hx hb dX4_wrong_4 rfl (lv_at hl 1 rfl) ?_
  refine lv_aload_n hx hb dX4_wrong_5 rfl (lv_at hl 0 rfl) ?_
  refine c_getT C hK1 hT1 hk 3 (by decide) q520 rfl (v := .int (t.1 200 3)) rfl dX4_wrong_6 ?_
  have h2 : t.2.2.2 2 ≤ t.2.2.2 0 := by rw [hT.2.2.1]; exact hT.2.2.2.1
  have hm := mX6_init (D := D) (dA := dA) (a := a) (k := k) (l := l) (t := dnew t (.inr (6, [.int 0, .int 0])) 8) hst (r := t.2.2.2 0) (x1 := x1) (x2 := t.1 200 3) (if_pos rfl) h2
  have e2 : dset (dnew t (.inr (6, [.int 0, .int 0])) 8) (t.2.2.2 0) (.inr (6, [.int x1, .int (t.1 200 3)])) = wnew t x1 := by
    unfold wnew dnew dset
    congr 3
    funext q
    by_cases hq : q = t.2.2.2 0
    · simp [hq]
    · simp [hq]
  rw [e2] at hm
  refine wc_void (t1 := wnew t x1) hS1 hK1 (run_iw (rm := rmX6_init) (As := [.int x1, .int (t.1 200 3)]) (rest := [.ref (t.2.2.2 0)]) C hK1 hT1 hS1.2.1 hkX (by rw [← hz] at e1; rw [← hz]; exact e1) hm q713 q714 q183 q715 ⟨rfl, rfl⟩ hdX6_init ⟨Nat.le_of_ble_eq_true rfl, Nat.le_of_ble_eq_true rfl⟩ ⟨by show 0 + 1 + 0 ≤ (wnew t x1).2.2.2 0 - t.2.2.2 0; omega, by show 0 + 8 + 0 ≤ (wnew t x1).2.2.2 1 - t.2.2.2 1; omega⟩ rfl hl.1 rfl (Nat.le_of_ble_eq_true rfl) dX4_wrong_9) (fun H locs hT hS hK hN9 => ?_)
  rw [c1, c8]
  exact ec_r (t0 := t) (lo := 2) (cells := 0 + 1) (slots := 0 + 8) C (Or.inl ⟨_, rfl⟩) hT hS (r := t.2.2.2 0) (t1 := wnew t x1) rfl dX4_wrong_12
end CX9
