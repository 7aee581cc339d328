/-! rows: a Wrong is made -/
def xAt : List Cond := [.initialized Bundle.tN, .superclass Bundle.tN "java/lang/Object",
  .instanceMethod Bundle.tFill, .codeSync Bundle.tFill LibCode.Throwable.Fill.code 1 (some (.object Bundle.tN)), .instanceMethod Bundle.tFill0, .native Bundle.tFill0,
  .instanceMethod Bundle.tInit0, .code Bundle.tInit0 LibCode.Throwable.Init0.code 1 none, .instanceMethod Bundle.oInit, .code Bundle.oInit ⟨#[0xb1]⟩ 1 none,
  .methodLink Bundle.tN 1 Bundle.oInit, .methodLink Bundle.tN 27 Bundle.tFill, .methodLink Bundle.tN 202 Bundle.tFill0,
  .fieldLink Bundle.tN 7 Bundle.tN "cause" "Ljava/lang/Throwable;", .lays Bundle.tN Bundle.tN "cause" "Ljava/lang/Throwable;",
  .fieldLink Bundle.tN 17 Bundle.tN "stackTrace" Bundle.steD, .lays Bundle.tN Bundle.tN "stackTrace" Bundle.steD,
  .fieldLink Bundle.tN 24 Bundle.tN "suppressedExceptions" Bundle.listD, .lays Bundle.tN Bundle.tN "suppressedExceptions" Bundle.listD,
  .fieldLink Bundle.tN 13 Bundle.tN "UNASSIGNED_STACK" Bundle.steD, .fieldLink Bundle.tN 20 Bundle.tN "SUPPRESSED_SENTINEL" Bundle.listD,
  .lays Bundle.tN Bundle.tN "detailMessage" "Ljava/lang/String;",
  .instanceMethod (Bundle.init0 "java/lang/Exception"), .code (Bundle.init0 "java/lang/Exception") Bundle.five 1 none, .methodLink "java/lang/Exception" 1 (Bundle.init0 Bundle.tN),
  .methodLink RX6 1 (Bundle.init0 "java/lang/Exception"), .instantiable RX6 8, .selects RX6 Bundle.tFill0 Bundle.tFill0, .selects RX6 Bundle.tFill Bundle.tFill,
  .lays RX6 Bundle.tN "cause" "Ljava/lang/Throwable;", .lays RX6 Bundle.tN "stackTrace" Bundle.steD, .lays RX6 Bundle.tN "suppressedExceptions" Bundle.listD, .lays RX6 Bundle.tN "detailMessage" "Ljava/lang/String;", .lays RX6 Bundle.tN "backtrace" "Ljava/lang/Object;",
  .fieldLink Bundle.tN 198 Bundle.tN "backtrace" "Ljava/lang/Object;", .lays Bundle.tN Bundle.tN "backtrace" "Ljava/lang/Object;"]
theorem in_xAt : ∀ w ∈ xAt, w ∈ lw_all := lw_in xAt [181, 696, 705, 707, 710, 712, 697, 698, 200, 201, 699, 704, 708, 725, 686, 726, 688, 727, 690, 700, 702, 692, 717, 718, 719, 716, 677, 683, 684, 685, 687, 689, 691, 693, 695, 694] (by decide +kernel) (by decide +kernel)
section CX8
variable {p : Program} {l : Launch} {e : Env} {R : Room} {s : State} {m : MethodId} {args : Array Value} {below : List Frame} {meth : Method} {c : Code} {H : Heap} {locs : List Loc} {cells slots : Nat} {Q : State → Prop}
variable {cc : ByteArray} {pc nL : Nat} {ls : Array Slot} {rest st0 : List Value} {own : String} {ret : Option FieldType} {D : va_G} {dA : Nat → ClassId} {a : Nat} {k : KP a} {t : CS}
theorem thr_words (hK : kC D dA a k t.2.2.2 s) (hts : ∀ w ∈ lw_all, w.before args s = true) : ∀ w ∈ Bundle.throwableAtoms, w.before args s = true := by
  intro w hw
  by_cases h1 : w ∈ xAt
  · exact hts _ (in_xAt _ h1)
  · simp only [Bundle.throwableAtoms, List.mem_cons, List.not_mem_nil, or_false] at hw
    rcases hw with rfl | rfl | rfl | rfl | rfl | rfl | rfl | rfl | rfl | rfl | rfl | rfl | rfl | rfl | rfl | rfl | rfl | rfl | rfl | rfl | rfl | rfl | rfl | rfl <;> first | exact hK.2.2.1.2.2.2.2.1.1.2.word | exact hK.2.2.1.2.2.2.2.1.2.1.2.word | exact absurd (by simp [xAt]) h1
/-- super() of a Wrong: what it does not change -/
theorem x_exc (hl : l.stackTraces = false) (C : cx p s m args meth c cc RX6 nL ret) (hK : kC D dA a k t.2.2.2 s) (hT : cW D dA a k t H) {N0 : Nat → Nat} {lo : Nat} (hS : cS a s.heap H [] N0 lo t) (hls : ls.size = nL) {r : Nat} {fs : List Value} (hr : t.2.2.1 r = some (.inr (6, fs))) (h2 : t.2.2.2 2 ≤ r) {kX : Class} (hkX : s.vm.classes[D.1 6]? = some kX) (hfr : H[r]? = some (freshCell (D.1 6) kX)) (hR : 10 ≤ R.frames ∧ 100 ≤ R.locals) (hro : (rest.map fun v => v.category).sum ≤ 8) (hdg : decode cc pc = .ok (.invokespecial 1, 3))
    (kc : ∀ (H1 : Heap) (locs1 : List Loc), cW D dA a k t H1 → cS a s.heap H1 locs1 N0 lo t → W p l e R s m args below meth c H1 locs1 cells slots Q (F0 m (pc + 3) ls rest)) : W p l e R s m args below meth c H [] cells slots Q (F0 m pc ls (.ref r :: rest)) := by
  obtain ⟨hx, hb, -, hml, hown, hts, -⟩ := C
  intro W0 hWh X
  have htr : e.platform.stackTraces = false := (show e.platform.stackTraces = l.stackTraces by rw [X.admits.platform]).trans hl
  have howns : e.platform.frameOwnsMonitors = true := by rw [X.admits.platform]
  have hfin : e.platform.finalization = false := by rw [X.admits.platform]
  have hpl : e.platform.magicAccessors = ({} : Platform).magicAccessors := by rw [X.admits.platform]
  have a' : ∀ w, w ∈ xAt → w.before args s = true := fun w hw => hts _ (in_xAt _ hw)
  obtain ⟨T, Z, L, LZ, Y⟩ := ThrowableC.of_atoms (args := args) howns hfin hpl (thr_words hK hts)
  obtain ⟨P1, Ps, hlen, L1, hL, hP1m, hlink1, hlink⟩ := Bundle.chain0 (args := args) hpl Y.init0 [] "java/lang/Exception" (by decide) (fun n hn => by cases hn) (fun w hw => by
    simp only [Bundle.chain0Atoms, Bundle.passAtoms, List.mem_cons, List.not_mem_nil, or_false] at hw
    rcases hw with rfl | rfl | rfl | rfl | rfl
    · exact a' _ (by simp [xAt])
    · exact a' _ (by simp [xAt])
    · exact a' _ (by simp [xAt])
    · exact a' _ (by simp [xAt, Bundle.tInit0, Bundle.init0])
    · exact hK.2.2.1.2.2.2.2.1.2.2.use)
  have hfX : s.vm.findClass RX6 = some (D.1 6) := (hK.1.1 6 _ rfl).2.1
  obtain ⟨c1, kX', hc1, hk, hord, -, -, hn6⟩ := Cond.instantiable_spec (a' (.instantiable RX6 8) (by simp [xAt]))
  cases Option.some.inj (hc1.symm.trans hfX)
  cases Option.some.inj (hkX.symm.trans hk)
  have hsel0 : selectMethod e.platform s.vm (D.1 6) T.fill0 = .method T.fill0 := by
    obtain ⟨c2, r2, m2, q1, q2, q3, q4, -⟩ := Cond.selects_spec (a' (.selects RX6 Bundle.tFill0 Bundle.tFill0) (by simp [xAt]))
    cases Option.some.inj (q1.symm.trans hfX)
    cases Option.some.inj (q2.symm.trans (State.methodFound?_of_named Y.fill0 (by decide)))
    cases Option.some.inj (q3.symm.trans Y.fill0)
    rw [Launch.admits_selectMethod X.admits]; exact q4
  have hselF : selectMethod e.platform s.vm (D.1 6) T.fill = .method T.fill := by
    obtain ⟨c2, r2, m2, q1, q2, q3, q4, -⟩ := Cond.selects_spec (a' (.selects RX6 Bundle.tFill Bundle.tFill) (by simp [xAt]))
    cases Option.some.inj (q1.symm.trans hfX)
    cases Option.some.inj (q2.symm.trans (State.methodFound?_of_named Y.fill (by decide)))
    cases Option.some.inj (q3.symm.trans Y.fill)
    rw [Launch.admits_selectMethod X.admits]; exact q4
  obtain ⟨cellS0, hcS0, hiss⟩ := Y.statics
  obtain ⟨u0, hu0⟩ := Cond.staticRefV Y.unassigned L.unassignedStatic L.statics hcS0 hiss (vx_isRefq (args := args) hK.2.2.1.2.2.2.2.1.1.1)
  obtain ⟨sen, hsen⟩ := Cond.staticRefV Y.sentinel L.sentinelStatic L.statics hcS0 hiss (vx_isRefq (args := args) hK.2.2.1.2.2.2.2.1.2.1.1)
  obtain ⟨ci198, i198, fB, hk198, hg198, ha198, hsB, -, hnB, htB, hffB⟩ := Cond.ownField (t := .object "java/lang/Object") Y.found L.cls (by decide +kernel) (a' (.fieldLink Bundle.tN 198 Bundle.tN "backtrace" "Ljava/lang/Object;") (by simp [xAt])) (a' (.lays Bundle.tN Bundle.tN "backtrace" "Ljava/lang/Object;") (by simp [xAt])) e.platform hpl
  obtain ⟨cellS, hcS', heS, -, hkeep⟩ := X.same.2.2.2.2.2 T.aS cellS0 hcS0
  have hcellS : W0.heap[T.aS]? = some cellS := hcS'
  have hcell : W0.heap[r]? = some (freshCell (D.1 6) kX) := by rw [hWh]; exact hfr
  have hknownS : cellS.vm ≠ .unknown := by
    rw [heS]; intro hu
    rw [show cellS0.vm = .unknown from hu] at hiss
    cases hiss
  have hneS : T.aS ≠ r := by
    intro hE
    rw [hE, hcell] at hcellS
    cases hcellS
    have h9 : (VmData.none).isStatics = true := (congrArg (fun c : Cell => c.vm.isStatics) heS).trans hiss
    cases h9
  obtain ⟨iM, hffM⟩ := Y.msg
  obtain ⟨tyC, dC, hdC, hdnC⟩ := Cond.laysAt hfX hk Y.cause (a' (.lays RX6 Bundle.tN "cause" "Ljava/lang/Throwable;") (by simp [xAt]))
  obtain ⟨tyS, dS, hdS, hdnS⟩ := Cond.laysAt hfX hk Y.stack (a' (.lays RX6 Bundle.tN "stackTrace" Bundle.steD) (by simp [xAt]))
  obtain ⟨tyP, dP, hdP, hdnP⟩ := Cond.laysAt hfX hk Y.supp (a' (.lays RX6 Bundle.tN "suppressedExceptions" Bundle.listD) (by simp [xAt]))
  obtain ⟨tyB, dB, hdB, hdnB⟩ := Cond.laysAt hfX hk hffB (a' (.lays RX6 Bundle.tN "backtrace" "Ljava/lang/Object;") (by simp [xAt]))
  have bC := Cond.laysApart hdB hdC hdnB hdnC (by rw [hnB, Y.causeName]; decide)
  have bS := Cond.laysApart hdB hdS hdnB hdnS (by rw [hnB, Y.stackName]; decide)
  have bP := Cond.laysApart hdB hdP hdnB hdnP (by rw [hnB, Y.suppName]; decide)
  have hskip : SkipFacts T e.platform s (fun u => u) u0 ((preparedCellV T.toThrowableT (freshCell (D.1 6) kX) r u0 sen).withEntry W0.cur) :=
    ⟨{ ci198 := ci198, i198 := i198, fBack := fB }, ⟨hk198, hg198, ha198, hsB⟩, by
      have := fresh_default (c := D.1 6) tyB
      rw [htB] at this
      simpa [preparedCellV, Cell.setSlot, Cell.withEntry, Array.getElem?_setIfInBounds, bC, bS, bP, bC.symm, bS.symm, bP.symm, defaultValue] using this, fun _ _ => rfl⟩
  obtain ⟨tm, methC, cdC, kC, vm₁, hnC, -, -, -, -, -, -, -, hW₁, st1⟩ := Steps.initCold (tb := p.tables) (e := e) (below := below) (s := s) (U := W0) X.here hx X.warmed hpl hown (t := Bundle.init0 "java/lang/Exception") rfl rfl (Bundle.fit_spec (n := "java/lang/Exception") (by decide)).2
    (a' (.methodLink RX6 1 (Bundle.init0 "java/lang/Exception")) (by simp [xAt])) (a' (.instanceMethod (Bundle.init0 "java/lang/Exception")) (by simp [xAt])) (bytes := Bundle.five) (maxL := 1) (a' (.code (Bundle.init0 "java/lang/Exception") Bundle.five 1 none) (by simp [xAt]))
    (f := F0 m pc ls (.ref r :: rest)) rfl (a := r) (rest := rest) rfl (by rw [hb]; exact hdg)
  cases Option.some.inj (hnC.symm.trans hP1m)
  have X₁ := X.noted hW₁
  have hPs : Ps = [] := List.length_eq_zero_iff.mp hlen
  subst hPs
  obtain ⟨vm₂, X₂, st2⟩ := X₁.ctorPlainOffV hx (g := F0 m pc ls rest) rfl (hls.trans hml.symm) T L Z LZ [P1]
    (fun P hP => by rcases List.mem_cons.mp hP with rfl | hP; exact L1; cases hP) ⟨hlink1, hlink⟩ (u0 := u0) (sen := sen) (self := r) (cell := freshCell (D.1 6) kX) (cellS := cellS)
    hcell (fun _ => by simp) (by simp) rfl rfl hsel0 hselF hcellS hneS hknownS (by rw [hkeep _ (fun h => nomatch h)]; exact hu0) (by rw [hkeep _ (fun h => nomatch h)]; exact hsen)
    (Takes.of_laid hk hord tyC (by rw [Y.causeType]; rfl)) (Takes.of_laid hk hord tyS (by rw [Y.stackType]; exact fits_refV_array _ u0)) (Takes.of_laid hk hord tyP (by rw [Y.suppType]; exact fits_refV_object _ sen)) Y.objLocals hskip htr [] (by rw [hb]; exact hdg)
    (by simp only [List.length_cons, List.length_nil]; omega) (by simp only [List.length_cons, List.length_nil]; show 2 * 0 + (rest.map fun v => v.category).sum + _ ≤ _; omega)
  have hlt : r < H.size := (Array.getElem?_eq_some_iff.mp hfr).1
  generalize hce : ((preparedCellV T.toThrowableT (freshCell (D.1 6) kX) r u0 sen).setSlot T.fStack.slot u0.v) = ce at X₂ st2
  have hap := va_apart (ci := 17) (own := RX6) hts in_X6 tyX6 tyX6_ok nmX6 hK.1 rfl
  have hS17 := (hK.1.1 17 _ rfl).1
  have hS6 := (hK.1.1 6 _ rfl).1
  have jC : T.fCause.slot = D.2 17 0 := by
    obtain ⟨_, _, _, _, h1, h3⟩ := hS17 0 (by decide)
    have h4 := h1.symm.trans Y.cause
    cases h4
    exact h3
  have jS : T.fStack.slot = D.2 17 1 := by
    obtain ⟨_, _, _, _, h1, h3⟩ := hS17 1 (by decide)
    have h4 := h1.symm.trans Y.stack
    cases h4
    exact h3
  have jP : T.fSupp.slot = D.2 17 2 := by
    obtain ⟨_, _, _, _, h1, h3⟩ := hS17 2 (by decide)
    have h4 := h1.symm.trans Y.supp
    cases h4
    exact h3
  have jF : ∀ j, j < 2 → D.2 6 j = D.2 17 (6 + j) := by
    intro j hj
    have hj2 : j = 0 ∨ j = 1 := by omega
    rcases hj2 with rfl | rfl
    · obtain ⟨_, _, _, _, h1, h3⟩ := hS6 0 (by decide)
      obtain ⟨_, _, _, _, h1', h3'⟩ := hS17 6 (by decide)
      cases (show some _ = some _ from h1.symm.trans h1')
      exact h3.symm.trans h3'
    · obtain ⟨_, _, _, _, h1, h3⟩ := hS6 1 (by decide)
      obtain ⟨_, _, _, _, h1', h3'⟩ := hS17 7 (by decide)
      cases (show some _ = some _ from h1.symm.trans h1')
      exact h3.symm.trans h3'
  obtain ⟨r0, e1, cell0, q1, q2, q3, q4⟩ := d_atO hT hr h2 0 _ rfl
  cases e1
  have hcell0 : cell0 = freshCell (D.1 6) kX := Option.some.inj (q1.symm.trans hfr)
  subst hcell0
  have hat : va_at D classes (r, .inr (6, fs)) (H.setIfInBounds r ce) := by
    refine ⟨_, rfl, ce, by simp [Array.getElem?_setIfInBounds, hlt], by rw [← hce]; rfl, by rw [← hce]; rfl, fun j hj => ?_⟩
    have hj2 : j < 2 := hj
    have n0 : D.2 6 j ≠ T.fCause.slot := by rw [jF j hj2, jC]; exact hap _ _ (by omega) (by omega) (by omega)
    have n1 : D.2 6 j ≠ T.fStack.slot := by rw [jF j hj2, jS]; exact hap _ _ (by omega) (by omega) (by omega)
    have n2 : D.2 6 j ≠ T.fSupp.slot := by rw [jF j hj2, jP]; exact hap _ _ (by omega) (by omega) (by omega)
    rw [← q4 j hj, ← hce]
    simp [preparedCellV, Cell.setSlot, Array.getElem?_setIfInBounds, n0, n1, n2, Ne.symm n0, Ne.symm n1, Ne.symm n2]
  have hd : dset t r (.inr (6, fs)) = t := by
    obtain ⟨t1, t2, t3, t4⟩ := t
    show (t1, t2, (fun q => if q = r then _ else t3 q), t4) = _
    congr 3
    funext q
    by_cases hqr : q = r
    · rw [if_pos hqr, hqr]; exact hr.symm
    · rw [if_neg hqr]
  have z1 : (H.setIfInBounds r ce).size = H.size := by simp
  have o1 : ∀ q : Nat, q ≠ r → (H.setIfInBounds r ce)[q]? = H[q]? := fun q hq => by simp [Array.getElem?_setIfInBounds, Ne.symm hq]
  have hT1 := hT.dput (x := .inr (6, fs)) hr (by have := hT.2.2.1; omega) hat z1 o1
  rw [hd] at hT1
  obtain ⟨t9, st9, hq9⟩ := kc (H.setIfInBounds r ce) _ hT1 (hS.puts z1 o1 (Or.inr (by rw [← hT.2.2.1]; exact h2)) (L := [⟨r, T.fCause.slot⟩, ⟨r, T.fStack.slot⟩, ⟨r, T.fSupp.slot⟩, ⟨r, T.fStack.slot⟩]) (fun q hq => by
    simp only [List.mem_cons, List.not_mem_nil, or_false] at hq
    rcases hq with rfl | rfl | rfl | rfl <;> rfl) rfl) (((W0.setVm vm₁).setVm vm₂).setCell r ce) (by rw [← hWh]; rfl) X₂
  exact ⟨t9, st1 _ (fun acts => by rw [doInvoke_state]; exact st2 _ st9), hq9⟩
end CX8
