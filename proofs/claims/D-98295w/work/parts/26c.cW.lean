/-! the component's walks (texts), 2 (written by gen/gen_comp.py) -/
set_option maxRecDepth 20000
set_option maxRecDepth 20000 in
abbrev rmX4_sign (t t9 : CS) : Room := { frames := 22, cells := t9.2.2.2 0 - t.2.2.2 0, slots := t9.2.2.2 1 - t.2.2.2 1, locals := 244 }
theorem hdX4_sign : yX4_sign.cls = RX4 ∧ yX4_sign.cls ≠ "java/lang/invoke/MethodHandle" ∧ yX4_sign.cls ≠ "java/lang/invoke/VarHandle" ∧ (parseMethodDescriptor yX4_sign.desc).map (fun d => d.parameters.length) = some 1 := by decide +kernel
theorem bX4_sign_p38 {p : Program} {l : Launch} {e : Env} {s : State} {m : MethodId} {args : Array Value} {below : List Frame} {meth : Method} {c : Code} {D : va_G} {dA : Nat → ClassId} {a : Nat} {k : KP a} {t0 : CS} {r : Except Nat Nat} {t9 : CS} (C : cx p s m args meth c cX4_sign RX4 3 (some (.object "LettersOnStrike$Doing"))) (hxt : ∀ x ∈ c.exceptionTable.toList, False) (hkl : k.1 ≠ a ∧ l.stackTraces = false) : ∀ (t : CS) (x1 : Int32) (y0 : Nat) (y1 : Nat) (y2 : Int32) (y3 : Nat) (y5 : Int32) (H : Heap) (locs : List Loc) (hT : cW D dA a k t H) (hS : cS a s.heap H locs t0.2.2.2 2 t) (hK : kC D dA a k t.2.2.2 s) (hm : mo t0 t) (ls : Array Slot), C_X4_sign_p38 t x1 y0 y1 y2 y3 y5 = some (r, t9) → lv_has ls 3 [(1, .int x1)] → W p l e (rmX4_sign t0 t9) s m args below meth c H locs (t.2.2.2 0 - t0.2.2.2 0) (t.2.2.2 1 - t0.2.2.2 1) (vx_MQ below (xQ D dA a k t0 t9 fR r) (xX D dA a k t0 t9 r) args s (t9.2.2.2 0 - t0.2.2.2 0) (t9.2.2.2 1 - t0.2.2.2 1) (ca a)) (F0 m 38 ls [.int y5, .null, .ref y3, .int y2, .ref y1, .ref y0]) := by
  obtain ⟨hx, hb, hr, hml, hown, hts, hlocks⟩ := id C
  intro t x1 y0 y1 y2 y3 y5 H locs hT hS hK hm ls h hl
  have m9 : mo t t9 := mo_C_X4_sign_p38 h
  unfold C_X4_sign_p38 at h
  refine lv_iload_n hx hb dX4_sign_38 rfl (lv_at hl 0 rfl) ?_
  obtain ⟨t1, ht1, h⟩ := bd1_some h
  refine wc_void hS hK (run_iN (As := [.int y2, .ref y3, .null, .int y5, .int x1]) (rest := [.ref y0]) C hK hT hS.2.1 (mX14_init_n ht1) (nm998 hK.2.1) q999 q193 q1000 ⟨rfl, rfl⟩ hdX14_init_n ⟨Nat.le_of_ble_eq_true rfl, Nat.le_of_ble_eq_true rfl⟩ (mo_z m9) rfl hl.1 rfl (Nat.le_of_ble_eq_true rfl) dX4_sign_39) (fun H locs hT hS hK hNt1 => ?_)
  have mm : mo t t1 := mo.ni hNt1
  replace hm := hm.tr mm
  replace m9 : mo t1 t9 := mo.bk (funext fun i => hNt1 i (Nat.zero_le _)) m9
  refine W.widen (mo_s mm).1 (mo_s mm).2 ?_
  cases h
  exact toX (ec_r C (Or.inl ⟨_, rfl⟩) hT hS rfl dX4_sign_42)
theorem bX4_sign_p25 {p : Program} {l : Launch} {e : Env} {s : State} {m : MethodId} {args : Array Value} {below : List Frame} {meth : Method} {c : Code} {D : va_G} {dA : Nat → ClassId} {a : Nat} {k : KP a} {t0 : CS} {r : Except Nat Nat} {t9 : CS} (C : cx p s m args meth c cX4_sign RX4 3 (some (.object "LettersOnStrike$Doing"))) (hxt : ∀ x ∈ c.exceptionTable.toList, False) (hkl : k.1 ≠ a ∧ l.stackTraces = false) : ∀ (t : CS) (x1 : Int32) (x2 : Nat) (y0 : Nat) (H : Heap) (locs : List Loc) (hT : cW D dA a k t H) (hS : cS a s.heap H locs t0.2.2.2 2 t) (hK : kC D dA a k t.2.2.2 s) (hm : mo t0 t) (ls : Array Slot), C_X4_sign_p25 t x1 x2 y0 = some (r, t9) → lv_has ls 3 [(0, .ref k.1), (1, .int x1), (2, .ref x2)] → W p l e (rmX4_sign t0 t9) s m args below meth c H locs (t.2.2.2 0 - t0.2.2.2 0) (t.2.2.2 1 - t0.2.2.2 1) (vx_MQ below (xQ D dA a k t0 t9 fR r) (xX D dA a k t0 t9 r) args s (t9.2.2.2 0 - t0.2.2.2 0) (t9.2.2.2 1 - t0.2.2.2 1) (ca a)) (F0 m 25 ls [.ref y0]) := by
  obtain ⟨hx, hb, hr, hml, hown, hts, hlocks⟩ := id C
  intro t x1 x2 y0 H locs hT hS hK hm ls h hl
  have m9 : mo t t9 := mo_C_X4_sign_p25 h
  unfold C_X4_sign_p25 at h
  refine lv_dup hx hb dX4_sign_25 rfl ?_
  refine lv_sipush (v := 210) hx hb dX4_sign_26 (by decide) ?_
  refine lv_aload_n hx hb dX4_sign_29 rfl (lv_at hl 2 rfl) ?_
  refine lv_null hx hb dX4_sign_30 ?_
  refine lv_aload_n hx hb dX4_sign_31 rfl (lv_at hl 0 rfl) ?_
  refine lv_iconst (v := 0) hx hb dX4_sign_32 (by decide) ?_
  refine lv_bipush (v := 9) hx hb dX4_sign_33 (by decide) ?_
  rcases bdx_some h with ⟨q3, ht1, hr_⟩ | ⟨v2, t1, ht1, h⟩
  · subst hr_
    have mm : mo t t9 := mo_C_X4_number ht1
    exact ex_err C hxt hS (run_x (As := [.int (0 : Int32), .int (9 : Int32)]) (rest := [.null, .ref x2, .int (210 : Int32), .ref y0, .ref y0]) C hK hT hS.2.1 (rv_T hK hT hkl.1) (mX4_number hkl ht1) q788 q790 qs15 q171 q791 ⟨rfl, rfl⟩ hdX4_number ⟨Nat.le_of_ble_eq_true rfl, Nat.le_of_ble_eq_true rfl⟩ (mo_c hm mm mo.rf) rfl hl.1 rfl (Nat.le_of_ble_eq_true rfl) dX4_sign_35) (mo_c hm mm mo.rf)
  · have mm : mo t t1 := mo_C_X4_number ht1
    have m9 : mo t1 t9 := mo_C_X4_sign_p38 h
    refine ex_okI hS hK (run_x (As := [.int (0 : Int32), .int (9 : Int32)]) (rest := [.null, .ref x2, .int (210 : Int32), .ref y0, .ref y0]) C hK hT hS.2.1 (rv_T hK hT hkl.1) (mX4_number hkl ht1) q788 q790 qs15 q171 q791 ⟨rfl, rfl⟩ hdX4_number ⟨Nat.le_of_ble_eq_true rfl, Nat.le_of_ble_eq_true rfl⟩ (mo_c hm mm m9) rfl hl.1 rfl (Nat.le_of_ble_eq_true rfl) dX4_sign_35) (fun H locs hT hS hK => ?_)
    refine W.widen (mo_c hm mm mo.rf).1 (mo_c hm mm mo.rf).2 ?_
    replace hm := hm.tr mm
    exact bX4_sign_p38 C hxt hkl t1 x1 y0 y0 (210 : Int32) x2 v2 H locs hT hS hK hm ls h (lv_sub hl [1] rfl)
theorem bX4_sign_p50 {p : Program} {l : Launch} {e : Env} {s : State} {m : MethodId} {args : Array Value} {below : List Frame} {meth : Method} {c : Code} {D : va_G} {dA : Nat → ClassId} {a : Nat} {k : KP a} {t0 : CS} {r : Except Nat Nat} {t9 : CS} (C : cx p s m args meth c cX4_sign RX4 3 (some (.object "LettersOnStrike$Doing"))) (hxt : ∀ x ∈ c.exceptionTable.toList, False) (hkl : k.1 ≠ a ∧ l.stackTraces = false) : ∀ (t : CS) (x1 : Int32) (x2 : Nat) (y0 : Nat) (H : Heap) (locs : List Loc) (hT : cW D dA a k t H) (hS : cS a s.heap H locs t0.2.2.2 2 t) (hK : kC D dA a k t.2.2.2 s) (hm : mo t0 t) (ls : Array Slot), C_X4_sign_p50 t x1 x2 y0 = some (r, t9) → lv_has ls 3 [(1, .int x1), (2, .ref x2)] → W p l e (rmX4_sign t0 t9) s m args below meth c H locs (t.2.2.2 0 - t0.2.2.2 0) (t.2.2.2 1 - t0.2.2.2 1) (vx_MQ below (xQ D dA a k t0 t9 fR r) (xX D dA a k t0 t9 r) args s (t9.2.2.2 0 - t0.2.2.2 0) (t9.2.2.2 1 - t0.2.2.2 1) (ca a)) (F0 m 50 ls [.ref y0]) := by
  obtain ⟨hx, hb, hr, hml, hown, hts, hlocks⟩ := id C
  intro t x1 x2 y0 H locs hT hS hK hm ls h hl
  have m9 : mo t t9 := mo_C_X4_sign_p50 h
  unfold C_X4_sign_p50 at h
  refine lv_dup hx hb dX4_sign_50 rfl ?_
  refine lv_sipush (v := 210) hx hb dX4_sign_51 (by decide) ?_
  refine lv_aload_n hx hb dX4_sign_54 rfl (lv_at hl 1 rfl) ?_
  refine lv_null hx hb dX4_sign_55 ?_
  refine lv_iconst (v := -1) hx hb dX4_sign_56 (by decide) ?_
  refine lv_iload_n hx hb dX4_sign_57 rfl (lv_at hl 0 rfl) ?_
  obtain ⟨t1, ht1, h⟩ := bd1_some h
  refine wc_void hS hK (run_iN (As := [.int (210 : Int32), .ref x2, .null, .int (-1 : Int32), .int x1]) (rest := [.ref y0]) C hK hT hS.2.1 (mX14_init_n ht1) (nm998 hK.2.1) q999 q193 q1000 ⟨rfl, rfl⟩ hdX14_init_n ⟨Nat.le_of_ble_eq_true rfl, Nat.le_of_ble_eq_true rfl⟩ (mo_z m9) rfl hl.1 rfl (Nat.le_of_ble_eq_true rfl) dX4_sign_58) (fun H locs hT hS hK hNt1 => ?_)
  have mm : mo t t1 := mo.ni hNt1
  replace hm := hm.tr mm
  replace m9 : mo t1 t9 := mo.bk (funext fun i => hNt1 i (Nat.zero_le _)) m9
  refine W.widen (mo_s mm).1 (mo_s mm).2 ?_
  cases h
  exact toX (ec_r C (Or.inl ⟨_, rfl⟩) hT hS rfl dX4_sign_61)
theorem bX4_sign_p12 {p : Program} {l : Launch} {e : Env} {s : State} {m : MethodId} {args : Array Value} {below : List Frame} {meth : Method} {c : Code} {D : va_G} {dA : Nat → ClassId} {a : Nat} {k : KP a} {t0 : CS} {r : Except Nat Nat} {t9 : CS} (C : cx p s m args meth c cX4_sign RX4 3 (some (.object "LettersOnStrike$Doing"))) (hxt : ∀ x ∈ c.exceptionTable.toList, False) (hkl : k.1 ≠ a ∧ l.stackTraces = false) : ∀ (t : CS) (x1 : Int32) (x2 : Nat) (H : Heap) (locs : List Loc) (hT : cW D dA a k t H) (hS : cS a s.heap H locs t0.2.2.2 2 t) (hK : kC D dA a k t.2.2.2 s) (hm : mo t0 t) (ls : Array Slot), C_X4_sign_p12 t x1 x2 = some (r, t9) → lv_has ls 3 [(0, .ref k.1), (1, .int x1), (2, .ref x2)] → W p l e (rmX4_sign t0 t9) s m args below meth c H locs (t.2.2.2 0 - t0.2.2.2 0) (t.2.2.2 1 - t0.2.2.2 1) (vx_MQ below (xQ D dA a k t0 t9 fR r) (xX D dA a k t0 t9 r) args s (t9.2.2.2 0 - t0.2.2.2 0) (t9.2.2.2 1 - t0.2.2.2 1) (ca a)) (F0 m 12 ls []) := by
  obtain ⟨hx, hb, hr, hml, hown, hts, hlocks⟩ := id C
  intro t x1 x2 H locs hT hS hK hm ls h hl
  have m9 : mo t t9 := mo_C_X4_sign_p12 h
  unfold C_X4_sign_p12 at h
  refine lv_aload_n hx hb dX4_sign_12 rfl (lv_at hl 0 rfl) ?_
  refine c_getT C hK hT hkl.1 4 (by decide) q521 rfl (v := .int (t.1 200 4)) rfl dX4_sign_13 ?_
  refine lv_sipush (v := 217) hx hb dX4_sign_16 (by decide) ?_
  refine lv_icmp_eq (tgt := 43) hx hb dX4_sign_19 (by decide) (fun c => ?_) (fun c => ?_)
  · replace h := if_t c h
    refine lv_aload_n hx hb dX4_sign_43 rfl (lv_at hl 0 rfl) ?_
    obtain ⟨t1, ht1, h⟩ := bd1_some h
    refine wc_void hS hK (run_c (As := []) (rest := []) C hK hT hS.2.1 (rv_T hK hT hkl.1) (mX4_next hkl ht1) q603 q605 qs3 q171 q606 ⟨rfl, rfl⟩ hdX4_next ⟨Nat.le_of_ble_eq_true rfl, Nat.le_of_ble_eq_true rfl⟩ (mo_z m9) rfl hl.1 rfl (Nat.le_of_ble_eq_true rfl) dX4_sign_44) (fun H locs hT hS hK hNt1 => ?_)
    have mm : mo t t1 := mo.ni hNt1
    replace hm := hm.tr mm
    replace m9 : mo t1 t9 := mo.bk (funext fun i => hNt1 i (Nat.zero_le _)) m9
    refine W.widen (mo_s mm).1 (mo_s mm).2 ?_
    obtain ⟨t2, et2, h⟩ := lt1_ex h
    have m9 : mo t2 t9 := mo_C_X4_sign_p50 h
    refine n_new (ci := 14) (fs := [.int 0, .null, .null, .int 0, .int 0]) in_X14 tyX14 tyX14_ok rfl C hK hT hS q992 q993 q193 (fun j hj => by rcases (show j = 0 ∨ j = 1 ∨ j = 2 ∨ j = 3 ∨ j = 4 by omega) with rfl | rfl | rfl | rfl | rfl <;> rfl) (mo_n hm et2 m9) dX4_sign_47 (fun t_ H et_ hT hS hK => ?_)
    obtain rfl := et2.trans et_.symm
    refine W.widen (mo_n1 hm et2).1 (mo_n1 hm et2).2 ?_
    replace hm := hm.tr (mo.new et2)
    exact bX4_sign_p50 C hxt hkl t2 x1 x2 (t1.2.2.2 0) H locs hT hS hK hm ls h (lv_sub hl [1, 2] rfl)
  · replace h := if_f c h
    obtain ⟨t3, et3, h⟩ := lt1_ex h
    have m9 : mo t3 t9 := mo_C_X4_sign_p25 h
    refine n_new (ci := 14) (fs := [.int 0, .null, .null, .int 0, .int 0]) in_X14 tyX14 tyX14_ok rfl C hK hT hS q992 q993 q193 (fun j hj => by rcases (show j = 0 ∨ j = 1 ∨ j = 2 ∨ j = 3 ∨ j = 4 by omega) with rfl | rfl | rfl | rfl | rfl <;> rfl) (mo_n hm et3 m9) dX4_sign_22 (fun t_ H et_ hT hS hK => ?_)
    obtain rfl := et3.trans et_.symm
    refine W.widen (mo_n1 hm et3).1 (mo_n1 hm et3).2 ?_
    replace hm := hm.tr (mo.new et3)
    exact bX4_sign_p25 C hxt hkl t3 x1 x2 (t.2.2.2 0) H locs hT hS hK hm ls h (lv_sub hl [0, 1, 2] rfl)
theorem bX4_sign_p4 {p : Program} {l : Launch} {e : Env} {s : State} {m : MethodId} {args : Array Value} {below : List Frame} {meth : Method} {c : Code} {D : va_G} {dA : Nat → ClassId} {a : Nat} {k : KP a} {t0 : CS} {r : Except Nat Nat} {t9 : CS} (C : cx p s m args meth c cX4_sign RX4 3 (some (.object "LettersOnStrike$Doing"))) (hxt : ∀ x ∈ c.exceptionTable.toList, False) (hkl : k.1 ≠ a ∧ l.stackTraces = false) : ∀ (t : CS) (x1 : Int32) (y0 : Nat) (H : Heap) (locs : List Loc) (hT : cW D dA a k t H) (hS : cS a s.heap H locs t0.2.2.2 2 t) (hK : kC D dA a k t.2.2.2 s) (hm : mo t0 t) (ls : Array Slot), C_X4_sign_p4 t x1 y0 = some (r, t9) → lv_has ls 3 [(0, .ref k.1), (1, .int x1)] → W p l e (rmX4_sign t0 t9) s m args below meth c H locs (t.2.2.2 0 - t0.2.2.2 0) (t.2.2.2 1 - t0.2.2.2 1) (vx_MQ below (xQ D dA a k t0 t9 fR r) (xX D dA a k t0 t9 r) args s (t9.2.2.2 0 - t0.2.2.2 0) (t9.2.2.2 1 - t0.2.2.2 1) (ca a)) (F0 m 4 ls [.ref y0]) := by
  obtain ⟨hx, hb, hr, hml, hown, hts, hlocks⟩ := id C
  intro t x1 y0 H locs hT hS hK hm ls h hl
  have m9 : mo t t9 := mo_C_X4_sign_p4 h
  unfold C_X4_sign_p4 at h
  refine lv_astore_n (lv' := [(2, .ref y0), (0, .ref k.1), (1, .int x1)]) hx hb dX4_sign_4 rfl hl (by decide) rfl (fun ls hl => ?_)
  refine lv_aload_n hx hb dX4_sign_5 rfl (lv_at hl 1 rfl) ?_
  refine lv_sipush (v := 216) hx hb dX4_sign_6 (by decide) ?_
  rcases bdx_some h with ⟨q3, ht1, hr_⟩ | ⟨v2, t1, ht1, h⟩
  · subst hr_
    have mm : mo t t9 := mo_C_X4_want ht1
    exact ex_err C hxt hS (run_x (As := [.int (216 : Int32)]) (rest := []) C hK hT hS.2.1 (rv_T hK hT hkl.1) (mX4_want hkl ht1) q814 q816 qs17 q171 q817 ⟨rfl, rfl⟩ hdX4_want ⟨Nat.le_of_ble_eq_true rfl, Nat.le_of_ble_eq_true rfl⟩ (mo_c hm mm mo.rf) rfl hl.1 rfl (Nat.le_of_ble_eq_true rfl) dX4_sign_9) (mo_c hm mm mo.rf)
  · have mm : mo t t1 := mo_C_X4_want ht1
    have m9 : mo t1 t9 := mo_C_X4_sign_p12 h
    refine ex_okU hS hK (run_x (As := [.int (216 : Int32)]) (rest := []) C hK hT hS.2.1 (rv_T hK hT hkl.1) (mX4_want hkl ht1) q814 q816 qs17 q171 q817 ⟨rfl, rfl⟩ hdX4_want ⟨Nat.le_of_ble_eq_true rfl, Nat.le_of_ble_eq_true rfl⟩ (mo_c hm mm m9) rfl hl.1 rfl (Nat.le_of_ble_eq_true rfl) dX4_sign_9) (fun H locs hT hS hK => ?_)
    refine W.widen (mo_c hm mm mo.rf).1 (mo_c hm mm mo.rf).2 ?_
    replace hm := hm.tr mm
    exact bX4_sign_p12 C hxt hkl t1 x1 y0 H locs hT hS hK hm ls h (lv_sub hl [1, 2, 0] rfl)
theorem bX4_sign {p : Program} {l : Launch} {e : Env} {s : State} {m : MethodId} {args : Array Value} {below : List Frame} {meth : Method} {c : Code} {D : va_G} {dA : Nat → ClassId} {a : Nat} {k : KP a} {t0 : CS} {r : Except Nat Nat} {t9 : CS} (C : cx p s m args meth c cX4_sign RX4 3 (some (.object "LettersOnStrike$Doing"))) (hxt : ∀ x ∈ c.exceptionTable.toList, False) (hkl : k.1 ≠ a ∧ l.stackTraces = false) : ∀ (t : CS) (x1 : Int32) (H : Heap) (locs : List Loc) (hT : cW D dA a k t H) (hS : cS a s.heap H locs t0.2.2.2 2 t) (hK : kC D dA a k t.2.2.2 s) (hm : mo t0 t) (ls : Array Slot), C_X4_sign t x1 = some (r, t9) → lv_has ls 3 [(0, .ref k.1), (1, .int x1)] → W p l e (rmX4_sign t0 t9) s m args below meth c H locs (t.2.2.2 0 - t0.2.2.2 0) (t.2.2.2 1 - t0.2.2.2 1) (vx_MQ below (xQ D dA a k t0 t9 fR r) (xX D dA a k t0 t9 r) args s (t9.2.2.2 0 - t0.2.2.2 0) (t9.2.2.2 1 - t0.2.2.2 1) (ca a)) (F0 m 0 ls []) := by
  obtain ⟨hx, hb, hr, hml, hown, hts, hlocks⟩ := id C
  intro t x1 H locs hT hS hK hm ls h hl
  have m9 : mo t t9 := mo_C_X4_sign h
  unfold C_X4_sign at h
  refine lv_aload_n hx hb dX4_sign_0 rfl (lv_at hl 0 rfl) ?_
  rcases bdx_some h with ⟨q3, ht1, hr_⟩ | ⟨v2, t1, ht1, h⟩
  · subst hr_
    have mm : mo t t9 := mo_C_X4_letters ht1
    exact ex_err C hxt hS (run_x (As := []) (rest := []) C hK hT hS.2.1 (rv_T hK hT hkl.1) (mX4_letters hkl ht1) q988 q990 qs22 q171 q991 ⟨rfl, rfl⟩ hdX4_letters ⟨Nat.le_of_ble_eq_true rfl, Nat.le_of_ble_eq_true rfl⟩ (mo_c hm mm mo.rf) rfl hl.1 rfl (Nat.le_of_ble_eq_true rfl) dX4_sign_1) (mo_c hm mm mo.rf)
  · have mm : mo t t1 := mo_C_X4_letters ht1
    have m9 : mo t1 t9 := mo_C_X4_sign_p4 h
    refine ex_okR hS hK (run_x (As := []) (rest := []) C hK hT hS.2.1 (rv_T hK hT hkl.1) (mX4_letters hkl ht1) q988 q990 qs22 q171 q991 ⟨rfl, rfl⟩ hdX4_letters ⟨Nat.le_of_ble_eq_true rfl, Nat.le_of_ble_eq_true rfl⟩ (mo_c hm mm m9) rfl hl.1 rfl (Nat.le_of_ble_eq_true rfl) dX4_sign_1) (fun H locs hT hS hK => ?_)
    refine W.widen (mo_c hm mm mo.rf).1 (mo_c hm mm mo.rf).2 ?_
    replace hm := hm.tr mm
    exact bX4_sign_p4 C hxt hkl t1 x1 v2 H locs hT hS hK hm ls h (lv_sub hl [0, 1] rfl)
theorem mX4_sign {l : Launch} {D : va_G} {dA : Nat → ClassId} {a : Nat} {k : KP a} {t : CS} {x1 : Int32} {r : Except Nat Nat} {t9 : CS} (hkl : k.1 ≠ a ∧ l.stackTraces = false) (h : C_X4_sign t x1 = some (r, t9)) : vx_Met l yX4_sign (ws_ yX4_sign cX4_sign 3 (some (.object "LettersOnStrike$Doing"))) (rmX4_sign t t9) (cPc D dA a k t [.ref k.1, .int x1]) (xQ D dA a k t t9 fR r) (xX D dA a k t t9 r) (t9.2.2.2 0 - t.2.2.2 0) (t9.2.2.2 1 - t.2.2.2 1) (ca a) := en_X (by decide +kernel) rfl (Nat.le_of_ble_eq_true rfl) (fun p e s m below meth c ls C hxt hK hT hl => sub0 (bX4_sign C hxt hkl t x1 _ [] hT cS.rf hK mo.rf ls h hl))
set_option maxRecDepth 20000 in
abbrev rmJ0_copyOf_3 (t t9 : CS) : Room := { frames := 1, cells := t9.2.2.2 0 - t.2.2.2 0, slots := t9.2.2.2 1 - t.2.2.2 1, locals := 40 }
theorem hdJ0_copyOf_3 : yJ0_copyOf_3.cls ≠ "java/lang/invoke/MethodHandle" ∧ yJ0_copyOf_3.cls ≠ "java/lang/invoke/VarHandle" ∧ (parseMethodDescriptor yJ0_copyOf_3.desc).map (fun d => d.parameters.length) = some 2 := by decide +kernel
theorem bJ0_copyOf_3_p10 {p : Program} {l : Launch} {e : Env} {s : State} {m : MethodId} {args : Array Value} {below : List Frame} {meth : Method} {c : Code} {D : va_G} {dA : Nat → ClassId} {a : Nat} {k : KP a} {t0 : CS} {r : Nat} {t9 : CS} (C : cx p s m args meth c cJ0_copyOf_3 RJ0 3 (some (.array (.int)))) : ∀ (t : CS) (y0 : Nat) (H : Heap) (locs : List Loc) (hT : cW D dA a k t H) (hS : cS a s.heap H locs t0.2.2.2 2 t) (hK : kC D dA a k t.2.2.2 s) (hm : mo t0 t) (ls : Array Slot), J_J0_copyOf_3_p10 t y0 = some (r, t9) → lv_has ls 3 [] → W p l e (rmJ0_copyOf_3 t0 t9) s m args below meth c H locs (t.2.2.2 0 - t0.2.2.2 0) (t.2.2.2 1 - t0.2.2.2 1) (MQ below (cQ D dA a k 2 t0 t9 (some (.ref r))) args s (t9.2.2.2 0 - t0.2.2.2 0) (t9.2.2.2 1 - t0.2.2.2 1) (ca a)) (F0 m 10 ls [.ref y0]) := by
  obtain ⟨hx, hb, hr, hml, hown, hts, hlocks⟩ := id C
  intro t y0 H locs hT hS hK hm ls h hl
  have m9 : mo t t9 := mo_J_J0_copyOf_3_p10 h
  unfold J_J0_copyOf_3_p10 at h
  obtain ⟨v1, hv1, h⟩ := bd1_some h
  refine d_castI C hK hT hv1 q1031 dJ0_copyOf_3_10 ?_
  cases h
  exact ec_r C (Or.inr ⟨_, rfl⟩) hT hS rfl dJ0_copyOf_3_13
theorem bJ0_copyOf_3_p17 {p : Program} {l : Launch} {e : Env} {s : State} {m : MethodId} {args : Array Value} {below : List Frame} {meth : Method} {c : Code} {D : va_G} {dA : Nat → ClassId} {a : Nat} {k : KP a} {t0 : CS} {r : Nat} {t9 : CS} (C : cx p s m args meth c cJ0_copyOf_3 RJ0 3 (some (.array (.int)))) : ∀ (t : CS) (x0 : Nat) (x1 : Int32) (y0 : Nat) (H : Heap) (locs : List Loc) (hT : cW D dA a k t H) (hS : cS a s.heap H locs t0.2.2.2 2 t) (hK : kC D dA a k t.2.2.2 s) (hm : mo t0 t) (ls : Array Slot), J_J0_copyOf_3_p17 t x0 x1 y0 = some (r, t9) → lv_has ls 3 [(0, .ref x0), (1, .int x1)] → W p l e (rmJ0_copyOf_3 t0 t9) s m args below meth c H locs (t.2.2.2 0 - t0.2.2.2 0) (t.2.2.2 1 - t0.2.2.2 1) (MQ below (cQ D dA a k 2 t0 t9 (some (.ref r))) args s (t9.2.2.2 0 - t0.2.2.2 0) (t9.2.2.2 1 - t0.2.2.2 1) (ca a)) (F0 m 17 ls [.ref y0]) := by
  obtain ⟨hx, hb, hr, hml, hown, hts, hlocks⟩ := id C
  intro t x0 x1 y0 H locs hT hS hK hm ls h hl
  have m9 : mo t t9 := mo_J_J0_copyOf_3_p17 h
  unfold J_J0_copyOf_3_p17 at h
  refine lv_astore_n (lv' := [(2, .ref y0), (0, .ref x0), (1, .int x1)]) hx hb dJ0_copyOf_3_17 rfl hl (by decide) rfl (fun ls hl => ?_)
  refine lv_aload_n hx hb dJ0_copyOf_3_18 rfl (lv_at hl 1 rfl) ?_
  refine lv_iconst (v := 0) hx hb dJ0_copyOf_3_19 (by decide) ?_
  refine lv_aload_n hx hb dJ0_copyOf_3_20 rfl (lv_at hl 0 rfl) ?_
  refine lv_iconst (v := 0) hx hb dJ0_copyOf_3_21 (by decide) ?_
  refine lv_aload_n hx hb dJ0_copyOf_3_22 rfl (lv_at hl 1 rfl) ?_
  obtain ⟨v1, hv1, h⟩ := bd1_some h
  refine d_aln C hK hT hv1 dJ0_copyOf_3_23 ?_
  refine lv_iload_n hx hb dJ0_copyOf_3_24 rfl (lv_at hl 2 rfl) ?_
  refine va_mmin hx hb (hml.trans hl.1.symm) hown (hts _ q925) (hts _ q669) (hts _ q180) (hts _ q670) (by exact Nat.le_of_ble_eq_true rfl) (by exact Nat.le_of_ble_eq_true rfl) (mo_z m9).1 (mo_z m9).2 dJ0_copyOf_3_25 ?_
  obtain ⟨t2, ht2, h⟩ := bd1_some h
  refine d_copyI C hK hT hS hl.1 q926 ht2 ⟨Nat.le_of_ble_eq_true rfl, Nat.le_of_ble_eq_true rfl⟩ (Nat.le_of_ble_eq_true rfl) dJ0_copyOf_3_28 (fun H locs hT hS hK => ?_)
  have mm : mo t t2 := mo.nn (dcI_N ht2)
  replace hm := hm.tr mm
  replace m9 : mo t2 t9 := mo.bk (dcI_N ht2) m9
  refine W.widen (mo_s mm).1 (mo_s mm).2 ?_
  refine lv_aload_n hx hb dJ0_copyOf_3_31 rfl (lv_at hl 0 rfl) ?_
  cases h
  exact ec_r C (Or.inr ⟨_, rfl⟩) hT hS rfl dJ0_copyOf_3_32
theorem bJ0_copyOf_3 {p : Program} {l : Launch} {e : Env} {s : State} {m : MethodId} {args : Array Value} {below : List Frame} {meth : Method} {c : Code} {D : va_G} {dA : Nat → ClassId} {a : Nat} {k : KP a} {t0 : CS} {r : Nat} {t9 : CS} (C : cx p s m args meth c cJ0_copyOf_3 RJ0 3 (some (.array (.int)))) : ∀ (t : CS) (x0 : Nat) (x1 : Int32) (H : Heap) (locs : List Loc) (hT : cW D dA a k t H) (hS : cS a s.heap H locs t0.2.2.2 2 t) (hK : kC D dA a k t.2.2.2 s) (hm : mo t0 t) (ls : Array Slot), J_J0_copyOf_3 t x0 x1 = some (r, t9) → lv_has ls 3 [(0, .ref x0), (1, .int x1)] → W p l e (rmJ0_copyOf_3 t0 t9) s m args below meth c H locs (t.2.2.2 0 - t0.2.2.2 0) (t.2.2.2 1 - t0.2.2.2 1) (MQ below (cQ D dA a k 2 t0 t9 (some (.ref r))) args s (t9.2.2.2 0 - t0.2.2.2 0) (t9.2.2.2 1 - t0.2.2.2 1) (ca a)) (F0 m 0 ls []) := by
  obtain ⟨hx, hb, hr, hml, hown, hts, hlocks⟩ := id C
  intro t x0 x1 H locs hT hS hK hm ls h hl
  have m9 : mo t t9 := mo_J_J0_copyOf_3 h
  unfold J_J0_copyOf_3 at h
  refine lv_iload_n hx hb dJ0_copyOf_3_0 rfl (lv_at hl 1 rfl) ?_
  refine lv_aload_n hx hb dJ0_copyOf_3_1 rfl (lv_at hl 0 rfl) ?_
  obtain ⟨v1, hv1, h⟩ := bd1_some h
  refine d_aln C hK hT hv1 dJ0_copyOf_3_2 ?_
  refine lv_icmp_ne (tgt := 14) hx hb dJ0_copyOf_3_3 (by decide) (fun c => ?_) (fun c => ?_)
  · replace h := if_f c h
    refine lv_iload_n hx hb dJ0_copyOf_3_14 rfl (lv_at hl 1 rfl) ?_
    obtain ⟨⟨hg3a, hg3b⟩, h⟩ := ngt_some h
    obtain ⟨t2, et2, h⟩ := lt1_ex h
    have m9 : mo t2 t9 := mo_J_J0_copyOf_3_p17 h
    refine n_newi C hK hT hS hg3a hg3b (mo_n hm et2 m9) dJ0_copyOf_3_15 (fun t_ H et_ hT hS hK => ?_)
    obtain rfl := et2.trans et_.symm
    refine W.widen (mo_n1 hm et2).1 (mo_n1 hm et2).2 ?_
    replace hm := hm.tr (mo.new et2)
    exact bJ0_copyOf_3_p17 C t2 x0 x1 (t.2.2.2 0) H locs hT hS hK hm ls h (lv_sub hl [0, 1] rfl)
  · replace h := if_t c h
    refine lv_aload_n hx hb dJ0_copyOf_3_6 rfl (lv_at hl 0 rfl) ?_
    obtain ⟨v5, hv5, h⟩ := bd1_some h
    obtain ⟨t4, et4, h⟩ := lt1_ex h
    have m9 : mo t4 t9 := mo_J_J0_copyOf_3_p10 h
    refine n_clone C hK hT hS hl.1 hv5 q1025 (mo_n hm et4 m9) ⟨Nat.le_of_ble_eq_true rfl, Nat.le_of_ble_eq_true rfl⟩ (Nat.le_of_ble_eq_true rfl) dJ0_copyOf_3_7 (fun t_ H et_ hT hS hK => ?_)
    obtain rfl := et4.trans et_.symm
    refine W.widen (mo_n1 hm et4).1 (mo_n1 hm et4).2 ?_
    replace hm := hm.tr (mo.new et4)
    exact bJ0_copyOf_3_p10 C t4 (t.2.2.2 0) H locs hT hS hK hm ls h (lv_sub hl [] rfl)
theorem mJ0_copyOf_3 {l : Launch} {D : va_G} {dA : Nat → ClassId} {a : Nat} {k : KP a} {t : CS} {x0 : Nat} {x1 : Int32} {r : Nat} {t9 : CS} (h : J_J0_copyOf_3 t x0 x1 = some (r, t9)) : Met l yJ0_copyOf_3 (ws_ yJ0_copyOf_3 cJ0_copyOf_3 3 (some (.array (.int)))) (rmJ0_copyOf_3 t t9) (cPc D dA a k t [.ref x0, .int x1]) (cQ D dA a k 2 t t9 (some (.ref r))) (t9.2.2.2 0 - t.2.2.2 0) (t9.2.2.2 1 - t.2.2.2 1) (ca a) := en_C (by decide +kernel) rfl (Nat.le_of_ble_eq_true rfl) (fun p e s m below meth c ls C hK hT hl => sub0 (bJ0_copyOf_3 C t x0 x1 _ [] hT cS.rf hK mo.rf ls h hl))
set_option maxRecDepth 20000 in
abbrev rmX4_senses (t t9 : CS) : Room := { frames := 22, cells := t9.2.2.2 0 - t.2.2.2 0, slots := t9.2.2.2 1 - t.2.2.2 1, locals := 244 }
theorem hdX4_senses : yX4_senses.cls = RX4 ∧ yX4_senses.cls ≠ "java/lang/invoke/MethodHandle" ∧ yX4_senses.cls ≠ "java/lang/invoke/VarHandle" ∧ (parseMethodDescriptor yX4_senses.desc).map (fun d => d.parameters.length) = some 0 := by decide +kernel
theorem bX4_senses_p44 {p : Program} {l : Launch} {e : Env} {s : State} {m : MethodId} {args : Array Value} {below : List Frame} {meth : Method} {c : Code} {D : va_G} {dA : Nat → ClassId} {a : Nat} {k : KP a} {t0 : CS} {r : Except Nat Nat} {t9 : CS} (C : cx p s m args meth c cX4_senses RX4 5 (some (.array (.int)))) (hxt : ∀ x ∈ c.exceptionTable.toList, False) (hkl : k.1 ≠ a ∧ l.stackTraces = false) : ∀ (t : CS) (y0 : Nat) (H : Heap) (locs : List Loc) (hT : cW D dA a k t H) (hS : cS a s.heap H locs t0.2.2.2 2 t) (hK : kC D dA a k t.2.2.2 s) (hm : mo t0 t) (ls : Array Slot), C_X4_senses_p44 t y0 = some (r, t9) → lv_has ls 5 [] → W p l e (rmX4_senses t0 t9) s m args below meth c H locs (t.2.2.2 0 - t0.2.2.2 0) (t.2.2.2 1 - t0.2.2.2 1) (vx_MQ below (xQ D dA a k t0 t9 fR r) (xX D dA a k t0 t9 r) args s (t9.2.2.2 0 - t0.2.2.2 0) (t9.2.2.2 1 - t0.2.2.2 1) (ca a)) (F0 m 44 ls [.ref y0]) := by
  obtain ⟨hx, hb, hr, hml, hown, hts, hlocks⟩ := id C
  intro t y0 H locs hT hS hK hm ls h hl
  have m9 : mo t t9 := mo_C_X4_senses_p44 h
  unfold C_X4_senses_p44 at h
  obtain ⟨hw1, h⟩ := ckW_some h
  cases h
  exact ex_thr C hxt hK hT hS hw1 dX4_senses_44
theorem bX4_senses_p85 {p : Program} {l : Launch} {e : Env} {s : State} {m : MethodId} {args : Array Value} {below : List Frame} {meth : Method} {c : Code} {D : va_G} {dA : Nat → ClassId} {a : Nat} {k : KP a} {t0 : CS} {r : Except Nat Nat} {t9 : CS} (C : cx p s m args meth c cX4_senses RX4 5 (some (.array (.int)))) (hxt : ∀ x ∈ c.exceptionTable.toList, False) (hkl : k.1 ≠ a ∧ l.stackTraces = false) {k9 : CS → Nat → Int32 → Int32 → Option (Except Nat Nat × CS)} (hk9 : ∀ (t : CS) (x1 : Nat) (x2 : Int32) (x3 : Int32) (H : Heap) (locs : List Loc) (hT : cW D dA a k t H) (hS : cS a s.heap H locs t0.2.2.2 2 t) (hK : kC D dA a k t.2.2.2 s) (hm : mo t0 t) (ls : Array Slot), k9 t x1 x2 x3 = some (r, t9) → lv_has ls 5 [(0, .ref k.1), (1, .ref x1), (2, .int x2), (3, .int x3)] → W p l e (rmX4_senses t0 t9) s m args below meth c H locs (t.2.2.2 0 - t0.2.2.2 0) (t.2.2.2 1 - t0.2.2.2 1) (vx_MQ below (xQ D dA a k t0 t9 fR r) (xX D dA a k t0 t9 r) args s (t9.2.2.2 0 - t0.2.2.2 0) (t9.2.2.2 1 - t0.2.2.2 1) (ca a)) (F0 m 9 ls [])) (mk9 : ∀ (t : CS) (x1 : Nat) (x2 : Int32) (x3 : Int32) (r : Except Nat Nat) (t9 : CS), k9 t x1 x2 x3 = some (r, t9) → mo t t9) : ∀ (t : CS) (x1 : Nat) (x2 : Int32) (x3 : Int32) (H : Heap) (locs : List Loc) (hT : cW D dA a k t H) (hS : cS a s.heap H locs t0.2.2.2 2 t) (hK : kC D dA a k t.2.2.2 s) (hm : mo t0 t) (ls : Array Slot), C_X4_senses_p85 k9 t x1 x2 x3 = some (r, t9) → lv_has ls 5 [(0, .ref k.1), (1, .ref x1), (2, .int x2), (3, .int x3)] → W p l e (rmX4_senses t0 t9) s m args below meth c H locs (t.2.2.2 0 - t0.2.2.2 0) (t.2.2.2 1 - t0.2.2.2 1) (vx_MQ below (xQ D dA a k t0 t9 fR r) (xX D dA a k t0 t9 r) args s (t9.2.2.2 0 - t0.2.2.2 0) (t9.2.2.2 1 - t0.2.2.2 1) (ca a)) (F0 m 85 ls []) := by
  obtain ⟨hx, hb, hr, hml, hown, hts, hlocks⟩ := id C
  intro t x1 x2 x3 H locs hT hS hK hm ls h hl
  have m9 : mo t t9 := mo_C_X4_senses_p85 mk9 h
  unfold C_X4_senses_p85 at h
  refine lv_goto (tgt := 9) hx hb dX4_senses_85 (by decide) ?_
  exact hk9 t x1 x2 x3 H locs hT hS hK hm ls h (lv_sub hl [0, 1, 2, 3] rfl)
theorem bX4_senses_p76 {p : Program} {l : Launch} {e : Env} {s : State} {m : MethodId} {args : Array Value} {below : List Frame} {meth : Method} {c : Code} {D : va_G} {dA : Nat → ClassId} {a : Nat} {k : KP a} {t0 : CS} {r : Except Nat Nat} {t9 : CS} (C : cx p s m args meth c cX4_senses RX4 5 (some (.array (.int)))) (hxt : ∀ x ∈ c.exceptionTable.toList, False) (hkl : k.1 ≠ a ∧ l.stackTraces = false) {k9 : CS → Nat → Int32 → Int32 → Option (Except Nat Nat × CS)} (hk9 : ∀ (t : CS) (x1 : Nat) (x2 : Int32) (x3 : Int32) (H : Heap) (locs : List Loc) (hT : cW D dA a k t H) (hS : cS a s.heap H locs t0.2.2.2 2 t) (hK : kC D dA a k t.2.2.2 s) (hm : mo t0 t) (ls : Array Slot), k9 t x1 x2 x3 = some (r, t9) → lv_has ls 5 [(0, .ref k.1), (1, .ref x1), (2, .int x2), (3, .int x3)] → W p l e (rmX4_senses t0 t9) s m args below meth c H locs (t.2.2.2 0 - t0.2.2.2 0) (t.2.2.2 1 - t0.2.2.2 1) (vx_MQ below (xQ D dA a k t0 t9 fR r) (xX D dA a k t0 t9 r) args s (t9.2.2.2 0 - t0.2.2.2 0) (t9.2.2.2 1 - t0.2.2.2 1) (ca a)) (F0 m 9 ls [])) (mk9 : ∀ (t : CS) (x1 : Nat) (x2 : Int32) (x3 : Int32) (r : Except Nat Nat) (t9 : CS), k9 t x1 x2 x3 = some (r, t9) → mo t t9) : ∀ (t : CS) (x1 : Nat) (x2 : Int32) (y0 : Int32) (H : Heap) (locs : List Loc) (hT : cW D dA a k t H) (hS : cS a s.heap H locs t0.2.2.2 2 t) (hK : kC D dA a k t.2.2.2 s) (hm : mo t0 t) (ls : Array Slot), C_X4_senses_p76 k9 t x1 x2 y0 = some (r, t9) → lv_has ls 5 [(0, .ref k.1), (1, .ref x1), (2, .int x2)] → W p l e (rmX4_senses t0 t9) s m args below meth c H locs (t.2.2.2 0 - t0.2.2.2 0) (t.2.2.2 1 - t0.2.2.2 1) (vx_MQ below (xQ D dA a k t0 t9 fR r) (xX D dA a k t0 t9 r) args s (t9.2.2.2 0 - t0.2.2.2 0) (t9.2.2.2 1 - t0.2.2.2 1) (ca a)) (F0 m 76 ls [.int y0]) := by
  obtain ⟨hx, hb, hr, hml, hown, hts, hlocks⟩ := id C
  intro t x1 x2 y0 H locs hT hS hK hm ls h hl
  have m9 : mo t t9 := mo_C_X4_senses_p76 mk9 h
  unfold C_X4_senses_p76 at h
  refine lv_istore_n (lv' := [(3, .int y0), (0, .ref k.1), (1, .ref x1), (2, .int x2)]) hx hb dX4_senses_76 rfl hl (by decide) rfl (fun ls hl => ?_)
  refine lv_iload_n hx hb dX4_senses_77 rfl (lv_at hl 0 rfl) ?_
  refine lv_if_eq (tgt := 85) hx hb dX4_senses_78 (by decide) (fun c => ?_) (fun c => ?_)
  · replace h := if_t c h
    exact bX4_senses_p85 C hxt hkl hk9 mk9 t x1 x2 y0 H locs hT hS hK hm ls h (lv_sub hl [1, 2, 3, 0] rfl)
  · replace h := if_f c h
    refine lv_aload_n hx hb dX4_senses_81 rfl (lv_at hl 1 rfl) ?_
    obtain ⟨t1, ht1, h⟩ := bd1_some h
    refine wc_void hS hK (run_c (As := []) (rest := []) C hK hT hS.2.1 (rv_T hK hT hkl.1) (mX4_next hkl ht1) q603 q605 qs3 q171 q606 ⟨rfl, rfl⟩ hdX4_next ⟨Nat.le_of_ble_eq_true rfl, Nat.le_of_ble_eq_true rfl⟩ (mo_z m9) rfl hl.1 rfl (Nat.le_of_ble_eq_true rfl) dX4_senses_82) (fun H locs hT hS hK hNt1 => ?_)
    have mm : mo t t1 := mo.ni hNt1
    replace hm := hm.tr mm
    replace m9 : mo t1 t9 := mo.bk (funext fun i => hNt1 i (Nat.zero_le _)) m9
    refine W.widen (mo_s mm).1 (mo_s mm).2 ?_
    exact bX4_senses_p85 C hxt hkl hk9 mk9 t1 x1 x2 y0 H locs hT hS hK hm ls h (lv_sub hl [1, 2, 3, 0] rfl)
theorem bX4_senses_p52 {p : Program} {l : Launch} {e : Env} {s : State} {m : MethodId} {args : Array Value} {below : List Frame} {meth : Method} {c : Code} {D : va_G} {dA : Nat → ClassId} {a : Nat} {k : KP a} {t0 : CS} {r : Except Nat Nat} {t9 : CS} (C : cx p s m args meth c cX4_senses RX4 5 (some (.array (.int)))) (hxt : ∀ x ∈ c.exceptionTable.toList, False) (hkl : k.1 ≠ a ∧ l.stackTraces = false) {k9 : CS → Nat → Int32 → Int32 → Option (Except Nat Nat × CS)} (hk9 : ∀ (t : CS) (x1 : Nat) (x2 : Int32) (x3 : Int32) (H : Heap) (locs : List Loc) (hT : cW D dA a k t H) (hS : cS a s.heap H locs t0.2.2.2 2 t) (hK : kC D dA a k t.2.2.2 s) (hm : mo t0 t) (ls : Array Slot), k9 t x1 x2 x3 = some (r, t9) → lv_has ls 5 [(0, .ref k.1), (1, .ref x1), (2, .int x2), (3, .int x3)] → W p l e (rmX4_senses t0 t9) s m args below meth c H locs (t.2.2.2 0 - t0.2.2.2 0) (t.2.2.2 1 - t0.2.2.2 1) (vx_MQ below (xQ D dA a k t0 t9 fR r) (xX D dA a k t0 t9 r) args s (t9.2.2.2 0 - t0.2.2.2 0) (t9.2.2.2 1 - t0.2.2.2 1) (ca a)) (F0 m 9 ls [])) (mk9 : ∀ (t : CS) (x1 : Nat) (x2 : Int32) (x3 : Int32) (r : Except Nat Nat) (t9 : CS), k9 t x1 x2 x3 = some (r, t9) → mo t t9) : ∀ (t : CS) (x1 : Nat) (x2 : Int32) (y0 : Int32) (H : Heap) (locs : List Loc) (hT : cW D dA a k t H) (hS : cS a s.heap H locs t0.2.2.2 2 t) (hK : kC D dA a k t.2.2.2 s) (hm : mo t0 t) (ls : Array Slot), C_X4_senses_p52 k9 t x1 x2 y0 = some (r, t9) → lv_has ls 5 [(0, .ref k.1), (1, .ref x1), (2, .int x2)] → W p l e (rmX4_senses t0 t9) s m args below meth c H locs (t.2.2.2 0 - t0.2.2.2 0) (t.2.2.2 1 - t0.2.2.2 1) (vx_MQ below (xQ D dA a k t0 t9 fR r) (xX D dA a k t0 t9 r) args s (t9.2.2.2 0 - t0.2.2.2 0) (t9.2.2.2 1 - t0.2.2.2 1) (ca a)) (F0 m 52 ls [.int y0]) := by
  obtain ⟨hx, hb, hr, hml, hown, hts, hlocks⟩ := id C
  intro t x1 x2 y0 H locs hT hS hK hm ls h hl
  have m9 : mo t t9 := mo_C_X4_senses_p52 mk9 h
  unfold C_X4_senses_p52 at h
  refine lv_istore (lv' := [(4, .int y0), (0, .ref k.1), (1, .ref x1), (2, .int x2)]) hx hb dX4_senses_52 hl (by decide) rfl (fun ls hl => ?_)
  refine lv_aload_n hx hb dX4_senses_54 rfl (lv_at hl 2 rfl) ?_
  refine lv_iload_n hx hb dX4_senses_55 rfl (lv_at hl 3 rfl) ?_
  refine lv_iload hx hb dX4_senses_56 (lv_at hl 0 rfl) ?_
  obtain ⟨t1, ht1, h⟩ := bd1_some h
  refine d_ist C hK hT hS ht1 dX4_senses_58 (fun H locs hT hS hK => ?_)
  have mm : mo t t1 := mo.nn (das_N ht1)
  replace hm := hm.tr mm
  replace m9 : mo t1 t9 := mo.bk (das_N ht1) m9
  refine W.widen (mo_s mm).1 (mo_s mm).2 ?_
  obtain ⟨v2, ev2⟩ : ∃ y : Int32, y = x2 + (1 : Int32) := ⟨_, rfl⟩
  replace h := lt1_sub ev2 h
  refine lv_iinc (v := v2) (lv' := [(2, .int v2), (4, .int y0), (0, .ref k.1), (1, .ref x1)]) hx hb dX4_senses_59 hl (k := 3) rfl (by rw [ev2]; rfl) (by decide) rfl (fun ls hl => ?_)
  refine lv_aload_n hx hb dX4_senses_62 rfl (lv_at hl 2 rfl) ?_
  refine c_getT C hK hT hkl.1 4 (by decide) q521 rfl (v := .int (t1.1 200 4)) rfl dX4_senses_63 ?_
  refine lv_bipush (v := 44) hx hb dX4_senses_66 (by decide) ?_
  refine lv_icmp_ne (tgt := 75) hx hb dX4_senses_68 (by decide) (fun c => ?_) (fun c => ?_)
  · replace h := if_f c h
    refine lv_iconst (v := 0) hx hb dX4_senses_75 (by decide) ?_
    exact bX4_senses_p76 C hxt hkl hk9 mk9 t1 x1 v2 (0 : Int32) H locs hT hS hK hm ls h (lv_sub hl [2, 3, 0] rfl)
  · replace h := if_t c h
    refine lv_iconst (v := 1) hx hb dX4_senses_71 (by decide) ?_
    refine lv_goto (tgt := 76) hx hb dX4_senses_72 (by decide) ?_
    exact bX4_senses_p76 C hxt hkl hk9 mk9 t1 x1 v2 (1 : Int32) H locs hT hS hK hm ls h (lv_sub hl [2, 3, 0] rfl)
theorem bX4_senses_p45 {p : Program} {l : Launch} {e : Env} {s : State} {m : MethodId} {args : Array Value} {below : List Frame} {meth : Method} {c : Code} {D : va_G} {dA : Nat → ClassId} {a : Nat} {k : KP a} {t0 : CS} {r : Except Nat Nat} {t9 : CS} (C : cx p s m args meth c cX4_senses RX4 5 (some (.array (.int)))) (hxt : ∀ x ∈ c.exceptionTable.toList, False) (hkl : k.1 ≠ a ∧ l.stackTraces = false) {k9 : CS → Nat → Int32 → Int32 → Option (Except Nat Nat × CS)} (hk9 : ∀ (t : CS) (x1 : Nat) (x2 : Int32) (x3 : Int32) (H : Heap) (locs : List Loc) (hT : cW D dA a k t H) (hS : cS a s.heap H locs t0.2.2.2 2 t) (hK : kC D dA a k t.2.2.2 s) (hm : mo t0 t) (ls : Array Slot), k9 t x1 x2 x3 = some (r, t9) → lv_has ls 5 [(0, .ref k.1), (1, .ref x1), (2, .int x2), (3, .int x3)] → W p l e (rmX4_senses t0 t9) s m args below meth c H locs (t.2.2.2 0 - t0.2.2.2 0) (t.2.2.2 1 - t0.2.2.2 1) (vx_MQ below (xQ D dA a k t0 t9 fR r) (xX D dA a k t0 t9 r) args s (t9.2.2.2 0 - t0.2.2.2 0) (t9.2.2.2 1 - t0.2.2.2 1) (ca a)) (F0 m 9 ls [])) (mk9 : ∀ (t : CS) (x1 : Nat) (x2 : Int32) (x3 : Int32) (r : Except Nat Nat) (t9 : CS), k9 t x1 x2 x3 = some (r, t9) → mo t t9) : ∀ (t : CS) (x1 : Nat) (x2 : Int32) (H : Heap) (locs : List Loc) (hT : cW D dA a k t H) (hS : cS a s.heap H locs t0.2.2.2 2 t) (hK : kC D dA a k t.2.2.2 s) (hm : mo t0 t) (ls : Array Slot), C_X4_senses_p45 k9 t x1 x2 = some (r, t9) → lv_has ls 5 [(0, .ref k.1), (1, .ref x1), (2, .int x2)] → W p l e (rmX4_senses t0 t9) s m args below meth c H locs (t.2.2.2 0 - t0.2.2.2 0) (t.2.2.2 1 - t0.2.2.2 1) (vx_MQ below (xQ D dA a k t0 t9 fR r) (xX D dA a k t0 t9 r) args s (t9.2.2.2 0 - t0.2.2.2 0) (t9.2.2.2 1 - t0.2.2.2 1) (ca a)) (F0 m 45 ls []) := by
  obtain ⟨hx, hb, hr, hml, hown, hts, hlocks⟩ := id C
  intro t x1 x2 H locs hT hS hK hm ls h hl
  have m9 : mo t t9 := mo_C_X4_senses_p45 mk9 h
  unfold C_X4_senses_p45 at h
  refine lv_aload_n hx hb dX4_senses_45 rfl (lv_at hl 0 rfl) ?_
  refine lv_iconst (v := 0) hx hb dX4_senses_46 (by decide) ?_
  refine lv_bipush (v := 9) hx hb dX4_senses_47 (by decide) ?_
  rcases bdx_some h with ⟨q3, ht1, hr_⟩ | ⟨v2, t1, ht1, h⟩
  · subst hr_
    have mm : mo t t9 := mo_C_X4_number ht1
    exact ex_err C hxt hS (run_x (As := [.int (0 : Int32), .int (9 : Int32)]) (rest := []) C hK hT hS.2.1 (rv_T hK hT hkl.1) (mX4_number hkl ht1) q788 q790 qs15 q171 q791 ⟨rfl, rfl⟩ hdX4_number ⟨Nat.le_of_ble_eq_true rfl, Nat.le_of_ble_eq_true rfl⟩ (mo_c hm mm mo.rf) rfl hl.1 rfl (Nat.le_of_ble_eq_true rfl) dX4_senses_49) (mo_c hm mm mo.rf)
  · have mm : mo t t1 := mo_C_X4_number ht1
    have m9 : mo t1 t9 := mo_C_X4_senses_p52 mk9 h
    refine ex_okI hS hK (run_x (As := [.int (0 : Int32), .int (9 : Int32)]) (rest := []) C hK hT hS.2.1 (rv_T hK hT hkl.1) (mX4_number hkl ht1) q788 q790 qs15 q171 q791 ⟨rfl, rfl⟩ hdX4_number ⟨Nat.le_of_ble_eq_true rfl, Nat.le_of_ble_eq_true rfl⟩ (mo_c hm mm m9) rfl hl.1 rfl (Nat.le_of_ble_eq_true rfl) dX4_senses_49) (fun H locs hT hS hK => ?_)
    refine W.widen (mo_c hm mm mo.rf).1 (mo_c hm mm mo.rf).2 ?_
    replace hm := hm.tr mm
    exact bX4_senses_p52 C hxt hkl hk9 mk9 t1 x1 x2 v2 H locs hT hS hK hm ls h (lv_sub hl [0, 1, 2] rfl)
theorem bX4_senses_p93 {p : Program} {l : Launch} {e : Env} {s : State} {m : MethodId} {args : Array Value} {below : List Frame} {meth : Method} {c : Code} {D : va_G} {dA : Nat → ClassId} {a : Nat} {k : KP a} {t0 : CS} {r : Except Nat Nat} {t9 : CS} (C : cx p s m args meth c cX4_senses RX4 5 (some (.array (.int)))) (hxt : ∀ x ∈ c.exceptionTable.toList, False) (hkl : k.1 ≠ a ∧ l.stackTraces = false) : ∀ (t : CS) (y0 : Nat) (H : Heap) (locs : List Loc) (hT : cW D dA a k t H) (hS : cS a s.heap H locs t0.2.2.2 2 t) (hK : kC D dA a k t.2.2.2 s) (hm : mo t0 t) (ls : Array Slot), C_X4_senses_p93 t y0 = some (r, t9) → lv_has ls 5 [] → W p l e (rmX4_senses t0 t9) s m args below meth c H locs (t.2.2.2 0 - t0.2.2.2 0) (t.2.2.2 1 - t0.2.2.2 1) (vx_MQ below (xQ D dA a k t0 t9 fR r) (xX D dA a k t0 t9 r) args s (t9.2.2.2 0 - t0.2.2.2 0) (t9.2.2.2 1 - t0.2.2.2 1) (ca a)) (F0 m 93 ls [.ref y0]) := by
  obtain ⟨hx, hb, hr, hml, hown, hts, hlocks⟩ := id C
  intro t y0 H locs hT hS hK hm ls h hl
  have m9 : mo t t9 := mo_C_X4_senses_p93 h
  unfold C_X4_senses_p93 at h
  cases h
  exact toX (ec_r C (Or.inr ⟨_, rfl⟩) hT hS rfl dX4_senses_93)
theorem bX4_senses_p9 {p : Program} {l : Launch} {e : Env} {s : State} {m : MethodId} {args : Array Value} {below : List Frame} {meth : Method} {c : Code} {D : va_G} {dA : Nat → ClassId} {a : Nat} {k : KP a} {t0 : CS} {r : Except Nat Nat} {t9 : CS} (C : cx p s m args meth c cX4_senses RX4 5 (some (.array (.int)))) (hxt : ∀ x ∈ c.exceptionTable.toList, False) (hkl : k.1 ≠ a ∧ l.stackTraces = false) : ∀ (n : Nat), ∀ (t : CS) (x1 : Nat) (x2 : Int32) (x3 : Int32) (H : Heap) (locs : List Loc) (hT : cW D dA a k t H) (hS : cS a s.heap H locs t0.2.2.2 2 t) (hK : kC D dA a k t.2.2.2 s) (hm : mo t0 t) (ls : Array Slot), C_X4_senses_p9 n t x1 x2 x3 = some (r, t9) → lv_has ls 5 [(0, .ref k.1), (1, .ref x1), (2, .int x2), (3, .int x3)] → W p l e (rmX4_senses t0 t9) s m args below meth c H locs (t.2.2.2 0 - t0.2.2.2 0) (t.2.2.2 1 - t0.2.2.2 1) (vx_MQ below (xQ D dA a k t0 t9 fR r) (xX D dA a k t0 t9 r) args s (t9.2.2.2 0 - t0.2.2.2 0) (t9.2.2.2 1 - t0.2.2.2 1) (ca a)) (F0 m 9 ls []) := by
  obtain ⟨hx, hb, hr, hml, hown, hts, hlocks⟩ := id C
  intro n
  induction n with
  | zero =>
    intro t x1 x2 x3 H locs hT hS hK hm ls h hl
    have h : none = some _ := h
    cases h
  | succ n ih =>
    intro t x1 x2 x3 H locs hT hS hK hm ls h hl
    have m9 : mo t t9 := mo_C_X4_senses_p9 (n + 1) _ _ _ _ _ _ h
    rw [C_X4_senses_p9] at h
    refine lv_iload_n hx hb dX4_senses_9 rfl (lv_at hl 3 rfl) ?_
    refine lv_if_eq (tgt := 88) hx hb dX4_senses_10 (by decide) (fun c => ?_) (fun c => ?_)
    · replace h := if_t c h
      refine lv_aload_n hx hb dX4_senses_88 rfl (lv_at hl 1 rfl) ?_
      refine lv_iload_n hx hb dX4_senses_89 rfl (lv_at hl 2 rfl) ?_
      obtain ⟨v2, t1, ht1, h⟩ := bd2_some h
      have mm : mo t t1 := mo_J_J0_copyOf_3 ht1
      have m9 : mo t1 t9 := mo_C_X4_senses_p93 h
      refine wa_ref hS hK (run_cs (As := [.ref x1, .int x2]) (rest := []) C hK hT hS.2.1 (mJ0_copyOf_3 ht1) q1022 q1023 q160 q1024 ⟨rfl, rfl⟩ hdJ0_copyOf_3 ⟨Nat.le_of_ble_eq_true rfl, Nat.le_of_ble_eq_true rfl⟩ (mo_c hm mm m9) rfl hl.1 rfl (Nat.le_of_ble_eq_true rfl) dX4_senses_90) (fun H locs hT hS hK => ?_)
      refine W.widen (mo_c hm mm mo.rf).1 (mo_c hm mm mo.rf).2 ?_
      replace hm := hm.tr mm
      exact bX4_senses_p93 C hxt hkl t1 v2 H locs hT hS hK hm ls h (lv_sub hl [] rfl)
    · replace h := if_f c h
      refine lv_iload_n hx hb dX4_senses_13 rfl (lv_at hl 2 rfl) ?_
      refine lv_bipush (v := 8) hx hb dX4_senses_14 (by decide) ?_
      refine lv_icmp_ne (tgt := 45) hx hb dX4_senses_16 (by decide) (fun c => ?_) (fun c => ?_)
      · replace h := if_f c h
        exact bX4_senses_p45 C hxt hkl ih (mo_C_X4_senses_p9 n) t x1 x2 H locs hT hS hK hm ls h (lv_sub hl [0, 1, 2] rfl)
      · replace h := if_t c h
        refine lv_aload_n hx hb dX4_senses_19 rfl (lv_at hl 0 rfl) ?_
        refine c_getT C hK hT hkl.1 4 (by decide) q521 rfl (v := .int (t.1 200 4)) rfl dX4_senses_20 ?_
        refine lv_sipush (v := 300) hx hb dX4_senses_23 (by decide) ?_
        refine lv_icmp_ne (tgt := 45) hx hb dX4_senses_26 (by decide) (fun c => ?_) (fun c => ?_)
        · replace h := if_f c h
          exact bX4_senses_p45 C hxt hkl ih (mo_C_X4_senses_p9 n) t x1 x2 H locs hT hS hK hm ls h (lv_sub hl [0, 1, 2] rfl)
        · replace h := if_t c h
          refine lv_aload_n hx hb dX4_senses_29 rfl (lv_at hl 0 rfl) ?_
          refine c_getT C hK hT hkl.1 5 (by decide) q522 rfl (v := .int (t.1 200 5)) rfl dX4_senses_30 ?_
          refine lv_bipush (v := 10) hx hb dX4_senses_33 (by decide) ?_
          refine lv_icmp_ge (tgt := 45) hx hb dX4_senses_35 (by decide) (fun c => ?_) (fun c => ?_)
          · replace h := if_t c h
            exact bX4_senses_p45 C hxt hkl ih (mo_C_X4_senses_p9 n) t x1 x2 H locs hT hS hK hm ls h (lv_sub hl [0, 1, 2] rfl)
          · replace h := if_f c h
            refine lv_aload_n hx hb dX4_senses_38 rfl (lv_at hl 0 rfl) ?_
            refine lv_bipush (v := 8) hx hb dX4_senses_39 (by decide) ?_
            obtain ⟨v4, t3, ht3, h⟩ := bd2_some h
            have mm : mo t t3 := mo_C_wrong ht3
            have m9 : mo t3 t9 := mo_C_X4_senses_p44 h
            refine wa_ref hS hK (run_c (As := [.int (8 : Int32)]) (rest := []) C hK hT hS.2.1 (rv_T hK hT hkl.1) (mX4_wrong hkl ht3) q672 q674 qs5 q171 q675 ⟨rfl, rfl⟩ hdX4_wrong ⟨Nat.le_of_ble_eq_true rfl, Nat.le_of_ble_eq_true rfl⟩ (mo_c hm mm m9) rfl hl.1 rfl (Nat.le_of_ble_eq_true rfl) dX4_senses_41) (fun H locs hT hS hK => ?_)
            refine W.widen (mo_c hm mm mo.rf).1 (mo_c hm mm mo.rf).2 ?_
            replace hm := hm.tr mm
            exact bX4_senses_p44 C hxt hkl t3 v4 H locs hT hS hK hm ls h (lv_sub hl [] rfl)
theorem bX4_senses_p4 {p : Program} {l : Launch} {e : Env} {s : State} {m : MethodId} {args : Array Value} {below : List Frame} {meth : Method} {c : Code} {D : va_G} {dA : Nat → ClassId} {a : Nat} {k : KP a} {t0 : CS} {r : Except Nat Nat} {t9 : CS} (C : cx p s m args meth c cX4_senses RX4 5 (some (.array (.int)))) (hxt : ∀ x ∈ c.exceptionTable.toList, False) (hkl : k.1 ≠ a ∧ l.stackTraces = false) : ∀ (t : CS) (y0 : Nat) (H : Heap) (locs : List Loc) (hT : cW D dA a k t H) (hS : cS a s.heap H locs t0.2.2.2 2 t) (hK : kC D dA a k t.2.2.2 s) (hm : mo t0 t) (ls : Array Slot), C_X4_senses_p4 t y0 = some (r, t9) → lv_has ls 5 [(0, .ref k.1)] → W p l e (rmX4_senses t0 t9) s m args below meth c H locs (t.2.2.2 0 - t0.2.2.2 0) (t.2.2.2 1 - t0.2.2.2 1) (vx_MQ below (xQ D dA a k t0 t9 fR r) (xX D dA a k t0 t9 r) args s (t9.2.2.2 0 - t0.2.2.2 0) (t9.2.2.2 1 - t0.2.2.2 1) (ca a)) (F0 m 4 ls [.ref y0]) := by
  obtain ⟨hx, hb, hr, hml, hown, hts, hlocks⟩ := id C
  intro t y0 H locs hT hS hK hm ls h hl
  have m9 : mo t t9 := mo_C_X4_senses_p4 h
  unfold C_X4_senses_p4 at h
  refine lv_astore_n (lv' := [(1, .ref y0), (0, .ref k.1)]) hx hb dX4_senses_4 rfl hl (by decide) rfl (fun ls hl => ?_)
  refine lv_iconst (v := 0) hx hb dX4_senses_5 (by decide) ?_
  refine lv_istore_n (lv' := [(2, .int (0 : Int32)), (1, .ref y0), (0, .ref k.1)]) hx hb dX4_senses_6 rfl hl (by decide) rfl (fun ls hl => ?_)
  refine lv_iconst (v := 1) hx hb dX4_senses_7 (by decide) ?_
  refine lv_istore_n (lv' := [(3, .int (1 : Int32)), (2, .int (0 : Int32)), (1, .ref y0), (0, .ref k.1)]) hx hb dX4_senses_8 rfl hl (by decide) rfl (fun ls hl => ?_)
  exact bX4_senses_p9 C hxt hkl fu t y0 (0 : Int32) (1 : Int32) H locs hT hS hK hm ls h (lv_sub hl [3, 2, 1, 0] rfl)
theorem bX4_senses {p : Program} {l : Launch} {e : Env} {s : State} {m : MethodId} {args : Array Value} {below : List Frame} {meth : Method} {c : Code} {D : va_G} {dA : Nat → ClassId} {a : Nat} {k : KP a} {t0 : CS} {r : Except Nat Nat} {t9 : CS} (C : cx p s m args meth c cX4_senses RX4 5 (some (.array (.int)))) (hxt : ∀ x ∈ c.exceptionTable.toList, False) (hkl : k.1 ≠ a ∧ l.stackTraces = false) : ∀ (t : CS) (H : Heap) (locs : List Loc) (hT : cW D dA a k t H) (hS : cS a s.heap H locs t0.2.2.2 2 t) (hK : kC D dA a k t.2.2.2 s) (hm : mo t0 t) (ls : Array Slot), C_X4_senses t = some (r, t9) → lv_has ls 5 [(0, .ref k.1)] → W p l e (rmX4_senses t0 t9) s m args below meth c H locs (t.2.2.2 0 - t0.2.2.2 0) (t.2.2.2 1 - t0.2.2.2 1) (vx_MQ below (xQ D dA a k t0 t9 fR r) (xX D dA a k t0 t9 r) args s (t9.2.2.2 0 - t0.2.2.2 0) (t9.2.2.2 1 - t0.2.2.2 1) (ca a)) (F0 m 0 ls []) := by
  obtain ⟨hx, hb, hr, hml, hown, hts, hlocks⟩ := id C
  intro t H locs hT hS hK hm ls h hl
  have m9 : mo t t9 := mo_C_X4_senses h
  unfold C_X4_senses at h
  refine lv_bipush (v := 8) hx hb dX4_senses_0 (by decide) ?_
  obtain ⟨⟨hg2a, hg2b⟩, h⟩ := ngt_some h
  obtain ⟨t1, et1, h⟩ := lt1_ex h
  have m9 : mo t1 t9 := mo_C_X4_senses_p4 h
  refine n_newi C hK hT hS hg2a hg2b (mo_n hm et1 m9) dX4_senses_2 (fun t_ H et_ hT hS hK => ?_)
  obtain rfl := et1.trans et_.symm
  refine W.widen (mo_n1 hm et1).1 (mo_n1 hm et1).2 ?_
  replace hm := hm.tr (mo.new et1)
  exact bX4_senses_p4 C hxt hkl t1 (t.2.2.2 0) H locs hT hS hK hm ls h (lv_sub hl [0] rfl)
theorem mX4_senses {l : Launch} {D : va_G} {dA : Nat → ClassId} {a : Nat} {k : KP a} {t : CS} {r : Except Nat Nat} {t9 : CS} (hkl : k.1 ≠ a ∧ l.stackTraces = false) (h : C_X4_senses t = some (r, t9)) : vx_Met l yX4_senses (ws_ yX4_senses cX4_senses 5 (some (.array (.int)))) (rmX4_senses t t9) (cPc D dA a k t [.ref k.1]) (xQ D dA a k t t9 fR r) (xX D dA a k t t9 r) (t9.2.2.2 0 - t.2.2.2 0) (t9.2.2.2 1 - t.2.2.2 1) (ca a) := en_X (by decide +kernel) rfl (Nat.le_of_ble_eq_true rfl) (fun p e s m below meth c ls C hxt hK hT hl => sub0 (bX4_senses C hxt hkl t _ [] hT cS.rf hK mo.rf ls h hl))
set_option maxRecDepth 20000 in
abbrev rmX14_init_n_n : Room := { frames := 2, cells := 0, slots := 0, locals := 50 }
theorem hdX14_init_n_n : yX14_init.name = "<init>" ∧ yX14_init.cls ≠ "java/lang/invoke/MethodHandle" ∧ yX14_init.cls ≠ "java/lang/invoke/VarHandle" ∧ (parseMethodDescriptor yX14_init.desc).map (fun d => d.parameters.length) = some 5 := by decide +kernel
theorem bX14_init_n_n {p : Program} {l : Launch} {e : Env} {s : State} {m : MethodId} {args : Array Value} {below : List Frame} {meth : Method} {c : Code} {D : va_G} {dA : Nat → ClassId} {a : Nat} {k : KP a} {t0 : CS} {t9 : CS} (C : cx p s m args meth c cX14_init RX14 6 none) (hin : meth.name = "<init>") : ∀ (t : CS) (x0 : Nat) (x1 : Int32) (x4 : Int32) (x5 : Int32) (H : Heap) (locs : List Loc) (hT : cW D dA a k t H) (hS : cS a s.heap H locs t0.2.2.2 0 t) (hK : kC D dA a k t.2.2.2 s) (ls : Array Slot), C_X14_init_n_n t x0 x1 x4 x5 = some t9 → lv_has ls 6 [(0, .ref x0), (1, .int x1), (2, .null), (3, .null), (4, .int x4), (5, .int x5)] → W p l e rmX14_init_n_n s m args below meth c H locs 0 0 (MQ below (cQ D dA a k 0 t0 t9 none) args s 0 0 (ca a)) (F0 m 0 ls []) := by
  obtain ⟨hx, hb, hr, hml, hown, hts, hlocks⟩ := id C
  intro t x0 x1 x4 x5 H locs hT hS hK ls h hl
  unfold C_X14_init_n_n at h
  refine lv_aload_n hx hb dX14_init_0 rfl (lv_at hl 0 rfl) ?_
  obtain ⟨v1, hv1, h⟩ := bd1_some h
  refine r_void (run_i (As := []) (rest := []) C hK hT hS.2.1 (mJ6_init hv1) q1001 q473 q169 q474 ⟨rfl, rfl⟩ hdJ6_init ⟨Nat.le_of_ble_eq_true rfl, Nat.le_of_ble_eq_true rfl⟩ ⟨Nat.zero_le _, Nat.zero_le _⟩ rfl hl.1 rfl (Nat.le_of_ble_eq_true rfl) dX14_init_1) ?_
  refine lv_aload_n hx hb dX14_init_4 rfl (lv_at hl 0 rfl) ?_
  refine lv_iload_n hx hb dX14_init_5 rfl (lv_at hl 1 rfl) ?_
  obtain ⟨t2, ht2, h⟩ := bd1_some h
  refine d_put (ci := 14) in_X14 tyX14 tyX14_ok nmX14 rfl C hK hT hS 0 (by decide) q1002 rfl (Or.inr ⟨rfl, hin, rfl⟩) ht2 (tyX14_ok 0 (by decide)) rfl rfl dX14_init_6 (fun H locs hT hS hK => ?_)
  refine lv_aload_n hx hb dX14_init_9 rfl (lv_at hl 0 rfl) ?_
  refine lv_aload_nN hx hb dX14_init_10 rfl (lv_at hl 2 rfl) ?_
  obtain ⟨t3, ht3, h⟩ := bd1_some h
  refine d_put (ci := 14) in_X14 tyX14 tyX14_ok nmX14 rfl C hK hT hS 1 (by decide) q1003 rfl (Or.inr ⟨rfl, hin, rfl⟩) ht3 (tyX14_ok 1 (by decide)) rfl rfl dX14_init_11 (fun H locs hT hS hK => ?_)
  refine lv_aload_n hx hb dX14_init_14 rfl (lv_at hl 0 rfl) ?_
  refine lv_aload_nN hx hb dX14_init_15 rfl (lv_at hl 3 rfl) ?_
  obtain ⟨t4, ht4, h⟩ := bd1_some h
  refine d_put (ci := 14) in_X14 tyX14 tyX14_ok nmX14 rfl C hK hT hS 2 (by decide) q1004 rfl (Or.inr ⟨rfl, hin, rfl⟩) ht4 (tyX14_ok 2 (by decide)) rfl rfl dX14_init_16 (fun H locs hT hS hK => ?_)
  refine lv_aload_n hx hb dX14_init_19 rfl (lv_at hl 0 rfl) ?_
  refine lv_iload hx hb dX14_init_20 (lv_at hl 4 rfl) ?_
  obtain ⟨t5, ht5, h⟩ := bd1_some h
  refine d_put (ci := 14) in_X14 tyX14 tyX14_ok nmX14 rfl C hK hT hS 3 (by decide) q1005 rfl (Or.inr ⟨rfl, hin, rfl⟩) ht5 (tyX14_ok 3 (by decide)) rfl rfl dX14_init_22 (fun H locs hT hS hK => ?_)
  refine lv_aload_n hx hb dX14_init_25 rfl (lv_at hl 0 rfl) ?_
  refine lv_iload hx hb dX14_init_26 (lv_at hl 5 rfl) ?_
  obtain ⟨t6, ht6, h⟩ := bd1_some h
  refine d_put (ci := 14) in_X14 tyX14 tyX14_ok nmX14 rfl C hK hT hS 4 (by decide) q1006 rfl (Or.inr ⟨rfl, hin, rfl⟩) ht6 (tyX14_ok 4 (by decide)) rfl rfl dX14_init_28 (fun H locs hT hS hK => ?_)
  exact ec_v C hT hS h dX14_init_31
theorem mX14_init_n_n {l : Launch} {D : va_G} {dA : Nat → ClassId} {a : Nat} {k : KP a} {t : CS} {x0 : Nat} {x1 : Int32} {x4 : Int32} {x5 : Int32} {t9 : CS} (h : C_X14_init_n_n t x0 x1 x4 x5 = some t9) : Met l yX14_init (ws_ yX14_init cX14_init 6 none) rmX14_init_n_n (cPc D dA a k t [.ref x0, .int x1, .null, .null, .int x4, .int x5]) (cQ D dA a k 0 t t9 none) 0 0 (ca a) := en_Ci (by decide +kernel) rfl (Nat.le_of_ble_eq_true rfl) (fun p e s m below meth c ls C hin hK hT hl => bX14_init_n_n C hin t x0 x1 x4 x5 _ [] hT cS.rf hK ls h hl)
set_option maxRecDepth 20000 in
abbrev rmX4_behind (t t9 : CS) : Room := { frames := 22, cells := t9.2.2.2 0 - t.2.2.2 0, slots := t9.2.2.2 1 - t.2.2.2 1, locals := 244 }
theorem hdX4_behind : yX4_behind.cls = RX4 ∧ yX4_behind.cls ≠ "java/lang/invoke/MethodHandle" ∧ yX4_behind.cls ≠ "java/lang/invoke/VarHandle" ∧ (parseMethodDescriptor yX4_behind.desc).map (fun d => d.parameters.length) = some 3 := by decide +kernel
theorem bX4_behind_p11 {p : Program} {l : Launch} {e : Env} {s : State} {m : MethodId} {args : Array Value} {below : List Frame} {meth : Method} {c : Code} {D : va_G} {dA : Nat → ClassId} {a : Nat} {k : KP a} {t0 : CS} {r : Except Nat Int32} {t9 : CS} (C : cx p s m args meth c cX4_behind RX4 4 (some .int)) (hxt : ∀ x ∈ c.exceptionTable.toList, False) (hkl : k.1 ≠ a ∧ l.stackTraces = false) : ∀ (t : CS) (y0 : Int32) (H : Heap) (locs : List Loc) (hT : cW D dA a k t H) (hS : cS a s.heap H locs t0.2.2.2 2 t) (hK : kC D dA a k t.2.2.2 s) (hm : mo t0 t) (ls : Array Slot), C_X4_behind_p11 t y0 = some (r, t9) → lv_has ls 4 [] → W p l e (rmX4_behind t0 t9) s m args below meth c H locs (t.2.2.2 0 - t0.2.2.2 0) (t.2.2.2 1 - t0.2.2.2 1) (vx_MQ below (xQ D dA a k t0 t9 fI r) (xX D dA a k t0 t9 r) args s (t9.2.2.2 0 - t0.2.2.2 0) (t9.2.2.2 1 - t0.2.2.2 1) (ca a)) (F0 m 11 ls [.int y0]) := by
  obtain ⟨hx, hb, hr, hml, hown, hts, hlocks⟩ := id C
  intro t y0 H locs hT hS hK hm ls h hl
  have m9 : mo t t9 := mo_C_X4_behind_p11 h
  unfold C_X4_behind_p11 at h
  cases h
  exact toX (ec_i C hT hS rfl dX4_behind_11)
theorem bX4_behind_p5 {p : Program} {l : Launch} {e : Env} {s : State} {m : MethodId} {args : Array Value} {below : List Frame} {meth : Method} {c : Code} {D : va_G} {dA : Nat → ClassId} {a : Nat} {k : KP a} {t0 : CS} {r : Except Nat Int32} {t9 : CS} (C : cx p s m args meth c cX4_behind RX4 4 (some .int)) (hxt : ∀ x ∈ c.exceptionTable.toList, False) (hkl : k.1 ≠ a ∧ l.stackTraces = false) : ∀ (t : CS) (x2 : Int32) (x3 : Int32) (H : Heap) (locs : List Loc) (hT : cW D dA a k t H) (hS : cS a s.heap H locs t0.2.2.2 2 t) (hK : kC D dA a k t.2.2.2 s) (hm : mo t0 t) (ls : Array Slot), C_X4_behind_p5 t x2 x3 = some (r, t9) → lv_has ls 4 [(0, .ref k.1), (2, .int x2), (3, .int x3)] → W p l e (rmX4_behind t0 t9) s m args below meth c H locs (t.2.2.2 0 - t0.2.2.2 0) (t.2.2.2 1 - t0.2.2.2 1) (vx_MQ below (xQ D dA a k t0 t9 fI r) (xX D dA a k t0 t9 r) args s (t9.2.2.2 0 - t0.2.2.2 0) (t9.2.2.2 1 - t0.2.2.2 1) (ca a)) (F0 m 5 ls []) := by
  obtain ⟨hx, hb, hr, hml, hown, hts, hlocks⟩ := id C
  intro t x2 x3 H locs hT hS hK hm ls h hl
  have m9 : mo t t9 := mo_C_X4_behind_p5 h
  unfold C_X4_behind_p5 at h
  refine lv_aload_n hx hb dX4_behind_5 rfl (lv_at hl 0 rfl) ?_
  refine lv_iload_n hx hb dX4_behind_6 rfl (lv_at hl 1 rfl) ?_
  refine lv_iload_n hx hb dX4_behind_7 rfl (lv_at hl 2 rfl) ?_
  rcases bdx_some h with ⟨q3, ht1, hr_⟩ | ⟨v2, t1, ht1, h⟩
  · subst hr_
    have mm : mo t t9 := mo_C_X4_number ht1
    exact ex_err C hxt hS (run_x (As := [.int x2, .int x3]) (rest := []) C hK hT hS.2.1 (rv_T hK hT hkl.1) (mX4_number hkl ht1) q788 q790 qs15 q171 q791 ⟨rfl, rfl⟩ hdX4_number ⟨Nat.le_of_ble_eq_true rfl, Nat.le_of_ble_eq_true rfl⟩ (mo_c hm mm mo.rf) rfl hl.1 rfl (Nat.le_of_ble_eq_true rfl) dX4_behind_8) (mo_c hm mm mo.rf)
  · have mm : mo t t1 := mo_C_X4_number ht1
    have m9 : mo t1 t9 := mo_C_X4_behind_p11 h
    refine ex_okI hS hK (run_x (As := [.int x2, .int x3]) (rest := []) C hK hT hS.2.1 (rv_T hK hT hkl.1) (mX4_number hkl ht1) q788 q790 qs15 q171 q791 ⟨rfl, rfl⟩ hdX4_number ⟨Nat.le_of_ble_eq_true rfl, Nat.le_of_ble_eq_true rfl⟩ (mo_c hm mm m9) rfl hl.1 rfl (Nat.le_of_ble_eq_true rfl) dX4_behind_8) (fun H locs hT hS hK => ?_)
    refine W.widen (mo_c hm mm mo.rf).1 (mo_c hm mm mo.rf).2 ?_
    replace hm := hm.tr mm
    exact bX4_behind_p11 C hxt hkl t1 v2 H locs hT hS hK hm ls h (lv_sub hl [] rfl)
theorem bX4_behind {p : Program} {l : Launch} {e : Env} {s : State} {m : MethodId} {args : Array Value} {below : List Frame} {meth : Method} {c : Code} {D : va_G} {dA : Nat → ClassId} {a : Nat} {k : KP a} {t0 : CS} {r : Except Nat Int32} {t9 : CS} (C : cx p s m args meth c cX4_behind RX4 4 (some .int)) (hxt : ∀ x ∈ c.exceptionTable.toList, False) (hkl : k.1 ≠ a ∧ l.stackTraces = false) : ∀ (t : CS) (x1 : Int32) (x2 : Int32) (x3 : Int32) (H : Heap) (locs : List Loc) (hT : cW D dA a k t H) (hS : cS a s.heap H locs t0.2.2.2 2 t) (hK : kC D dA a k t.2.2.2 s) (hm : mo t0 t) (ls : Array Slot), C_X4_behind t x1 x2 x3 = some (r, t9) → lv_has ls 4 [(0, .ref k.1), (1, .int x1), (2, .int x2), (3, .int x3)] → W p l e (rmX4_behind t0 t9) s m args below meth c H locs (t.2.2.2 0 - t0.2.2.2 0) (t.2.2.2 1 - t0.2.2.2 1) (vx_MQ below (xQ D dA a k t0 t9 fI r) (xX D dA a k t0 t9 r) args s (t9.2.2.2 0 - t0.2.2.2 0) (t9.2.2.2 1 - t0.2.2.2 1) (ca a)) (F0 m 0 ls []) := by
  obtain ⟨hx, hb, hr, hml, hown, hts, hlocks⟩ := id C
  intro t x1 x2 x3 H locs hT hS hK hm ls h hl
  have m9 : mo t t9 := mo_C_X4_behind h
  unfold C_X4_behind at h
  refine lv_aload_n hx hb dX4_behind_0 rfl (lv_at hl 0 rfl) ?_
  refine lv_iload_n hx hb dX4_behind_1 rfl (lv_at hl 1 rfl) ?_
  rcases bdx_some h with ⟨q3, ht1, hr_⟩ | ⟨v2, t1, ht1, h⟩
  · subst hr_
    have mm : mo t t9 := mo_C_X4_want ht1
    exact ex_err C hxt hS (run_x (As := [.int x1]) (rest := []) C hK hT hS.2.1 (rv_T hK hT hkl.1) (mX4_want hkl ht1) q814 q816 qs17 q171 q817 ⟨rfl, rfl⟩ hdX4_want ⟨Nat.le_of_ble_eq_true rfl, Nat.le_of_ble_eq_true rfl⟩ (mo_c hm mm mo.rf) rfl hl.1 rfl (Nat.le_of_ble_eq_true rfl) dX4_behind_2) (mo_c hm mm mo.rf)
  · have mm : mo t t1 := mo_C_X4_want ht1
    have m9 : mo t1 t9 := mo_C_X4_behind_p5 h
    refine ex_okU hS hK (run_x (As := [.int x1]) (rest := []) C hK hT hS.2.1 (rv_T hK hT hkl.1) (mX4_want hkl ht1) q814 q816 qs17 q171 q817 ⟨rfl, rfl⟩ hdX4_want ⟨Nat.le_of_ble_eq_true rfl, Nat.le_of_ble_eq_true rfl⟩ (mo_c hm mm m9) rfl hl.1 rfl (Nat.le_of_ble_eq_true rfl) dX4_behind_2) (fun H locs hT hS hK => ?_)
    refine W.widen (mo_c hm mm mo.rf).1 (mo_c hm mm mo.rf).2 ?_
    replace hm := hm.tr mm
    exact bX4_behind_p5 C hxt hkl t1 x2 x3 H locs hT hS hK hm ls h (lv_sub hl [0, 2, 3] rfl)
theorem mX4_behind {l : Launch} {D : va_G} {dA : Nat → ClassId} {a : Nat} {k : KP a} {t : CS} {x1 : Int32} {x2 : Int32} {x3 : Int32} {r : Except Nat Int32} {t9 : CS} (hkl : k.1 ≠ a ∧ l.stackTraces = false) (h : C_X4_behind t x1 x2 x3 = some (r, t9)) : vx_Met l yX4_behind (ws_ yX4_behind cX4_behind 4 (some .int)) (rmX4_behind t t9) (cPc D dA a k t [.ref k.1, .int x1, .int x2, .int x3]) (xQ D dA a k t t9 fI r) (xX D dA a k t t9 r) (t9.2.2.2 0 - t.2.2.2 0) (t9.2.2.2 1 - t.2.2.2 1) (ca a) := en_X (by decide +kernel) rfl (Nat.le_of_ble_eq_true rfl) (fun p e s m below meth c ls C hxt hK hT hl => sub0 (bX4_behind C hxt hkl t x1 x2 x3 _ [] hT cS.rf hK mo.rf ls h hl))
set_option maxRecDepth 20000 in
abbrev rmX14_init : Room := { frames := 2, cells := 0, slots := 0, locals := 50 }
theorem hdX14_init : yX14_init.name = "<init>" ∧ yX14_init.cls ≠ "java/lang/invoke/MethodHandle" ∧ yX14_init.cls ≠ "java/lang/invoke/VarHandle" ∧ (parseMethodDescriptor yX14_init.desc).map (fun d => d.parameters.length) = some 5 := by decide +kernel
theorem bX14_init {p : Program} {l : Launch} {e : Env} {s : State} {m : MethodId} {args : Array Value} {below : List Frame} {meth : Method} {c : Code} {D : va_G} {dA : Nat → ClassId} {a : Nat} {k : KP a} {t0 : CS} {t9 : CS} (C : cx p s m args meth c cX14_init RX14 6 none) (hin : meth.name = "<init>") : ∀ (t : CS) (x0 : Nat) (x1 : Int32) (x2 : Nat) (x3 : Nat) (x4 : Int32) (x5 : Int32) (H : Heap) (locs : List Loc) (hT : cW D dA a k t H) (hS : cS a s.heap H locs t0.2.2.2 0 t) (hK : kC D dA a k t.2.2.2 s) (ls : Array Slot), C_X14_init t x0 x1 x2 x3 x4 x5 = some t9 → lv_has ls 6 [(0, .ref x0), (1, .int x1), (2, .ref x2), (3, .ref x3), (4, .int x4), (5, .int x5)] → W p l e rmX14_init s m args below meth c H locs 0 0 (MQ below (cQ D dA a k 0 t0 t9 none) args s 0 0 (ca a)) (F0 m 0 ls []) := by
  obtain ⟨hx, hb, hr, hml, hown, hts, hlocks⟩ := id C
  intro t x0 x1 x2 x3 x4 x5 H locs hT hS hK ls h hl
  unfold C_X14_init at h
  refine lv_aload_n hx hb dX14_init_0 rfl (lv_at hl 0 rfl) ?_
  obtain ⟨v1, hv1, h⟩ := bd1_some h
  refine r_void (run_i (As := []) (rest := []) C hK hT hS.2.1 (mJ6_init hv1) q1001 q473 q169 q474 ⟨rfl, rfl⟩ hdJ6_init ⟨Nat.le_of_ble_eq_true rfl, Nat.le_of_ble_eq_true rfl⟩ ⟨Nat.zero_le _, Nat.zero_le _⟩ rfl hl.1 rfl (Nat.le_of_ble_eq_true rfl) dX14_init_1) ?_
  refine lv_aload_n hx hb dX14_init_4 rfl (lv_at hl 0 rfl) ?_
  refine lv_iload_n hx hb dX14_init_5 rfl (lv_at hl 1 rfl) ?_
  obtain ⟨t2, ht2, h⟩ := bd1_some h
  refine d_put (ci := 14) in_X14 tyX14 tyX14_ok nmX14 rfl C hK hT hS 0 (by decide) q1002 rfl (Or.inr ⟨rfl, hin, rfl⟩) ht2 (tyX14_ok 0 (by decide)) rfl rfl dX14_init_6 (fun H locs hT hS hK => ?_)
  refine lv_aload_n hx hb dX14_init_9 rfl (lv_at hl 0 rfl) ?_
  refine lv_aload_n hx hb dX14_init_10 rfl (lv_at hl 2 rfl) ?_
  obtain ⟨t3, ht3, h⟩ := bd1_some h
  refine d_put (ci := 14) in_X14 tyX14 tyX14_ok nmX14 rfl C hK hT hS 1 (by decide) q1003 rfl (Or.inr ⟨rfl, hin, rfl⟩) ht3 (tyX14_ok 1 (by decide)) rfl rfl dX14_init_11 (fun H locs hT hS hK => ?_)
  refine lv_aload_n hx hb dX14_init_14 rfl (lv_at hl 0 rfl) ?_
  refine lv_aload_n hx hb dX14_init_15 rfl (lv_at hl 3 rfl) ?_
  obtain ⟨t4, ht4, h⟩ := bd1_some h
  refine d_put (ci := 14) in_X14 tyX14 tyX14_ok nmX14 rfl C hK hT hS 2 (by decide) q1004 rfl (Or.inr ⟨rfl, hin, rfl⟩) ht4 (tyX14_ok 2 (by decide)) rfl rfl dX14_init_16 (fun H locs hT hS hK => ?_)
  refine lv_aload_n hx hb dX14_init_19 rfl (lv_at hl 0 rfl) ?_
  refine lv_iload hx hb dX14_init_20 (lv_at hl 4 rfl) ?_
  obtain ⟨t5, ht5, h⟩ := bd1_some h
  refine d_put (ci := 14) in_X14 tyX14 tyX14_ok nmX14 rfl C hK hT hS 3 (by decide) q1005 rfl (Or.inr ⟨rfl, hin, rfl⟩) ht5 (tyX14_ok 3 (by decide)) rfl rfl dX14_init_22 (fun H locs hT hS hK => ?_)
  refine lv_aload_n hx hb dX14_init_25 rfl (lv_at hl 0 rfl) ?_
  refine lv_iload hx hb dX14_init_26 (lv_at hl 5 rfl) ?_
  obtain ⟨t6, ht6, h⟩ := bd1_some h
  refine d_put (ci := 14) in_X14 tyX14 tyX14_ok nmX14 rfl C hK hT hS 4 (by decide) q1006 rfl (Or.inr ⟨rfl, hin, rfl⟩) ht6 (tyX14_ok 4 (by decide)) rfl rfl dX14_init_28 (fun H locs hT hS hK => ?_)
  exact ec_v C hT hS h dX14_init_31
theorem mX14_init {l : Launch} {D : va_G} {dA : Nat → ClassId} {a : Nat} {k : KP a} {t : CS} {x0 : Nat} {x1 : Int32} {x2 : Nat} {x3 : Nat} {x4 : Int32} {x5 : Int32} {t9 : CS} (h : C_X14_init t x0 x1 x2 x3 x4 x5 = some t9) : Met l yX14_init (ws_ yX14_init cX14_init 6 none) rmX14_init (cPc D dA a k t [.ref x0, .int x1, .ref x2, .ref x3, .int x4, .int x5]) (cQ D dA a k 0 t t9 none) 0 0 (ca a) := en_Ci (by decide +kernel) rfl (Nat.le_of_ble_eq_true rfl) (fun p e s m below meth c ls C hin hK hT hl => bX14_init C hin t x0 x1 x2 x3 x4 x5 _ [] hT cS.rf hK ls h hl)
set_option maxRecDepth 20000 in
abbrev rmX4_doing (t t9 : CS) : Room := { frames := 23, cells := t9.2.2.2 0 - t.2.2.2 0, slots := t9.2.2.2 1 - t.2.2.2 1, locals := 268 }
theorem hdX4_doing : yX4_doing.cls = RX4 ∧ yX4_doing.cls ≠ "java/lang/invoke/MethodHandle" ∧ yX4_doing.cls ≠ "java/lang/invoke/VarHandle" ∧ (parseMethodDescriptor yX4_doing.desc).map (fun d => d.parameters.length) = some 1 := by decide +kernel
theorem bX4_doing_p77 {p : Program} {l : Launch} {e : Env} {s : State} {m : MethodId} {args : Array Value} {below : List Frame} {meth : Method} {c : Code} {D : va_G} {dA : Nat → ClassId} {a : Nat} {k : KP a} {t0 : CS} {r : Except Nat Nat} {t9 : CS} (C : cx p s m args meth c cX4_doing RX4 3 (some (.object "LettersOnStrike$Doing"))) (hxt : ∀ x ∈ c.exceptionTable.toList, False) (hkl : k.1 ≠ a ∧ l.stackTraces = false) : ∀ (t : CS) (x1 : Int32) (y0 : Nat) (y1 : Nat) (y2 : Int32) (y3 : Nat) (y5 : Int32) (H : Heap) (locs : List Loc) (hT : cW D dA a k t H) (hS : cS a s.heap H locs t0.2.2.2 2 t) (hK : kC D dA a k t.2.2.2 s) (hm : mo t0 t) (ls : Array Slot), C_X4_doing_p77 t x1 y0 y1 y2 y3 y5 = some (r, t9) → lv_has ls 3 [(1, .int x1)] → W p l e (rmX4_doing t0 t9) s m args below meth c H locs (t.2.2.2 0 - t0.2.2.2 0) (t.2.2.2 1 - t0.2.2.2 1) (vx_MQ below (xQ D dA a k t0 t9 fR r) (xX D dA a k t0 t9 r) args s (t9.2.2.2 0 - t0.2.2.2 0) (t9.2.2.2 1 - t0.2.2.2 1) (ca a)) (F0 m 77 ls [.int y5, .null, .ref y3, .int y2, .ref y1, .ref y0]) := by
  obtain ⟨hx, hb, hr, hml, hown, hts, hlocks⟩ := id C
  intro t x1 y0 y1 y2 y3 y5 H locs hT hS hK hm ls h hl
  have m9 : mo t t9 := mo_C_X4_doing_p77 h
  unfold C_X4_doing_p77 at h
  refine lv_iload_n hx hb dX4_doing_77 rfl (lv_at hl 0 rfl) ?_
  obtain ⟨t1, ht1, h⟩ := bd1_some h
  refine wc_void hS hK (run_iN (As := [.int y2, .ref y3, .null, .int y5, .int x1]) (rest := [.ref y0]) C hK hT hS.2.1 (mX14_init_n ht1) (nm998 hK.2.1) q999 q193 q1000 ⟨rfl, rfl⟩ hdX14_init_n ⟨Nat.le_of_ble_eq_true rfl, Nat.le_of_ble_eq_true rfl⟩ (mo_z m9) rfl hl.1 rfl (Nat.le_of_ble_eq_true rfl) dX4_doing_78) (fun H locs hT hS hK hNt1 => ?_)
  have mm : mo t t1 := mo.ni hNt1
  replace hm := hm.tr mm
  replace m9 : mo t1 t9 := mo.bk (funext fun i => hNt1 i (Nat.zero_le _)) m9
  refine W.widen (mo_s mm).1 (mo_s mm).2 ?_
  cases h
  exact toX (ec_r C (Or.inl ⟨_, rfl⟩) hT hS rfl dX4_doing_81)
theorem bX4_doing_p60 {p : Program} {l : Launch} {e : Env} {s : State} {m : MethodId} {args : Array Value} {below : List Frame} {meth : Method} {c : Code} {D : va_G} {dA : Nat → ClassId} {a : Nat} {k : KP a} {t0 : CS} {r : Except Nat Nat} {t9 : CS} (C : cx p s m args meth c cX4_doing RX4 3 (some (.object "LettersOnStrike$Doing"))) (hxt : ∀ x ∈ c.exceptionTable.toList, False) (hkl : k.1 ≠ a ∧ l.stackTraces = false) : ∀ (t : CS) (x1 : Int32) (x2 : Nat) (y0 : Nat) (H : Heap) (locs : List Loc) (hT : cW D dA a k t H) (hS : cS a s.heap H locs t0.2.2.2 2 t) (hK : kC D dA a k t.2.2.2 s) (hm : mo t0 t) (ls : Array Slot), C_X4_doing_p60 t x1 x2 y0 = some (r, t9) → lv_has ls 3 [(0, .ref k.1), (1, .int x1), (2, .ref x2)] → W p l e (rmX4_doing t0 t9) s m args below meth c H locs (t.2.2.2 0 - t0.2.2.2 0) (t.2.2.2 1 - t0.2.2.2 1) (vx_MQ below (xQ D dA a k t0 t9 fR r) (xX D dA a k t0 t9 r) args s (t9.2.2.2 0 - t0.2.2.2 0) (t9.2.2.2 1 - t0.2.2.2 1) (ca a)) (F0 m 60 ls [.ref y0]) := by
  obtain ⟨hx, hb, hr, hml, hown, hts, hlocks⟩ := id C
  intro t x1 x2 y0 H locs hT hS hK hm ls h hl
  have m9 : mo t t9 := mo_C_X4_doing_p60 h
  unfold C_X4_doing_p60 at h
  refine lv_dup hx hb dX4_doing_60 rfl ?_
  refine lv_aload_n hx hb dX4_doing_61 rfl (lv_at hl 0 rfl) ?_
  refine c_getT C hK hT hkl.1 7 (by decide) q524 rfl (v := .int (t.1 200 7)) rfl dX4_doing_62 ?_
  refine lv_aload_n hx hb dX4_doing_65 rfl (lv_at hl 2 rfl) ?_
  refine lv_null hx hb dX4_doing_66 ?_
  refine lv_aload_n hx hb dX4_doing_67 rfl (lv_at hl 0 rfl) ?_
  refine lv_sipush (v := 213) hx hb dX4_doing_68 (by decide) ?_
  refine lv_iconst (v := 0) hx hb dX4_doing_71 (by decide) ?_
  refine lv_bipush (v := 9) hx hb dX4_doing_72 (by decide) ?_
  rcases bdx_some h with ⟨q3, ht1, hr_⟩ | ⟨v2, t1, ht1, h⟩
  · subst hr_
    have mm : mo t t9 := mo_C_X4_behind ht1
    exact ex_err C hxt hS (run_x (As := [.int (213 : Int32), .int (0 : Int32), .int (9 : Int32)]) (rest := [.null, .ref x2, .int (t.1 200 7), .ref y0, .ref y0]) C hK hT hS.2.1 (rv_T hK hT hkl.1) (mX4_behind hkl ht1) q994 q996 qs23 q171 q997 ⟨rfl, rfl⟩ hdX4_behind ⟨Nat.le_of_ble_eq_true rfl, Nat.le_of_ble_eq_true rfl⟩ (mo_c hm mm mo.rf) rfl hl.1 rfl (Nat.le_of_ble_eq_true rfl) dX4_doing_74) (mo_c hm mm mo.rf)
  · have mm : mo t t1 := mo_C_X4_behind ht1
    have m9 : mo t1 t9 := mo_C_X4_doing_p77 h
    refine ex_okI hS hK (run_x (As := [.int (213 : Int32), .int (0 : Int32), .int (9 : Int32)]) (rest := [.null, .ref x2, .int (t.1 200 7), .ref y0, .ref y0]) C hK hT hS.2.1 (rv_T hK hT hkl.1) (mX4_behind hkl ht1) q994 q996 qs23 q171 q997 ⟨rfl, rfl⟩ hdX4_behind ⟨Nat.le_of_ble_eq_true rfl, Nat.le_of_ble_eq_true rfl⟩ (mo_c hm mm m9) rfl hl.1 rfl (Nat.le_of_ble_eq_true rfl) dX4_doing_74) (fun H locs hT hS hK => ?_)
    refine W.widen (mo_c hm mm mo.rf).1 (mo_c hm mm mo.rf).2 ?_
    replace hm := hm.tr mm
    exact bX4_doing_p77 C hxt hkl t1 x1 y0 y0 (t.1 200 7) x2 v2 H locs hT hS hK hm ls h (lv_sub hl [1] rfl)
theorem bX4_doing_p56 {p : Program} {l : Launch} {e : Env} {s : State} {m : MethodId} {args : Array Value} {below : List Frame} {meth : Method} {c : Code} {D : va_G} {dA : Nat → ClassId} {a : Nat} {k : KP a} {t0 : CS} {r : Except Nat Nat} {t9 : CS} (C : cx p s m args meth c cX4_doing RX4 3 (some (.object "LettersOnStrike$Doing"))) (hxt : ∀ x ∈ c.exceptionTable.toList, False) (hkl : k.1 ≠ a ∧ l.stackTraces = false) : ∀ (t : CS) (x1 : Int32) (y0 : Nat) (H : Heap) (locs : List Loc) (hT : cW D dA a k t H) (hS : cS a s.heap H locs t0.2.2.2 2 t) (hK : kC D dA a k t.2.2.2 s) (hm : mo t0 t) (ls : Array Slot), C_X4_doing_p56 t x1 y0 = some (r, t9) → lv_has ls 3 [(0, .ref k.1), (1, .int x1)] → W p l e (rmX4_doing t0 t9) s m args below meth c H locs (t.2.2.2 0 - t0.2.2.2 0) (t.2.2.2 1 - t0.2.2.2 1) (vx_MQ below (xQ D dA a k t0 t9 fR r) (xX D dA a k t0 t9 r) args s (t9.2.2.2 0 - t0.2.2.2 0) (t9.2.2.2 1 - t0.2.2.2 1) (ca a)) (F0 m 56 ls [.ref y0]) := by
  obtain ⟨hx, hb, hr, hml, hown, hts, hlocks⟩ := id C
  intro t x1 y0 H locs hT hS hK hm ls h hl
  have m9 : mo t t9 := mo_C_X4_doing_p56 h
  unfold C_X4_doing_p56 at h
  refine lv_astore_n (lv' := [(2, .ref y0), (0, .ref k.1), (1, .int x1)]) hx hb dX4_doing_56 rfl hl (by decide) rfl (fun ls hl => ?_)
  obtain ⟨t1, et1, h⟩ := lt1_ex h
  have m9 : mo t1 t9 := mo_C_X4_doing_p60 h
  refine n_new (ci := 14) (fs := [.int 0, .null, .null, .int 0, .int 0]) in_X14 tyX14 tyX14_ok rfl C hK hT hS q992 q993 q193 (fun j hj => by rcases (show j = 0 ∨ j = 1 ∨ j = 2 ∨ j = 3 ∨ j = 4 by omega) with rfl | rfl | rfl | rfl | rfl <;> rfl) (mo_n hm et1 m9) dX4_doing_57 (fun t_ H et_ hT hS hK => ?_)
  obtain rfl := et1.trans et_.symm
  refine W.widen (mo_n1 hm et1).1 (mo_n1 hm et1).2 ?_
  replace hm := hm.tr (mo.new et1)
  exact bX4_doing_p60 C hxt hkl t1 x1 y0 (t.2.2.2 0) H locs hT hS hK hm ls h (lv_sub hl [1, 2, 0] rfl)
theorem bX4_doing_p94 {p : Program} {l : Launch} {e : Env} {s : State} {m : MethodId} {args : Array Value} {below : List Frame} {meth : Method} {c : Code} {D : va_G} {dA : Nat → ClassId} {a : Nat} {k : KP a} {t0 : CS} {r : Except Nat Nat} {t9 : CS} (C : cx p s m args meth c cX4_doing RX4 3 (some (.object "LettersOnStrike$Doing"))) (hxt : ∀ x ∈ c.exceptionTable.toList, False) (hkl : k.1 ≠ a ∧ l.stackTraces = false) : ∀ (t : CS) (x1 : Int32) (y0 : Nat) (y1 : Nat) (y2 : Int32) (y3 : Nat) (H : Heap) (locs : List Loc) (hT : cW D dA a k t H) (hS : cS a s.heap H locs t0.2.2.2 2 t) (hK : kC D dA a k t.2.2.2 s) (hm : mo t0 t) (ls : Array Slot), C_X4_doing_p94 t x1 y0 y1 y2 y3 = some (r, t9) → lv_has ls 3 [(1, .int x1)] → W p l e (rmX4_doing t0 t9) s m args below meth c H locs (t.2.2.2 0 - t0.2.2.2 0) (t.2.2.2 1 - t0.2.2.2 1) (vx_MQ below (xQ D dA a k t0 t9 fR r) (xX D dA a k t0 t9 r) args s (t9.2.2.2 0 - t0.2.2.2 0) (t9.2.2.2 1 - t0.2.2.2 1) (ca a)) (F0 m 94 ls [.ref y3, .int y2, .ref y1, .ref y0]) := by
  obtain ⟨hx, hb, hr, hml, hown, hts, hlocks⟩ := id C
  intro t x1 y0 y1 y2 y3 H locs hT hS hK hm ls h hl
  have m9 : mo t t9 := mo_C_X4_doing_p94 h
  unfold C_X4_doing_p94 at h
  refine lv_null hx hb dX4_doing_94 ?_
  refine lv_iconst (v := 0) hx hb dX4_doing_95 (by decide) ?_
  refine lv_iload_n hx hb dX4_doing_96 rfl (lv_at hl 0 rfl) ?_
  obtain ⟨t1, ht1, h⟩ := bd1_some h
  refine wc_void hS hK (run_iN (As := [.int y2, .ref y3, .null, .int (0 : Int32), .int x1]) (rest := [.ref y0]) C hK hT hS.2.1 (mX14_init_n ht1) (nm998 hK.2.1) q999 q193 q1000 ⟨rfl, rfl⟩ hdX14_init_n ⟨Nat.le_of_ble_eq_true rfl, Nat.le_of_ble_eq_true rfl⟩ (mo_z m9) rfl hl.1 rfl (Nat.le_of_ble_eq_true rfl) dX4_doing_97) (fun H locs hT hS hK hNt1 => ?_)
  have mm : mo t t1 := mo.ni hNt1
  replace hm := hm.tr mm
  replace m9 : mo t1 t9 := mo.bk (funext fun i => hNt1 i (Nat.zero_le _)) m9
  refine W.widen (mo_s mm).1 (mo_s mm).2 ?_
  cases h
  exact toX (ec_r C (Or.inl ⟨_, rfl⟩) hT hS rfl dX4_doing_100)
theorem bX4_doing_p85 {p : Program} {l : Launch} {e : Env} {s : State} {m : MethodId} {args : Array Value} {below : List Frame} {meth : Method} {c : Code} {D : va_G} {dA : Nat → ClassId} {a : Nat} {k : KP a} {t0 : CS} {r : Except Nat Nat} {t9 : CS} (C : cx p s m args meth c cX4_doing RX4 3 (some (.object "LettersOnStrike$Doing"))) (hxt : ∀ x ∈ c.exceptionTable.toList, False) (hkl : k.1 ≠ a ∧ l.stackTraces = false) : ∀ (t : CS) (x1 : Int32) (y0 : Nat) (H : Heap) (locs : List Loc) (hT : cW D dA a k t H) (hS : cS a s.heap H locs t0.2.2.2 2 t) (hK : kC D dA a k t.2.2.2 s) (hm : mo t0 t) (ls : Array Slot), C_X4_doing_p85 t x1 y0 = some (r, t9) → lv_has ls 3 [(0, .ref k.1), (1, .int x1)] → W p l e (rmX4_doing t0 t9) s m args below meth c H locs (t.2.2.2 0 - t0.2.2.2 0) (t.2.2.2 1 - t0.2.2.2 1) (vx_MQ below (xQ D dA a k t0 t9 fR r) (xX D dA a k t0 t9 r) args s (t9.2.2.2 0 - t0.2.2.2 0) (t9.2.2.2 1 - t0.2.2.2 1) (ca a)) (F0 m 85 ls [.ref y0]) := by
  obtain ⟨hx, hb, hr, hml, hown, hts, hlocks⟩ := id C
  intro t x1 y0 H locs hT hS hK hm ls h hl
  have m9 : mo t t9 := mo_C_X4_doing_p85 h
  unfold C_X4_doing_p85 at h
  refine lv_dup hx hb dX4_doing_85 rfl ?_
  refine lv_aload_n hx hb dX4_doing_86 rfl (lv_at hl 0 rfl) ?_
  refine c_getT C hK hT hkl.1 7 (by decide) q524 rfl (v := .int (t.1 200 7)) rfl dX4_doing_87 ?_
  refine lv_aload_n hx hb dX4_doing_90 rfl (lv_at hl 0 rfl) ?_
  rcases bdx_some h with ⟨q3, ht1, hr_⟩ | ⟨v2, t1, ht1, h⟩
  · subst hr_
    have mm : mo t t9 := mo_C_X4_senses ht1
    exact ex_err C hxt hS (run_x (As := []) (rest := [.int (t.1 200 7), .ref y0, .ref y0]) C hK hT hS.2.1 (rv_T hK hT hkl.1) (mX4_senses hkl ht1) q1018 q1020 qs24 q171 q1021 ⟨rfl, rfl⟩ hdX4_senses ⟨Nat.le_of_ble_eq_true rfl, Nat.le_of_ble_eq_true rfl⟩ (mo_c hm mm mo.rf) rfl hl.1 rfl (Nat.le_of_ble_eq_true rfl) dX4_doing_91) (mo_c hm mm mo.rf)
  · have mm : mo t t1 := mo_C_X4_senses ht1
    have m9 : mo t1 t9 := mo_C_X4_doing_p94 h
    refine ex_okR hS hK (run_x (As := []) (rest := [.int (t.1 200 7), .ref y0, .ref y0]) C hK hT hS.2.1 (rv_T hK hT hkl.1) (mX4_senses hkl ht1) q1018 q1020 qs24 q171 q1021 ⟨rfl, rfl⟩ hdX4_senses ⟨Nat.le_of_ble_eq_true rfl, Nat.le_of_ble_eq_true rfl⟩ (mo_c hm mm m9) rfl hl.1 rfl (Nat.le_of_ble_eq_true rfl) dX4_doing_91) (fun H locs hT hS hK => ?_)
    refine W.widen (mo_c hm mm mo.rf).1 (mo_c hm mm mo.rf).2 ?_
    replace hm := hm.tr mm
    exact bX4_doing_p94 C hxt hkl t1 x1 y0 y0 (t.1 200 7) v2 H locs hT hS hK hm ls h (lv_sub hl [1] rfl)
theorem bX4_doing_p126 {p : Program} {l : Launch} {e : Env} {s : State} {m : MethodId} {args : Array Value} {below : List Frame} {meth : Method} {c : Code} {D : va_G} {dA : Nat → ClassId} {a : Nat} {k : KP a} {t0 : CS} {r : Except Nat Nat} {t9 : CS} (C : cx p s m args meth c cX4_doing RX4 3 (some (.object "LettersOnStrike$Doing"))) (hxt : ∀ x ∈ c.exceptionTable.toList, False) (hkl : k.1 ≠ a ∧ l.stackTraces = false) : ∀ (t : CS) (x1 : Int32) (y0 : Nat) (y1 : Nat) (y2 : Int32) (y3 : Nat) (y4 : Nat) (H : Heap) (locs : List Loc) (hT : cW D dA a k t H) (hS : cS a s.heap H locs t0.2.2.2 2 t) (hK : kC D dA a k t.2.2.2 s) (hm : mo t0 t) (ls : Array Slot), C_X4_doing_p126 t x1 y0 y1 y2 y3 y4 = some (r, t9) → lv_has ls 3 [(1, .int x1)] → W p l e (rmX4_doing t0 t9) s m args below meth c H locs (t.2.2.2 0 - t0.2.2.2 0) (t.2.2.2 1 - t0.2.2.2 1) (vx_MQ below (xQ D dA a k t0 t9 fR r) (xX D dA a k t0 t9 r) args s (t9.2.2.2 0 - t0.2.2.2 0) (t9.2.2.2 1 - t0.2.2.2 1) (ca a)) (F0 m 126 ls [.ref y4, .ref y3, .int y2, .ref y1, .ref y0]) := by
  obtain ⟨hx, hb, hr, hml, hown, hts, hlocks⟩ := id C
  intro t x1 y0 y1 y2 y3 y4 H locs hT hS hK hm ls h hl
  have m9 : mo t t9 := mo_C_X4_doing_p126 h
  unfold C_X4_doing_p126 at h
  refine lv_iconst (v := 0) hx hb dX4_doing_126 (by decide) ?_
  refine lv_iload_n hx hb dX4_doing_127 rfl (lv_at hl 0 rfl) ?_
  obtain ⟨t1, ht1, h⟩ := bd1_some h
  refine wc_void hS hK (run_iN (As := [.int y2, .ref y3, .ref y4, .int (0 : Int32), .int x1]) (rest := [.ref y0]) C hK hT hS.2.1 (mX14_init ht1) (nm998 hK.2.1) q999 q193 q1000 ⟨rfl, rfl⟩ hdX14_init ⟨Nat.le_of_ble_eq_true rfl, Nat.le_of_ble_eq_true rfl⟩ (mo_z m9) rfl hl.1 rfl (Nat.le_of_ble_eq_true rfl) dX4_doing_128) (fun H locs hT hS hK hNt1 => ?_)
  have mm : mo t t1 := mo.ni hNt1
  replace hm := hm.tr mm
  replace m9 : mo t1 t9 := mo.bk (funext fun i => hNt1 i (Nat.zero_le _)) m9
  refine W.widen (mo_s mm).1 (mo_s mm).2 ?_
  cases h
  exact toX (ec_r C (Or.inl ⟨_, rfl⟩) hT hS rfl dX4_doing_131)
theorem bX4_doing_p116 {p : Program} {l : Launch} {e : Env} {s : State} {m : MethodId} {args : Array Value} {below : List Frame} {meth : Method} {c : Code} {D : va_G} {dA : Nat → ClassId} {a : Nat} {k : KP a} {t0 : CS} {r : Except Nat Nat} {t9 : CS} (C : cx p s m args meth c cX4_doing RX4 3 (some (.object "LettersOnStrike$Doing"))) (hxt : ∀ x ∈ c.exceptionTable.toList, False) (hkl : k.1 ≠ a ∧ l.stackTraces = false) : ∀ (t : CS) (x1 : Int32) (x2 : Nat) (y0 : Nat) (H : Heap) (locs : List Loc) (hT : cW D dA a k t H) (hS : cS a s.heap H locs t0.2.2.2 2 t) (hK : kC D dA a k t.2.2.2 s) (hm : mo t0 t) (ls : Array Slot), C_X4_doing_p116 t x1 x2 y0 = some (r, t9) → lv_has ls 3 [(0, .ref k.1), (1, .int x1), (2, .ref x2)] → W p l e (rmX4_doing t0 t9) s m args below meth c H locs (t.2.2.2 0 - t0.2.2.2 0) (t.2.2.2 1 - t0.2.2.2 1) (vx_MQ below (xQ D dA a k t0 t9 fR r) (xX D dA a k t0 t9 r) args s (t9.2.2.2 0 - t0.2.2.2 0) (t9.2.2.2 1 - t0.2.2.2 1) (ca a)) (F0 m 116 ls [.ref y0]) := by
  obtain ⟨hx, hb, hr, hml, hown, hts, hlocks⟩ := id C
  intro t x1 x2 y0 H locs hT hS hK hm ls h hl
  have m9 : mo t t9 := mo_C_X4_doing_p116 h
  unfold C_X4_doing_p116 at h
  refine lv_dup hx hb dX4_doing_116 rfl ?_
  refine lv_aload_n hx hb dX4_doing_117 rfl (lv_at hl 0 rfl) ?_
  refine c_getT C hK hT hkl.1 7 (by decide) q524 rfl (v := .int (t.1 200 7)) rfl dX4_doing_118 ?_
  refine lv_aload_n hx hb dX4_doing_121 rfl (lv_at hl 2 rfl) ?_
  refine lv_aload_n hx hb dX4_doing_122 rfl (lv_at hl 0 rfl) ?_
  rcases bdx_some h with ⟨q3, ht1, hr_⟩ | ⟨v2, t1, ht1, h⟩
  · subst hr_
    have mm : mo t t9 := mo_C_X4_letters ht1
    exact ex_err C hxt hS (run_x (As := []) (rest := [.ref x2, .int (t.1 200 7), .ref y0, .ref y0]) C hK hT hS.2.1 (rv_T hK hT hkl.1) (mX4_letters hkl ht1) q988 q990 qs22 q171 q991 ⟨rfl, rfl⟩ hdX4_letters ⟨Nat.le_of_ble_eq_true rfl, Nat.le_of_ble_eq_true rfl⟩ (mo_c hm mm mo.rf) rfl hl.1 rfl (Nat.le_of_ble_eq_true rfl) dX4_doing_123) (mo_c hm mm mo.rf)
  · have mm : mo t t1 := mo_C_X4_letters ht1
    have m9 : mo t1 t9 := mo_C_X4_doing_p126 h
    refine ex_okR hS hK (run_x (As := []) (rest := [.ref x2, .int (t.1 200 7), .ref y0, .ref y0]) C hK hT hS.2.1 (rv_T hK hT hkl.1) (mX4_letters hkl ht1) q988 q990 qs22 q171 q991 ⟨rfl, rfl⟩ hdX4_letters ⟨Nat.le_of_ble_eq_true rfl, Nat.le_of_ble_eq_true rfl⟩ (mo_c hm mm m9) rfl hl.1 rfl (Nat.le_of_ble_eq_true rfl) dX4_doing_123) (fun H locs hT hS hK => ?_)
    refine W.widen (mo_c hm mm mo.rf).1 (mo_c hm mm mo.rf).2 ?_
    replace hm := hm.tr mm
    exact bX4_doing_p126 C hxt hkl t1 x1 y0 y0 (t.1 200 7) x2 v2 H locs hT hS hK hm ls h (lv_sub hl [1] rfl)
theorem bX4_doing_p113 {p : Program} {l : Launch} {e : Env} {s : State} {m : MethodId} {args : Array Value} {below : List Frame} {meth : Method} {c : Code} {D : va_G} {dA : Nat → ClassId} {a : Nat} {k : KP a} {t0 : CS} {r : Except Nat Nat} {t9 : CS} (C : cx p s m args meth c cX4_doing RX4 3 (some (.object "LettersOnStrike$Doing"))) (hxt : ∀ x ∈ c.exceptionTable.toList, False) (hkl : k.1 ≠ a ∧ l.stackTraces = false) : ∀ (t : CS) (x1 : Int32) (x2 : Nat) (H : Heap) (locs : List Loc) (hT : cW D dA a k t H) (hS : cS a s.heap H locs t0.2.2.2 2 t) (hK : kC D dA a k t.2.2.2 s) (hm : mo t0 t) (ls : Array Slot), C_X4_doing_p113 t x1 x2 = some (r, t9) → lv_has ls 3 [(0, .ref k.1), (1, .int x1), (2, .ref x2)] → W p l e (rmX4_doing t0 t9) s m args below meth c H locs (t.2.2.2 0 - t0.2.2.2 0) (t.2.2.2 1 - t0.2.2.2 1) (vx_MQ below (xQ D dA a k t0 t9 fR r) (xX D dA a k t0 t9 r) args s (t9.2.2.2 0 - t0.2.2.2 0) (t9.2.2.2 1 - t0.2.2.2 1) (ca a)) (F0 m 113 ls []) := by
  obtain ⟨hx, hb, hr, hml, hown, hts, hlocks⟩ := id C
  intro t x1 x2 H locs hT hS hK hm ls h hl
  have m9 : mo t t9 := mo_C_X4_doing_p113 h
  unfold C_X4_doing_p113 at h
  obtain ⟨t1, et1, h⟩ := lt1_ex h
  have m9 : mo t1 t9 := mo_C_X4_doing_p116 h
  refine n_new (ci := 14) (fs := [.int 0, .null, .null, .int 0, .int 0]) in_X14 tyX14 tyX14_ok rfl C hK hT hS q992 q993 q193 (fun j hj => by rcases (show j = 0 ∨ j = 1 ∨ j = 2 ∨ j = 3 ∨ j = 4 by omega) with rfl | rfl | rfl | rfl | rfl <;> rfl) (mo_n hm et1 m9) dX4_doing_113 (fun t_ H et_ hT hS hK => ?_)
  obtain rfl := et1.trans et_.symm
  refine W.widen (mo_n1 hm et1).1 (mo_n1 hm et1).2 ?_
  replace hm := hm.tr (mo.new et1)
  exact bX4_doing_p116 C hxt hkl t1 x1 x2 (t.2.2.2 0) H locs hT hS hK hm ls h (lv_sub hl [0, 1, 2] rfl)
theorem bX4_doing_p105 {p : Program} {l : Launch} {e : Env} {s : State} {m : MethodId} {args : Array Value} {below : List Frame} {meth : Method} {c : Code} {D : va_G} {dA : Nat → ClassId} {a : Nat} {k : KP a} {t0 : CS} {r : Except Nat Nat} {t9 : CS} (C : cx p s m args meth c cX4_doing RX4 3 (some (.object "LettersOnStrike$Doing"))) (hxt : ∀ x ∈ c.exceptionTable.toList, False) (hkl : k.1 ≠ a ∧ l.stackTraces = false) : ∀ (t : CS) (x1 : Int32) (y0 : Nat) (H : Heap) (locs : List Loc) (hT : cW D dA a k t H) (hS : cS a s.heap H locs t0.2.2.2 2 t) (hK : kC D dA a k t.2.2.2 s) (hm : mo t0 t) (ls : Array Slot), C_X4_doing_p105 t x1 y0 = some (r, t9) → lv_has ls 3 [(0, .ref k.1), (1, .int x1)] → W p l e (rmX4_doing t0 t9) s m args below meth c H locs (t.2.2.2 0 - t0.2.2.2 0) (t.2.2.2 1 - t0.2.2.2 1) (vx_MQ below (xQ D dA a k t0 t9 fR r) (xX D dA a k t0 t9 r) args s (t9.2.2.2 0 - t0.2.2.2 0) (t9.2.2.2 1 - t0.2.2.2 1) (ca a)) (F0 m 105 ls [.ref y0]) := by
  obtain ⟨hx, hb, hr, hml, hown, hts, hlocks⟩ := id C
  intro t x1 y0 H locs hT hS hK hm ls h hl
  have m9 : mo t t9 := mo_C_X4_doing_p105 h
  unfold C_X4_doing_p105 at h
  refine lv_astore_n (lv' := [(2, .ref y0), (0, .ref k.1), (1, .int x1)]) hx hb dX4_doing_105 rfl hl (by decide) rfl (fun ls hl => ?_)
  refine lv_aload_n hx hb dX4_doing_106 rfl (lv_at hl 1 rfl) ?_
  refine lv_sipush (v := 214) hx hb dX4_doing_107 (by decide) ?_
  rcases bdx_some h with ⟨q3, ht1, hr_⟩ | ⟨v2, t1, ht1, h⟩
  · subst hr_
    have mm : mo t t9 := mo_C_X4_want ht1
    exact ex_err C hxt hS (run_x (As := [.int (214 : Int32)]) (rest := []) C hK hT hS.2.1 (rv_T hK hT hkl.1) (mX4_want hkl ht1) q814 q816 qs17 q171 q817 ⟨rfl, rfl⟩ hdX4_want ⟨Nat.le_of_ble_eq_true rfl, Nat.le_of_ble_eq_true rfl⟩ (mo_c hm mm mo.rf) rfl hl.1 rfl (Nat.le_of_ble_eq_true rfl) dX4_doing_110) (mo_c hm mm mo.rf)
  · have mm : mo t t1 := mo_C_X4_want ht1
    have m9 : mo t1 t9 := mo_C_X4_doing_p113 h
    refine ex_okU hS hK (run_x (As := [.int (214 : Int32)]) (rest := []) C hK hT hS.2.1 (rv_T hK hT hkl.1) (mX4_want hkl ht1) q814 q816 qs17 q171 q817 ⟨rfl, rfl⟩ hdX4_want ⟨Nat.le_of_ble_eq_true rfl, Nat.le_of_ble_eq_true rfl⟩ (mo_c hm mm m9) rfl hl.1 rfl (Nat.le_of_ble_eq_true rfl) dX4_doing_110) (fun H locs hT hS hK => ?_)
    refine W.widen (mo_c hm mm mo.rf).1 (mo_c hm mm mo.rf).2 ?_
    replace hm := hm.tr mm
    exact bX4_doing_p113 C hxt hkl t1 x1 y0 H locs hT hS hK hm ls h (lv_sub hl [1, 2, 0] rfl)
theorem bX4_doing_p144 {p : Program} {l : Launch} {e : Env} {s : State} {m : MethodId} {args : Array Value} {below : List Frame} {meth : Method} {c : Code} {D : va_G} {dA : Nat → ClassId} {a : Nat} {k : KP a} {t0 : CS} {r : Except Nat Nat} {t9 : CS} (C : cx p s m args meth c cX4_doing RX4 3 (some (.object "LettersOnStrike$Doing"))) (hxt : ∀ x ∈ c.exceptionTable.toList, False) (hkl : k.1 ≠ a ∧ l.stackTraces = false) : ∀ (t : CS) (x1 : Int32) (y0 : Nat) (y1 : Nat) (y2 : Int32) (y3 : Nat) (H : Heap) (locs : List Loc) (hT : cW D dA a k t H) (hS : cS a s.heap H locs t0.2.2.2 2 t) (hK : kC D dA a k t.2.2.2 s) (hm : mo t0 t) (ls : Array Slot), C_X4_doing_p144 t x1 y0 y1 y2 y3 = some (r, t9) → lv_has ls 3 [(1, .int x1)] → W p l e (rmX4_doing t0 t9) s m args below meth c H locs (t.2.2.2 0 - t0.2.2.2 0) (t.2.2.2 1 - t0.2.2.2 1) (vx_MQ below (xQ D dA a k t0 t9 fR r) (xX D dA a k t0 t9 r) args s (t9.2.2.2 0 - t0.2.2.2 0) (t9.2.2.2 1 - t0.2.2.2 1) (ca a)) (F0 m 144 ls [.ref y3, .int y2, .ref y1, .ref y0]) := by
  obtain ⟨hx, hb, hr, hml, hown, hts, hlocks⟩ := id C
  intro t x1 y0 y1 y2 y3 H locs hT hS hK hm ls h hl
  have m9 : mo t t9 := mo_C_X4_doing_p144 h
  unfold C_X4_doing_p144 at h
  refine lv_null hx hb dX4_doing_144 ?_
  refine lv_iconst (v := 0) hx hb dX4_doing_145 (by decide) ?_
  refine lv_iload_n hx hb dX4_doing_146 rfl (lv_at hl 0 rfl) ?_
  obtain ⟨t1, ht1, h⟩ := bd1_some h
  refine wc_void hS hK (run_iN (As := [.int y2, .ref y3, .null, .int (0 : Int32), .int x1]) (rest := [.ref y0]) C hK hT hS.2.1 (mX14_init_n ht1) (nm998 hK.2.1) q999 q193 q1000 ⟨rfl, rfl⟩ hdX14_init_n ⟨Nat.le_of_ble_eq_true rfl, Nat.le_of_ble_eq_true rfl⟩ (mo_z m9) rfl hl.1 rfl (Nat.le_of_ble_eq_true rfl) dX4_doing_147) (fun H locs hT hS hK hNt1 => ?_)
  have mm : mo t t1 := mo.ni hNt1
  replace hm := hm.tr mm
  replace m9 : mo t1 t9 := mo.bk (funext fun i => hNt1 i (Nat.zero_le _)) m9
  refine W.widen (mo_s mm).1 (mo_s mm).2 ?_
  cases h
  exact toX (ec_r C (Or.inl ⟨_, rfl⟩) hT hS rfl dX4_doing_150)
theorem bX4_doing_p135 {p : Program} {l : Launch} {e : Env} {s : State} {m : MethodId} {args : Array Value} {below : List Frame} {meth : Method} {c : Code} {D : va_G} {dA : Nat → ClassId} {a : Nat} {k : KP a} {t0 : CS} {r : Except Nat Nat} {t9 : CS} (C : cx p s m args meth c cX4_doing RX4 3 (some (.object "LettersOnStrike$Doing"))) (hxt : ∀ x ∈ c.exceptionTable.toList, False) (hkl : k.1 ≠ a ∧ l.stackTraces = false) : ∀ (t : CS) (x1 : Int32) (y0 : Nat) (H : Heap) (locs : List Loc) (hT : cW D dA a k t H) (hS : cS a s.heap H locs t0.2.2.2 2 t) (hK : kC D dA a k t.2.2.2 s) (hm : mo t0 t) (ls : Array Slot), C_X4_doing_p135 t x1 y0 = some (r, t9) → lv_has ls 3 [(0, .ref k.1), (1, .int x1)] → W p l e (rmX4_doing t0 t9) s m args below meth c H locs (t.2.2.2 0 - t0.2.2.2 0) (t.2.2.2 1 - t0.2.2.2 1) (vx_MQ below (xQ D dA a k t0 t9 fR r) (xX D dA a k t0 t9 r) args s (t9.2.2.2 0 - t0.2.2.2 0) (t9.2.2.2 1 - t0.2.2.2 1) (ca a)) (F0 m 135 ls [.ref y0]) := by
  obtain ⟨hx, hb, hr, hml, hown, hts, hlocks⟩ := id C
  intro t x1 y0 H locs hT hS hK hm ls h hl
  have m9 : mo t t9 := mo_C_X4_doing_p135 h
  unfold C_X4_doing_p135 at h
  refine lv_dup hx hb dX4_doing_135 rfl ?_
  refine lv_aload_n hx hb dX4_doing_136 rfl (lv_at hl 0 rfl) ?_
  refine c_getT C hK hT hkl.1 7 (by decide) q524 rfl (v := .int (t.1 200 7)) rfl dX4_doing_137 ?_
  refine lv_aload_n hx hb dX4_doing_140 rfl (lv_at hl 0 rfl) ?_
  rcases bdx_some h with ⟨q3, ht1, hr_⟩ | ⟨v2, t1, ht1, h⟩
  · subst hr_
    have mm : mo t t9 := mo_C_X4_letters ht1
    exact ex_err C hxt hS (run_x (As := []) (rest := [.int (t.1 200 7), .ref y0, .ref y0]) C hK hT hS.2.1 (rv_T hK hT hkl.1) (mX4_letters hkl ht1) q988 q990 qs22 q171 q991 ⟨rfl, rfl⟩ hdX4_letters ⟨Nat.le_of_ble_eq_true rfl, Nat.le_of_ble_eq_true rfl⟩ (mo_c hm mm mo.rf) rfl hl.1 rfl (Nat.le_of_ble_eq_true rfl) dX4_doing_141) (mo_c hm mm mo.rf)
  · have mm : mo t t1 := mo_C_X4_letters ht1
    have m9 : mo t1 t9 := mo_C_X4_doing_p144 h
    refine ex_okR hS hK (run_x (As := []) (rest := [.int (t.1 200 7), .ref y0, .ref y0]) C hK hT hS.2.1 (rv_T hK hT hkl.1) (mX4_letters hkl ht1) q988 q990 qs22 q171 q991 ⟨rfl, rfl⟩ hdX4_letters ⟨Nat.le_of_ble_eq_true rfl, Nat.le_of_ble_eq_true rfl⟩ (mo_c hm mm m9) rfl hl.1 rfl (Nat.le_of_ble_eq_true rfl) dX4_doing_141) (fun H locs hT hS hK => ?_)
    refine W.widen (mo_c hm mm mo.rf).1 (mo_c hm mm mo.rf).2 ?_
    replace hm := hm.tr mm
    exact bX4_doing_p144 C hxt hkl t1 x1 y0 y0 (t.1 200 7) v2 H locs hT hS hK hm ls h (lv_sub hl [1] rfl)
theorem bX4_doing_p176 {p : Program} {l : Launch} {e : Env} {s : State} {m : MethodId} {args : Array Value} {below : List Frame} {meth : Method} {c : Code} {D : va_G} {dA : Nat → ClassId} {a : Nat} {k : KP a} {t0 : CS} {r : Except Nat Nat} {t9 : CS} (C : cx p s m args meth c cX4_doing RX4 3 (some (.object "LettersOnStrike$Doing"))) (hxt : ∀ x ∈ c.exceptionTable.toList, False) (hkl : k.1 ≠ a ∧ l.stackTraces = false) : ∀ (t : CS) (x1 : Int32) (y0 : Nat) (y1 : Nat) (y2 : Int32) (y3 : Nat) (y5 : Int32) (H : Heap) (locs : List Loc) (hT : cW D dA a k t H) (hS : cS a s.heap H locs t0.2.2.2 2 t) (hK : kC D dA a k t.2.2.2 s) (hm : mo t0 t) (ls : Array Slot), C_X4_doing_p176 t x1 y0 y1 y2 y3 y5 = some (r, t9) → lv_has ls 3 [(1, .int x1)] → W p l e (rmX4_doing t0 t9) s m args below meth c H locs (t.2.2.2 0 - t0.2.2.2 0) (t.2.2.2 1 - t0.2.2.2 1) (vx_MQ below (xQ D dA a k t0 t9 fR r) (xX D dA a k t0 t9 r) args s (t9.2.2.2 0 - t0.2.2.2 0) (t9.2.2.2 1 - t0.2.2.2 1) (ca a)) (F0 m 176 ls [.int y5, .null, .ref y3, .int y2, .ref y1, .ref y0]) := by
  obtain ⟨hx, hb, hr, hml, hown, hts, hlocks⟩ := id C
  intro t x1 y0 y1 y2 y3 y5 H locs hT hS hK hm ls h hl
  have m9 : mo t t9 := mo_C_X4_doing_p176 h
  unfold C_X4_doing_p176 at h
  refine lv_iload_n hx hb dX4_doing_176 rfl (lv_at hl 0 rfl) ?_
  obtain ⟨t1, ht1, h⟩ := bd1_some h
  refine wc_void hS hK (run_iN (As := [.int y2, .ref y3, .null, .int y5, .int x1]) (rest := [.ref y0]) C hK hT hS.2.1 (mX14_init_n ht1) (nm998 hK.2.1) q999 q193 q1000 ⟨rfl, rfl⟩ hdX14_init_n ⟨Nat.le_of_ble_eq_true rfl, Nat.le_of_ble_eq_true rfl⟩ (mo_z m9) rfl hl.1 rfl (Nat.le_of_ble_eq_true rfl) dX4_doing_177) (fun H locs hT hS hK hNt1 => ?_)
  have mm : mo t t1 := mo.ni hNt1
  replace hm := hm.tr mm
  replace m9 : mo t1 t9 := mo.bk (funext fun i => hNt1 i (Nat.zero_le _)) m9
  refine W.widen (mo_s mm).1 (mo_s mm).2 ?_
  cases h
  exact toX (ec_r C (Or.inl ⟨_, rfl⟩) hT hS rfl dX4_doing_180)
theorem bX4_doing_p159 {p : Program} {l : Launch} {e : Env} {s : State} {m : MethodId} {args : Array Value} {below : List Frame} {meth : Method} {c : Code} {D : va_G} {dA : Nat → ClassId} {a : Nat} {k : KP a} {t0 : CS} {r : Except Nat Nat} {t9 : CS} (C : cx p s m args meth c cX4_doing RX4 3 (some (.object "LettersOnStrike$Doing"))) (hxt : ∀ x ∈ c.exceptionTable.toList, False) (hkl : k.1 ≠ a ∧ l.stackTraces = false) : ∀ (t : CS) (x1 : Int32) (x2 : Nat) (y0 : Nat) (H : Heap) (locs : List Loc) (hT : cW D dA a k t H) (hS : cS a s.heap H locs t0.2.2.2 2 t) (hK : kC D dA a k t.2.2.2 s) (hm : mo t0 t) (ls : Array Slot), C_X4_doing_p159 t x1 x2 y0 = some (r, t9) → lv_has ls 3 [(0, .ref k.1), (1, .int x1), (2, .ref x2)] → W p l e (rmX4_doing t0 t9) s m args below meth c H locs (t.2.2.2 0 - t0.2.2.2 0) (t.2.2.2 1 - t0.2.2.2 1) (vx_MQ below (xQ D dA a k t0 t9 fR r) (xX D dA a k t0 t9 r) args s (t9.2.2.2 0 - t0.2.2.2 0) (t9.2.2.2 1 - t0.2.2.2 1) (ca a)) (F0 m 159 ls [.ref y0]) := by
  obtain ⟨hx, hb, hr, hml, hown, hts, hlocks⟩ := id C
  intro t x1 x2 y0 H locs hT hS hK hm ls h hl
  have m9 : mo t t9 := mo_C_X4_doing_p159 h
  unfold C_X4_doing_p159 at h
  refine lv_dup hx hb dX4_doing_159 rfl ?_
  refine lv_aload_n hx hb dX4_doing_160 rfl (lv_at hl 0 rfl) ?_
  refine c_getT C hK hT hkl.1 7 (by decide) q524 rfl (v := .int (t.1 200 7)) rfl dX4_doing_161 ?_
  refine lv_aload_n hx hb dX4_doing_164 rfl (lv_at hl 2 rfl) ?_
  refine lv_null hx hb dX4_doing_165 ?_
  refine lv_aload_n hx hb dX4_doing_166 rfl (lv_at hl 0 rfl) ?_
  refine lv_sipush (v := 215) hx hb dX4_doing_167 (by decide) ?_
  refine lv_iconst (v := 1) hx hb dX4_doing_170 (by decide) ?_
  refine lv_bipush (v := 99) hx hb dX4_doing_171 (by decide) ?_
  rcases bdx_some h with ⟨q3, ht1, hr_⟩ | ⟨v2, t1, ht1, h⟩
  · subst hr_
    have mm : mo t t9 := mo_C_X4_behind ht1
    exact ex_err C hxt hS (run_x (As := [.int (215 : Int32), .int (1 : Int32), .int (99 : Int32)]) (rest := [.null, .ref x2, .int (t.1 200 7), .ref y0, .ref y0]) C hK hT hS.2.1 (rv_T hK hT hkl.1) (mX4_behind hkl ht1) q994 q996 qs23 q171 q997 ⟨rfl, rfl⟩ hdX4_behind ⟨Nat.le_of_ble_eq_true rfl, Nat.le_of_ble_eq_true rfl⟩ (mo_c hm mm mo.rf) rfl hl.1 rfl (Nat.le_of_ble_eq_true rfl) dX4_doing_173) (mo_c hm mm mo.rf)
  · have mm : mo t t1 := mo_C_X4_behind ht1
    have m9 : mo t1 t9 := mo_C_X4_doing_p176 h
    refine ex_okI hS hK (run_x (As := [.int (215 : Int32), .int (1 : Int32), .int (99 : Int32)]) (rest := [.null, .ref x2, .int (t.1 200 7), .ref y0, .ref y0]) C hK hT hS.2.1 (rv_T hK hT hkl.1) (mX4_behind hkl ht1) q994 q996 qs23 q171 q997 ⟨rfl, rfl⟩ hdX4_behind ⟨Nat.le_of_ble_eq_true rfl, Nat.le_of_ble_eq_true rfl⟩ (mo_c hm mm m9) rfl hl.1 rfl (Nat.le_of_ble_eq_true rfl) dX4_doing_173) (fun H locs hT hS hK => ?_)
    refine W.widen (mo_c hm mm mo.rf).1 (mo_c hm mm mo.rf).2 ?_
    replace hm := hm.tr mm
    exact bX4_doing_p176 C hxt hkl t1 x1 y0 y0 (t.1 200 7) x2 v2 H locs hT hS hK hm ls h (lv_sub hl [1] rfl)
theorem bX4_doing_p155 {p : Program} {l : Launch} {e : Env} {s : State} {m : MethodId} {args : Array Value} {below : List Frame} {meth : Method} {c : Code} {D : va_G} {dA : Nat → ClassId} {a : Nat} {k : KP a} {t0 : CS} {r : Except Nat Nat} {t9 : CS} (C : cx p s m args meth c cX4_doing RX4 3 (some (.object "LettersOnStrike$Doing"))) (hxt : ∀ x ∈ c.exceptionTable.toList, False) (hkl : k.1 ≠ a ∧ l.stackTraces = false) : ∀ (t : CS) (x1 : Int32) (y0 : Nat) (H : Heap) (locs : List Loc) (hT : cW D dA a k t H) (hS : cS a s.heap H locs t0.2.2.2 2 t) (hK : kC D dA a k t.2.2.2 s) (hm : mo t0 t) (ls : Array Slot), C_X4_doing_p155 t x1 y0 = some (r, t9) → lv_has ls 3 [(0, .ref k.1), (1, .int x1)] → W p l e (rmX4_doing t0 t9) s m args below meth c H locs (t.2.2.2 0 - t0.2.2.2 0) (t.2.2.2 1 - t0.2.2.2 1) (vx_MQ below (xQ D dA a k t0 t9 fR r) (xX D dA a k t0 t9 r) args s (t9.2.2.2 0 - t0.2.2.2 0) (t9.2.2.2 1 - t0.2.2.2 1) (ca a)) (F0 m 155 ls [.ref y0]) := by
  obtain ⟨hx, hb, hr, hml, hown, hts, hlocks⟩ := id C
  intro t x1 y0 H locs hT hS hK hm ls h hl
  have m9 : mo t t9 := mo_C_X4_doing_p155 h
  unfold C_X4_doing_p155 at h
  refine lv_astore_n (lv' := [(2, .ref y0), (0, .ref k.1), (1, .int x1)]) hx hb dX4_doing_155 rfl hl (by decide) rfl (fun ls hl => ?_)
  obtain ⟨t1, et1, h⟩ := lt1_ex h
  have m9 : mo t1 t9 := mo_C_X4_doing_p159 h
  refine n_new (ci := 14) (fs := [.int 0, .null, .null, .int 0, .int 0]) in_X14 tyX14 tyX14_ok rfl C hK hT hS q992 q993 q193 (fun j hj => by rcases (show j = 0 ∨ j = 1 ∨ j = 2 ∨ j = 3 ∨ j = 4 by omega) with rfl | rfl | rfl | rfl | rfl <;> rfl) (mo_n hm et1 m9) dX4_doing_156 (fun t_ H et_ hT hS hK => ?_)
  obtain rfl := et1.trans et_.symm
  refine W.widen (mo_n1 hm et1).1 (mo_n1 hm et1).2 ?_
  replace hm := hm.tr (mo.new et1)
  exact bX4_doing_p159 C hxt hkl t1 x1 y0 (t.2.2.2 0) H locs hT hS hK hm ls h (lv_sub hl [1, 2, 0] rfl)
theorem bX4_doing_p186 {p : Program} {l : Launch} {e : Env} {s : State} {m : MethodId} {args : Array Value} {below : List Frame} {meth : Method} {c : Code} {D : va_G} {dA : Nat → ClassId} {a : Nat} {k : KP a} {t0 : CS} {r : Except Nat Nat} {t9 : CS} (C : cx p s m args meth c cX4_doing RX4 3 (some (.object "LettersOnStrike$Doing"))) (hxt : ∀ x ∈ c.exceptionTable.toList, False) (hkl : k.1 ≠ a ∧ l.stackTraces = false) : ∀ (t : CS) (y0 : Nat) (H : Heap) (locs : List Loc) (hT : cW D dA a k t H) (hS : cS a s.heap H locs t0.2.2.2 2 t) (hK : kC D dA a k t.2.2.2 s) (hm : mo t0 t) (ls : Array Slot), C_X4_doing_p186 t y0 = some (r, t9) → lv_has ls 3 [] → W p l e (rmX4_doing t0 t9) s m args below meth c H locs (t.2.2.2 0 - t0.2.2.2 0) (t.2.2.2 1 - t0.2.2.2 1) (vx_MQ below (xQ D dA a k t0 t9 fR r) (xX D dA a k t0 t9 r) args s (t9.2.2.2 0 - t0.2.2.2 0) (t9.2.2.2 1 - t0.2.2.2 1) (ca a)) (F0 m 186 ls [.ref y0]) := by
  obtain ⟨hx, hb, hr, hml, hown, hts, hlocks⟩ := id C
  intro t y0 H locs hT hS hK hm ls h hl
  have m9 : mo t t9 := mo_C_X4_doing_p186 h
  unfold C_X4_doing_p186 at h
  cases h
  exact toX (ec_r C (Or.inl ⟨_, rfl⟩) hT hS rfl dX4_doing_186)
theorem bX4_doing_p204 {p : Program} {l : Launch} {e : Env} {s : State} {m : MethodId} {args : Array Value} {below : List Frame} {meth : Method} {c : Code} {D : va_G} {dA : Nat → ClassId} {a : Nat} {k : KP a} {t0 : CS} {r : Except Nat Nat} {t9 : CS} (C : cx p s m args meth c cX4_doing RX4 3 (some (.object "LettersOnStrike$Doing"))) (hxt : ∀ x ∈ c.exceptionTable.toList, False) (hkl : k.1 ≠ a ∧ l.stackTraces = false) : ∀ (t : CS) (x1 : Int32) (y0 : Nat) (y1 : Nat) (y2 : Int32) (y5 : Int32) (H : Heap) (locs : List Loc) (hT : cW D dA a k t H) (hS : cS a s.heap H locs t0.2.2.2 2 t) (hK : kC D dA a k t.2.2.2 s) (hm : mo t0 t) (ls : Array Slot), C_X4_doing_p204 t x1 y0 y1 y2 y5 = some (r, t9) → lv_has ls 3 [(1, .int x1)] → W p l e (rmX4_doing t0 t9) s m args below meth c H locs (t.2.2.2 0 - t0.2.2.2 0) (t.2.2.2 1 - t0.2.2.2 1) (vx_MQ below (xQ D dA a k t0 t9 fR r) (xX D dA a k t0 t9 r) args s (t9.2.2.2 0 - t0.2.2.2 0) (t9.2.2.2 1 - t0.2.2.2 1) (ca a)) (F0 m 204 ls [.int y5, .null, .null, .int y2, .ref y1, .ref y0]) := by
  obtain ⟨hx, hb, hr, hml, hown, hts, hlocks⟩ := id C
  intro t x1 y0 y1 y2 y5 H locs hT hS hK hm ls h hl
  have m9 : mo t t9 := mo_C_X4_doing_p204 h
  unfold C_X4_doing_p204 at h
  refine lv_iload_n hx hb dX4_doing_204 rfl (lv_at hl 0 rfl) ?_
  obtain ⟨t1, ht1, h⟩ := bd1_some h
  refine wc_void hS hK (run_iN (As := [.int y2, .null, .null, .int y5, .int x1]) (rest := [.ref y0]) C hK hT hS.2.1 (mX14_init_n_n ht1) (nm998 hK.2.1) q999 q193 q1000 ⟨rfl, rfl⟩ hdX14_init_n_n ⟨Nat.le_of_ble_eq_true rfl, Nat.le_of_ble_eq_true rfl⟩ (mo_z m9) rfl hl.1 rfl (Nat.le_of_ble_eq_true rfl) dX4_doing_205) (fun H locs hT hS hK hNt1 => ?_)
  have mm : mo t t1 := mo.ni hNt1
  replace hm := hm.tr mm
  replace m9 : mo t1 t9 := mo.bk (funext fun i => hNt1 i (Nat.zero_le _)) m9
  refine W.widen (mo_s mm).1 (mo_s mm).2 ?_
  cases h
  exact toX (ec_r C (Or.inl ⟨_, rfl⟩) hT hS rfl dX4_doing_208)
theorem bX4_doing_p190 {p : Program} {l : Launch} {e : Env} {s : State} {m : MethodId} {args : Array Value} {below : List Frame} {meth : Method} {c : Code} {D : va_G} {dA : Nat → ClassId} {a : Nat} {k : KP a} {t0 : CS} {r : Except Nat Nat} {t9 : CS} (C : cx p s m args meth c cX4_doing RX4 3 (some (.object "LettersOnStrike$Doing"))) (hxt : ∀ x ∈ c.exceptionTable.toList, False) (hkl : k.1 ≠ a ∧ l.stackTraces = false) : ∀ (t : CS) (x1 : Int32) (y0 : Nat) (H : Heap) (locs : List Loc) (hT : cW D dA a k t H) (hS : cS a s.heap H locs t0.2.2.2 2 t) (hK : kC D dA a k t.2.2.2 s) (hm : mo t0 t) (ls : Array Slot), C_X4_doing_p190 t x1 y0 = some (r, t9) → lv_has ls 3 [(0, .ref k.1), (1, .int x1)] → W p l e (rmX4_doing t0 t9) s m args below meth c H locs (t.2.2.2 0 - t0.2.2.2 0) (t.2.2.2 1 - t0.2.2.2 1) (vx_MQ below (xQ D dA a k t0 t9 fR r) (xX D dA a k t0 t9 r) args s (t9.2.2.2 0 - t0.2.2.2 0) (t9.2.2.2 1 - t0.2.2.2 1) (ca a)) (F0 m 190 ls [.ref y0]) := by
  obtain ⟨hx, hb, hr, hml, hown, hts, hlocks⟩ := id C
  intro t x1 y0 H locs hT hS hK hm ls h hl
  have m9 : mo t t9 := mo_C_X4_doing_p190 h
  unfold C_X4_doing_p190 at h
  refine lv_dup hx hb dX4_doing_190 rfl ?_
  refine lv_aload_n hx hb dX4_doing_191 rfl (lv_at hl 0 rfl) ?_
  refine c_getT C hK hT hkl.1 7 (by decide) q524 rfl (v := .int (t.1 200 7)) rfl dX4_doing_192 ?_
  refine lv_null hx hb dX4_doing_195 ?_
  refine lv_null hx hb dX4_doing_196 ?_
  refine lv_aload_n hx hb dX4_doing_197 rfl (lv_at hl 0 rfl) ?_
  refine lv_iconst (v := 0) hx hb dX4_doing_198 (by decide) ?_
  refine lv_bipush (v := 7) hx hb dX4_doing_199 (by decide) ?_
  rcases bdx_some h with ⟨q3, ht1, hr_⟩ | ⟨v2, t1, ht1, h⟩
  · subst hr_
    have mm : mo t t9 := mo_C_X4_number ht1
    exact ex_err C hxt hS (run_x (As := [.int (0 : Int32), .int (7 : Int32)]) (rest := [.null, .null, .int (t.1 200 7), .ref y0, .ref y0]) C hK hT hS.2.1 (rv_T hK hT hkl.1) (mX4_number hkl ht1) q788 q790 qs15 q171 q791 ⟨rfl, rfl⟩ hdX4_number ⟨Nat.le_of_ble_eq_true rfl, Nat.le_of_ble_eq_true rfl⟩ (mo_c hm mm mo.rf) rfl hl.1 rfl (Nat.le_of_ble_eq_true rfl) dX4_doing_201) (mo_c hm mm mo.rf)
  · have mm : mo t t1 := mo_C_X4_number ht1
    have m9 : mo t1 t9 := mo_C_X4_doing_p204 h
    refine ex_okI hS hK (run_x (As := [.int (0 : Int32), .int (7 : Int32)]) (rest := [.null, .null, .int (t.1 200 7), .ref y0, .ref y0]) C hK hT hS.2.1 (rv_T hK hT hkl.1) (mX4_number hkl ht1) q788 q790 qs15 q171 q791 ⟨rfl, rfl⟩ hdX4_number ⟨Nat.le_of_ble_eq_true rfl, Nat.le_of_ble_eq_true rfl⟩ (mo_c hm mm m9) rfl hl.1 rfl (Nat.le_of_ble_eq_true rfl) dX4_doing_201) (fun H locs hT hS hK => ?_)
    refine W.widen (mo_c hm mm mo.rf).1 (mo_c hm mm mo.rf).2 ?_
    replace hm := hm.tr mm
    exact bX4_doing_p204 C hxt hkl t1 x1 y0 y0 (t.1 200 7) v2 H locs hT hS hK hm ls h (lv_sub hl [1] rfl)
theorem bX4_doing_p226 {p : Program} {l : Launch} {e : Env} {s : State} {m : MethodId} {args : Array Value} {below : List Frame} {meth : Method} {c : Code} {D : va_G} {dA : Nat → ClassId} {a : Nat} {k : KP a} {t0 : CS} {r : Except Nat Nat} {t9 : CS} (C : cx p s m args meth c cX4_doing RX4 3 (some (.object "LettersOnStrike$Doing"))) (hxt : ∀ x ∈ c.exceptionTable.toList, False) (hkl : k.1 ≠ a ∧ l.stackTraces = false) : ∀ (t : CS) (x1 : Int32) (y0 : Nat) (y1 : Nat) (y2 : Int32) (y5 : Int32) (H : Heap) (locs : List Loc) (hT : cW D dA a k t H) (hS : cS a s.heap H locs t0.2.2.2 2 t) (hK : kC D dA a k t.2.2.2 s) (hm : mo t0 t) (ls : Array Slot), C_X4_doing_p226 t x1 y0 y1 y2 y5 = some (r, t9) → lv_has ls 3 [(1, .int x1)] → W p l e (rmX4_doing t0 t9) s m args below meth c H locs (t.2.2.2 0 - t0.2.2.2 0) (t.2.2.2 1 - t0.2.2.2 1) (vx_MQ below (xQ D dA a k t0 t9 fR r) (xX D dA a k t0 t9 r) args s (t9.2.2.2 0 - t0.2.2.2 0) (t9.2.2.2 1 - t0.2.2.2 1) (ca a)) (F0 m 226 ls [.int y5, .null, .null, .int y2, .ref y1, .ref y0]) := by
  obtain ⟨hx, hb, hr, hml, hown, hts, hlocks⟩ := id C
  intro t x1 y0 y1 y2 y5 H locs hT hS hK hm ls h hl
  have m9 : mo t t9 := mo_C_X4_doing_p226 h
  unfold C_X4_doing_p226 at h
  refine lv_iload_n hx hb dX4_doing_226 rfl (lv_at hl 0 rfl) ?_
  obtain ⟨t1, ht1, h⟩ := bd1_some h
  refine wc_void hS hK (run_iN (As := [.int y2, .null, .null, .int y5, .int x1]) (rest := [.ref y0]) C hK hT hS.2.1 (mX14_init_n_n ht1) (nm998 hK.2.1) q999 q193 q1000 ⟨rfl, rfl⟩ hdX14_init_n_n ⟨Nat.le_of_ble_eq_true rfl, Nat.le_of_ble_eq_true rfl⟩ (mo_z m9) rfl hl.1 rfl (Nat.le_of_ble_eq_true rfl) dX4_doing_227) (fun H locs hT hS hK hNt1 => ?_)
  have mm : mo t t1 := mo.ni hNt1
  replace hm := hm.tr mm
  replace m9 : mo t1 t9 := mo.bk (funext fun i => hNt1 i (Nat.zero_le _)) m9
  refine W.widen (mo_s mm).1 (mo_s mm).2 ?_
  cases h
  exact toX (ec_r C (Or.inl ⟨_, rfl⟩) hT hS rfl dX4_doing_230)
theorem bX4_doing_p212 {p : Program} {l : Launch} {e : Env} {s : State} {m : MethodId} {args : Array Value} {below : List Frame} {meth : Method} {c : Code} {D : va_G} {dA : Nat → ClassId} {a : Nat} {k : KP a} {t0 : CS} {r : Except Nat Nat} {t9 : CS} (C : cx p s m args meth c cX4_doing RX4 3 (some (.object "LettersOnStrike$Doing"))) (hxt : ∀ x ∈ c.exceptionTable.toList, False) (hkl : k.1 ≠ a ∧ l.stackTraces = false) : ∀ (t : CS) (x1 : Int32) (y0 : Nat) (H : Heap) (locs : List Loc) (hT : cW D dA a k t H) (hS : cS a s.heap H locs t0.2.2.2 2 t) (hK : kC D dA a k t.2.2.2 s) (hm : mo t0 t) (ls : Array Slot), C_X4_doing_p212 t x1 y0 = some (r, t9) → lv_has ls 3 [(0, .ref k.1), (1, .int x1)] → W p l e (rmX4_doing t0 t9) s m args below meth c H locs (t.2.2.2 0 - t0.2.2.2 0) (t.2.2.2 1 - t0.2.2.2 1) (vx_MQ below (xQ D dA a k t0 t9 fR r) (xX D dA a k t0 t9 r) args s (t9.2.2.2 0 - t0.2.2.2 0) (t9.2.2.2 1 - t0.2.2.2 1) (ca a)) (F0 m 212 ls [.ref y0]) := by
  obtain ⟨hx, hb, hr, hml, hown, hts, hlocks⟩ := id C
  intro t x1 y0 H locs hT hS hK hm ls h hl
  have m9 : mo t t9 := mo_C_X4_doing_p212 h
  unfold C_X4_doing_p212 at h
  refine lv_dup hx hb dX4_doing_212 rfl ?_
  refine lv_aload_n hx hb dX4_doing_213 rfl (lv_at hl 0 rfl) ?_
  refine c_getT C hK hT hkl.1 7 (by decide) q524 rfl (v := .int (t.1 200 7)) rfl dX4_doing_214 ?_
  refine lv_null hx hb dX4_doing_217 ?_
  refine lv_null hx hb dX4_doing_218 ?_
  refine lv_aload_n hx hb dX4_doing_219 rfl (lv_at hl 0 rfl) ?_
  refine lv_iconst (v := 1) hx hb dX4_doing_220 (by decide) ?_
  refine lv_bipush (v := 99) hx hb dX4_doing_221 (by decide) ?_
  rcases bdx_some h with ⟨q3, ht1, hr_⟩ | ⟨v2, t1, ht1, h⟩
  · subst hr_
    have mm : mo t t9 := mo_C_X4_number ht1
    exact ex_err C hxt hS (run_x (As := [.int (1 : Int32), .int (99 : Int32)]) (rest := [.null, .null, .int (t.1 200 7), .ref y0, .ref y0]) C hK hT hS.2.1 (rv_T hK hT hkl.1) (mX4_number hkl ht1) q788 q790 qs15 q171 q791 ⟨rfl, rfl⟩ hdX4_number ⟨Nat.le_of_ble_eq_true rfl, Nat.le_of_ble_eq_true rfl⟩ (mo_c hm mm mo.rf) rfl hl.1 rfl (Nat.le_of_ble_eq_true rfl) dX4_doing_223) (mo_c hm mm mo.rf)
  · have mm : mo t t1 := mo_C_X4_number ht1
    have m9 : mo t1 t9 := mo_C_X4_doing_p226 h
    refine ex_okI hS hK (run_x (As := [.int (1 : Int32), .int (99 : Int32)]) (rest := [.null, .null, .int (t.1 200 7), .ref y0, .ref y0]) C hK hT hS.2.1 (rv_T hK hT hkl.1) (mX4_number hkl ht1) q788 q790 qs15 q171 q791 ⟨rfl, rfl⟩ hdX4_number ⟨Nat.le_of_ble_eq_true rfl, Nat.le_of_ble_eq_true rfl⟩ (mo_c hm mm m9) rfl hl.1 rfl (Nat.le_of_ble_eq_true rfl) dX4_doing_223) (fun H locs hT hS hK => ?_)
    refine W.widen (mo_c hm mm mo.rf).1 (mo_c hm mm mo.rf).2 ?_
    replace hm := hm.tr mm
    exact bX4_doing_p226 C hxt hkl t1 x1 y0 y0 (t.1 200 7) v2 H locs hT hS hK hm ls h (lv_sub hl [1] rfl)
theorem bX4_doing {p : Program} {l : Launch} {e : Env} {s : State} {m : MethodId} {args : Array Value} {below : List Frame} {meth : Method} {c : Code} {D : va_G} {dA : Nat → ClassId} {a : Nat} {k : KP a} {t0 : CS} {r : Except Nat Nat} {t9 : CS} (C : cx p s m args meth c cX4_doing RX4 3 (some (.object "LettersOnStrike$Doing"))) (hxt : ∀ x ∈ c.exceptionTable.toList, False) (hkl : k.1 ≠ a ∧ l.stackTraces = false) : ∀ (t : CS) (x1 : Int32) (H : Heap) (locs : List Loc) (hT : cW D dA a k t H) (hS : cS a s.heap H locs t0.2.2.2 2 t) (hK : kC D dA a k t.2.2.2 s) (hm : mo t0 t) (ls : Array Slot), C_X4_doing t x1 = some (r, t9) → lv_has ls 3 [(0, .ref k.1), (1, .int x1)] → W p l e (rmX4_doing t0 t9) s m args below meth c H locs (t.2.2.2 0 - t0.2.2.2 0) (t.2.2.2 1 - t0.2.2.2 1) (vx_MQ below (xQ D dA a k t0 t9 fR r) (xX D dA a k t0 t9 r) args s (t9.2.2.2 0 - t0.2.2.2 0) (t9.2.2.2 1 - t0.2.2.2 1) (ca a)) (F0 m 0 ls []) := by
  obtain ⟨hx, hb, hr, hml, hown, hts, hlocks⟩ := id C
  intro t x1 H locs hT hS hK hm ls h hl
  have m9 : mo t t9 := mo_C_X4_doing h
  unfold C_X4_doing at h
  refine lv_aload_n hx hb dX4_doing_0 rfl (lv_at hl 0 rfl) ?_
  refine c_getT C hK hT hkl.1 7 (by decide) q524 rfl (v := .int (t.1 200 7)) rfl dX4_doing_1 ?_
  refine lv_topi (fun v1 ev1 => ?_)
  replace h := lt1_sub ev1 h
  by_cases c : v1 = (204 : Int32)
  · replace h := if_t c h
    rw [c]
    refine lv_tableIn (off := 48) (tgt := 52) hx hb dX4_doing_4 (by decide) (by decide) rfl (by decide) ?_
    refine lv_aload_n hx hb dX4_doing_52 rfl (lv_at hl 0 rfl) ?_
    rcases bdx_some h with ⟨q4, ht2, hr_⟩ | ⟨v3, t2, ht2, h⟩
    · subst hr_
      have mm : mo t t9 := mo_C_X4_letters ht2
      exact ex_err C hxt hS (run_x (As := []) (rest := []) C hK hT hS.2.1 (rv_T hK hT hkl.1) (mX4_letters hkl ht2) q988 q990 qs22 q171 q991 ⟨rfl, rfl⟩ hdX4_letters ⟨Nat.le_of_ble_eq_true rfl, Nat.le_of_ble_eq_true rfl⟩ (mo_c hm mm mo.rf) rfl hl.1 rfl (Nat.le_of_ble_eq_true rfl) dX4_doing_53) (mo_c hm mm mo.rf)
    · have mm : mo t t2 := mo_C_X4_letters ht2
      have m9 : mo t2 t9 := mo_C_X4_doing_p56 h
      refine ex_okR hS hK (run_x (As := []) (rest := []) C hK hT hS.2.1 (rv_T hK hT hkl.1) (mX4_letters hkl ht2) q988 q990 qs22 q171 q991 ⟨rfl, rfl⟩ hdX4_letters ⟨Nat.le_of_ble_eq_true rfl, Nat.le_of_ble_eq_true rfl⟩ (mo_c hm mm m9) rfl hl.1 rfl (Nat.le_of_ble_eq_true rfl) dX4_doing_53) (fun H locs hT hS hK => ?_)
      refine W.widen (mo_c hm mm mo.rf).1 (mo_c hm mm mo.rf).2 ?_
      replace hm := hm.tr mm
      exact bX4_doing_p56 C hxt hkl t2 x1 v3 H locs hT hS hK hm ls h (lv_sub hl [0, 1] rfl)
  replace h := if_f c h
  have g0 := tI_ne (k := 204) (by decide) c
  by_cases c : v1 = (205 : Int32)
  · replace h := if_t c h
    rw [c]
    refine lv_tableIn (off := 78) (tgt := 82) hx hb dX4_doing_4 (by decide) (by decide) rfl (by decide) ?_
    obtain ⟨t5, et5, h⟩ := lt1_ex h
    have m9 : mo t5 t9 := mo_C_X4_doing_p85 h
    refine n_new (ci := 14) (fs := [.int 0, .null, .null, .int 0, .int 0]) in_X14 tyX14 tyX14_ok rfl C hK hT hS q992 q993 q193 (fun j hj => by rcases (show j = 0 ∨ j = 1 ∨ j = 2 ∨ j = 3 ∨ j = 4 by omega) with rfl | rfl | rfl | rfl | rfl <;> rfl) (mo_n hm et5 m9) dX4_doing_82 (fun t_ H et_ hT hS hK => ?_)
    obtain rfl := et5.trans et_.symm
    refine W.widen (mo_n1 hm et5).1 (mo_n1 hm et5).2 ?_
    replace hm := hm.tr (mo.new et5)
    exact bX4_doing_p85 C hxt hkl t5 x1 (t.2.2.2 0) H locs hT hS hK hm ls h (lv_sub hl [0, 1] rfl)
  replace h := if_f c h
  have g1 := tI_ne (k := 205) (by decide) c
  by_cases c : v1 = (206 : Int32)
  · replace h := if_t c h
    rw [c]
    refine lv_tableIn (off := 97) (tgt := 101) hx hb dX4_doing_4 (by decide) (by decide) rfl (by decide) ?_
    refine lv_aload_n hx hb dX4_doing_101 rfl (lv_at hl 0 rfl) ?_
    rcases bdx_some h with ⟨q8, ht6, hr_⟩ | ⟨v7, t6, ht6, h⟩
    · subst hr_
      have mm : mo t t9 := mo_C_X4_letters ht6
      exact ex_err C hxt hS (run_x (As := []) (rest := []) C hK hT hS.2.1 (rv_T hK hT hkl.1) (mX4_letters hkl ht6) q988 q990 qs22 q171 q991 ⟨rfl, rfl⟩ hdX4_letters ⟨Nat.le_of_ble_eq_true rfl, Nat.le_of_ble_eq_true rfl⟩ (mo_c hm mm mo.rf) rfl hl.1 rfl (Nat.le_of_ble_eq_true rfl) dX4_doing_102) (mo_c hm mm mo.rf)
    · have mm : mo t t6 := mo_C_X4_letters ht6
      have m9 : mo t6 t9 := mo_C_X4_doing_p105 h
      refine ex_okR hS hK (run_x (As := []) (rest := []) C hK hT hS.2.1 (rv_T hK hT hkl.1) (mX4_letters hkl ht6) q988 q990 qs22 q171 q991 ⟨rfl, rfl⟩ hdX4_letters ⟨Nat.le_of_ble_eq_true rfl, Nat.le_of_ble_eq_true rfl⟩ (mo_c hm mm m9) rfl hl.1 rfl (Nat.le_of_ble_eq_true rfl) dX4_doing_102) (fun H locs hT hS hK => ?_)
      refine W.widen (mo_c hm mm mo.rf).1 (mo_c hm mm mo.rf).2 ?_
      replace hm := hm.tr mm
      exact bX4_doing_p105 C hxt hkl t6 x1 v7 H locs hT hS hK hm ls h (lv_sub hl [0, 1] rfl)
  replace h := if_f c h
  have g2 := tI_ne (k := 206) (by decide) c
  by_cases c : v1 = (207 : Int32)
  · replace h := if_t c h
    rw [c]
    refine lv_tableIn (off := 128) (tgt := 132) hx hb dX4_doing_4 (by decide) (by decide) rfl (by decide) ?_
    obtain ⟨t10, et10, h⟩ := lt1_ex h
    have m9 : mo t10 t9 := mo_C_X4_doing_p135 h
    refine n_new (ci := 14) (fs := [.int 0, .null, .null, .int 0, .int 0]) in_X14 tyX14 tyX14_ok rfl C hK hT hS q992 q993 q193 (fun j hj => by rcases (show j = 0 ∨ j = 1 ∨ j = 2 ∨ j = 3 ∨ j = 4 by omega) with rfl | rfl | rfl | rfl | rfl <;> rfl) (mo_n hm et10 m9) dX4_doing_132 (fun t_ H et_ hT hS hK => ?_)
    obtain rfl := et10.trans et_.symm
    refine W.widen (mo_n1 hm et10).1 (mo_n1 hm et10).2 ?_
    replace hm := hm.tr (mo.new et10)
    exact bX4_doing_p135 C hxt hkl t10 x1 (t.2.2.2 0) H locs hT hS hK hm ls h (lv_sub hl [0, 1] rfl)
  replace h := if_f c h
  have g3 := tI_ne (k := 207) (by decide) c
  by_cases c : v1 = (208 : Int32)
  · replace h := if_t c h
    rw [c]
    refine lv_tableIn (off := 128) (tgt := 132) hx hb dX4_doing_4 (by decide) (by decide) rfl (by decide) ?_
    obtain ⟨t11, et11, h⟩ := lt1_ex h
    have m9 : mo t11 t9 := mo_C_X4_doing_p135 h
    refine n_new (ci := 14) (fs := [.int 0, .null, .null, .int 0, .int 0]) in_X14 tyX14 tyX14_ok rfl C hK hT hS q992 q993 q193 (fun j hj => by rcases (show j = 0 ∨ j = 1 ∨ j = 2 ∨ j = 3 ∨ j = 4 by omega) with rfl | rfl | rfl | rfl | rfl <;> rfl) (mo_n hm et11 m9) dX4_doing_132 (fun t_ H et_ hT hS hK => ?_)
    obtain rfl := et11.trans et_.symm
    refine W.widen (mo_n1 hm et11).1 (mo_n1 hm et11).2 ?_
    replace hm := hm.tr (mo.new et11)
    exact bX4_doing_p135 C hxt hkl t11 x1 (t.2.2.2 0) H locs hT hS hK hm ls h (lv_sub hl [0, 1] rfl)
  replace h := if_f c h
  have g4 := tI_ne (k := 208) (by decide) c
  by_cases c : v1 = (209 : Int32)
  · replace h := if_t c h
    rw [c]
    refine lv_tableIn (off := 147) (tgt := 151) hx hb dX4_doing_4 (by decide) (by decide) rfl (by decide) ?_
    refine lv_aload_n hx hb dX4_doing_151 rfl (lv_at hl 0 rfl) ?_
    rcases bdx_some h with ⟨q14, ht12, hr_⟩ | ⟨v13, t12, ht12, h⟩
    · subst hr_
      have mm : mo t t9 := mo_C_X4_letters ht12
      exact ex_err C hxt hS (run_x (As := []) (rest := []) C hK hT hS.2.1 (rv_T hK hT hkl.1) (mX4_letters hkl ht12) q988 q990 qs22 q171 q991 ⟨rfl, rfl⟩ hdX4_letters ⟨Nat.le_of_ble_eq_true rfl, Nat.le_of_ble_eq_true rfl⟩ (mo_c hm mm mo.rf) rfl hl.1 rfl (Nat.le_of_ble_eq_true rfl) dX4_doing_152) (mo_c hm mm mo.rf)
    · have mm : mo t t12 := mo_C_X4_letters ht12
      have m9 : mo t12 t9 := mo_C_X4_doing_p155 h
      refine ex_okR hS hK (run_x (As := []) (rest := []) C hK hT hS.2.1 (rv_T hK hT hkl.1) (mX4_letters hkl ht12) q988 q990 qs22 q171 q991 ⟨rfl, rfl⟩ hdX4_letters ⟨Nat.le_of_ble_eq_true rfl, Nat.le_of_ble_eq_true rfl⟩ (mo_c hm mm m9) rfl hl.1 rfl (Nat.le_of_ble_eq_true rfl) dX4_doing_152) (fun H locs hT hS hK => ?_)
      refine W.widen (mo_c hm mm mo.rf).1 (mo_c hm mm mo.rf).2 ?_
      replace hm := hm.tr mm
      exact bX4_doing_p155 C hxt hkl t12 x1 v13 H locs hT hS hK hm ls h (lv_sub hl [0, 1] rfl)
  replace h := if_f c h
  have g5 := tI_ne (k := 209) (by decide) c
  by_cases c : v1 = (210 : Int32)
  · replace h := if_t c h
    rw [c]
    refine lv_tableIn (off := 177) (tgt := 181) hx hb dX4_doing_4 (by decide) (by decide) rfl (by decide) ?_
    refine lv_aload_n hx hb dX4_doing_181 rfl (lv_at hl 0 rfl) ?_
    refine lv_iload_n hx hb dX4_doing_182 rfl (lv_at hl 1 rfl) ?_
    rcases bdx_some h with ⟨q17, ht15, hr_⟩ | ⟨v16, t15, ht15, h⟩
    · subst hr_
      have mm : mo t t9 := mo_C_X4_sign ht15
      exact ex_err C hxt hS (run_x (As := [.int x1]) (rest := []) C hK hT hS.2.1 (rv_T hK hT hkl.1) (mX4_sign hkl ht15) q1032 q1034 qs25 q171 q1035 ⟨rfl, rfl⟩ hdX4_sign ⟨Nat.le_of_ble_eq_true rfl, Nat.le_of_ble_eq_true rfl⟩ (mo_c hm mm mo.rf) rfl hl.1 rfl (Nat.le_of_ble_eq_true rfl) dX4_doing_183) (mo_c hm mm mo.rf)
    · have mm : mo t t15 := mo_C_X4_sign ht15
      have m9 : mo t15 t9 := mo_C_X4_doing_p186 h
      refine ex_okR hS hK (run_x (As := [.int x1]) (rest := []) C hK hT hS.2.1 (rv_T hK hT hkl.1) (mX4_sign hkl ht15) q1032 q1034 qs25 q171 q1035 ⟨rfl, rfl⟩ hdX4_sign ⟨Nat.le_of_ble_eq_true rfl, Nat.le_of_ble_eq_true rfl⟩ (mo_c hm mm m9) rfl hl.1 rfl (Nat.le_of_ble_eq_true rfl) dX4_doing_183) (fun H locs hT hS hK => ?_)
      refine W.widen (mo_c hm mm mo.rf).1 (mo_c hm mm mo.rf).2 ?_
      replace hm := hm.tr mm
      exact bX4_doing_p186 C hxt hkl t15 v16 H locs hT hS hK hm ls h (lv_sub hl [] rfl)
  replace h := if_f c h
  have g6 := tI_ne (k := 210) (by decide) c
  by_cases c : v1 = (211 : Int32)
  · replace h := if_t c h
    rw [c]
    refine lv_tableIn (off := 183) (tgt := 187) hx hb dX4_doing_4 (by decide) (by decide) rfl (by decide) ?_
    obtain ⟨t18, et18, h⟩ := lt1_ex h
    have m9 : mo t18 t9 := mo_C_X4_doing_p190 h
    refine n_new (ci := 14) (fs := [.int 0, .null, .null, .int 0, .int 0]) in_X14 tyX14 tyX14_ok rfl C hK hT hS q992 q993 q193 (fun j hj => by rcases (show j = 0 ∨ j = 1 ∨ j = 2 ∨ j = 3 ∨ j = 4 by omega) with rfl | rfl | rfl | rfl | rfl <;> rfl) (mo_n hm et18 m9) dX4_doing_187 (fun t_ H et_ hT hS hK => ?_)
    obtain rfl := et18.trans et_.symm
    refine W.widen (mo_n1 hm et18).1 (mo_n1 hm et18).2 ?_
    replace hm := hm.tr (mo.new et18)
    exact bX4_doing_p190 C hxt hkl t18 x1 (t.2.2.2 0) H locs hT hS hK hm ls h (lv_sub hl [0, 1] rfl)
  replace h := if_f c h
  have g7 := tI_ne (k := 211) (by decide) c
  refine lv_tableOut (tgt := 209) hx hb dX4_doing_4 (by omega) (by decide) ?_
  obtain ⟨t19, et19, h⟩ := lt1_ex h
  have m9 : mo t19 t9 := mo_C_X4_doing_p212 h
  refine n_new (ci := 14) (fs := [.int 0, .null, .null, .int 0, .int 0]) in_X14 tyX14 tyX14_ok rfl C hK hT hS q992 q993 q193 (fun j hj => by rcases (show j = 0 ∨ j = 1 ∨ j = 2 ∨ j = 3 ∨ j = 4 by omega) with rfl | rfl | rfl | rfl | rfl <;> rfl) (mo_n hm et19 m9) dX4_doing_209 (fun t_ H et_ hT hS hK => ?_)
  obtain rfl := et19.trans et_.symm
  refine W.widen (mo_n1 hm et19).1 (mo_n1 hm et19).2 ?_
  replace hm := hm.tr (mo.new et19)
  exact bX4_doing_p212 C hxt hkl t19 x1 (t.2.2.2 0) H locs hT hS hK hm ls h (lv_sub hl [0, 1] rfl)
theorem mX4_doing {l : Launch} {D : va_G} {dA : Nat → ClassId} {a : Nat} {k : KP a} {t : CS} {x1 : Int32} {r : Except Nat Nat} {t9 : CS} (hkl : k.1 ≠ a ∧ l.stackTraces = false) (h : C_X4_doing t x1 = some (r, t9)) : vx_Met l yX4_doing (ws_ yX4_doing cX4_doing 3 (some (.object "LettersOnStrike$Doing"))) (rmX4_doing t t9) (cPc D dA a k t [.ref k.1, .int x1]) (xQ D dA a k t t9 fR r) (xX D dA a k t t9 r) (t9.2.2.2 0 - t.2.2.2 0) (t9.2.2.2 1 - t.2.2.2 1) (ca a) := en_X (by decide +kernel) rfl (Nat.le_of_ble_eq_true rfl) (fun p e s m below meth c ls C hxt hK hT hl => sub0 (bX4_doing C hxt hkl t x1 _ [] hT cS.rf hK mo.rf ls h hl))
set_option maxRecDepth 20000 in
abbrev rmX4_clause (t t9 : CS) : Room := { frames := 284, cells := t9.2.2.2 0 - t.2.2.2 0, slots := t9.2.2.2 1 - t.2.2.2 1, locals := 6006 }
theorem hdX4_clause : yX4_clause.cls = RX4 ∧ yX4_clause.cls ≠ "java/lang/invoke/MethodHandle" ∧ yX4_clause.cls ≠ "java/lang/invoke/VarHandle" ∧ (parseMethodDescriptor yX4_clause.desc).map (fun d => d.parameters.length) = some 1 := by decide +kernel
theorem bX4_clause_p41 {p : Program} {l : Launch} {e : Env} {s : State} {m : MethodId} {args : Array Value} {below : List Frame} {meth : Method} {c : Code} {D : va_G} {dA : Nat → ClassId} {a : Nat} {k : KP a} {t0 : CS} {r : Except Nat Unit} {t9 : CS} (C : cx p s m args meth c cX4_clause RX4 2 none) (hxt : ∀ x ∈ c.exceptionTable.toList, False) (hkl : k.1 ≠ a ∧ l.stackTraces = false) : ∀ (t : CS) (y0 : Nat) (y1 : Nat) (H : Heap) (locs : List Loc) (hT : cW D dA a k t H) (hS : cS a s.heap H locs t0.2.2.2 2 t) (hK : kC D dA a k t.2.2.2 s) (hm : mo t0 t) (ls : Array Slot), C_X4_clause_p41 t y0 y1 = some (r, t9) → lv_has ls 2 [] → W p l e (rmX4_clause t0 t9) s m args below meth c H locs (t.2.2.2 0 - t0.2.2.2 0) (t.2.2.2 1 - t0.2.2.2 1) (vx_MQ below (xQ D dA a k t0 t9 fU r) (xX D dA a k t0 t9 r) args s (t9.2.2.2 0 - t0.2.2.2 0) (t9.2.2.2 1 - t0.2.2.2 1) (ca a)) (F0 m 41 ls [.ref y1, .ref y0]) := by
  obtain ⟨hx, hb, hr, hml, hown, hts, hlocks⟩ := id C
  intro t y0 y1 H locs hT hS hK hm ls h hl
  have m9 : mo t t9 := mo_C_X4_clause_p41 h
  unfold C_X4_clause_p41 at h
  obtain ⟨t1, ht1, h⟩ := bd1_some h
  refine d_putN (ci := 5) in_X5 tyX5 tyX5_ok nmX5 rfl C hK hT hS 0 (by decide) (nf578 hK.2.1) rfl (Or.inl rfl) rfl ht1 (tyX5_ok 0 (by decide)) rfl rfl dX4_clause_41 (fun H locs hT hS hK => ?_)
  have mm : mo t t1 := mo.nn (dpf_N ht1)
  replace hm := hm.tr mm
  replace m9 : mo t1 t9 := mo.bk (dpf_N ht1) m9
  refine W.widen (mo_s mm).1 (mo_s mm).2 ?_
  refine lv_goto (tgt := 96) hx hb dX4_clause_44 (by decide) ?_
  cases h
  exact toX (ec_v C hT hS rfl dX4_clause_96)
theorem bX4_clause_p52 {p : Program} {l : Launch} {e : Env} {s : State} {m : MethodId} {args : Array Value} {below : List Frame} {meth : Method} {c : Code} {D : va_G} {dA : Nat → ClassId} {a : Nat} {k : KP a} {t0 : CS} {r : Except Nat Unit} {t9 : CS} (C : cx p s m args meth c cX4_clause RX4 2 none) (hxt : ∀ x ∈ c.exceptionTable.toList, False) (hkl : k.1 ≠ a ∧ l.stackTraces = false) : ∀ (t : CS) (y0 : Nat) (y1 : Nat) (H : Heap) (locs : List Loc) (hT : cW D dA a k t H) (hS : cS a s.heap H locs t0.2.2.2 2 t) (hK : kC D dA a k t.2.2.2 s) (hm : mo t0 t) (ls : Array Slot), C_X4_clause_p52 t y0 y1 = some (r, t9) → lv_has ls 2 [] → W p l e (rmX4_clause t0 t9) s m args below meth c H locs (t.2.2.2 0 - t0.2.2.2 0) (t.2.2.2 1 - t0.2.2.2 1) (vx_MQ below (xQ D dA a k t0 t9 fU r) (xX D dA a k t0 t9 r) args s (t9.2.2.2 0 - t0.2.2.2 0) (t9.2.2.2 1 - t0.2.2.2 1) (ca a)) (F0 m 52 ls [.ref y1, .ref y0]) := by
  obtain ⟨hx, hb, hr, hml, hown, hts, hlocks⟩ := id C
  intro t y0 y1 H locs hT hS hK hm ls h hl
  have m9 : mo t t9 := mo_C_X4_clause_p52 h
  unfold C_X4_clause_p52 at h
  obtain ⟨t1, ht1, h⟩ := bd1_some h
  refine d_putN (ci := 5) in_X5 tyX5 tyX5_ok nmX5 rfl C hK hT hS 1 (by decide) (nf580 hK.2.1) rfl (Or.inl rfl) rfl ht1 (tyX5_ok 1 (by decide)) rfl rfl dX4_clause_52 (fun H locs hT hS hK => ?_)
  have mm : mo t t1 := mo.nn (dpf_N ht1)
  replace hm := hm.tr mm
  replace m9 : mo t1 t9 := mo.bk (dpf_N ht1) m9
  refine W.widen (mo_s mm).1 (mo_s mm).2 ?_
  refine lv_goto (tgt := 96) hx hb dX4_clause_55 (by decide) ?_
  cases h
  exact toX (ec_v C hT hS rfl dX4_clause_96)
theorem bX4_clause_p63 {p : Program} {l : Launch} {e : Env} {s : State} {m : MethodId} {args : Array Value} {below : List Frame} {meth : Method} {c : Code} {D : va_G} {dA : Nat → ClassId} {a : Nat} {k : KP a} {t0 : CS} {r : Except Nat Unit} {t9 : CS} (C : cx p s m args meth c cX4_clause RX4 2 none) (hxt : ∀ x ∈ c.exceptionTable.toList, False) (hkl : k.1 ≠ a ∧ l.stackTraces = false) : ∀ (t : CS) (y0 : Nat) (y1 : Nat) (H : Heap) (locs : List Loc) (hT : cW D dA a k t H) (hS : cS a s.heap H locs t0.2.2.2 2 t) (hK : kC D dA a k t.2.2.2 s) (hm : mo t0 t) (ls : Array Slot), C_X4_clause_p63 t y0 y1 = some (r, t9) → lv_has ls 2 [] → W p l e (rmX4_clause t0 t9) s m args below meth c H locs (t.2.2.2 0 - t0.2.2.2 0) (t.2.2.2 1 - t0.2.2.2 1) (vx_MQ below (xQ D dA a k t0 t9 fU r) (xX D dA a k t0 t9 r) args s (t9.2.2.2 0 - t0.2.2.2 0) (t9.2.2.2 1 - t0.2.2.2 1) (ca a)) (F0 m 63 ls [.ref y1, .ref y0]) := by
  obtain ⟨hx, hb, hr, hml, hown, hts, hlocks⟩ := id C
  intro t y0 y1 H locs hT hS hK hm ls h hl
  have m9 : mo t t9 := mo_C_X4_clause_p63 h
  unfold C_X4_clause_p63 at h
  obtain ⟨t1, ht1, h⟩ := bd1_some h
  refine d_putN (ci := 5) in_X5 tyX5 tyX5_ok nmX5 rfl C hK hT hS 3 (by decide) (nf584 hK.2.1) rfl (Or.inl rfl) rfl ht1 (tyX5_ok 3 (by decide)) rfl rfl dX4_clause_63 (fun H locs hT hS hK => ?_)
  have mm : mo t t1 := mo.nn (dpf_N ht1)
  replace hm := hm.tr mm
  replace m9 : mo t1 t9 := mo.bk (dpf_N ht1) m9
  refine W.widen (mo_s mm).1 (mo_s mm).2 ?_
  refine lv_goto (tgt := 96) hx hb dX4_clause_66 (by decide) ?_
  cases h
  exact toX (ec_v C hT hS rfl dX4_clause_96)
theorem bX4_clause_p74 {p : Program} {l : Launch} {e : Env} {s : State} {m : MethodId} {args : Array Value} {below : List Frame} {meth : Method} {c : Code} {D : va_G} {dA : Nat → ClassId} {a : Nat} {k : KP a} {t0 : CS} {r : Except Nat Unit} {t9 : CS} (C : cx p s m args meth c cX4_clause RX4 2 none) (hxt : ∀ x ∈ c.exceptionTable.toList, False) (hkl : k.1 ≠ a ∧ l.stackTraces = false) : ∀ (t : CS) (y0 : Nat) (y1 : Nat) (H : Heap) (locs : List Loc) (hT : cW D dA a k t H) (hS : cS a s.heap H locs t0.2.2.2 2 t) (hK : kC D dA a k t.2.2.2 s) (hm : mo t0 t) (ls : Array Slot), C_X4_clause_p74 t y0 y1 = some (r, t9) → lv_has ls 2 [] → W p l e (rmX4_clause t0 t9) s m args below meth c H locs (t.2.2.2 0 - t0.2.2.2 0) (t.2.2.2 1 - t0.2.2.2 1) (vx_MQ below (xQ D dA a k t0 t9 fU r) (xX D dA a k t0 t9 r) args s (t9.2.2.2 0 - t0.2.2.2 0) (t9.2.2.2 1 - t0.2.2.2 1) (ca a)) (F0 m 74 ls [.ref y1, .ref y0]) := by
  obtain ⟨hx, hb, hr, hml, hown, hts, hlocks⟩ := id C
  intro t y0 y1 H locs hT hS hK hm ls h hl
  have m9 : mo t t9 := mo_C_X4_clause_p74 h
  unfold C_X4_clause_p74 at h
  obtain ⟨t1, ht1, h⟩ := bd1_some h
  refine d_putN (ci := 5) in_X5 tyX5 tyX5_ok nmX5 rfl C hK hT hS 2 (by decide) (nf582 hK.2.1) rfl (Or.inl rfl) rfl ht1 (tyX5_ok 2 (by decide)) rfl rfl dX4_clause_74 (fun H locs hT hS hK => ?_)
  have mm : mo t t1 := mo.nn (dpf_N ht1)
  replace hm := hm.tr mm
  replace m9 : mo t1 t9 := mo.bk (dpf_N ht1) m9
  refine W.widen (mo_s mm).1 (mo_s mm).2 ?_
  refine lv_goto (tgt := 96) hx hb dX4_clause_77 (by decide) ?_
  cases h
  exact toX (ec_v C hT hS rfl dX4_clause_96)
theorem bX4_clause_p95 {p : Program} {l : Launch} {e : Env} {s : State} {m : MethodId} {args : Array Value} {below : List Frame} {meth : Method} {c : Code} {D : va_G} {dA : Nat → ClassId} {a : Nat} {k : KP a} {t0 : CS} {r : Except Nat Unit} {t9 : CS} (C : cx p s m args meth c cX4_clause RX4 2 none) (hxt : ∀ x ∈ c.exceptionTable.toList, False) (hkl : k.1 ≠ a ∧ l.stackTraces = false) : ∀ (t : CS) (y0 : Int32) (H : Heap) (locs : List Loc) (hT : cW D dA a k t H) (hS : cS a s.heap H locs t0.2.2.2 2 t) (hK : kC D dA a k t.2.2.2 s) (hm : mo t0 t) (ls : Array Slot), C_X4_clause_p95 t y0 = some (r, t9) → lv_has ls 2 [] → W p l e (rmX4_clause t0 t9) s m args below meth c H locs (t.2.2.2 0 - t0.2.2.2 0) (t.2.2.2 1 - t0.2.2.2 1) (vx_MQ below (xQ D dA a k t0 t9 fU r) (xX D dA a k t0 t9 r) args s (t9.2.2.2 0 - t0.2.2.2 0) (t9.2.2.2 1 - t0.2.2.2 1) (ca a)) (F0 m 95 ls [.int y0]) := by
  obtain ⟨hx, hb, hr, hml, hown, hts, hlocks⟩ := id C
  intro t y0 H locs hT hS hK hm ls h hl
  have m9 : mo t t9 := mo_C_X4_clause_p95 h
  unfold C_X4_clause_p95 at h
  refine lv_pop hx hb dX4_clause_95 rfl ?_
  cases h
  exact toX (ec_v C hT hS rfl dX4_clause_96)
theorem bX4_clause_p92 {p : Program} {l : Launch} {e : Env} {s : State} {m : MethodId} {args : Array Value} {below : List Frame} {meth : Method} {c : Code} {D : va_G} {dA : Nat → ClassId} {a : Nat} {k : KP a} {t0 : CS} {r : Except Nat Unit} {t9 : CS} (C : cx p s m args meth c cX4_clause RX4 2 none) (hxt : ∀ x ∈ c.exceptionTable.toList, False) (hkl : k.1 ≠ a ∧ l.stackTraces = false) : ∀ (t : CS) (y0 : Nat) (y1 : Nat) (H : Heap) (locs : List Loc) (hT : cW D dA a k t H) (hS : cS a s.heap H locs t0.2.2.2 2 t) (hK : kC D dA a k t.2.2.2 s) (hm : mo t0 t) (ls : Array Slot), C_X4_clause_p92 t y0 y1 = some (r, t9) → lv_has ls 2 [] → W p l e (rmX4_clause t0 t9) s m args below meth c H locs (t.2.2.2 0 - t0.2.2.2 0) (t.2.2.2 1 - t0.2.2.2 1) (vx_MQ below (xQ D dA a k t0 t9 fU r) (xX D dA a k t0 t9 r) args s (t9.2.2.2 0 - t0.2.2.2 0) (t9.2.2.2 1 - t0.2.2.2 1) (ca a)) (F0 m 92 ls [.ref y1, .ref y0]) := by
  obtain ⟨hx, hb, hr, hml, hown, hts, hlocks⟩ := id C
  intro t y0 y1 H locs hT hS hK hm ls h hl
  have m9 : mo t t9 := mo_C_X4_clause_p92 h
  unfold C_X4_clause_p92 at h
  obtain ⟨hc1, h⟩ := ckC_some h
  obtain ⟨v3, t2, ht2, h⟩ := bd2_some h
  have mm : mo t t2 := mo_J_J9_add ht2
  have m9 : mo t2 t9 := mo_C_X4_clause_p95 h
  refine wa_int hS hK (run_c (As := [.ref y1]) (rest := []) C hK hT hS.2.1 (rv_D (ci := 15) rfl hK hT hc1) (mJ9_add ht2) q953 q869 q870 q175 q871 ⟨rfl, rfl⟩ hdJ9_add ⟨Nat.le_of_ble_eq_true rfl, Nat.le_of_ble_eq_true rfl⟩ (mo_c hm mm m9) rfl hl.1 rfl (Nat.le_of_ble_eq_true rfl) dX4_clause_92) (fun H locs hT hS hK => ?_)
  refine W.widen (mo_c hm mm mo.rf).1 (mo_c hm mm mo.rf).2 ?_
  replace hm := hm.tr mm
  exact bX4_clause_p95 C hxt hkl t2 v3 H locs hT hS hK hm ls h (lv_sub hl [] rfl)
theorem bX4_clause {p : Program} {l : Launch} {e : Env} {s : State} {m : MethodId} {args : Array Value} {below : List Frame} {meth : Method} {c : Code} {D : va_G} {dA : Nat → ClassId} {a : Nat} {k : KP a} {t0 : CS} {r : Except Nat Unit} {t9 : CS} (C : cx p s m args meth c cX4_clause RX4 2 none) (hxt : ∀ x ∈ c.exceptionTable.toList, False) (hkl : k.1 ≠ a ∧ l.stackTraces = false) : ∀ (t : CS) (x1 : Nat) (H : Heap) (locs : List Loc) (hT : cW D dA a k t H) (hS : cS a s.heap H locs t0.2.2.2 2 t) (hK : kC D dA a k t.2.2.2 s) (hm : mo t0 t) (ls : Array Slot), C_X4_clause t x1 = some (r, t9) → lv_has ls 2 [(0, .ref k.1), (1, .ref x1)] → W p l e (rmX4_clause t0 t9) s m args below meth c H locs (t.2.2.2 0 - t0.2.2.2 0) (t.2.2.2 1 - t0.2.2.2 1) (vx_MQ below (xQ D dA a k t0 t9 fU r) (xX D dA a k t0 t9 r) args s (t9.2.2.2 0 - t0.2.2.2 0) (t9.2.2.2 1 - t0.2.2.2 1) (ca a)) (F0 m 0 ls []) := by
  obtain ⟨hx, hb, hr, hml, hown, hts, hlocks⟩ := id C
  intro t x1 H locs hT hS hK hm ls h hl
  have m9 : mo t t9 := mo_C_X4_clause h
  unfold C_X4_clause at h
  refine lv_aload_n hx hb dX4_clause_0 rfl (lv_at hl 0 rfl) ?_
  refine c_getT C hK hT hkl.1 7 (by decide) q524 rfl (v := .int (t.1 200 7)) rfl dX4_clause_1 ?_
  refine lv_topi (fun v1 ev1 => ?_)
  replace h := lt1_sub ev1 h
  by_cases c : v1 = (200 : Int32)
  · replace h := if_t c h
    rw [c]
    refine lv_tableIn (off := 32) (tgt := 36) hx hb dX4_clause_4 (by decide) (by decide) rfl (by decide) ?_
    refine lv_aload_n hx hb dX4_clause_36 rfl (lv_at hl 1 rfl) ?_
    refine lv_aload_n hx hb dX4_clause_37 rfl (lv_at hl 0 rfl) ?_
    rcases bdx_some h with ⟨q4, ht2, hr_⟩ | ⟨v3, t2, ht2, h⟩
    · subst hr_
      have mm : mo t t9 := mo_C_X4_either ht2
      exact ex_err C hxt hS (run_x (As := []) (rest := [.ref x1]) C hK hT hS.2.1 (rv_T hK hT hkl.1) (mX4_either hkl ht2) q744 q746 qs8 q171 q747 ⟨rfl, rfl⟩ hdX4_either ⟨Nat.le_of_ble_eq_true rfl, Nat.le_of_ble_eq_true rfl⟩ (mo_c hm mm mo.rf) rfl hl.1 rfl (Nat.le_of_ble_eq_true rfl) dX4_clause_38) (mo_c hm mm mo.rf)
    · have mm : mo t t2 := mo_C_X4_either ht2
      have m9 : mo t2 t9 := mo_C_X4_clause_p41 h
      refine ex_okR hS hK (run_x (As := []) (rest := [.ref x1]) C hK hT hS.2.1 (rv_T hK hT hkl.1) (mX4_either hkl ht2) q744 q746 qs8 q171 q747 ⟨rfl, rfl⟩ hdX4_either ⟨Nat.le_of_ble_eq_true rfl, Nat.le_of_ble_eq_true rfl⟩ (mo_c hm mm m9) rfl hl.1 rfl (Nat.le_of_ble_eq_true rfl) dX4_clause_38) (fun H locs hT hS hK => ?_)
      refine W.widen (mo_c hm mm mo.rf).1 (mo_c hm mm mo.rf).2 ?_
      replace hm := hm.tr mm
      exact bX4_clause_p41 C hxt hkl t2 x1 v3 H locs hT hS hK hm ls h (lv_sub hl [] rfl)
  replace h := if_f c h
  have g0 := tI_ne (k := 200) (by decide) c
  by_cases c : v1 = (201 : Int32)
  · replace h := if_t c h
    rw [c]
    refine lv_tableIn (off := 43) (tgt := 47) hx hb dX4_clause_4 (by decide) (by decide) rfl (by decide) ?_
    refine lv_aload_n hx hb dX4_clause_47 rfl (lv_at hl 1 rfl) ?_
    refine lv_aload_n hx hb dX4_clause_48 rfl (lv_at hl 0 rfl) ?_
    rcases bdx_some h with ⟨q7, ht5, hr_⟩ | ⟨v6, t5, ht5, h⟩
    · subst hr_
      have mm : mo t t9 := mo_C_X4_either ht5
      exact ex_err C hxt hS (run_x (As := []) (rest := [.ref x1]) C hK hT hS.2.1 (rv_T hK hT hkl.1) (mX4_either hkl ht5) q744 q746 qs8 q171 q747 ⟨rfl, rfl⟩ hdX4_either ⟨Nat.le_of_ble_eq_true rfl, Nat.le_of_ble_eq_true rfl⟩ (mo_c hm mm mo.rf) rfl hl.1 rfl (Nat.le_of_ble_eq_true rfl) dX4_clause_49) (mo_c hm mm mo.rf)
    · have mm : mo t t5 := mo_C_X4_either ht5
      have m9 : mo t5 t9 := mo_C_X4_clause_p52 h
      refine ex_okR hS hK (run_x (As := []) (rest := [.ref x1]) C hK hT hS.2.1 (rv_T hK hT hkl.1) (mX4_either hkl ht5) q744 q746 qs8 q171 q747 ⟨rfl, rfl⟩ hdX4_either ⟨Nat.le_of_ble_eq_true rfl, Nat.le_of_ble_eq_true rfl⟩ (mo_c hm mm m9) rfl hl.1 rfl (Nat.le_of_ble_eq_true rfl) dX4_clause_49) (fun H locs hT hS hK => ?_)
      refine W.widen (mo_c hm mm mo.rf).1 (mo_c hm mm mo.rf).2 ?_
      replace hm := hm.tr mm
      exact bX4_clause_p52 C hxt hkl t5 x1 v6 H locs hT hS hK hm ls h (lv_sub hl [] rfl)
  replace h := if_f c h
  have g1 := tI_ne (k := 201) (by decide) c
  by_cases c : v1 = (202 : Int32)
  · replace h := if_t c h
    rw [c]
    refine lv_tableIn (off := 54) (tgt := 58) hx hb dX4_clause_4 (by decide) (by decide) rfl (by decide) ?_
    refine lv_aload_n hx hb dX4_clause_58 rfl (lv_at hl 1 rfl) ?_
    refine lv_aload_n hx hb dX4_clause_59 rfl (lv_at hl 0 rfl) ?_
    rcases bdx_some h with ⟨q10, ht8, hr_⟩ | ⟨v9, t8, ht8, h⟩
    · subst hr_
      have mm : mo t t9 := mo_C_X4_sum (mo_C_X4_one 64) ht8
      exact ex_err C hxt hS (run_x (As := []) (rest := [.ref x1]) C hK hT hS.2.1 (rv_T hK hT hkl.1) (mX4_sum (mX4_one hkl 64) (mo_C_X4_one 64) hkl ht8) q772 q774 qs12 q171 q775 ⟨rfl, rfl⟩ hdX4_sum ⟨Nat.le_of_ble_eq_true rfl, Nat.le_of_ble_eq_true rfl⟩ (mo_c hm mm mo.rf) rfl hl.1 rfl (Nat.le_of_ble_eq_true rfl) dX4_clause_60) (mo_c hm mm mo.rf)
    · have mm : mo t t8 := mo_C_X4_sum (mo_C_X4_one 64) ht8
      have m9 : mo t8 t9 := mo_C_X4_clause_p63 h
      refine ex_okR hS hK (run_x (As := []) (rest := [.ref x1]) C hK hT hS.2.1 (rv_T hK hT hkl.1) (mX4_sum (mX4_one hkl 64) (mo_C_X4_one 64) hkl ht8) q772 q774 qs12 q171 q775 ⟨rfl, rfl⟩ hdX4_sum ⟨Nat.le_of_ble_eq_true rfl, Nat.le_of_ble_eq_true rfl⟩ (mo_c hm mm m9) rfl hl.1 rfl (Nat.le_of_ble_eq_true rfl) dX4_clause_60) (fun H locs hT hS hK => ?_)
      refine W.widen (mo_c hm mm mo.rf).1 (mo_c hm mm mo.rf).2 ?_
      replace hm := hm.tr mm
      exact bX4_clause_p63 C hxt hkl t8 x1 v9 H locs hT hS hK hm ls h (lv_sub hl [] rfl)
  replace h := if_f c h
  have g2 := tI_ne (k := 202) (by decide) c
  by_cases c : v1 = (203 : Int32)
  · replace h := if_t c h
    rw [c]
    refine lv_tableIn (off := 65) (tgt := 69) hx hb dX4_clause_4 (by decide) (by decide) rfl (by decide) ?_
    refine lv_aload_n hx hb dX4_clause_69 rfl (lv_at hl 1 rfl) ?_
    refine lv_aload_n hx hb dX4_clause_70 rfl (lv_at hl 0 rfl) ?_
    rcases bdx_some h with ⟨q13, ht11, hr_⟩ | ⟨v12, t11, ht11, h⟩
    · subst hr_
      have mm : mo t t9 := mo_C_X4_either ht11
      exact ex_err C hxt hS (run_x (As := []) (rest := [.ref x1]) C hK hT hS.2.1 (rv_T hK hT hkl.1) (mX4_either hkl ht11) q744 q746 qs8 q171 q747 ⟨rfl, rfl⟩ hdX4_either ⟨Nat.le_of_ble_eq_true rfl, Nat.le_of_ble_eq_true rfl⟩ (mo_c hm mm mo.rf) rfl hl.1 rfl (Nat.le_of_ble_eq_true rfl) dX4_clause_71) (mo_c hm mm mo.rf)
    · have mm : mo t t11 := mo_C_X4_either ht11
      have m9 : mo t11 t9 := mo_C_X4_clause_p74 h
      refine ex_okR hS hK (run_x (As := []) (rest := [.ref x1]) C hK hT hS.2.1 (rv_T hK hT hkl.1) (mX4_either hkl ht11) q744 q746 qs8 q171 q747 ⟨rfl, rfl⟩ hdX4_either ⟨Nat.le_of_ble_eq_true rfl, Nat.le_of_ble_eq_true rfl⟩ (mo_c hm mm m9) rfl hl.1 rfl (Nat.le_of_ble_eq_true rfl) dX4_clause_71) (fun H locs hT hS hK => ?_)
      refine W.widen (mo_c hm mm mo.rf).1 (mo_c hm mm mo.rf).2 ?_
      replace hm := hm.tr mm
      exact bX4_clause_p74 C hxt hkl t11 x1 v12 H locs hT hS hK hm ls h (lv_sub hl [] rfl)
  replace h := if_f c h
  have g3 := tI_ne (k := 203) (by decide) c
  refine lv_tableOut (tgt := 80) hx hb dX4_clause_4 (by omega) (by decide) ?_
  refine lv_aload_n hx hb dX4_clause_80 rfl (lv_at hl 1 rfl) ?_
  obtain ⟨v14, hv14, h⟩ := bd1_some h
  refine d_getN (ci := 5) in_X5 rfl C hK hT 5 (by decide) (nf588 hK.2.1) rfl (gR_some hv14) dX4_clause_81 ?_
  refine lv_aload_n hx hb dX4_clause_84 rfl (lv_at hl 0 rfl) ?_
  refine lv_aload_n hx hb dX4_clause_85 rfl (lv_at hl 1 rfl) ?_
  obtain ⟨v15, hv15, h⟩ := bd1_some h
  refine d_getN (ci := 5) in_X5 rfl C hK hT 4 (by decide) (nf586 hK.2.1) rfl (gI_some hv15) dX4_clause_86 ?_
  rcases bdx_some h with ⟨q18, ht16, hr_⟩ | ⟨v17, t16, ht16, h⟩
  · subst hr_
    have mm : mo t t9 := mo_C_X4_doing ht16
    exact ex_err C hxt hS (run_x (As := [.int v15]) (rest := [.ref v14]) C hK hT hS.2.1 (rv_T hK hT hkl.1) (mX4_doing hkl ht16) q984 q986 qs21 q171 q987 ⟨rfl, rfl⟩ hdX4_doing ⟨Nat.le_of_ble_eq_true rfl, Nat.le_of_ble_eq_true rfl⟩ (mo_c hm mm mo.rf) rfl hl.1 rfl (Nat.le_of_ble_eq_true rfl) dX4_clause_89) (mo_c hm mm mo.rf)
  · have mm : mo t t16 := mo_C_X4_doing ht16
    have m9 : mo t16 t9 := mo_C_X4_clause_p92 h
    refine ex_okR hS hK (run_x (As := [.int v15]) (rest := [.ref v14]) C hK hT hS.2.1 (rv_T hK hT hkl.1) (mX4_doing hkl ht16) q984 q986 qs21 q171 q987 ⟨rfl, rfl⟩ hdX4_doing ⟨Nat.le_of_ble_eq_true rfl, Nat.le_of_ble_eq_true rfl⟩ (mo_c hm mm m9) rfl hl.1 rfl (Nat.le_of_ble_eq_true rfl) dX4_clause_89) (fun H locs hT hS hK => ?_)
    refine W.widen (mo_c hm mm mo.rf).1 (mo_c hm mm mo.rf).2 ?_
    replace hm := hm.tr mm
    exact bX4_clause_p92 C hxt hkl t16 v14 v17 H locs hT hS hK hm ls h (lv_sub hl [] rfl)
theorem mX4_clause {l : Launch} {D : va_G} {dA : Nat → ClassId} {a : Nat} {k : KP a} {t : CS} {x1 : Nat} {r : Except Nat Unit} {t9 : CS} (hkl : k.1 ≠ a ∧ l.stackTraces = false) (h : C_X4_clause t x1 = some (r, t9)) : vx_Met l yX4_clause (ws_ yX4_clause cX4_clause 2 none) (rmX4_clause t t9) (cPc D dA a k t [.ref k.1, .ref x1]) (xQ D dA a k t t9 fU r) (xX D dA a k t t9 r) (t9.2.2.2 0 - t.2.2.2 0) (t9.2.2.2 1 - t.2.2.2 1) (ca a) := en_X (by decide +kernel) rfl (Nat.le_of_ble_eq_true rfl) (fun p e s m below meth c ls C hxt hK hT hl => sub0 (bX4_clause C hxt hkl t x1 _ [] hT cS.rf hK mo.rf ls h hl))
set_option maxRecDepth 20000 in
abbrev rmX4_read (t t9 : CS) : Room := { frames := 285, cells := t9.2.2.2 0 - t.2.2.2 0, slots := t9.2.2.2 1 - t.2.2.2 1, locals := 6027 }
theorem hdX4_read : yX4_read.cls = RX4 ∧ yX4_read.cls ≠ "java/lang/invoke/MethodHandle" ∧ yX4_read.cls ≠ "java/lang/invoke/VarHandle" ∧ (parseMethodDescriptor yX4_read.desc).map (fun d => d.parameters.length) = some 0 := by decide +kernel
theorem bX4_read_p47 {p : Program} {l : Launch} {e : Env} {s : State} {m : MethodId} {args : Array Value} {below : List Frame} {meth : Method} {c : Code} {D : va_G} {dA : Nat → ClassId} {a : Nat} {k : KP a} {t0 : CS} {r : Except Nat Nat} {t9 : CS} (C : cx p s m args meth c cX4_read RX4 2 (some (.object "LettersOnStrike$Text"))) (hxt : ∀ x ∈ c.exceptionTable.toList, False) (hkl : k.1 ≠ a ∧ l.stackTraces = false) : ∀ (t : CS) (y0 : Nat) (H : Heap) (locs : List Loc) (hT : cW D dA a k t H) (hS : cS a s.heap H locs t0.2.2.2 2 t) (hK : kC D dA a k t.2.2.2 s) (hm : mo t0 t) (ls : Array Slot), C_X4_read_p47 t y0 = some (r, t9) → lv_has ls 2 [] → W p l e (rmX4_read t0 t9) s m args below meth c H locs (t.2.2.2 0 - t0.2.2.2 0) (t.2.2.2 1 - t0.2.2.2 1) (vx_MQ below (xQ D dA a k t0 t9 fR r) (xX D dA a k t0 t9 r) args s (t9.2.2.2 0 - t0.2.2.2 0) (t9.2.2.2 1 - t0.2.2.2 1) (ca a)) (F0 m 47 ls [.ref y0]) := by
  obtain ⟨hx, hb, hr, hml, hown, hts, hlocks⟩ := id C
  intro t y0 H locs hT hS hK hm ls h hl
  have m9 : mo t t9 := mo_C_X4_read_p47 h
  unfold C_X4_read_p47 at h
  obtain ⟨hw1, h⟩ := ckW_some h
  cases h
  exact ex_thr C hxt hK hT hS hw1 dX4_read_47
theorem bX4_read_p42 {p : Program} {l : Launch} {e : Env} {s : State} {m : MethodId} {args : Array Value} {below : List Frame} {meth : Method} {c : Code} {D : va_G} {dA : Nat → ClassId} {a : Nat} {k : KP a} {t0 : CS} {r : Except Nat Nat} {t9 : CS} (C : cx p s m args meth c cX4_read RX4 2 (some (.object "LettersOnStrike$Text"))) (hxt : ∀ x ∈ c.exceptionTable.toList, False) (hkl : k.1 ≠ a ∧ l.stackTraces = false) : ∀ (t : CS) (H : Heap) (locs : List Loc) (hT : cW D dA a k t H) (hS : cS a s.heap H locs t0.2.2.2 2 t) (hK : kC D dA a k t.2.2.2 s) (hm : mo t0 t) (ls : Array Slot), C_X4_read_p42 t = some (r, t9) → lv_has ls 2 [(0, .ref k.1)] → W p l e (rmX4_read t0 t9) s m args below meth c H locs (t.2.2.2 0 - t0.2.2.2 0) (t.2.2.2 1 - t0.2.2.2 1) (vx_MQ below (xQ D dA a k t0 t9 fR r) (xX D dA a k t0 t9 r) args s (t9.2.2.2 0 - t0.2.2.2 0) (t9.2.2.2 1 - t0.2.2.2 1) (ca a)) (F0 m 42 ls []) := by
  obtain ⟨hx, hb, hr, hml, hown, hts, hlocks⟩ := id C
  intro t H locs hT hS hK hm ls h hl
  have m9 : mo t t9 := mo_C_X4_read_p42 h
  unfold C_X4_read_p42 at h
  refine lv_aload_n hx hb dX4_read_42 rfl (lv_at hl 0 rfl) ?_
  refine lv_iconst (v := 1) hx hb dX4_read_43 (by decide) ?_
  obtain ⟨v2, t1, ht1, h⟩ := bd2_some h
  have mm : mo t t1 := mo_C_wrong ht1
  have m9 : mo t1 t9 := mo_C_X4_read_p47 h
  refine wa_ref hS hK (run_c (As := [.int (1 : Int32)]) (rest := []) C hK hT hS.2.1 (rv_T hK hT hkl.1) (mX4_wrong hkl ht1) q672 q674 qs5 q171 q675 ⟨rfl, rfl⟩ hdX4_wrong ⟨Nat.le_of_ble_eq_true rfl, Nat.le_of_ble_eq_true rfl⟩ (mo_c hm mm m9) rfl hl.1 rfl (Nat.le_of_ble_eq_true rfl) dX4_read_44) (fun H locs hT hS hK => ?_)
  refine W.widen (mo_c hm mm mo.rf).1 (mo_c hm mm mo.rf).2 ?_
  replace hm := hm.tr mm
  exact bX4_read_p47 C hxt hkl t1 v2 H locs hT hS hK hm ls h (lv_sub hl [] rfl)
theorem bX4_read_p129 {p : Program} {l : Launch} {e : Env} {s : State} {m : MethodId} {args : Array Value} {below : List Frame} {meth : Method} {c : Code} {D : va_G} {dA : Nat → ClassId} {a : Nat} {k : KP a} {t0 : CS} {r : Except Nat Nat} {t9 : CS} (C : cx p s m args meth c cX4_read RX4 2 (some (.object "LettersOnStrike$Text"))) (hxt : ∀ x ∈ c.exceptionTable.toList, False) (hkl : k.1 ≠ a ∧ l.stackTraces = false) : ∀ (t : CS) (y0 : Nat) (H : Heap) (locs : List Loc) (hT : cW D dA a k t H) (hS : cS a s.heap H locs t0.2.2.2 2 t) (hK : kC D dA a k t.2.2.2 s) (hm : mo t0 t) (ls : Array Slot), C_X4_read_p129 t y0 = some (r, t9) → lv_has ls 2 [] → W p l e (rmX4_read t0 t9) s m args below meth c H locs (t.2.2.2 0 - t0.2.2.2 0) (t.2.2.2 1 - t0.2.2.2 1) (vx_MQ below (xQ D dA a k t0 t9 fR r) (xX D dA a k t0 t9 r) args s (t9.2.2.2 0 - t0.2.2.2 0) (t9.2.2.2 1 - t0.2.2.2 1) (ca a)) (F0 m 129 ls [.ref y0]) := by
  obtain ⟨hx, hb, hr, hml, hown, hts, hlocks⟩ := id C
  intro t y0 H locs hT hS hK hm ls h hl
  have m9 : mo t t9 := mo_C_X4_read_p129 h
  unfold C_X4_read_p129 at h
  obtain ⟨hw1, h⟩ := ckW_some h
  cases h
  exact ex_thr C hxt hK hT hS hw1 dX4_read_129
theorem bX4_read_p124 {p : Program} {l : Launch} {e : Env} {s : State} {m : MethodId} {args : Array Value} {below : List Frame} {meth : Method} {c : Code} {D : va_G} {dA : Nat → ClassId} {a : Nat} {k : KP a} {t0 : CS} {r : Except Nat Nat} {t9 : CS} (C : cx p s m args meth c cX4_read RX4 2 (some (.object "LettersOnStrike$Text"))) (hxt : ∀ x ∈ c.exceptionTable.toList, False) (hkl : k.1 ≠ a ∧ l.stackTraces = false) : ∀ (t : CS) (H : Heap) (locs : List Loc) (hT : cW D dA a k t H) (hS : cS a s.heap H locs t0.2.2.2 2 t) (hK : kC D dA a k t.2.2.2 s) (hm : mo t0 t) (ls : Array Slot), C_X4_read_p124 t = some (r, t9) → lv_has ls 2 [(0, .ref k.1)] → W p l e (rmX4_read t0 t9) s m args below meth c H locs (t.2.2.2 0 - t0.2.2.2 0) (t.2.2.2 1 - t0.2.2.2 1) (vx_MQ below (xQ D dA a k t0 t9 fR r) (xX D dA a k t0 t9 r) args s (t9.2.2.2 0 - t0.2.2.2 0) (t9.2.2.2 1 - t0.2.2.2 1) (ca a)) (F0 m 124 ls []) := by
  obtain ⟨hx, hb, hr, hml, hown, hts, hlocks⟩ := id C
  intro t H locs hT hS hK hm ls h hl
  have m9 : mo t t9 := mo_C_X4_read_p124 h
  unfold C_X4_read_p124 at h
  refine lv_aload_n hx hb dX4_read_124 rfl (lv_at hl 0 rfl) ?_
  refine lv_iconst (v := 4) hx hb dX4_read_125 (by decide) ?_
  obtain ⟨v2, t1, ht1, h⟩ := bd2_some h
  have mm : mo t t1 := mo_C_wrong ht1
  have m9 : mo t1 t9 := mo_C_X4_read_p129 h
  refine wa_ref hS hK (run_c (As := [.int (4 : Int32)]) (rest := []) C hK hT hS.2.1 (rv_T hK hT hkl.1) (mX4_wrong hkl ht1) q672 q674 qs5 q171 q675 ⟨rfl, rfl⟩ hdX4_wrong ⟨Nat.le_of_ble_eq_true rfl, Nat.le_of_ble_eq_true rfl⟩ (mo_c hm mm m9) rfl hl.1 rfl (Nat.le_of_ble_eq_true rfl) dX4_read_126) (fun H locs hT hS hK => ?_)
  refine W.widen (mo_c hm mm mo.rf).1 (mo_c hm mm mo.rf).2 ?_
  replace hm := hm.tr mm
  exact bX4_read_p129 C hxt hkl t1 v2 H locs hT hS hK hm ls h (lv_sub hl [] rfl)
theorem bX4_read_p145 {p : Program} {l : Launch} {e : Env} {s : State} {m : MethodId} {args : Array Value} {below : List Frame} {meth : Method} {c : Code} {D : va_G} {dA : Nat → ClassId} {a : Nat} {k : KP a} {t0 : CS} {r : Except Nat Nat} {t9 : CS} (C : cx p s m args meth c cX4_read RX4 2 (some (.object "LettersOnStrike$Text"))) (hxt : ∀ x ∈ c.exceptionTable.toList, False) (hkl : k.1 ≠ a ∧ l.stackTraces = false) : ∀ (t : CS) (y0 : Nat) (H : Heap) (locs : List Loc) (hT : cW D dA a k t H) (hS : cS a s.heap H locs t0.2.2.2 2 t) (hK : kC D dA a k t.2.2.2 s) (hm : mo t0 t) (ls : Array Slot), C_X4_read_p145 t y0 = some (r, t9) → lv_has ls 2 [] → W p l e (rmX4_read t0 t9) s m args below meth c H locs (t.2.2.2 0 - t0.2.2.2 0) (t.2.2.2 1 - t0.2.2.2 1) (vx_MQ below (xQ D dA a k t0 t9 fR r) (xX D dA a k t0 t9 r) args s (t9.2.2.2 0 - t0.2.2.2 0) (t9.2.2.2 1 - t0.2.2.2 1) (ca a)) (F0 m 145 ls [.ref y0]) := by
  obtain ⟨hx, hb, hr, hml, hown, hts, hlocks⟩ := id C
  intro t y0 H locs hT hS hK hm ls h hl
  have m9 : mo t t9 := mo_C_X4_read_p145 h
  unfold C_X4_read_p145 at h
  obtain ⟨hw1, h⟩ := ckW_some h
  cases h
  exact ex_thr C hxt hK hT hS hw1 dX4_read_145
theorem bX4_read_p161 {p : Program} {l : Launch} {e : Env} {s : State} {m : MethodId} {args : Array Value} {below : List Frame} {meth : Method} {c : Code} {D : va_G} {dA : Nat → ClassId} {a : Nat} {k : KP a} {t0 : CS} {r : Except Nat Nat} {t9 : CS} (C : cx p s m args meth c cX4_read RX4 2 (some (.object "LettersOnStrike$Text"))) (hxt : ∀ x ∈ c.exceptionTable.toList, False) (hkl : k.1 ≠ a ∧ l.stackTraces = false) {k12 : CS → Nat → Option (Except Nat Nat × CS)} (hk12 : ∀ (t : CS) (x1 : Nat) (H : Heap) (locs : List Loc) (hT : cW D dA a k t H) (hS : cS a s.heap H locs t0.2.2.2 2 t) (hK : kC D dA a k t.2.2.2 s) (hm : mo t0 t) (ls : Array Slot), k12 t x1 = some (r, t9) → lv_has ls 2 [(0, .ref k.1), (1, .ref x1)] → W p l e (rmX4_read t0 t9) s m args below meth c H locs (t.2.2.2 0 - t0.2.2.2 0) (t.2.2.2 1 - t0.2.2.2 1) (vx_MQ below (xQ D dA a k t0 t9 fR r) (xX D dA a k t0 t9 r) args s (t9.2.2.2 0 - t0.2.2.2 0) (t9.2.2.2 1 - t0.2.2.2 1) (ca a)) (F0 m 12 ls [])) (mk12 : ∀ (t : CS) (x1 : Nat) (r : Except Nat Nat) (t9 : CS), k12 t x1 = some (r, t9) → mo t t9) : ∀ (t : CS) (x1 : Nat) (H : Heap) (locs : List Loc) (hT : cW D dA a k t H) (hS : cS a s.heap H locs t0.2.2.2 2 t) (hK : kC D dA a k t.2.2.2 s) (hm : mo t0 t) (ls : Array Slot), C_X4_read_p161 k12 t x1 = some (r, t9) → lv_has ls 2 [(0, .ref k.1), (1, .ref x1)] → W p l e (rmX4_read t0 t9) s m args below meth c H locs (t.2.2.2 0 - t0.2.2.2 0) (t.2.2.2 1 - t0.2.2.2 1) (vx_MQ below (xQ D dA a k t0 t9 fR r) (xX D dA a k t0 t9 r) args s (t9.2.2.2 0 - t0.2.2.2 0) (t9.2.2.2 1 - t0.2.2.2 1) (ca a)) (F0 m 161 ls []) := by
  obtain ⟨hx, hb, hr, hml, hown, hts, hlocks⟩ := id C
  intro t x1 H locs hT hS hK hm ls h hl
  have m9 : mo t t9 := mo_C_X4_read_p161 mk12 h
  unfold C_X4_read_p161 at h
  refine lv_aload_n hx hb dX4_read_161 rfl (lv_at hl 1 rfl) ?_
  refine lv_dup hx hb dX4_read_162 rfl ?_
  obtain ⟨v1, hv1, h⟩ := bd1_some h
  refine d_getN (ci := 5) in_X5 rfl C hK hT 4 (by decide) (nf586 hK.2.1) rfl (gI_some hv1) dX4_read_163 ?_
  refine lv_iconst (v := 1) hx hb dX4_read_166 (by decide) ?_
  refine lv_iadd hx hb dX4_read_167 ?_
  obtain ⟨t2, ht2, h⟩ := bd1_some h
  refine d_putN (ci := 5) in_X5 tyX5 tyX5_ok nmX5 rfl C hK hT hS 4 (by decide) (nf586 hK.2.1) rfl (Or.inl rfl) rfl ht2 (tyX5_ok 4 (by decide)) rfl rfl dX4_read_168 (fun H locs hT hS hK => ?_)
  have mm : mo t t2 := mo.nn (dpf_N ht2)
  replace hm := hm.tr mm
  replace m9 : mo t2 t9 := mo.bk (dpf_N ht2) m9
  refine W.widen (mo_s mm).1 (mo_s mm).2 ?_
  refine lv_goto (tgt := 12) hx hb dX4_read_171 (by decide) ?_
  exact hk12 t2 x1 H locs hT hS hK hm ls h (lv_sub hl [0, 1] rfl)
theorem bX4_read_p155 {p : Program} {l : Launch} {e : Env} {s : State} {m : MethodId} {args : Array Value} {below : List Frame} {meth : Method} {c : Code} {D : va_G} {dA : Nat → ClassId} {a : Nat} {k : KP a} {t0 : CS} {r : Except Nat Nat} {t9 : CS} (C : cx p s m args meth c cX4_read RX4 2 (some (.object "LettersOnStrike$Text"))) (hxt : ∀ x ∈ c.exceptionTable.toList, False) (hkl : k.1 ≠ a ∧ l.stackTraces = false) {k12 : CS → Nat → Option (Except Nat Nat × CS)} (hk12 : ∀ (t : CS) (x1 : Nat) (H : Heap) (locs : List Loc) (hT : cW D dA a k t H) (hS : cS a s.heap H locs t0.2.2.2 2 t) (hK : kC D dA a k t.2.2.2 s) (hm : mo t0 t) (ls : Array Slot), k12 t x1 = some (r, t9) → lv_has ls 2 [(0, .ref k.1), (1, .ref x1)] → W p l e (rmX4_read t0 t9) s m args below meth c H locs (t.2.2.2 0 - t0.2.2.2 0) (t.2.2.2 1 - t0.2.2.2 1) (vx_MQ below (xQ D dA a k t0 t9 fR r) (xX D dA a k t0 t9 r) args s (t9.2.2.2 0 - t0.2.2.2 0) (t9.2.2.2 1 - t0.2.2.2 1) (ca a)) (F0 m 12 ls [])) (mk12 : ∀ (t : CS) (x1 : Nat) (r : Except Nat Nat) (t9 : CS), k12 t x1 = some (r, t9) → mo t t9) : ∀ (t : CS) (x1 : Nat) (H : Heap) (locs : List Loc) (hT : cW D dA a k t H) (hS : cS a s.heap H locs t0.2.2.2 2 t) (hK : kC D dA a k t.2.2.2 s) (hm : mo t0 t) (ls : Array Slot), C_X4_read_p155 k12 t x1 = some (r, t9) → lv_has ls 2 [(0, .ref k.1), (1, .ref x1)] → W p l e (rmX4_read t0 t9) s m args below meth c H locs (t.2.2.2 0 - t0.2.2.2 0) (t.2.2.2 1 - t0.2.2.2 1) (vx_MQ below (xQ D dA a k t0 t9 fR r) (xX D dA a k t0 t9 r) args s (t9.2.2.2 0 - t0.2.2.2 0) (t9.2.2.2 1 - t0.2.2.2 1) (ca a)) (F0 m 155 ls []) := by
  obtain ⟨hx, hb, hr, hml, hown, hts, hlocks⟩ := id C
  intro t x1 H locs hT hS hK hm ls h hl
  have m9 : mo t t9 := mo_C_X4_read_p155 mk12 h
  unfold C_X4_read_p155 at h
  refine lv_aload_n hx hb dX4_read_155 rfl (lv_at hl 0 rfl) ?_
  refine lv_bipush (v := 59) hx hb dX4_read_156 (by decide) ?_
  rcases bdx_some h with ⟨q3, ht1, hr_⟩ | ⟨v2, t1, ht1, h⟩
  · subst hr_
    have mm : mo t t9 := mo_C_X4_want ht1
    exact ex_err C hxt hS (run_x (As := [.int (59 : Int32)]) (rest := []) C hK hT hS.2.1 (rv_T hK hT hkl.1) (mX4_want hkl ht1) q814 q816 qs17 q171 q817 ⟨rfl, rfl⟩ hdX4_want ⟨Nat.le_of_ble_eq_true rfl, Nat.le_of_ble_eq_true rfl⟩ (mo_c hm mm mo.rf) rfl hl.1 rfl (Nat.le_of_ble_eq_true rfl) dX4_read_158) (mo_c hm mm mo.rf)
  · have mm : mo t t1 := mo_C_X4_want ht1
    have m9 : mo t1 t9 := mo_C_X4_read_p161 mk12 h
    refine ex_okU hS hK (run_x (As := [.int (59 : Int32)]) (rest := []) C hK hT hS.2.1 (rv_T hK hT hkl.1) (mX4_want hkl ht1) q814 q816 qs17 q171 q817 ⟨rfl, rfl⟩ hdX4_want ⟨Nat.le_of_ble_eq_true rfl, Nat.le_of_ble_eq_true rfl⟩ (mo_c hm mm m9) rfl hl.1 rfl (Nat.le_of_ble_eq_true rfl) dX4_read_158) (fun H locs hT hS hK => ?_)
    refine W.widen (mo_c hm mm mo.rf).1 (mo_c hm mm mo.rf).2 ?_
    replace hm := hm.tr mm
    exact bX4_read_p161 C hxt hkl hk12 mk12 t1 x1 H locs hT hS hK hm ls h (lv_sub hl [0, 1] rfl)
theorem bX4_read_p130 {p : Program} {l : Launch} {e : Env} {s : State} {m : MethodId} {args : Array Value} {below : List Frame} {meth : Method} {c : Code} {D : va_G} {dA : Nat → ClassId} {a : Nat} {k : KP a} {t0 : CS} {r : Except Nat Nat} {t9 : CS} (C : cx p s m args meth c cX4_read RX4 2 (some (.object "LettersOnStrike$Text"))) (hxt : ∀ x ∈ c.exceptionTable.toList, False) (hkl : k.1 ≠ a ∧ l.stackTraces = false) {k12 : CS → Nat → Option (Except Nat Nat × CS)} (hk12 : ∀ (t : CS) (x1 : Nat) (H : Heap) (locs : List Loc) (hT : cW D dA a k t H) (hS : cS a s.heap H locs t0.2.2.2 2 t) (hK : kC D dA a k t.2.2.2 s) (hm : mo t0 t) (ls : Array Slot), k12 t x1 = some (r, t9) → lv_has ls 2 [(0, .ref k.1), (1, .ref x1)] → W p l e (rmX4_read t0 t9) s m args below meth c H locs (t.2.2.2 0 - t0.2.2.2 0) (t.2.2.2 1 - t0.2.2.2 1) (vx_MQ below (xQ D dA a k t0 t9 fR r) (xX D dA a k t0 t9 r) args s (t9.2.2.2 0 - t0.2.2.2 0) (t9.2.2.2 1 - t0.2.2.2 1) (ca a)) (F0 m 12 ls [])) (mk12 : ∀ (t : CS) (x1 : Nat) (r : Except Nat Nat) (t9 : CS), k12 t x1 = some (r, t9) → mo t t9) : ∀ (t : CS) (x1 : Nat) (H : Heap) (locs : List Loc) (hT : cW D dA a k t H) (hS : cS a s.heap H locs t0.2.2.2 2 t) (hK : kC D dA a k t.2.2.2 s) (hm : mo t0 t) (ls : Array Slot), C_X4_read_p130 k12 t x1 = some (r, t9) → lv_has ls 2 [(0, .ref k.1), (1, .ref x1)] → W p l e (rmX4_read t0 t9) s m args below meth c H locs (t.2.2.2 0 - t0.2.2.2 0) (t.2.2.2 1 - t0.2.2.2 1) (vx_MQ below (xQ D dA a k t0 t9 fR r) (xX D dA a k t0 t9 r) args s (t9.2.2.2 0 - t0.2.2.2 0) (t9.2.2.2 1 - t0.2.2.2 1) (ca a)) (F0 m 130 ls []) := by
  obtain ⟨hx, hb, hr, hml, hown, hts, hlocks⟩ := id C
  intro t x1 H locs hT hS hK hm ls h hl
  have m9 : mo t t9 := mo_C_X4_read_p130 mk12 h
  unfold C_X4_read_p130 at h
  refine lv_aload_n hx hb dX4_read_130 rfl (lv_at hl 1 rfl) ?_
  obtain ⟨v1, hv1, h⟩ := bd1_some h
  refine d_getN (ci := 5) in_X5 rfl C hK hT 4 (by decide) (nf586 hK.2.1) rfl (gI_some hv1) dX4_read_131 ?_
  refine lv_bipush (v := 24) hx hb dX4_read_134 (by decide) ?_
  refine lv_icmp_ne (tgt := 146) hx hb dX4_read_136 (by decide) (fun c => ?_) (fun c => ?_)
  · replace h := if_f c h
    refine lv_aload_n hx hb dX4_read_146 rfl (lv_at hl 0 rfl) ?_
    obtain ⟨t2, ht2, h⟩ := bd1_some h
    refine wc_void hS hK (run_c (As := []) (rest := []) C hK hT hS.2.1 (rv_T hK hT hkl.1) (mX4_next hkl ht2) q603 q605 qs3 q171 q606 ⟨rfl, rfl⟩ hdX4_next ⟨Nat.le_of_ble_eq_true rfl, Nat.le_of_ble_eq_true rfl⟩ (mo_z m9) rfl hl.1 rfl (Nat.le_of_ble_eq_true rfl) dX4_read_147) (fun H locs hT hS hK hNt2 => ?_)
    have mm : mo t t2 := mo.ni hNt2
    replace hm := hm.tr mm
    replace m9 : mo t2 t9 := mo.bk (funext fun i => hNt2 i (Nat.zero_le _)) m9
    refine W.widen (mo_s mm).1 (mo_s mm).2 ?_
    refine lv_aload_n hx hb dX4_read_150 rfl (lv_at hl 0 rfl) ?_
    refine lv_aload_n hx hb dX4_read_151 rfl (lv_at hl 1 rfl) ?_
    rcases bdx_some h with ⟨q5, ht3, hr_⟩ | ⟨v4, t3, ht3, h⟩
    · subst hr_
      have mm : mo t2 t9 := mo_C_X4_clause ht3
      exact ex_err C hxt hS (run_x (As := [.ref x1]) (rest := []) C hK hT hS.2.1 (rv_T hK hT hkl.1) (mX4_clause hkl ht3) q740 q742 qs7 q171 q743 ⟨rfl, rfl⟩ hdX4_clause ⟨Nat.le_of_ble_eq_true rfl, Nat.le_of_ble_eq_true rfl⟩ (mo_c hm mm mo.rf) rfl hl.1 rfl (Nat.le_of_ble_eq_true rfl) dX4_read_152) (mo_c hm mm mo.rf)
    · have mm : mo t2 t3 := mo_C_X4_clause ht3
      have m9 : mo t3 t9 := mo_C_X4_read_p155 mk12 h
      refine ex_okU hS hK (run_x (As := [.ref x1]) (rest := []) C hK hT hS.2.1 (rv_T hK hT hkl.1) (mX4_clause hkl ht3) q740 q742 qs7 q171 q743 ⟨rfl, rfl⟩ hdX4_clause ⟨Nat.le_of_ble_eq_true rfl, Nat.le_of_ble_eq_true rfl⟩ (mo_c hm mm m9) rfl hl.1 rfl (Nat.le_of_ble_eq_true rfl) dX4_read_152) (fun H locs hT hS hK => ?_)
      refine W.widen (mo_c hm mm mo.rf).1 (mo_c hm mm mo.rf).2 ?_
      replace hm := hm.tr mm
      exact bX4_read_p155 C hxt hkl hk12 mk12 t3 x1 H locs hT hS hK hm ls h (lv_sub hl [0, 1] rfl)
  · replace h := if_t c h
    refine lv_aload_n hx hb dX4_read_139 rfl (lv_at hl 0 rfl) ?_
    refine lv_bipush (v := 6) hx hb dX4_read_140 (by decide) ?_
    obtain ⟨v7, t6, ht6, h⟩ := bd2_some h
    have mm : mo t t6 := mo_C_wrong ht6
    have m9 : mo t6 t9 := mo_C_X4_read_p145 h
    refine wa_ref hS hK (run_c (As := [.int (6 : Int32)]) (rest := []) C hK hT hS.2.1 (rv_T hK hT hkl.1) (mX4_wrong hkl ht6) q672 q674 qs5 q171 q675 ⟨rfl, rfl⟩ hdX4_wrong ⟨Nat.le_of_ble_eq_true rfl, Nat.le_of_ble_eq_true rfl⟩ (mo_c hm mm m9) rfl hl.1 rfl (Nat.le_of_ble_eq_true rfl) dX4_read_142) (fun H locs hT hS hK => ?_)
    refine W.widen (mo_c hm mm mo.rf).1 (mo_c hm mm mo.rf).2 ?_
    replace hm := hm.tr mm
    exact bX4_read_p145 C hxt hkl t6 v7 H locs hT hS hK hm ls h (lv_sub hl [] rfl)
theorem bX4_read_p107 {p : Program} {l : Launch} {e : Env} {s : State} {m : MethodId} {args : Array Value} {below : List Frame} {meth : Method} {c : Code} {D : va_G} {dA : Nat → ClassId} {a : Nat} {k : KP a} {t0 : CS} {r : Except Nat Nat} {t9 : CS} (C : cx p s m args meth c cX4_read RX4 2 (some (.object "LettersOnStrike$Text"))) (hxt : ∀ x ∈ c.exceptionTable.toList, False) (hkl : k.1 ≠ a ∧ l.stackTraces = false) {k12 : CS → Nat → Option (Except Nat Nat × CS)} (hk12 : ∀ (t : CS) (x1 : Nat) (H : Heap) (locs : List Loc) (hT : cW D dA a k t H) (hS : cS a s.heap H locs t0.2.2.2 2 t) (hK : kC D dA a k t.2.2.2 s) (hm : mo t0 t) (ls : Array Slot), k12 t x1 = some (r, t9) → lv_has ls 2 [(0, .ref k.1), (1, .ref x1)] → W p l e (rmX4_read t0 t9) s m args below meth c H locs (t.2.2.2 0 - t0.2.2.2 0) (t.2.2.2 1 - t0.2.2.2 1) (vx_MQ below (xQ D dA a k t0 t9 fR r) (xX D dA a k t0 t9 r) args s (t9.2.2.2 0 - t0.2.2.2 0) (t9.2.2.2 1 - t0.2.2.2 1) (ca a)) (F0 m 12 ls [])) (mk12 : ∀ (t : CS) (x1 : Nat) (r : Except Nat Nat) (t9 : CS), k12 t x1 = some (r, t9) → mo t t9) : ∀ (t : CS) (x1 : Nat) (H : Heap) (locs : List Loc) (hT : cW D dA a k t H) (hS : cS a s.heap H locs t0.2.2.2 2 t) (hK : kC D dA a k t.2.2.2 s) (hm : mo t0 t) (ls : Array Slot), C_X4_read_p107 k12 t x1 = some (r, t9) → lv_has ls 2 [(0, .ref k.1), (1, .ref x1)] → W p l e (rmX4_read t0 t9) s m args below meth c H locs (t.2.2.2 0 - t0.2.2.2 0) (t.2.2.2 1 - t0.2.2.2 1) (vx_MQ below (xQ D dA a k t0 t9 fR r) (xX D dA a k t0 t9 r) args s (t9.2.2.2 0 - t0.2.2.2 0) (t9.2.2.2 1 - t0.2.2.2 1) (ca a)) (F0 m 107 ls []) := by
  obtain ⟨hx, hb, hr, hml, hown, hts, hlocks⟩ := id C
  intro t x1 H locs hT hS hK hm ls h hl
  have m9 : mo t t9 := mo_C_X4_read_p107 mk12 h
  unfold C_X4_read_p107 at h
  refine lv_aload_n hx hb dX4_read_107 rfl (lv_at hl 0 rfl) ?_
  refine c_getT C hK hT hkl.1 7 (by decide) q524 rfl (v := .int (t.1 200 7)) rfl dX4_read_108 ?_
  refine lv_sipush (v := 203) hx hb dX4_read_111 (by decide) ?_
  refine lv_icmp_ne (tgt := 130) hx hb dX4_read_114 (by decide) (fun c => ?_) (fun c => ?_)
  · replace h := if_f c h
    exact bX4_read_p130 C hxt hkl hk12 mk12 t x1 H locs hT hS hK hm ls h (lv_sub hl [0, 1] rfl)
  · replace h := if_t c h
    refine lv_aload_n hx hb dX4_read_117 rfl (lv_at hl 1 rfl) ?_
    obtain ⟨v1, hv1, h⟩ := bd1_some h
    refine d_getN (ci := 5) in_X5 rfl C hK hT 2 (by decide) (nf582 hK.2.1) rfl (gO_some hv1) dX4_read_118 ?_
    replace h := on1_some h
    rcases h with ⟨ho, h⟩ | ⟨r2, ho, h⟩
    · subst ho
      refine lv_ifnullN (tgt := 130) hx hb dX4_read_121 (by decide) ?_
      exact bX4_read_p130 C hxt hkl hk12 mk12 t x1 H locs hT hS hK hm ls h (lv_sub hl [0, 1] rfl)
    · subst ho
      refine lv_ifnull hx hb dX4_read_121 ?_
      exact bX4_read_p124 C hxt hkl t H locs hT hS hK hm ls h (lv_sub hl [0] rfl)
theorem bX4_read_p90 {p : Program} {l : Launch} {e : Env} {s : State} {m : MethodId} {args : Array Value} {below : List Frame} {meth : Method} {c : Code} {D : va_G} {dA : Nat → ClassId} {a : Nat} {k : KP a} {t0 : CS} {r : Except Nat Nat} {t9 : CS} (C : cx p s m args meth c cX4_read RX4 2 (some (.object "LettersOnStrike$Text"))) (hxt : ∀ x ∈ c.exceptionTable.toList, False) (hkl : k.1 ≠ a ∧ l.stackTraces = false) {k12 : CS → Nat → Option (Except Nat Nat × CS)} (hk12 : ∀ (t : CS) (x1 : Nat) (H : Heap) (locs : List Loc) (hT : cW D dA a k t H) (hS : cS a s.heap H locs t0.2.2.2 2 t) (hK : kC D dA a k t.2.2.2 s) (hm : mo t0 t) (ls : Array Slot), k12 t x1 = some (r, t9) → lv_has ls 2 [(0, .ref k.1), (1, .ref x1)] → W p l e (rmX4_read t0 t9) s m args below meth c H locs (t.2.2.2 0 - t0.2.2.2 0) (t.2.2.2 1 - t0.2.2.2 1) (vx_MQ below (xQ D dA a k t0 t9 fR r) (xX D dA a k t0 t9 r) args s (t9.2.2.2 0 - t0.2.2.2 0) (t9.2.2.2 1 - t0.2.2.2 1) (ca a)) (F0 m 12 ls [])) (mk12 : ∀ (t : CS) (x1 : Nat) (r : Except Nat Nat) (t9 : CS), k12 t x1 = some (r, t9) → mo t t9) : ∀ (t : CS) (x1 : Nat) (H : Heap) (locs : List Loc) (hT : cW D dA a k t H) (hS : cS a s.heap H locs t0.2.2.2 2 t) (hK : kC D dA a k t.2.2.2 s) (hm : mo t0 t) (ls : Array Slot), C_X4_read_p90 k12 t x1 = some (r, t9) → lv_has ls 2 [(0, .ref k.1), (1, .ref x1)] → W p l e (rmX4_read t0 t9) s m args below meth c H locs (t.2.2.2 0 - t0.2.2.2 0) (t.2.2.2 1 - t0.2.2.2 1) (vx_MQ below (xQ D dA a k t0 t9 fR r) (xX D dA a k t0 t9 r) args s (t9.2.2.2 0 - t0.2.2.2 0) (t9.2.2.2 1 - t0.2.2.2 1) (ca a)) (F0 m 90 ls []) := by
  obtain ⟨hx, hb, hr, hml, hown, hts, hlocks⟩ := id C
  intro t x1 H locs hT hS hK hm ls h hl
  have m9 : mo t t9 := mo_C_X4_read_p90 mk12 h
  unfold C_X4_read_p90 at h
  refine lv_aload_n hx hb dX4_read_90 rfl (lv_at hl 0 rfl) ?_
  refine c_getT C hK hT hkl.1 7 (by decide) q524 rfl (v := .int (t.1 200 7)) rfl dX4_read_91 ?_
  refine lv_sipush (v := 202) hx hb dX4_read_94 (by decide) ?_
  refine lv_icmp_ne (tgt := 107) hx hb dX4_read_97 (by decide) (fun c => ?_) (fun c => ?_)
  · replace h := if_f c h
    exact bX4_read_p107 C hxt hkl hk12 mk12 t x1 H locs hT hS hK hm ls h (lv_sub hl [0, 1] rfl)
  · replace h := if_t c h
    refine lv_aload_n hx hb dX4_read_100 rfl (lv_at hl 1 rfl) ?_
    obtain ⟨v1, hv1, h⟩ := bd1_some h
    refine d_getN (ci := 5) in_X5 rfl C hK hT 3 (by decide) (nf584 hK.2.1) rfl (gO_some hv1) dX4_read_101 ?_
    replace h := on1_some h
    rcases h with ⟨ho, h⟩ | ⟨r2, ho, h⟩
    · subst ho
      refine lv_ifnonnullN hx hb dX4_read_104 ?_
      exact bX4_read_p107 C hxt hkl hk12 mk12 t x1 H locs hT hS hK hm ls h (lv_sub hl [0, 1] rfl)
    · subst ho
      refine lv_ifnonnull (tgt := 124) hx hb dX4_read_104 (by decide) ?_
      exact bX4_read_p124 C hxt hkl t H locs hT hS hK hm ls h (lv_sub hl [0] rfl)
theorem bX4_read_p73 {p : Program} {l : Launch} {e : Env} {s : State} {m : MethodId} {args : Array Value} {below : List Frame} {meth : Method} {c : Code} {D : va_G} {dA : Nat → ClassId} {a : Nat} {k : KP a} {t0 : CS} {r : Except Nat Nat} {t9 : CS} (C : cx p s m args meth c cX4_read RX4 2 (some (.object "LettersOnStrike$Text"))) (hxt : ∀ x ∈ c.exceptionTable.toList, False) (hkl : k.1 ≠ a ∧ l.stackTraces = false) {k12 : CS → Nat → Option (Except Nat Nat × CS)} (hk12 : ∀ (t : CS) (x1 : Nat) (H : Heap) (locs : List Loc) (hT : cW D dA a k t H) (hS : cS a s.heap H locs t0.2.2.2 2 t) (hK : kC D dA a k t.2.2.2 s) (hm : mo t0 t) (ls : Array Slot), k12 t x1 = some (r, t9) → lv_has ls 2 [(0, .ref k.1), (1, .ref x1)] → W p l e (rmX4_read t0 t9) s m args below meth c H locs (t.2.2.2 0 - t0.2.2.2 0) (t.2.2.2 1 - t0.2.2.2 1) (vx_MQ below (xQ D dA a k t0 t9 fR r) (xX D dA a k t0 t9 r) args s (t9.2.2.2 0 - t0.2.2.2 0) (t9.2.2.2 1 - t0.2.2.2 1) (ca a)) (F0 m 12 ls [])) (mk12 : ∀ (t : CS) (x1 : Nat) (r : Except Nat Nat) (t9 : CS), k12 t x1 = some (r, t9) → mo t t9) : ∀ (t : CS) (x1 : Nat) (H : Heap) (locs : List Loc) (hT : cW D dA a k t H) (hS : cS a s.heap H locs t0.2.2.2 2 t) (hK : kC D dA a k t.2.2.2 s) (hm : mo t0 t) (ls : Array Slot), C_X4_read_p73 k12 t x1 = some (r, t9) → lv_has ls 2 [(0, .ref k.1), (1, .ref x1)] → W p l e (rmX4_read t0 t9) s m args below meth c H locs (t.2.2.2 0 - t0.2.2.2 0) (t.2.2.2 1 - t0.2.2.2 1) (vx_MQ below (xQ D dA a k t0 t9 fR r) (xX D dA a k t0 t9 r) args s (t9.2.2.2 0 - t0.2.2.2 0) (t9.2.2.2 1 - t0.2.2.2 1) (ca a)) (F0 m 73 ls []) := by
  obtain ⟨hx, hb, hr, hml, hown, hts, hlocks⟩ := id C
  intro t x1 H locs hT hS hK hm ls h hl
  have m9 : mo t t9 := mo_C_X4_read_p73 mk12 h
  unfold C_X4_read_p73 at h
  refine lv_aload_n hx hb dX4_read_73 rfl (lv_at hl 0 rfl) ?_
  refine c_getT C hK hT hkl.1 7 (by decide) q524 rfl (v := .int (t.1 200 7)) rfl dX4_read_74 ?_
  refine lv_sipush (v := 201) hx hb dX4_read_77 (by decide) ?_
  refine lv_icmp_ne (tgt := 90) hx hb dX4_read_80 (by decide) (fun c => ?_) (fun c => ?_)
  · replace h := if_f c h
    exact bX4_read_p90 C hxt hkl hk12 mk12 t x1 H locs hT hS hK hm ls h (lv_sub hl [0, 1] rfl)
  · replace h := if_t c h
    refine lv_aload_n hx hb dX4_read_83 rfl (lv_at hl 1 rfl) ?_
    obtain ⟨v1, hv1, h⟩ := bd1_some h
    refine d_getN (ci := 5) in_X5 rfl C hK hT 1 (by decide) (nf580 hK.2.1) rfl (gO_some hv1) dX4_read_84 ?_
    replace h := on1_some h
    rcases h with ⟨ho, h⟩ | ⟨r2, ho, h⟩
    · subst ho
      refine lv_ifnonnullN hx hb dX4_read_87 ?_
      exact bX4_read_p90 C hxt hkl hk12 mk12 t x1 H locs hT hS hK hm ls h (lv_sub hl [0, 1] rfl)
    · subst ho
      refine lv_ifnonnull (tgt := 124) hx hb dX4_read_87 (by decide) ?_
      exact bX4_read_p124 C hxt hkl t H locs hT hS hK hm ls h (lv_sub hl [0] rfl)
theorem bX4_read_p12 {p : Program} {l : Launch} {e : Env} {s : State} {m : MethodId} {args : Array Value} {below : List Frame} {meth : Method} {c : Code} {D : va_G} {dA : Nat → ClassId} {a : Nat} {k : KP a} {t0 : CS} {r : Except Nat Nat} {t9 : CS} (C : cx p s m args meth c cX4_read RX4 2 (some (.object "LettersOnStrike$Text"))) (hxt : ∀ x ∈ c.exceptionTable.toList, False) (hkl : k.1 ≠ a ∧ l.stackTraces = false) : ∀ (n : Nat), ∀ (t : CS) (x1 : Nat) (H : Heap) (locs : List Loc) (hT : cW D dA a k t H) (hS : cS a s.heap H locs t0.2.2.2 2 t) (hK : kC D dA a k t.2.2.2 s) (hm : mo t0 t) (ls : Array Slot), C_X4_read_p12 n t x1 = some (r, t9) → lv_has ls 2 [(0, .ref k.1), (1, .ref x1)] → W p l e (rmX4_read t0 t9) s m args below meth c H locs (t.2.2.2 0 - t0.2.2.2 0) (t.2.2.2 1 - t0.2.2.2 1) (vx_MQ below (xQ D dA a k t0 t9 fR r) (xX D dA a k t0 t9 r) args s (t9.2.2.2 0 - t0.2.2.2 0) (t9.2.2.2 1 - t0.2.2.2 1) (ca a)) (F0 m 12 ls []) := by
  obtain ⟨hx, hb, hr, hml, hown, hts, hlocks⟩ := id C
  intro n
  induction n with
  | zero =>
    intro t x1 H locs hT hS hK hm ls h hl
    have h : none = some _ := h
    cases h
  | succ n ih =>
    intro t x1 H locs hT hS hK hm ls h hl
    have m9 : mo t t9 := mo_C_X4_read_p12 (n + 1) _ _ _ _ h
    rw [C_X4_read_p12] at h
    refine lv_aload_n hx hb dX4_read_12 rfl (lv_at hl 0 rfl) ?_
    refine c_getT C hK hT hkl.1 4 (by decide) q521 rfl (v := .int (t.1 200 4)) rfl dX4_read_13 ?_
    refine lv_sipush (v := 301) hx hb dX4_read_16 (by decide) ?_
    refine lv_icmp_eq (tgt := 174) hx hb dX4_read_19 (by decide) (fun c => ?_) (fun c => ?_)
    · replace h := if_t c h
      refine lv_aload_n hx hb dX4_read_174 rfl (lv_at hl 1 rfl) ?_
      cases h
      exact toX (ec_r C (Or.inl ⟨_, rfl⟩) hT hS rfl dX4_read_175)
    · replace h := if_f c h
      refine lv_aload_n hx hb dX4_read_22 rfl (lv_at hl 0 rfl) ?_
      refine c_getT C hK hT hkl.1 4 (by decide) q521 rfl (v := .int (t.1 200 4)) rfl dX4_read_23 ?_
      refine lv_sipush (v := 200) hx hb dX4_read_26 (by decide) ?_
      refine lv_icmp_lt (tgt := 42) hx hb dX4_read_29 (by decide) (fun c => ?_) (fun c => ?_)
      · replace h := if_t c h
        exact bX4_read_p42 C hxt hkl t H locs hT hS hK hm ls h (lv_sub hl [0] rfl)
      · replace h := if_f c h
        refine lv_aload_n hx hb dX4_read_32 rfl (lv_at hl 0 rfl) ?_
        refine c_getT C hK hT hkl.1 4 (by decide) q521 rfl (v := .int (t.1 200 4)) rfl dX4_read_33 ?_
        refine lv_sipush (v := 212) hx hb dX4_read_36 (by decide) ?_
        refine lv_icmp_le (tgt := 48) hx hb dX4_read_39 (by decide) (fun c => ?_) (fun c => ?_)
        · replace h := if_t c h
          refine lv_aload_n hx hb dX4_read_48 rfl (lv_at hl 0 rfl) ?_
          refine lv_aload_n hx hb dX4_read_49 rfl (lv_at hl 0 rfl) ?_
          refine c_getT C hK hT hkl.1 4 (by decide) q521 rfl (v := .int (t.1 200 4)) rfl dX4_read_50 ?_
          refine c_putT C hK hT hkl.1 hS 7 (by decide) q524 rfl rfl (tyX4_ok 7 (by decide)) dX4_read_53 (fun t1 H locs et1 hT hS hK => ?_)
          replace h := lt1_sub et1 h
          have mm : mo t t1 := mo.nn (by rw [et1]; rfl)
          replace hm := hm.tr mm
          replace m9 : mo t1 t9 := mo.bk (by rw [et1]; rfl) m9
          refine W.widen (mo_s mm).1 (mo_s mm).2 ?_
          refine lv_aload_n hx hb dX4_read_56 rfl (lv_at hl 0 rfl) ?_
          refine c_getT C hK hT hkl.1 7 (by decide) q524 rfl (v := .int (t1.1 200 7)) rfl dX4_read_57 ?_
          refine lv_sipush (v := 200) hx hb dX4_read_60 (by decide) ?_
          refine lv_icmp_ne (tgt := 73) hx hb dX4_read_63 (by decide) (fun c => ?_) (fun c => ?_)
          · replace h := if_f c h
            exact bX4_read_p73 C hxt hkl ih (mo_C_X4_read_p12 n) t1 x1 H locs hT hS hK hm ls h (lv_sub hl [0, 1] rfl)
          · replace h := if_t c h
            refine lv_aload_n hx hb dX4_read_66 rfl (lv_at hl 1 rfl) ?_
            obtain ⟨v2, hv2, h⟩ := bd1_some h
            refine d_getN (ci := 5) in_X5 rfl C hK hT 0 (by decide) (nf578 hK.2.1) rfl (gO_some hv2) dX4_read_67 ?_
            replace h := on1_some h
            rcases h with ⟨ho, h⟩ | ⟨r3, ho, h⟩
            · subst ho
              refine lv_ifnonnullN hx hb dX4_read_70 ?_
              exact bX4_read_p73 C hxt hkl ih (mo_C_X4_read_p12 n) t1 x1 H locs hT hS hK hm ls h (lv_sub hl [0, 1] rfl)
            · subst ho
              refine lv_ifnonnull (tgt := 124) hx hb dX4_read_70 (by decide) ?_
              exact bX4_read_p124 C hxt hkl t1 H locs hT hS hK hm ls h (lv_sub hl [0] rfl)
        · replace h := if_f c h
          exact bX4_read_p42 C hxt hkl t H locs hT hS hK hm ls h (lv_sub hl [0] rfl)
theorem bX4_read_p7 {p : Program} {l : Launch} {e : Env} {s : State} {m : MethodId} {args : Array Value} {below : List Frame} {meth : Method} {c : Code} {D : va_G} {dA : Nat → ClassId} {a : Nat} {k : KP a} {t0 : CS} {r : Except Nat Nat} {t9 : CS} (C : cx p s m args meth c cX4_read RX4 2 (some (.object "LettersOnStrike$Text"))) (hxt : ∀ x ∈ c.exceptionTable.toList, False) (hkl : k.1 ≠ a ∧ l.stackTraces = false) : ∀ (t : CS) (y0 : Nat) (H : Heap) (locs : List Loc) (hT : cW D dA a k t H) (hS : cS a s.heap H locs t0.2.2.2 2 t) (hK : kC D dA a k t.2.2.2 s) (hm : mo t0 t) (ls : Array Slot), C_X4_read_p7 t y0 = some (r, t9) → lv_has ls 2 [(0, .ref k.1)] → W p l e (rmX4_read t0 t9) s m args below meth c H locs (t.2.2.2 0 - t0.2.2.2 0) (t.2.2.2 1 - t0.2.2.2 1) (vx_MQ below (xQ D dA a k t0 t9 fR r) (xX D dA a k t0 t9 r) args s (t9.2.2.2 0 - t0.2.2.2 0) (t9.2.2.2 1 - t0.2.2.2 1) (ca a)) (F0 m 7 ls [.ref y0]) := by
  obtain ⟨hx, hb, hr, hml, hown, hts, hlocks⟩ := id C
  intro t y0 H locs hT hS hK hm ls h hl
  have m9 : mo t t9 := mo_C_X4_read_p7 h
  unfold C_X4_read_p7 at h
  refine lv_astore_n (lv' := [(1, .ref y0), (0, .ref k.1)]) hx hb dX4_read_7 rfl hl (by decide) rfl (fun ls hl => ?_)
  refine lv_aload_n hx hb dX4_read_8 rfl (lv_at hl 1 rfl) ?_
  obtain ⟨t1, ht1, h⟩ := bd1_some h
  refine wc_void hS hK (run_c (As := []) (rest := []) C hK hT hS.2.1 (rv_T hK hT hkl.1) (mX4_next hkl ht1) q603 q605 qs3 q171 q606 ⟨rfl, rfl⟩ hdX4_next ⟨Nat.le_of_ble_eq_true rfl, Nat.le_of_ble_eq_true rfl⟩ (mo_z m9) rfl hl.1 rfl (Nat.le_of_ble_eq_true rfl) dX4_read_9) (fun H locs hT hS hK hNt1 => ?_)
  have mm : mo t t1 := mo.ni hNt1
  replace hm := hm.tr mm
  replace m9 : mo t1 t9 := mo.bk (funext fun i => hNt1 i (Nat.zero_le _)) m9
  refine W.widen (mo_s mm).1 (mo_s mm).2 ?_
  exact bX4_read_p12 C hxt hkl fu t1 y0 H locs hT hS hK hm ls h (lv_sub hl [1, 0] rfl)
theorem bX4_read_p3 {p : Program} {l : Launch} {e : Env} {s : State} {m : MethodId} {args : Array Value} {below : List Frame} {meth : Method} {c : Code} {D : va_G} {dA : Nat → ClassId} {a : Nat} {k : KP a} {t0 : CS} {r : Except Nat Nat} {t9 : CS} (C : cx p s m args meth c cX4_read RX4 2 (some (.object "LettersOnStrike$Text"))) (hxt : ∀ x ∈ c.exceptionTable.toList, False) (hkl : k.1 ≠ a ∧ l.stackTraces = false) : ∀ (t : CS) (y0 : Nat) (H : Heap) (locs : List Loc) (hT : cW D dA a k t H) (hS : cS a s.heap H locs t0.2.2.2 2 t) (hK : kC D dA a k t.2.2.2 s) (hm : mo t0 t) (ls : Array Slot), C_X4_read_p3 t y0 = some (r, t9) → lv_has ls 2 [(0, .ref k.1)] → W p l e (rmX4_read t0 t9) s m args below meth c H locs (t.2.2.2 0 - t0.2.2.2 0) (t.2.2.2 1 - t0.2.2.2 1) (vx_MQ below (xQ D dA a k t0 t9 fR r) (xX D dA a k t0 t9 r) args s (t9.2.2.2 0 - t0.2.2.2 0) (t9.2.2.2 1 - t0.2.2.2 1) (ca a)) (F0 m 3 ls [.ref y0]) := by
  obtain ⟨hx, hb, hr, hml, hown, hts, hlocks⟩ := id C
  intro t y0 H locs hT hS hK hm ls h hl
  have m9 : mo t t9 := mo_C_X4_read_p3 h
  unfold C_X4_read_p3 at h
  refine lv_dup hx hb dX4_read_3 rfl ?_
  obtain ⟨t1, ht1, h⟩ := bd1_some h
  have mm : mo t t1 := mo_C_X5_init ht1
  have m9 : mo t1 t9 := mo_C_X4_read_p7 h
  refine wa_void hS hK (run_iN (As := []) (rest := [.ref y0]) C hK hT hS.2.1 (mX5_init ht1) (nm548 hK.2.1) q549 q172 q550 ⟨rfl, rfl⟩ hdX5_init ⟨Nat.le_of_ble_eq_true rfl, Nat.le_of_ble_eq_true rfl⟩ (mo_c hm mm m9) rfl hl.1 rfl (Nat.le_of_ble_eq_true rfl) dX4_read_4) (fun H locs hT hS hK => ?_)
  refine W.widen (mo_c hm mm mo.rf).1 (mo_c hm mm mo.rf).2 ?_
  replace hm := hm.tr mm
  exact bX4_read_p7 C hxt hkl t1 y0 H locs hT hS hK hm ls h (lv_sub hl [0] rfl)
theorem bX4_read {p : Program} {l : Launch} {e : Env} {s : State} {m : MethodId} {args : Array Value} {below : List Frame} {meth : Method} {c : Code} {D : va_G} {dA : Nat → ClassId} {a : Nat} {k : KP a} {t0 : CS} {r : Except Nat Nat} {t9 : CS} (C : cx p s m args meth c cX4_read RX4 2 (some (.object "LettersOnStrike$Text"))) (hxt : ∀ x ∈ c.exceptionTable.toList, False) (hkl : k.1 ≠ a ∧ l.stackTraces = false) : ∀ (t : CS) (H : Heap) (locs : List Loc) (hT : cW D dA a k t H) (hS : cS a s.heap H locs t0.2.2.2 2 t) (hK : kC D dA a k t.2.2.2 s) (hm : mo t0 t) (ls : Array Slot), C_X4_read t = some (r, t9) → lv_has ls 2 [(0, .ref k.1)] → W p l e (rmX4_read t0 t9) s m args below meth c H locs (t.2.2.2 0 - t0.2.2.2 0) (t.2.2.2 1 - t0.2.2.2 1) (vx_MQ below (xQ D dA a k t0 t9 fR r) (xX D dA a k t0 t9 r) args s (t9.2.2.2 0 - t0.2.2.2 0) (t9.2.2.2 1 - t0.2.2.2 1) (ca a)) (F0 m 0 ls []) := by
  obtain ⟨hx, hb, hr, hml, hown, hts, hlocks⟩ := id C
  intro t H locs hT hS hK hm ls h hl
  have m9 : mo t t9 := mo_C_X4_read h
  unfold C_X4_read at h
  obtain ⟨t1, et1, h⟩ := lt1_ex h
  have m9 : mo t1 t9 := mo_C_X4_read_p3 h
  refine n_new (ci := 5) (fs := [.null, .null, .null, .null, .int 0, .null]) in_X5 tyX5 tyX5_ok rfl C hK hT hS q546 q547 q172 (fun j hj => by rcases (show j = 0 ∨ j = 1 ∨ j = 2 ∨ j = 3 ∨ j = 4 ∨ j = 5 by omega) with rfl | rfl | rfl | rfl | rfl | rfl <;> rfl) (mo_n hm et1 m9) dX4_read_0 (fun t_ H et_ hT hS hK => ?_)
  obtain rfl := et1.trans et_.symm
  refine W.widen (mo_n1 hm et1).1 (mo_n1 hm et1).2 ?_
  replace hm := hm.tr (mo.new et1)
  exact bX4_read_p3 C hxt hkl t1 (t.2.2.2 0) H locs hT hS hK hm ls h (lv_sub hl [0] rfl)
theorem mX4_read {l : Launch} {D : va_G} {dA : Nat → ClassId} {a : Nat} {k : KP a} {t : CS} {r : Except Nat Nat} {t9 : CS} (hkl : k.1 ≠ a ∧ l.stackTraces = false) (h : C_X4_read t = some (r, t9)) : vx_Met l yX4_read (ws_ yX4_read cX4_read 2 (some (.object "LettersOnStrike$Text"))) (rmX4_read t t9) (cPc D dA a k t [.ref k.1]) (xQ D dA a k t t9 fR r) (xX D dA a k t t9 r) (t9.2.2.2 0 - t.2.2.2 0) (t9.2.2.2 1 - t.2.2.2 1) (ca a) := en_X (by decide +kernel) rfl (Nat.le_of_ble_eq_true rfl) (fun p e s m below meth c ls C hxt hK hT hl => sub0 (bX4_read C hxt hkl t _ [] hT cS.rf hK mo.rf ls h hl))
set_option maxRecDepth 20000 in
abbrev rmJ0_rangeCheck : Room := { frames := 0, cells := 0, slots := 0, locals := 0 }
theorem hdJ0_rangeCheck : yJ0_rangeCheck.cls ≠ "java/lang/invoke/MethodHandle" ∧ yJ0_rangeCheck.cls ≠ "java/lang/invoke/VarHandle" ∧ (parseMethodDescriptor yJ0_rangeCheck.desc).map (fun d => d.parameters.length) = some 3 := by decide +kernel
theorem bJ0_rangeCheck {p : Program} {l : Launch} {e : Env} {s : State} {m : MethodId} {args : Array Value} {below : List Frame} {meth : Method} {c : Code} (C : cx p s m args meth c cJ0_rangeCheck RJ0 3 none) : ∀ (x0 : Int32) (x1 : Int32) (x2 : Int32) (ls : Array Slot), J_J0_rangeCheck x0 x1 x2 = some () → lv_has ls 3 [(0, .int x0), (1, .int x1), (2, .int x2)] → W p l e rmJ0_rangeCheck s m args below meth c s.heap [] 0 0 (MQ below (rQv none) args s 0 0 nof) (F0 m 0 ls []) := by
  obtain ⟨hx, hb, hr, hml, hown, hts, hlocks⟩ := id C
  intro x0 x1 x2 ls h hl
  unfold J_J0_rangeCheck at h
  refine lv_iload_n hx hb dJ0_rangeCheck_0 rfl (lv_at hl 1 rfl) ?_
  refine lv_iload_n hx hb dJ0_rangeCheck_1 rfl (lv_at hl 2 rfl) ?_
  refine lv_icmp_le (tgt := 46) hx hb dJ0_rangeCheck_2 (by decide) (fun c => ?_) (fun c => ?_)
  · replace h := if_t c h
    refine lv_iload_n hx hb dJ0_rangeCheck_46 rfl (lv_at hl 1 rfl) ?_
    refine lv_if_ge (tgt := 59) hx hb dJ0_rangeCheck_47 (by decide) (fun c => ?_) (fun c => ?_)
    · replace h := if_t c h
      refine lv_iload_n hx hb dJ0_rangeCheck_59 rfl (lv_at hl 2 rfl) ?_
      refine lv_iload_n hx hb dJ0_rangeCheck_60 rfl (lv_at hl 0 rfl) ?_
      refine lv_icmp_le (tgt := 73) hx hb dJ0_rangeCheck_61 (by decide) (fun c => ?_) (fun c => ?_)
      · replace h := if_t c h
        exact e_rv C h dJ0_rangeCheck_73
      · replace h := if_f c h
        cases h
    · replace h := if_f c h
      cases h
  · replace h := if_f c h
    cases h
theorem mJ0_rangeCheck {l : Launch} {x0 : Int32} {x1 : Int32} {x2 : Int32} (h : J_J0_rangeCheck x0 x1 x2 = some ()) : Met l yJ0_rangeCheck (ws_ yJ0_rangeCheck cJ0_rangeCheck 3 none) rmJ0_rangeCheck (sPc [.int x0, .int x1, .int x2]) (rQv none) 0 0 nof := en_S (by decide +kernel) rfl (Nat.le_of_ble_eq_true rfl) (fun p e s m below meth c ls C hl => bJ0_rangeCheck C x0 x1 x2 ls h hl)
