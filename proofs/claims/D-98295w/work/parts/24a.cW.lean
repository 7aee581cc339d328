/-! the component's walks, 0 (written by gen/gen_comp.py) -/
set_option maxRecDepth 20000
set_option maxRecDepth 20000 in
abbrev rmX0_in : Room := { frames := 0, cells := 0, slots := 0, locals := 0 }
theorem hdX0_in : yX0_in.cls ≠ "java/lang/invoke/MethodHandle" ∧ yX0_in.cls ≠ "java/lang/invoke/VarHandle" ∧ (parseMethodDescriptor yX0_in.desc).map (fun d => d.parameters.length) = some 3 := by decide +kernel
theorem bX0_in {p : Program} {l : Launch} {e : Env} {s : State} {m : MethodId} {args : Array Value} {below : List Frame} {meth : Method} {c : Code} {r : Int32} (C : cx p s m args meth c cX0_in RX0 3 (some .boolean)) : ∀ (x0 : Int32) (x1 : Int32) (x2 : Int32) (ls : Array Slot), C_in x0 x1 x2 = some r → lv_has ls 3 [(0, .int x0), (1, .int x1), (2, .int x2)] → W p l e rmX0_in s m args below meth c s.heap [] 0 0 (MQ below (rQi r) args s 0 0 nof) (F0 m 0 ls []) := by
  obtain ⟨hx, hb, hr, hml, hown, hts, hlocks⟩ := id C
  intro x0 x1 x2 ls h hl
  unfold C_in at h
  refine lv_iload_n hx hb dX0_in_0 rfl (lv_at hl 0 rfl) ?_
  refine lv_iload_n hx hb dX0_in_1 rfl (lv_at hl 1 rfl) ?_
  refine lv_icmp_lt (tgt := 14) hx hb dX0_in_2 (by decide) (fun c => ?_) (fun c => ?_)
  · replace h := if_t c h
    refine lv_iconst (v := 0) hx hb dX0_in_14 (by decide) ?_
    exact e_rz C (Or.inl rfl) h dX0_in_15
  · replace h := if_f c h
    refine lv_iload_n hx hb dX0_in_5 rfl (lv_at hl 0 rfl) ?_
    refine lv_iload_n hx hb dX0_in_6 rfl (lv_at hl 2 rfl) ?_
    refine lv_icmp_gt (tgt := 14) hx hb dX0_in_7 (by decide) (fun c => ?_) (fun c => ?_)
    · replace h := if_t c h
      refine lv_iconst (v := 0) hx hb dX0_in_14 (by decide) ?_
      exact e_rz C (Or.inl rfl) h dX0_in_15
    · replace h := if_f c h
      refine lv_iconst (v := 1) hx hb dX0_in_10 (by decide) ?_
      refine lv_goto (tgt := 15) hx hb dX0_in_11 (by decide) ?_
      exact e_rz C (Or.inr rfl) h dX0_in_15
theorem mX0_in {l : Launch} {x0 : Int32} {x1 : Int32} {x2 : Int32} {r : Int32} (h : C_in x0 x1 x2 = some r) : Met l yX0_in (ws_ yX0_in cX0_in 3 (some .boolean)) rmX0_in (sPc [.int x0, .int x1, .int x2]) (rQi r) 0 0 nof := en_S (by decide +kernel) rfl (Nat.le_of_ble_eq_true rfl) (fun p e s m below meth c ls C hl => bX0_in C x0 x1 x2 ls h hl)
set_option maxRecDepth 20000 in
abbrev rmX0_isLetter : Room := { frames := 1, cells := 0, slots := 0, locals := 22 }
theorem hdX0_isLetter : yX0_isLetter.cls ≠ "java/lang/invoke/MethodHandle" ∧ yX0_isLetter.cls ≠ "java/lang/invoke/VarHandle" ∧ (parseMethodDescriptor yX0_isLetter.desc).map (fun d => d.parameters.length) = some 1 := by decide +kernel
theorem bX0_isLetter {p : Program} {l : Launch} {e : Env} {s : State} {m : MethodId} {args : Array Value} {below : List Frame} {meth : Method} {c : Code} {r : Int32} (C : cx p s m args meth c cX0_isLetter RX0 1 (some .boolean)) : ∀ (x0 : Int32) (ls : Array Slot), C_isLetter x0 = some r → lv_has ls 1 [(0, .int x0)] → W p l e rmX0_isLetter s m args below meth c s.heap [] 0 0 (MQ below (rQi r) args s 0 0 nof) (F0 m 0 ls []) := by
  obtain ⟨hx, hb, hr, hml, hown, hts, hlocks⟩ := id C
  intro x0 ls h hl
  unfold C_isLetter at h
  refine lv_iload_n hx hb dX0_isLetter_0 rfl (lv_at hl 0 rfl) ?_
  refine lv_iconst (v := 0) hx hb dX0_isLetter_1 (by decide) ?_
  refine lv_bipush (v := 25) hx hb dX0_isLetter_2 (by decide) ?_
  obtain ⟨v1, hv1, h⟩ := bd1_some h
  refine r_int (run_s (As := [.int x0, .int (0 : Int32), .int (25 : Int32)]) (rest := []) C (mX0_in hv1) q341 q342 q158 q343 ⟨rfl, rfl⟩ hdX0_in ⟨Nat.le_of_ble_eq_true rfl, Nat.le_of_ble_eq_true rfl⟩ ⟨Nat.zero_le _, Nat.zero_le _⟩ rfl hl.1 rfl (Nat.le_of_ble_eq_true rfl) dX0_isLetter_4) ?_
  obtain ⟨hz, h⟩ := zr_some h
  exact e_rz C hz h dX0_isLetter_7
theorem mX0_isLetter {l : Launch} {x0 : Int32} {r : Int32} (h : C_isLetter x0 = some r) : Met l yX0_isLetter (ws_ yX0_isLetter cX0_isLetter 1 (some .boolean)) rmX0_isLetter (sPc [.int x0]) (rQi r) 0 0 nof := en_S (by decide +kernel) rfl (Nat.le_of_ble_eq_true rfl) (fun p e s m below meth c ls C hl => bX0_isLetter C x0 ls h hl)
set_option maxRecDepth 20000 in
abbrev rmX0_has : Room := { frames := 0, cells := 0, slots := 0, locals := 0 }
theorem hdX0_has : yX0_has.cls ≠ "java/lang/invoke/MethodHandle" ∧ yX0_has.cls ≠ "java/lang/invoke/VarHandle" ∧ (parseMethodDescriptor yX0_has.desc).map (fun d => d.parameters.length) = some 2 := by decide +kernel
theorem bX0_has {p : Program} {l : Launch} {e : Env} {s : State} {m : MethodId} {args : Array Value} {below : List Frame} {meth : Method} {c : Code} {r : Int32} (C : cx p s m args meth c cX0_has RX0 2 (some .boolean)) : ∀ (x0 : Int32) (x1 : Int32) (ls : Array Slot), C_has x0 x1 = some r → lv_has ls 2 [(0, .int x0), (1, .int x1)] → W p l e rmX0_has s m args below meth c s.heap [] 0 0 (MQ below (rQi r) args s 0 0 nof) (F0 m 0 ls []) := by
  obtain ⟨hx, hb, hr, hml, hown, hts, hlocks⟩ := id C
  intro x0 x1 ls h hl
  unfold C_has at h
  refine lv_iload_n hx hb dX0_has_0 rfl (lv_at hl 0 rfl) ?_
  refine lv_iload_n hx hb dX0_has_1 rfl (lv_at hl 1 rfl) ?_
  refine lv_ishr hx hb dX0_has_2 ?_
  refine lv_iconst (v := 1) hx hb dX0_has_3 (by decide) ?_
  refine lv_iand hx hb dX0_has_4 ?_
  refine lv_iconst (v := 1) hx hb dX0_has_5 (by decide) ?_
  refine lv_icmp_ne (tgt := 13) hx hb dX0_has_6 (by decide) (fun c => ?_) (fun c => ?_)
  · replace h := if_f c h
    refine lv_iconst (v := 0) hx hb dX0_has_13 (by decide) ?_
    exact e_rz C (Or.inl rfl) h dX0_has_14
  · replace h := if_t c h
    refine lv_iconst (v := 1) hx hb dX0_has_9 (by decide) ?_
    refine lv_goto (tgt := 14) hx hb dX0_has_10 (by decide) ?_
    exact e_rz C (Or.inr rfl) h dX0_has_14
theorem mX0_has {l : Launch} {x0 : Int32} {x1 : Int32} {r : Int32} (h : C_has x0 x1 = some r) : Met l yX0_has (ws_ yX0_has cX0_has 2 (some .boolean)) rmX0_has (sPc [.int x0, .int x1]) (rQi r) 0 0 nof := en_S (by decide +kernel) rfl (Nat.le_of_ble_eq_true rfl) (fun p e s m below meth c ls C hl => bX0_has C x0 x1 ls h hl)
set_option maxRecDepth 20000 in
abbrev rmX0_tie : Room := { frames := 2, cells := 0, slots := 0, locals := 42 }
theorem hdX0_tie : yX0_tie.cls = RX0 ∧ yX0_tie.cls ≠ "java/lang/invoke/MethodHandle" ∧ yX0_tie.cls ≠ "java/lang/invoke/VarHandle" ∧ (parseMethodDescriptor yX0_tie.desc).map (fun d => d.parameters.length) = some 2 := by decide +kernel
theorem bX0_tie {p : Program} {l : Launch} {e : Env} {s : State} {m : MethodId} {args : Array Value} {below : List Frame} {meth : Method} {c : Code} {D : va_G} {dA : Nat → ClassId} {a : Nat} {k : KP a} {t0 : CS} {r : Int32} {t9 : CS} (C : cx p s m args meth c cX0_tie RX0 3 (some .boolean)) : ∀ (t : CS) (x1 : Int32) (x2 : Int32) (H : Heap) (locs : List Loc) (hT : cW D dA a k t H) (hS : cS a s.heap H locs t0.2.2.2 0 t) (hK : kC D dA a k t.2.2.2 s) (ls : Array Slot), C_tie t x1 x2 = some (r, t9) → lv_has ls 3 [(0, .ref a), (1, .int x1), (2, .int x2)] → W p l e rmX0_tie s m args below meth c H locs 0 0 (MQ below (cQ D dA a k 0 t0 t9 (some (.int r))) args s 0 0 (ca a)) (F0 m 0 ls []) := by
  obtain ⟨hx, hb, hr, hml, hown, hts, hlocks⟩ := id C
  intro t x1 x2 H locs hT hS hK ls h hl
  unfold C_tie at h
  refine lv_iload_n hx hb dX0_tie_0 rfl (lv_at hl 1 rfl) ?_
  obtain ⟨v1, hv1, h⟩ := bd1_some h
  refine r_int (run_s (As := [.int x1]) (rest := []) C (mX0_isLetter hv1) q338 q339 q158 q340 ⟨rfl, rfl⟩ hdX0_isLetter ⟨Nat.le_of_ble_eq_true rfl, Nat.le_of_ble_eq_true rfl⟩ ⟨Nat.zero_le _, Nat.zero_le _⟩ rfl hl.1 rfl (Nat.le_of_ble_eq_true rfl) dX0_tie_1) ?_
  refine lv_if_eq (tgt := 35) hx hb dX0_tie_4 (by decide) (fun c => ?_) (fun c => ?_)
  · replace h := if_t c h
    refine lv_iconst (v := 0) hx hb dX0_tie_35 (by decide) ?_
    exact ec_z C hT hS (Or.inl rfl) h dX0_tie_36
  · replace h := if_f c h
    refine lv_iload_n hx hb dX0_tie_7 rfl (lv_at hl 2 rfl) ?_
    obtain ⟨v2, hv2, h⟩ := bd1_some h
    refine r_int (run_s (As := [.int x2]) (rest := []) C (mX0_isLetter hv2) q338 q339 q158 q340 ⟨rfl, rfl⟩ hdX0_isLetter ⟨Nat.le_of_ble_eq_true rfl, Nat.le_of_ble_eq_true rfl⟩ ⟨Nat.zero_le _, Nat.zero_le _⟩ rfl hl.1 rfl (Nat.le_of_ble_eq_true rfl) dX0_tie_8) ?_
    refine lv_if_eq (tgt := 35) hx hb dX0_tie_11 (by decide) (fun c => ?_) (fun c => ?_)
    · replace h := if_t c h
      refine lv_iconst (v := 0) hx hb dX0_tie_35 (by decide) ?_
      exact ec_z C hT hS (Or.inl rfl) h dX0_tie_36
    · replace h := if_f c h
      refine lv_iload_n hx hb dX0_tie_14 rfl (lv_at hl 1 rfl) ?_
      refine lv_iload_n hx hb dX0_tie_15 rfl (lv_at hl 2 rfl) ?_
      refine lv_icmp_eq (tgt := 35) hx hb dX0_tie_16 (by decide) (fun c => ?_) (fun c => ?_)
      · replace h := if_t c h
        refine lv_iconst (v := 0) hx hb dX0_tie_35 (by decide) ?_
        exact ec_z C hT hS (Or.inl rfl) h dX0_tie_36
      · replace h := if_f c h
        refine lv_aload_n hx hb dX0_tie_19 rfl (lv_at hl 0 rfl) ?_
        refine cg0 C hK hT dX0_tie_20 ?_
        refine c_getSN C hK hT (Or.inl rfl) 2 (by decide) (nf226 hK.2.1) rfl (v := .ref (a + 4)) rfl dX0_tie_23 ?_
        refine lv_iload_n hx hb dX0_tie_26 rfl (lv_at hl 1 rfl) ?_
        obtain ⟨hi3, h⟩ := ck_some h
        refine c_ild C hK hT 4 26 (by decide) (fun _ _ => rfl) hi3 dX0_tie_27 ?_
        refine lv_iload_n hx hb dX0_tie_28 rfl (lv_at hl 2 rfl) ?_
        obtain ⟨v4, hv4, h⟩ := bd1_some h
        refine r_int (run_s (As := [.int (t.1 4 x1.toNatClampNeg), .int x2]) (rest := []) C (mX0_has hv4) q344 q345 q158 q346 ⟨rfl, rfl⟩ hdX0_has ⟨Nat.le_of_ble_eq_true rfl, Nat.le_of_ble_eq_true rfl⟩ ⟨Nat.zero_le _, Nat.zero_le _⟩ rfl hl.1 rfl (Nat.le_of_ble_eq_true rfl) dX0_tie_29) ?_
        refine lv_if_eq (tgt := 37) hx hb dX0_tie_32 (by decide) (fun c => ?_) (fun c => ?_)
        · replace h := if_t c h
          refine lv_aload_n hx hb dX0_tie_37 rfl (lv_at hl 0 rfl) ?_
          refine cg0 C hK hT dX0_tie_38 ?_
          refine c_getSN C hK hT (Or.inl rfl) 2 (by decide) (nf226 hK.2.1) rfl (v := .ref (a + 4)) rfl dX0_tie_41 ?_
          refine lv_iload_n hx hb dX0_tie_44 rfl (lv_at hl 1 rfl) ?_
          refine lv_dup2_11 hx hb dX0_tie_45 rfl rfl ?_
          obtain ⟨hi5, h⟩ := ck_some h
          refine c_ild C hK hT 4 26 (by decide) (fun _ _ => rfl) hi5 dX0_tie_46 ?_
          refine lv_iconst (v := 1) hx hb dX0_tie_47 (by decide) ?_
          refine lv_iload_n hx hb dX0_tie_48 rfl (lv_at hl 2 rfl) ?_
          refine lv_ishl hx hb dX0_tie_49 ?_
          refine lv_ior hx hb dX0_tie_50 ?_
          obtain ⟨hi6, h⟩ := ck_some h
          refine c_ist C hK hT hS 4 26 (by decide) (fun _ _ => rfl) hi6 dX0_tie_51 (fun t7 H locs et7 hT hS hK => ?_)
          replace h := lt1_sub et7 h
          refine lv_iconst (v := 1) hx hb dX0_tie_52 (by decide) ?_
          exact ec_z C hT hS (Or.inr rfl) h dX0_tie_53
        · replace h := if_f c h
          refine lv_iconst (v := 0) hx hb dX0_tie_35 (by decide) ?_
          exact ec_z C hT hS (Or.inl rfl) h dX0_tie_36
theorem mX0_tie {l : Launch} {D : va_G} {dA : Nat → ClassId} {a : Nat} {k : KP a} {t : CS} {x1 : Int32} {x2 : Int32} {r : Int32} {t9 : CS} (h : C_tie t x1 x2 = some (r, t9)) : Met l yX0_tie (ws_ yX0_tie cX0_tie 3 (some .boolean)) rmX0_tie (cPc D dA a k t [.ref a, .int x1, .int x2]) (cQ D dA a k 0 t t9 (some (.int r))) 0 0 (ca a) := en_C (by decide +kernel) rfl (Nat.le_of_ble_eq_true rfl) (fun p e s m below meth c ls C hK hT hl => bX0_tie C t x1 x2 _ [] hT cS.rf hK ls h hl)
set_option maxRecDepth 20000 in
abbrev rmX0_byteOf : Room := { frames := 0, cells := 0, slots := 0, locals := 0 }
theorem hdX0_byteOf : yX0_byteOf.cls ≠ "java/lang/invoke/MethodHandle" ∧ yX0_byteOf.cls ≠ "java/lang/invoke/VarHandle" ∧ (parseMethodDescriptor yX0_byteOf.desc).map (fun d => d.parameters.length) = some 3 := by decide +kernel
theorem bX0_byteOf_p10 {p : Program} {l : Launch} {e : Env} {s : State} {m : MethodId} {args : Array Value} {below : List Frame} {meth : Method} {c : Code} {r : Int32} (C : cx p s m args meth c cX0_byteOf RX0 3 (some .int)) : ∀ (x2 : Int32) (y0 : Int32) (ls : Array Slot), C_byteOf_p10 x2 y0 = some r → lv_has ls 3 [(2, .int x2)] → W p l e rmX0_byteOf s m args below meth c s.heap [] 0 0 (MQ below (rQi r) args s 0 0 nof) (F0 m 10 ls [.int y0]) := by
  obtain ⟨hx, hb, hr, hml, hown, hts, hlocks⟩ := id C
  intro x2 y0 ls h hl
  unfold C_byteOf_p10 at h
  refine lv_bipush (v := 8) hx hb dX0_byteOf_10 (by decide) ?_
  refine lv_iload_n hx hb dX0_byteOf_12 rfl (lv_at hl 0 rfl) ?_
  refine lv_iconst (v := 4) hx hb dX0_byteOf_13 (by decide) ?_
  refine lv_irem hx hb dX0_byteOf_14 (by decide) ?_
  refine lv_imul hx hb dX0_byteOf_15 ?_
  refine lv_ishr hx hb dX0_byteOf_16 ?_
  refine lv_sipush (v := 255) hx hb dX0_byteOf_17 (by decide) ?_
  refine lv_iand hx hb dX0_byteOf_20 ?_
  exact e_ri C h dX0_byteOf_21
theorem bX0_byteOf {p : Program} {l : Launch} {e : Env} {s : State} {m : MethodId} {args : Array Value} {below : List Frame} {meth : Method} {c : Code} {r : Int32} (C : cx p s m args meth c cX0_byteOf RX0 3 (some .int)) : ∀ (x0 : Int32) (x1 : Int32) (x2 : Int32) (ls : Array Slot), C_byteOf x0 x1 x2 = some r → lv_has ls 3 [(0, .int x0), (1, .int x1), (2, .int x2)] → W p l e rmX0_byteOf s m args below meth c s.heap [] 0 0 (MQ below (rQi r) args s 0 0 nof) (F0 m 0 ls []) := by
  obtain ⟨hx, hb, hr, hml, hown, hts, hlocks⟩ := id C
  intro x0 x1 x2 ls h hl
  unfold C_byteOf at h
  refine lv_iload_n hx hb dX0_byteOf_0 rfl (lv_at hl 2 rfl) ?_
  refine lv_iconst (v := 4) hx hb dX0_byteOf_1 (by decide) ?_
  refine lv_icmp_ge (tgt := 9) hx hb dX0_byteOf_2 (by decide) (fun c => ?_) (fun c => ?_)
  · replace h := if_t c h
    refine lv_iload_n hx hb dX0_byteOf_9 rfl (lv_at hl 1 rfl) ?_
    exact bX0_byteOf_p10 C x2 x1 ls h (lv_sub hl [2] rfl)
  · replace h := if_f c h
    refine lv_iload_n hx hb dX0_byteOf_5 rfl (lv_at hl 0 rfl) ?_
    refine lv_goto (tgt := 10) hx hb dX0_byteOf_6 (by decide) ?_
    exact bX0_byteOf_p10 C x2 x0 ls h (lv_sub hl [2] rfl)
theorem mX0_byteOf {l : Launch} {x0 : Int32} {x1 : Int32} {x2 : Int32} {r : Int32} (h : C_byteOf x0 x1 x2 = some r) : Met l yX0_byteOf (ws_ yX0_byteOf cX0_byteOf 3 (some .int)) rmX0_byteOf (sPc [.int x0, .int x1, .int x2]) (rQi r) 0 0 nof := en_S (by decide +kernel) rfl (Nat.le_of_ble_eq_true rfl) (fun p e s m below meth c ls C hl => bX0_byteOf C x0 x1 x2 ls h hl)
set_option maxRecDepth 20000 in
abbrev rmX3_letter : Room := { frames := 0, cells := 0, slots := 0, locals := 0 }
theorem hdX3_letter : yX3_letter.cls = RX3 ∧ yX3_letter.cls ≠ "java/lang/invoke/MethodHandle" ∧ yX3_letter.cls ≠ "java/lang/invoke/VarHandle" ∧ (parseMethodDescriptor yX3_letter.desc).map (fun d => d.parameters.length) = some 0 := by decide +kernel
theorem bX3_letter {p : Program} {l : Launch} {e : Env} {s : State} {m : MethodId} {args : Array Value} {below : List Frame} {meth : Method} {c : Code} {D : va_G} {dA : Nat → ClassId} {a : Nat} {k : KP a} {t : CS} {r : Nat} (C : cx p s m args meth c cX3_letter RX3 1 (some (.array (.int)))) (hK : kC D dA a k t.2.2.2 s) (hT : cW D dA a k t s.heap) : ∀ (x0 : Nat) (ls : Array Slot), C_X3_letter t x0 = some r → lv_has ls 1 [(0, .ref x0)] → W p l e rmX3_letter s m args below meth c s.heap [] 0 0 (MQ below (rQv (some (.ref r))) args s 0 0 nof) (F0 m 0 ls []) := by
  obtain ⟨hx, hb, hr, hml, hown, hts, hlocks⟩ := id C
  intro x0 ls h hl
  unfold C_X3_letter at h
  refine lv_aload_n hx hb dX3_letter_0 rfl (lv_at hl 0 rfl) ?_
  obtain ⟨v1, hv1, h⟩ := bd1_some h
  refine d_get (ci := 3) in_X3 rfl C hK hT 0 (by decide) q476 rfl (gR_some hv1) dX3_letter_1 ?_
  exact e_rr C (Or.inr ⟨_, rfl⟩) h dX3_letter_4
theorem mX3_letter {l : Launch} {D : va_G} {dA : Nat → ClassId} {a : Nat} {k : KP a} {t : CS} {x0 : Nat} {r : Nat} (h : C_X3_letter t x0 = some r) : Met l yX3_letter (ws_ yX3_letter cX3_letter 1 (some (.array (.int)))) rmX3_letter (cPc D dA a k t [.ref x0]) (rQv (some (.ref r))) 0 0 nof := en_C (by decide +kernel) rfl (Nat.le_of_ble_eq_true rfl) (fun p e s m below meth c ls C hK hT hl => bX3_letter C hK hT x0 ls h hl)
set_option maxRecDepth 20000 in
abbrev rmJ6_init : Room := { frames := 1, cells := 0, slots := 0, locals := 30 }
theorem hdJ6_init : yJ6_init.name = "<init>" ∧ yJ6_init.cls ≠ "java/lang/invoke/MethodHandle" ∧ yJ6_init.cls ≠ "java/lang/invoke/VarHandle" ∧ (parseMethodDescriptor yJ6_init.desc).map (fun d => d.parameters.length) = some 0 := by decide +kernel
theorem bJ6_init {p : Program} {l : Launch} {e : Env} {s : State} {m : MethodId} {args : Array Value} {below : List Frame} {meth : Method} {c : Code} {D : va_G} {dA : Nat → ClassId} {a : Nat} {k : KP a} {t : CS} (C : cx p s m args meth c cJ6_init RJ6 1 none) (hK : kC D dA a k t.2.2.2 s) (hT : cW D dA a k t s.heap) (hin : meth.name = "<init>") : ∀ (x0 : Nat) (ls : Array Slot), J_J6_init t x0 = some () → lv_has ls 1 [(0, .ref x0)] → W p l e rmJ6_init s m args below meth c s.heap [] 0 0 (MQ below (rQv none) args s 0 0 nof) (F0 m 0 ls []) := by
  obtain ⟨hx, hb, hr, hml, hown, hts, hlocks⟩ := id C
  intro x0 ls h hl
  unfold J_J6_init at h
  refine lv_aload_n hx hb dJ6_init_0 rfl (lv_at hl 0 rfl) ?_
  refine W.objInit hx hb hown (hts _ q475) (hts _ q200) (hts _ q201) rfl (by rw [hml]; exact hl.1) rfl dJ6_init_1 (Nat.le_of_ble_eq_true rfl) (Nat.le_of_ble_eq_true rfl) ?_
  refine W.eq (g2 := F0 m 4 ls []) rfl ?_
  exact e_rv C h dJ6_init_4
theorem mJ6_init {l : Launch} {D : va_G} {dA : Nat → ClassId} {a : Nat} {k : KP a} {t : CS} {x0 : Nat} (h : J_J6_init t x0 = some ()) : Met l yJ6_init (ws_ yJ6_init cJ6_init 1 none) rmJ6_init (cPc D dA a k t [.ref x0]) (rQv none) 0 0 nof := en_Ci (by decide +kernel) rfl (Nat.le_of_ble_eq_true rfl) (fun p e s m below meth c ls C hin hK hT hl => bJ6_init C hK hT hin x0 ls h hl)
set_option maxRecDepth 20000 in
abbrev rmX3_init : Room := { frames := 2, cells := 0, slots := 0, locals := 50 }
theorem hdX3_init : yX3_init.name = "<init>" ∧ yX3_init.cls ≠ "java/lang/invoke/MethodHandle" ∧ yX3_init.cls ≠ "java/lang/invoke/VarHandle" ∧ (parseMethodDescriptor yX3_init.desc).map (fun d => d.parameters.length) = some 3 := by decide +kernel
theorem bX3_init {p : Program} {l : Launch} {e : Env} {s : State} {m : MethodId} {args : Array Value} {below : List Frame} {meth : Method} {c : Code} {D : va_G} {dA : Nat → ClassId} {a : Nat} {k : KP a} {t0 : CS} {t9 : CS} (C : cx p s m args meth c cX3_init RX3 4 none) (hin : meth.name = "<init>") : ∀ (t : CS) (x0 : Nat) (x1 : Nat) (x2 : Int32) (x3 : Int32) (H : Heap) (locs : List Loc) (hT : cW D dA a k t H) (hS : cS a s.heap H locs t0.2.2.2 0 t) (hK : kC D dA a k t.2.2.2 s) (ls : Array Slot), C_X3_init t x0 x1 x2 x3 = some t9 → lv_has ls 4 [(0, .ref x0), (1, .ref x1), (2, .int x2), (3, .int x3)] → W p l e rmX3_init s m args below meth c H locs 0 0 (MQ below (cQ D dA a k 0 t0 t9 none) args s 0 0 (ca a)) (F0 m 0 ls []) := by
  obtain ⟨hx, hb, hr, hml, hown, hts, hlocks⟩ := id C
  intro t x0 x1 x2 x3 H locs hT hS hK ls h hl
  unfold C_X3_init at h
  refine lv_aload_n hx hb dX3_init_0 rfl (lv_at hl 0 rfl) ?_
  obtain ⟨v1, hv1, h⟩ := bd1_some h
  refine r_void (run_i (As := []) (rest := []) C hK hT hS.2.1 (mJ6_init hv1) q472 q473 q169 q474 ⟨rfl, rfl⟩ hdJ6_init ⟨Nat.le_of_ble_eq_true rfl, Nat.le_of_ble_eq_true rfl⟩ ⟨Nat.zero_le _, Nat.zero_le _⟩ rfl hl.1 rfl (Nat.le_of_ble_eq_true rfl) dX3_init_1) ?_
  refine lv_aload_n hx hb dX3_init_4 rfl (lv_at hl 0 rfl) ?_
  refine lv_aload_n hx hb dX3_init_5 rfl (lv_at hl 1 rfl) ?_
  obtain ⟨t2, ht2, h⟩ := bd1_some h
  refine d_put (ci := 3) in_X3 tyX3 tyX3_ok nmX3 rfl C hK hT hS 0 (by decide) q476 rfl (Or.inr ⟨rfl, hin, rfl⟩) ht2 (tyX3_ok 0 (by decide)) rfl rfl dX3_init_6 (fun H locs hT hS hK => ?_)
  refine lv_aload_n hx hb dX3_init_9 rfl (lv_at hl 0 rfl) ?_
  refine lv_iload_n hx hb dX3_init_10 rfl (lv_at hl 2 rfl) ?_
  obtain ⟨t3, ht3, h⟩ := bd1_some h
  refine d_put (ci := 3) in_X3 tyX3 tyX3_ok nmX3 rfl C hK hT hS 1 (by decide) q477 rfl (Or.inr ⟨rfl, hin, rfl⟩) ht3 (tyX3_ok 1 (by decide)) rfl rfl dX3_init_11 (fun H locs hT hS hK => ?_)
  refine lv_aload_n hx hb dX3_init_14 rfl (lv_at hl 0 rfl) ?_
  refine lv_iload_n hx hb dX3_init_15 rfl (lv_at hl 3 rfl) ?_
  obtain ⟨t4, ht4, h⟩ := bd1_some h
  refine d_put (ci := 3) in_X3 tyX3 tyX3_ok nmX3 rfl C hK hT hS 2 (by decide) q478 rfl (Or.inr ⟨rfl, hin, rfl⟩) ht4 (tyX3_ok 2 (by decide)) rfl rfl dX3_init_16 (fun H locs hT hS hK => ?_)
  exact ec_v C hT hS h dX3_init_19
theorem mX3_init {l : Launch} {D : va_G} {dA : Nat → ClassId} {a : Nat} {k : KP a} {t : CS} {x0 : Nat} {x1 : Nat} {x2 : Int32} {x3 : Int32} {t9 : CS} (h : C_X3_init t x0 x1 x2 x3 = some t9) : Met l yX3_init (ws_ yX3_init cX3_init 4 none) rmX3_init (cPc D dA a k t [.ref x0, .ref x1, .int x2, .int x3]) (cQ D dA a k 0 t t9 none) 0 0 (ca a) := en_Ci (by decide +kernel) rfl (Nat.le_of_ble_eq_true rfl) (fun p e s m below meth c ls C hin hK hT hl => bX3_init C hin t x0 x1 x2 x3 _ [] hT cS.rf hK ls h hl)
set_option maxRecDepth 20000 in
abbrev rmX0_adds (t t9 : CS) : Room := { frames := 13, cells := t9.2.2.2 0 - t.2.2.2 0, slots := t9.2.2.2 1 - t.2.2.2 1, locals := 622 }
theorem hdX0_adds : yX0_adds.cls = RX0 ∧ yX0_adds.cls ≠ "java/lang/invoke/MethodHandle" ∧ yX0_adds.cls ≠ "java/lang/invoke/VarHandle" ∧ (parseMethodDescriptor yX0_adds.desc).map (fun d => d.parameters.length) = some 2 := by decide +kernel
theorem bX0_adds_p120 {p : Program} {l : Launch} {e : Env} {s : State} {m : MethodId} {args : Array Value} {below : List Frame} {meth : Method} {c : Code} {D : va_G} {dA : Nat → ClassId} {a : Nat} {k : KP a} {t0 : CS} {r : Int32} {t9 : CS} (C : cx p s m args meth c cX0_adds RX0 8 (some .int)) : ∀ (t : CS) (x1 : Nat) (x2 : Int32) (x3 : Int32) (y1 : Int32) (y2 : Nat) (H : Heap) (locs : List Loc) (hT : cW D dA a k t H) (hS : cS a s.heap H locs t0.2.2.2 2 t) (hK : kC D dA a k t.2.2.2 s) (hm : mo t0 t) (ls : Array Slot), C_adds_p120 t x1 x2 x3 y1 y2 = some (r, t9) → lv_has ls 8 [(0, .ref a), (1, .ref x1), (2, .int x2), (3, .int x3)] → W p l e (rmX0_adds t0 t9) s m args below meth c H locs (t.2.2.2 0 - t0.2.2.2 0) (t.2.2.2 1 - t0.2.2.2 1) (MQ below (cQ D dA a k 2 t0 t9 (some (.int r))) args s (t9.2.2.2 0 - t0.2.2.2 0) (t9.2.2.2 1 - t0.2.2.2 1) (ca a)) (F0 m 120 ls [.ref y2, .int y1, .ref (a + 6)]) := by
  obtain ⟨hx, hb, hr, hml, hown, hts, hlocks⟩ := id C
  intro t x1 x2 x3 y1 y2 H locs hT hS hK hm ls h hl
  have m9 : mo t t9 := mo_C_adds_p120 h
  unfold C_adds_p120 at h
  refine lv_dup hx hb dX0_adds_120 rfl ?_
  refine lv_aload_n hx hb dX0_adds_121 rfl (lv_at hl 1 rfl) ?_
  refine lv_iload_n hx hb dX0_adds_122 rfl (lv_at hl 3 rfl) ?_
  refine lv_iload_n hx hb dX0_adds_123 rfl (lv_at hl 2 rfl) ?_
  obtain ⟨t1, ht1, h⟩ := bd1_some h
  refine wc_void hS hK (run_iN (As := [.ref x1, .int x3, .int x2]) (rest := [.ref y2, .int y1, .ref (a + 6)]) C hK hT hS.2.1 (mX3_init ht1) (nm469 hK.2.1) q470 q170 q471 ⟨rfl, rfl⟩ hdX3_init ⟨Nat.le_of_ble_eq_true rfl, Nat.le_of_ble_eq_true rfl⟩ (mo_z m9) rfl hl.1 rfl (Nat.le_of_ble_eq_true rfl) dX0_adds_124) (fun H locs hT hS hK hNt1 => ?_)
  have mm : mo t t1 := mo.ni hNt1
  replace hm := hm.tr mm
  replace m9 : mo t1 t9 := mo.bk (funext fun i => hNt1 i (Nat.zero_le _)) m9
  refine W.widen (mo_s mm).1 (mo_s mm).2 ?_
  obtain ⟨hi2, h⟩ := ck_some h
  obtain ⟨hc3, h⟩ := ckC_some h
  refine c_astC (ci := 3) rfl C hK hT hS 6 24 4 (by decide) (fun _ _ => rfl) rfl hi2 hc3 dX0_adds_127 (fun t4 H locs et4 hT hS hK => ?_)
  replace h := lt1_sub et4 h
  have mm : mo t1 t4 := mo.nn (by rw [et4]; rfl)
  replace hm := hm.tr mm
  replace m9 : mo t4 t9 := mo.bk (by rw [et4]; rfl) m9
  refine W.widen (mo_s mm).1 (mo_s mm).2 ?_
  refine lv_aload_n hx hb dX0_adds_128 rfl (lv_at hl 0 rfl) ?_
  refine cg0 C hK hT dX0_adds_129 ?_
  refine c_getSN C hK hT (Or.inl rfl) 0 (by decide) (nf222 hK.2.1) rfl (v := .ref (a + 2)) rfl dX0_adds_132 ?_
  refine lv_iconst (v := 0) hx hb dX0_adds_135 (by decide) ?_
  refine lv_dup2_11 hx hb dX0_adds_136 rfl rfl ?_
  obtain ⟨hi5, h⟩ := ck_some h
  refine c_ild C hK hT 2 7 (by decide) (fun _ _ => rfl) hi5 dX0_adds_137 ?_
  refine lv_iconst (v := 1) hx hb dX0_adds_138 (by decide) ?_
  refine lv_iadd hx hb dX0_adds_139 ?_
  obtain ⟨hi6, h⟩ := ck_some h
  refine c_ist C hK hT hS 2 7 (by decide) (fun _ _ => rfl) hi6 dX0_adds_140 (fun t7 H locs et7 hT hS hK => ?_)
  replace h := lt1_sub et7 h
  have mm : mo t4 t7 := mo.nn (by rw [et7]; rfl)
  replace hm := hm.tr mm
  replace m9 : mo t7 t9 := mo.bk (by rw [et7]; rfl) m9
  refine W.widen (mo_s mm).1 (mo_s mm).2 ?_
  refine lv_aload_n hx hb dX0_adds_141 rfl (lv_at hl 0 rfl) ?_
  refine cg0 C hK hT dX0_adds_142 ?_
  refine c_getSN C hK hT (Or.inl rfl) 0 (by decide) (nf222 hK.2.1) rfl (v := .ref (a + 2)) rfl dX0_adds_145 ?_
  refine lv_iconst (v := 0) hx hb dX0_adds_148 (by decide) ?_
  obtain ⟨hi8, h⟩ := ck_some h
  refine c_ild C hK hT 2 7 (by decide) (fun _ _ => rfl) hi8 dX0_adds_149 ?_
  refine lv_iconst (v := 1) hx hb dX0_adds_150 (by decide) ?_
  refine lv_isub hx hb dX0_adds_151 ?_
  cases h
  exact ec_i C hT hS rfl dX0_adds_152
theorem bX0_adds_p59 {p : Program} {l : Launch} {e : Env} {s : State} {m : MethodId} {args : Array Value} {below : List Frame} {meth : Method} {c : Code} {D : va_G} {dA : Nat → ClassId} {a : Nat} {k : KP a} {t0 : CS} {r : Int32} {t9 : CS} (C : cx p s m args meth c cX0_adds RX0 8 (some .int)) : ∀ (n : Nat), ∀ (t : CS) (x1 : Nat) (x2 : Int32) (x3 : Int32) (x4 : Int32) (H : Heap) (locs : List Loc) (hT : cW D dA a k t H) (hS : cS a s.heap H locs t0.2.2.2 2 t) (hK : kC D dA a k t.2.2.2 s) (hm : mo t0 t) (ls : Array Slot), C_adds_p59 n t x1 x2 x3 x4 = some (r, t9) → lv_has ls 8 [(0, .ref a), (1, .ref x1), (2, .int x2), (3, .int x3), (4, .int x4)] → W p l e (rmX0_adds t0 t9) s m args below meth c H locs (t.2.2.2 0 - t0.2.2.2 0) (t.2.2.2 1 - t0.2.2.2 1) (MQ below (cQ D dA a k 2 t0 t9 (some (.int r))) args s (t9.2.2.2 0 - t0.2.2.2 0) (t9.2.2.2 1 - t0.2.2.2 1) (ca a)) (F0 m 59 ls []) := by
  obtain ⟨hx, hb, hr, hml, hown, hts, hlocks⟩ := id C
  intro n
  induction n with
  | zero =>
    intro t x1 x2 x3 x4 H locs hT hS hK hm ls h hl
    have h : none = some _ := h
    cases h
  | succ n ih =>
    intro t x1 x2 x3 x4 H locs hT hS hK hm ls h hl
    have m9 : mo t t9 := mo_C_adds_p59 (n + 1) _ _ _ _ _ _ _ h
    rw [C_adds_p59] at h
    refine lv_iload hx hb dX0_adds_59 (lv_at hl 4 rfl) ?_
    refine lv_aload_n hx hb dX0_adds_61 rfl (lv_at hl 0 rfl) ?_
    refine cg0 C hK hT dX0_adds_62 ?_
    refine c_getSN C hK hT (Or.inl rfl) 0 (by decide) (nf222 hK.2.1) rfl (v := .ref (a + 2)) rfl dX0_adds_65 ?_
    refine lv_iconst (v := 0) hx hb dX0_adds_68 (by decide) ?_
    obtain ⟨hi1, h⟩ := ck_some h
    refine c_ild C hK hT 2 7 (by decide) (fun _ _ => rfl) hi1 dX0_adds_69 ?_
    refine lv_icmp_ge (tgt := 101) hx hb dX0_adds_70 (by decide) (fun c => ?_) (fun c => ?_)
    · replace h := if_t c h
      refine lv_aload_n hx hb dX0_adds_101 rfl (lv_at hl 0 rfl) ?_
      refine cg0 C hK hT dX0_adds_102 ?_
      refine c_getSN C hK hT (Or.inl rfl) 4 (by decide) (nf230 hK.2.1) rfl (v := .ref (a + 6)) rfl dX0_adds_105 ?_
      refine lv_aload_n hx hb dX0_adds_108 rfl (lv_at hl 0 rfl) ?_
      refine cg0 C hK hT dX0_adds_109 ?_
      refine c_getSN C hK hT (Or.inl rfl) 0 (by decide) (nf222 hK.2.1) rfl (v := .ref (a + 2)) rfl dX0_adds_112 ?_
      refine lv_iconst (v := 0) hx hb dX0_adds_115 (by decide) ?_
      obtain ⟨hi2, h⟩ := ck_some h
      refine c_ild C hK hT 2 7 (by decide) (fun _ _ => rfl) hi2 dX0_adds_116 ?_
      obtain ⟨t3, et3, h⟩ := lt1_ex h
      have m9 : mo t3 t9 := mo_C_adds_p120 h
      refine n_new (ci := 3) (fs := [.null, .int 0, .int 0]) in_X3 tyX3 tyX3_ok rfl C hK hT hS q467 q468 q170 (fun j hj => by rcases (show j = 0 ∨ j = 1 ∨ j = 2 by omega) with rfl | rfl | rfl <;> rfl) (mo_n hm et3 m9) dX0_adds_117 (fun t_ H et_ hT hS hK => ?_)
      obtain rfl := et3.trans et_.symm
      refine W.widen (mo_n1 hm et3).1 (mo_n1 hm et3).2 ?_
      replace hm := hm.tr (mo.new et3)
      exact bX0_adds_p120 C t3 x1 x2 x3 (t.1 2 (0 : Int32).toNatClampNeg) (t.2.2.2 0) H locs hT hS hK hm ls h (lv_sub hl [0, 1, 2, 3] rfl)
    · replace h := if_f c h
      refine lv_aload_n hx hb dX0_adds_73 rfl (lv_at hl 0 rfl) ?_
      refine cg0 C hK hT dX0_adds_74 ?_
      refine c_getSN C hK hT (Or.inl rfl) 4 (by decide) (nf230 hK.2.1) rfl (v := .ref (a + 6)) rfl dX0_adds_77 ?_
      refine lv_iload hx hb dX0_adds_80 (lv_at hl 4 rfl) ?_
      obtain ⟨hi4, h⟩ := ck_some h
      obtain ⟨r5, hr5, h⟩ := bd1_some h
      refine c_ald C hK hT 6 24 4 (by decide) rfl (g := t.2.1 6) (by rfl) (by rfl) hi4 hr5 dX0_adds_82 ?_
      obtain ⟨hc6, h⟩ := ckC_some h
      obtain ⟨v7, hv7, h⟩ := bd1_some h
      refine r_ref1 (run_c (As := []) (rest := []) C hK hT hS.2.1 (rv_D (ci := 3) rfl hK hT hc6) (mX3_letter hv7) q358 q359 q360 q170 q361 ⟨rfl, rfl⟩ hdX3_letter ⟨Nat.le_of_ble_eq_true rfl, Nat.le_of_ble_eq_true rfl⟩ (mo_z m9) rfl hl.1 rfl (Nat.le_of_ble_eq_true rfl) dX0_adds_83) ?_
      refine lv_aload_n hx hb dX0_adds_86 rfl (lv_at hl 1 rfl) ?_
      obtain ⟨v8, hv8, h⟩ := bd1_some h
      refine r_int (run_cs (As := [.ref v7, .ref x1]) (rest := []) C hK hT hS.2.1 (mJ_equals hv8) q362 q363 q160 q364 ⟨rfl, rfl⟩ hdJ_equals ⟨Nat.le_of_ble_eq_true rfl, Nat.le_of_ble_eq_true rfl⟩ (mo_z m9) rfl hl.1 rfl (Nat.le_of_ble_eq_true rfl) dX0_adds_87) ?_
      refine lv_if_eq (tgt := 95) hx hb dX0_adds_90 (by decide) (fun c => ?_) (fun c => ?_)
      · replace h := if_t c h
        obtain ⟨v9, ev9⟩ : ∃ y : Int32, y = x4 + (1 : Int32) := ⟨_, rfl⟩
        replace h := lt1_sub ev9 h
        refine lv_iinc (v := v9) (lv' := [(4, .int v9), (0, .ref a), (1, .ref x1), (2, .int x2), (3, .int x3)]) hx hb dX0_adds_95 hl (k := 4) rfl (by rw [ev9]; rfl) (by decide) rfl (fun ls hl => ?_)
        refine lv_goto (tgt := 59) hx hb dX0_adds_98 (by decide) ?_
        exact ih t x1 x2 x3 v9 H locs hT hS hK hm ls h (lv_sub hl [1, 2, 3, 4, 0] rfl)
      · replace h := if_f c h
        refine lv_iconst (v := -1) hx hb dX0_adds_93 (by decide) ?_
        cases h
        exact ec_i C hT hS rfl dX0_adds_94
theorem bX0_adds_p29 {p : Program} {l : Launch} {e : Env} {s : State} {m : MethodId} {args : Array Value} {below : List Frame} {meth : Method} {c : Code} {D : va_G} {dA : Nat → ClassId} {a : Nat} {k : KP a} {t0 : CS} {r : Int32} {t9 : CS} (C : cx p s m args meth c cX0_adds RX0 8 (some .int)) : ∀ (n : Nat), ∀ (t : CS) (x1 : Nat) (x2 : Int32) (x3 : Int32) (x4 : Nat) (x5 : Int32) (x6 : Int32) (H : Heap) (locs : List Loc) (hT : cW D dA a k t H) (hS : cS a s.heap H locs t0.2.2.2 2 t) (hK : kC D dA a k t.2.2.2 s) (hm : mo t0 t) (ls : Array Slot), C_adds_p29 n t x1 x2 x3 x4 x5 x6 = some (r, t9) → lv_has ls 8 [(0, .ref a), (1, .ref x1), (2, .int x2), (3, .int x3), (4, .ref x4), (5, .int x5), (6, .int x6)] → W p l e (rmX0_adds t0 t9) s m args below meth c H locs (t.2.2.2 0 - t0.2.2.2 0) (t.2.2.2 1 - t0.2.2.2 1) (MQ below (cQ D dA a k 2 t0 t9 (some (.int r))) args s (t9.2.2.2 0 - t0.2.2.2 0) (t9.2.2.2 1 - t0.2.2.2 1) (ca a)) (F0 m 29 ls []) := by
  obtain ⟨hx, hb, hr, hml, hown, hts, hlocks⟩ := id C
  intro n
  induction n with
  | zero =>
    intro t x1 x2 x3 x4 x5 x6 H locs hT hS hK hm ls h hl
    have h : none = some _ := h
    cases h
  | succ n ih =>
    intro t x1 x2 x3 x4 x5 x6 H locs hT hS hK hm ls h hl
    have m9 : mo t t9 := mo_C_adds_p29 (n + 1) _ _ _ _ _ _ _ _ _ h
    rw [C_adds_p29] at h
    refine lv_iload hx hb dX0_adds_29 (lv_at hl 6 rfl) ?_
    refine lv_iload hx hb dX0_adds_31 (lv_at hl 5 rfl) ?_
    refine lv_icmp_ge (tgt := 56) hx hb dX0_adds_33 (by decide) (fun c => ?_) (fun c => ?_)
    · replace h := if_t c h
      refine lv_iconst (v := 0) hx hb dX0_adds_56 (by decide) ?_
      refine lv_istore (lv' := [(4, .int (0 : Int32)), (0, .ref a), (1, .ref x1), (2, .int x2), (3, .int x3), (5, .int x5), (6, .int x6)]) hx hb dX0_adds_57 hl (by decide) rfl (fun ls hl => ?_)
      exact bX0_adds_p59 C fu t x1 x2 x3 (0 : Int32) H locs hT hS hK hm ls h (lv_sub hl [1, 2, 3, 4, 0] rfl)
    · replace h := if_f c h
      refine lv_aload hx hb dX0_adds_36 (lv_at hl 4 rfl) ?_
      refine lv_iload hx hb dX0_adds_38 (lv_at hl 6 rfl) ?_
      obtain ⟨v1, hv1, h⟩ := bd1_some h
      refine d_ild C hK hT hv1 dX0_adds_40 ?_
      refine lv_istore (lv' := [(7, .int v1), (0, .ref a), (1, .ref x1), (2, .int x2), (3, .int x3), (4, .ref x4), (5, .int x5), (6, .int x6)]) hx hb dX0_adds_41 hl (by decide) rfl (fun ls hl => ?_)
      refine lv_iload_n hx hb dX0_adds_43 rfl (lv_at hl 4 rfl) ?_
      refine lv_iconst (v := 1) hx hb dX0_adds_44 (by decide) ?_
      refine lv_iload hx hb dX0_adds_45 (lv_at hl 0 rfl) ?_
      refine lv_ishl hx hb dX0_adds_47 ?_
      refine lv_ior hx hb dX0_adds_48 ?_
      refine lv_topi (fun v2 ev2 => ?_)
      replace h := lt1_sub ev2 h
      refine lv_istore_n (lv' := [(3, .int v2), (7, .int v1), (0, .ref a), (1, .ref x1), (2, .int x2), (4, .ref x4), (5, .int x5), (6, .int x6)]) hx hb dX0_adds_49 rfl hl (by decide) rfl (fun ls hl => ?_)
      obtain ⟨v3, ev3⟩ : ∃ y : Int32, y = x6 + (1 : Int32) := ⟨_, rfl⟩
      replace h := lt1_sub ev3 h
      refine lv_iinc (v := v3) (lv' := [(6, .int v3), (3, .int v2), (7, .int v1), (0, .ref a), (1, .ref x1), (2, .int x2), (4, .ref x4), (5, .int x5)]) hx hb dX0_adds_50 hl (k := 7) rfl (by rw [ev3]; rfl) (by decide) rfl (fun ls hl => ?_)
      refine lv_goto (tgt := 29) hx hb dX0_adds_53 (by decide) ?_
      exact ih t x1 x2 v2 x4 x5 v3 H locs hT hS hK hm ls h (lv_sub hl [3, 4, 5, 1, 6, 7, 0] rfl)
theorem bX0_adds {p : Program} {l : Launch} {e : Env} {s : State} {m : MethodId} {args : Array Value} {below : List Frame} {meth : Method} {c : Code} {D : va_G} {dA : Nat → ClassId} {a : Nat} {k : KP a} {t0 : CS} {r : Int32} {t9 : CS} (C : cx p s m args meth c cX0_adds RX0 8 (some .int)) : ∀ (t : CS) (x1 : Nat) (x2 : Int32) (H : Heap) (locs : List Loc) (hT : cW D dA a k t H) (hS : cS a s.heap H locs t0.2.2.2 2 t) (hK : kC D dA a k t.2.2.2 s) (hm : mo t0 t) (ls : Array Slot), C_adds t x1 x2 = some (r, t9) → lv_has ls 8 [(0, .ref a), (1, .ref x1), (2, .int x2)] → W p l e (rmX0_adds t0 t9) s m args below meth c H locs (t.2.2.2 0 - t0.2.2.2 0) (t.2.2.2 1 - t0.2.2.2 1) (MQ below (cQ D dA a k 2 t0 t9 (some (.int r))) args s (t9.2.2.2 0 - t0.2.2.2 0) (t9.2.2.2 1 - t0.2.2.2 1) (ca a)) (F0 m 0 ls []) := by
  obtain ⟨hx, hb, hr, hml, hown, hts, hlocks⟩ := id C
  intro t x1 x2 H locs hT hS hK hm ls h hl
  have m9 : mo t t9 := mo_C_adds h
  unfold C_adds at h
  refine lv_aload_n hx hb dX0_adds_0 rfl (lv_at hl 0 rfl) ?_
  refine cg0 C hK hT dX0_adds_1 ?_
  refine c_getSN C hK hT (Or.inl rfl) 0 (by decide) (nf222 hK.2.1) rfl (v := .ref (a + 2)) rfl dX0_adds_4 ?_
  refine lv_iconst (v := 0) hx hb dX0_adds_7 (by decide) ?_
  obtain ⟨hi1, h⟩ := ck_some h
  refine c_ild C hK hT 2 7 (by decide) (fun _ _ => rfl) hi1 dX0_adds_8 ?_
  refine lv_bipush (v := 24) hx hb dX0_adds_9 (by decide) ?_
  refine lv_icmp_ne (tgt := 16) hx hb dX0_adds_11 (by decide) (fun c => ?_) (fun c => ?_)
  · replace h := if_f c h
    refine lv_iconst (v := 0) hx hb dX0_adds_16 (by decide) ?_
    refine lv_istore_n (lv' := [(3, .int (0 : Int32)), (0, .ref a), (1, .ref x1), (2, .int x2)]) hx hb dX0_adds_17 rfl hl (by decide) rfl (fun ls hl => ?_)
    refine lv_aload_n hx hb dX0_adds_18 rfl (lv_at hl 2 rfl) ?_
    refine lv_astore (lv' := [(4, .ref x1), (3, .int (0 : Int32)), (0, .ref a), (1, .ref x1), (2, .int x2)]) hx hb dX0_adds_19 hl (by decide) rfl (fun ls hl => ?_)
    refine lv_aload hx hb dX0_adds_21 (lv_at hl 0 rfl) ?_
    obtain ⟨v2, hv2, h⟩ := bd1_some h
    refine d_aln C hK hT hv2 dX0_adds_23 ?_
    refine lv_topi (fun v3 ev3 => ?_)
    replace h := lt1_sub ev3 h
    refine lv_istore (lv' := [(5, .int v3), (4, .ref x1), (3, .int (0 : Int32)), (0, .ref a), (1, .ref x1), (2, .int x2)]) hx hb dX0_adds_24 hl (by decide) rfl (fun ls hl => ?_)
    refine lv_iconst (v := 0) hx hb dX0_adds_26 (by decide) ?_
    refine lv_istore (lv' := [(6, .int (0 : Int32)), (5, .int v3), (4, .ref x1), (3, .int (0 : Int32)), (0, .ref a), (1, .ref x1), (2, .int x2)]) hx hb dX0_adds_27 hl (by decide) rfl (fun ls hl => ?_)
    exact bX0_adds_p29 C fu t x1 x2 (0 : Int32) x1 v3 (0 : Int32) H locs hT hS hK hm ls h (lv_sub hl [4, 5, 6, 3, 2, 1, 0] rfl)
  · replace h := if_t c h
    refine lv_iconst (v := -1) hx hb dX0_adds_14 (by decide) ?_
    cases h
    exact ec_i C hT hS rfl dX0_adds_15
theorem mX0_adds {l : Launch} {D : va_G} {dA : Nat → ClassId} {a : Nat} {k : KP a} {t : CS} {x1 : Nat} {x2 : Int32} {r : Int32} {t9 : CS} (h : C_adds t x1 x2 = some (r, t9)) : Met l yX0_adds (ws_ yX0_adds cX0_adds 8 (some .int)) (rmX0_adds t t9) (cPc D dA a k t [.ref a, .ref x1, .int x2]) (cQ D dA a k 2 t t9 (some (.int r))) (t9.2.2.2 0 - t.2.2.2 0) (t9.2.2.2 1 - t.2.2.2 1) (ca a) := en_C (by decide +kernel) rfl (Nat.le_of_ble_eq_true rfl) (fun p e s m below meth c ls C hK hT hl => sub0 (bX0_adds C t x1 x2 _ [] hT cS.rf hK mo.rf ls h hl))
set_option maxRecDepth 20000 in
abbrev rmX0_word (t t9 : CS) : Room := { frames := 14, cells := t9.2.2.2 0 - t.2.2.2 0, slots := t9.2.2.2 1 - t.2.2.2 1, locals := 649 }
theorem hdX0_word : yX0_word.cls = RX0 ∧ yX0_word.cls ≠ "java/lang/invoke/MethodHandle" ∧ yX0_word.cls ≠ "java/lang/invoke/VarHandle" ∧ (parseMethodDescriptor yX0_word.desc).map (fun d => d.parameters.length) = some 3 := by decide +kernel
theorem bX0_word_p112 {p : Program} {l : Launch} {e : Env} {s : State} {m : MethodId} {args : Array Value} {below : List Frame} {meth : Method} {c : Code} {D : va_G} {dA : Nat → ClassId} {a : Nat} {k : KP a} {t0 : CS} {r : Int32} {t9 : CS} (C : cx p s m args meth c cX0_word RX0 8 (some .int)) {k52 : CS → Int32 → Int32 → Int32 → Int32 → Nat → Int32 → Option (Int32 × CS)} (hk52 : ∀ (t : CS) (x1 : Int32) (x2 : Int32) (x3 : Int32) (x4 : Int32) (x5 : Nat) (x6 : Int32) (H : Heap) (locs : List Loc) (hT : cW D dA a k t H) (hS : cS a s.heap H locs t0.2.2.2 2 t) (hK : kC D dA a k t.2.2.2 s) (hm : mo t0 t) (ls : Array Slot), k52 t x1 x2 x3 x4 x5 x6 = some (r, t9) → lv_has ls 8 [(0, .ref a), (1, .int x1), (2, .int x2), (3, .int x3), (4, .int x4), (5, .ref x5), (6, .int x6)] → W p l e (rmX0_word t0 t9) s m args below meth c H locs (t.2.2.2 0 - t0.2.2.2 0) (t.2.2.2 1 - t0.2.2.2 1) (MQ below (cQ D dA a k 2 t0 t9 (some (.int r))) args s (t9.2.2.2 0 - t0.2.2.2 0) (t9.2.2.2 1 - t0.2.2.2 1) (ca a)) (F0 m 52 ls [])) (mk52 : ∀ (t : CS) (x1 : Int32) (x2 : Int32) (x3 : Int32) (x4 : Int32) (x5 : Nat) (x6 : Int32) (r : Int32) (t9 : CS), k52 t x1 x2 x3 x4 x5 x6 = some (r, t9) → mo t t9) : ∀ (t : CS) (x1 : Int32) (x2 : Int32) (x3 : Int32) (x4 : Int32) (x5 : Nat) (x6 : Int32) (H : Heap) (locs : List Loc) (hT : cW D dA a k t H) (hS : cS a s.heap H locs t0.2.2.2 2 t) (hK : kC D dA a k t.2.2.2 s) (hm : mo t0 t) (ls : Array Slot), C_word_p112 k52 t x1 x2 x3 x4 x5 x6 = some (r, t9) → lv_has ls 8 [(0, .ref a), (1, .int x1), (2, .int x2), (3, .int x3), (4, .int x4), (5, .ref x5), (6, .int x6)] → W p l e (rmX0_word t0 t9) s m args below meth c H locs (t.2.2.2 0 - t0.2.2.2 0) (t.2.2.2 1 - t0.2.2.2 1) (MQ below (cQ D dA a k 2 t0 t9 (some (.int r))) args s (t9.2.2.2 0 - t0.2.2.2 0) (t9.2.2.2 1 - t0.2.2.2 1) (ca a)) (F0 m 112 ls []) := by
  obtain ⟨hx, hb, hr, hml, hown, hts, hlocks⟩ := id C
  intro t x1 x2 x3 x4 x5 x6 H locs hT hS hK hm ls h hl
  have m9 : mo t t9 := mo_C_word_p112 mk52 h
  unfold C_word_p112 at h
  obtain ⟨v1, ev1⟩ : ∃ y : Int32, y = x6 + (1 : Int32) := ⟨_, rfl⟩
  replace h := lt1_sub ev1 h
  refine lv_iinc (v := v1) (lv' := [(6, .int v1), (0, .ref a), (1, .int x1), (2, .int x2), (3, .int x3), (4, .int x4), (5, .ref x5)]) hx hb dX0_word_112 hl (k := 6) rfl (by rw [ev1]; rfl) (by decide) rfl (fun ls hl => ?_)
  refine lv_goto (tgt := 52) hx hb dX0_word_115 (by decide) ?_
  exact hk52 t x1 x2 x3 x4 x5 v1 H locs hT hS hK hm ls h (lv_sub hl [1, 2, 3, 4, 5, 6, 0] rfl)
theorem bX0_word_p98 {p : Program} {l : Launch} {e : Env} {s : State} {m : MethodId} {args : Array Value} {below : List Frame} {meth : Method} {c : Code} {D : va_G} {dA : Nat → ClassId} {a : Nat} {k : KP a} {t0 : CS} {r : Int32} {t9 : CS} (C : cx p s m args meth c cX0_word RX0 8 (some .int)) {k52 : CS → Int32 → Int32 → Int32 → Int32 → Nat → Int32 → Option (Int32 × CS)} (hk52 : ∀ (t : CS) (x1 : Int32) (x2 : Int32) (x3 : Int32) (x4 : Int32) (x5 : Nat) (x6 : Int32) (H : Heap) (locs : List Loc) (hT : cW D dA a k t H) (hS : cS a s.heap H locs t0.2.2.2 2 t) (hK : kC D dA a k t.2.2.2 s) (hm : mo t0 t) (ls : Array Slot), k52 t x1 x2 x3 x4 x5 x6 = some (r, t9) → lv_has ls 8 [(0, .ref a), (1, .int x1), (2, .int x2), (3, .int x3), (4, .int x4), (5, .ref x5), (6, .int x6)] → W p l e (rmX0_word t0 t9) s m args below meth c H locs (t.2.2.2 0 - t0.2.2.2 0) (t.2.2.2 1 - t0.2.2.2 1) (MQ below (cQ D dA a k 2 t0 t9 (some (.int r))) args s (t9.2.2.2 0 - t0.2.2.2 0) (t9.2.2.2 1 - t0.2.2.2 1) (ca a)) (F0 m 52 ls [])) (mk52 : ∀ (t : CS) (x1 : Int32) (x2 : Int32) (x3 : Int32) (x4 : Int32) (x5 : Nat) (x6 : Int32) (r : Int32) (t9 : CS), k52 t x1 x2 x3 x4 x5 x6 = some (r, t9) → mo t t9) : ∀ (t : CS) (x1 : Int32) (x2 : Int32) (x3 : Int32) (x4 : Int32) (x5 : Nat) (x6 : Int32) (x7 : Int32) (H : Heap) (locs : List Loc) (hT : cW D dA a k t H) (hS : cS a s.heap H locs t0.2.2.2 2 t) (hK : kC D dA a k t.2.2.2 s) (hm : mo t0 t) (ls : Array Slot), C_word_p98 k52 t x1 x2 x3 x4 x5 x6 x7 = some (r, t9) → lv_has ls 8 [(0, .ref a), (1, .int x1), (2, .int x2), (3, .int x3), (4, .int x4), (5, .ref x5), (6, .int x6), (7, .int x7)] → W p l e (rmX0_word t0 t9) s m args below meth c H locs (t.2.2.2 0 - t0.2.2.2 0) (t.2.2.2 1 - t0.2.2.2 1) (MQ below (cQ D dA a k 2 t0 t9 (some (.int r))) args s (t9.2.2.2 0 - t0.2.2.2 0) (t9.2.2.2 1 - t0.2.2.2 1) (ca a)) (F0 m 98 ls []) := by
  obtain ⟨hx, hb, hr, hml, hown, hts, hlocks⟩ := id C
  intro t x1 x2 x3 x4 x5 x6 x7 H locs hT hS hK hm ls h hl
  have m9 : mo t t9 := mo_C_word_p98 mk52 h
  unfold C_word_p98 at h
  refine lv_iload hx hb dX0_word_98 (lv_at hl 6 rfl) ?_
  refine lv_iload hx hb dX0_word_100 (lv_at hl 4 rfl) ?_
  refine lv_icmp_ge (tgt := 112) hx hb dX0_word_102 (by decide) (fun c => ?_) (fun c => ?_)
  · replace h := if_t c h
    exact bX0_word_p112 C hk52 mk52 t x1 x2 x3 x4 x5 x6 H locs hT hS hK hm ls h (lv_sub hl [0, 1, 2, 3, 4, 5, 6] rfl)
  · replace h := if_f c h
    refine lv_aload hx hb dX0_word_105 (lv_at hl 5 rfl) ?_
    refine lv_iload hx hb dX0_word_107 (lv_at hl 6 rfl) ?_
    refine lv_iload hx hb dX0_word_109 (lv_at hl 7 rfl) ?_
    obtain ⟨t1, ht1, h⟩ := bd1_some h
    refine d_ist C hK hT hS ht1 dX0_word_111 (fun H locs hT hS hK => ?_)
    have mm : mo t t1 := mo.nn (das_N ht1)
    replace hm := hm.tr mm
    replace m9 : mo t1 t9 := mo.bk (das_N ht1) m9
    refine W.widen (mo_s mm).1 (mo_s mm).2 ?_
    exact bX0_word_p112 C hk52 mk52 t1 x1 x2 x3 x4 x5 x6 H locs hT hS hK hm ls h (lv_sub hl [0, 1, 2, 3, 4, 5, 6] rfl)
theorem bX0_word_p125 {p : Program} {l : Launch} {e : Env} {s : State} {m : MethodId} {args : Array Value} {below : List Frame} {meth : Method} {c : Code} {D : va_G} {dA : Nat → ClassId} {a : Nat} {k : KP a} {t0 : CS} {r : Int32} {t9 : CS} (C : cx p s m args meth c cX0_word RX0 8 (some .int)) : ∀ (t : CS) (y0 : Int32) (H : Heap) (locs : List Loc) (hT : cW D dA a k t H) (hS : cS a s.heap H locs t0.2.2.2 2 t) (hK : kC D dA a k t.2.2.2 s) (hm : mo t0 t) (ls : Array Slot), C_word_p125 t y0 = some (r, t9) → lv_has ls 8 [] → W p l e (rmX0_word t0 t9) s m args below meth c H locs (t.2.2.2 0 - t0.2.2.2 0) (t.2.2.2 1 - t0.2.2.2 1) (MQ below (cQ D dA a k 2 t0 t9 (some (.int r))) args s (t9.2.2.2 0 - t0.2.2.2 0) (t9.2.2.2 1 - t0.2.2.2 1) (ca a)) (F0 m 125 ls [.int y0]) := by
  obtain ⟨hx, hb, hr, hml, hown, hts, hlocks⟩ := id C
  intro t y0 H locs hT hS hK hm ls h hl
  have m9 : mo t t9 := mo_C_word_p125 h
  unfold C_word_p125 at h
  cases h
  exact ec_i C hT hS rfl dX0_word_125
theorem bX0_word_p52 {p : Program} {l : Launch} {e : Env} {s : State} {m : MethodId} {args : Array Value} {below : List Frame} {meth : Method} {c : Code} {D : va_G} {dA : Nat → ClassId} {a : Nat} {k : KP a} {t0 : CS} {r : Int32} {t9 : CS} (C : cx p s m args meth c cX0_word RX0 8 (some .int)) : ∀ (n : Nat), ∀ (t : CS) (x1 : Int32) (x2 : Int32) (x3 : Int32) (x4 : Int32) (x5 : Nat) (x6 : Int32) (H : Heap) (locs : List Loc) (hT : cW D dA a k t H) (hS : cS a s.heap H locs t0.2.2.2 2 t) (hK : kC D dA a k t.2.2.2 s) (hm : mo t0 t) (ls : Array Slot), C_word_p52 n t x1 x2 x3 x4 x5 x6 = some (r, t9) → lv_has ls 8 [(0, .ref a), (1, .int x1), (2, .int x2), (3, .int x3), (4, .int x4), (5, .ref x5), (6, .int x6)] → W p l e (rmX0_word t0 t9) s m args below meth c H locs (t.2.2.2 0 - t0.2.2.2 0) (t.2.2.2 1 - t0.2.2.2 1) (MQ below (cQ D dA a k 2 t0 t9 (some (.int r))) args s (t9.2.2.2 0 - t0.2.2.2 0) (t9.2.2.2 1 - t0.2.2.2 1) (ca a)) (F0 m 52 ls []) := by
  obtain ⟨hx, hb, hr, hml, hown, hts, hlocks⟩ := id C
  intro n
  induction n with
  | zero =>
    intro t x1 x2 x3 x4 x5 x6 H locs hT hS hK hm ls h hl
    have h : none = some _ := h
    cases h
  | succ n ih =>
    intro t x1 x2 x3 x4 x5 x6 H locs hT hS hK hm ls h hl
    have m9 : mo t t9 := mo_C_word_p52 (n + 1) _ _ _ _ _ _ _ _ _ h
    rw [C_word_p52] at h
    refine lv_iload hx hb dX0_word_52 (lv_at hl 6 rfl) ?_
    refine lv_bipush (v := 8) hx hb dX0_word_54 (by decide) ?_
    refine lv_icmp_ge (tgt := 118) hx hb dX0_word_56 (by decide) (fun c => ?_) (fun c => ?_)
    · replace h := if_t c h
      refine lv_aload_n hx hb dX0_word_118 rfl (lv_at hl 0 rfl) ?_
      refine lv_aload hx hb dX0_word_119 (lv_at hl 5 rfl) ?_
      refine lv_iload_n hx hb dX0_word_121 rfl (lv_at hl 3 rfl) ?_
      obtain ⟨v2, t1, ht1, h⟩ := bd2_some h
      have mm : mo t t1 := mo_C_adds ht1
      have m9 : mo t1 t9 := mo_C_word_p125 h
      refine wa_int hS hK (run_c (As := [.ref x5, .int x3]) (rest := []) C hK hT hS.2.1 (rv_X hK hT) (mX0_adds ht1) q354 q356 qs0 q158 q357 ⟨rfl, rfl⟩ hdX0_adds ⟨Nat.le_of_ble_eq_true rfl, Nat.le_of_ble_eq_true rfl⟩ (mo_c hm mm m9) rfl hl.1 rfl (Nat.le_of_ble_eq_true rfl) dX0_word_122) (fun H locs hT hS hK => ?_)
      refine W.widen (mo_c hm mm mo.rf).1 (mo_c hm mm mo.rf).2 ?_
      replace hm := hm.tr mm
      exact bX0_word_p125 C t1 v2 H locs hT hS hK hm ls h (lv_sub hl [] rfl)
    · replace h := if_f c h
      refine lv_iload_n hx hb dX0_word_59 rfl (lv_at hl 1 rfl) ?_
      refine lv_iload_n hx hb dX0_word_60 rfl (lv_at hl 2 rfl) ?_
      refine lv_iload hx hb dX0_word_61 (lv_at hl 6 rfl) ?_
      obtain ⟨v3, hv3, h⟩ := bd1_some h
      refine r_int (run_s (As := [.int x1, .int x2, .int x6]) (rest := []) C (mX0_byteOf hv3) q351 q352 q158 q353 ⟨rfl, rfl⟩ hdX0_byteOf ⟨Nat.le_of_ble_eq_true rfl, Nat.le_of_ble_eq_true rfl⟩ (mo_z m9) rfl hl.1 rfl (Nat.le_of_ble_eq_true rfl) dX0_word_63) ?_
      refine lv_bipush (v := 97) hx hb dX0_word_66 (by decide) ?_
      refine lv_isub hx hb dX0_word_68 ?_
      refine lv_topi (fun v4 ev4 => ?_)
      replace h := lt1_sub ev4 h
      refine lv_istore (lv' := [(7, .int v4), (0, .ref a), (1, .int x1), (2, .int x2), (3, .int x3), (4, .int x4), (5, .ref x5), (6, .int x6)]) hx hb dX0_word_69 hl (by decide) rfl (fun ls hl => ?_)
      refine lv_iload hx hb dX0_word_71 (lv_at hl 7 rfl) ?_
      refine lv_iload hx hb dX0_word_73 (lv_at hl 5 rfl) ?_
      refine lv_icmp_ge (tgt := 89) hx hb dX0_word_75 (by decide) (fun c => ?_) (fun c => ?_)
      · replace h := if_t c h
        refine lv_iload hx hb dX0_word_89 (lv_at hl 0 rfl) ?_
        refine lv_bipush (v := -97) hx hb dX0_word_91 (by decide) ?_
        refine lv_icmp_eq (tgt := 98) hx hb dX0_word_93 (by decide) (fun c => ?_) (fun c => ?_)
        · replace h := if_t c h
          exact bX0_word_p98 C ih (mo_C_word_p52 n) t x1 x2 x3 x4 x5 x6 v4 H locs hT hS hK hm ls h (lv_sub hl [1, 2, 3, 4, 5, 6, 7, 0] rfl)
        · replace h := if_f c h
          refine lv_iconst (v := -1) hx hb dX0_word_96 (by decide) ?_
          cases h
          exact ec_i C hT hS rfl dX0_word_97
      · replace h := if_f c h
        refine lv_iload hx hb dX0_word_78 (lv_at hl 0 rfl) ?_
        obtain ⟨v5, hv5, h⟩ := bd1_some h
        refine r_int (run_s (As := [.int v4]) (rest := []) C (mX0_isLetter hv5) q338 q339 q158 q340 ⟨rfl, rfl⟩ hdX0_isLetter ⟨Nat.le_of_ble_eq_true rfl, Nat.le_of_ble_eq_true rfl⟩ (mo_z m9) rfl hl.1 rfl (Nat.le_of_ble_eq_true rfl) dX0_word_80) ?_
        refine lv_if_ne (tgt := 98) hx hb dX0_word_83 (by decide) (fun c => ?_) (fun c => ?_)
        · replace h := if_f c h
          exact bX0_word_p98 C ih (mo_C_word_p52 n) t x1 x2 x3 x4 x5 x6 v4 H locs hT hS hK hm ls h (lv_sub hl [1, 2, 3, 4, 5, 6, 7, 0] rfl)
        · replace h := if_t c h
          refine lv_goto (tgt := 96) hx hb dX0_word_86 (by decide) ?_
          refine lv_iconst (v := -1) hx hb dX0_word_96 (by decide) ?_
          cases h
          exact ec_i C hT hS rfl dX0_word_97
theorem bX0_word_p47 {p : Program} {l : Launch} {e : Env} {s : State} {m : MethodId} {args : Array Value} {below : List Frame} {meth : Method} {c : Code} {D : va_G} {dA : Nat → ClassId} {a : Nat} {k : KP a} {t0 : CS} {r : Int32} {t9 : CS} (C : cx p s m args meth c cX0_word RX0 8 (some .int)) : ∀ (t : CS) (x1 : Int32) (x2 : Int32) (x3 : Int32) (x4 : Int32) (y0 : Nat) (H : Heap) (locs : List Loc) (hT : cW D dA a k t H) (hS : cS a s.heap H locs t0.2.2.2 2 t) (hK : kC D dA a k t.2.2.2 s) (hm : mo t0 t) (ls : Array Slot), C_word_p47 t x1 x2 x3 x4 y0 = some (r, t9) → lv_has ls 8 [(0, .ref a), (1, .int x1), (2, .int x2), (3, .int x3), (4, .int x4)] → W p l e (rmX0_word t0 t9) s m args below meth c H locs (t.2.2.2 0 - t0.2.2.2 0) (t.2.2.2 1 - t0.2.2.2 1) (MQ below (cQ D dA a k 2 t0 t9 (some (.int r))) args s (t9.2.2.2 0 - t0.2.2.2 0) (t9.2.2.2 1 - t0.2.2.2 1) (ca a)) (F0 m 47 ls [.ref y0]) := by
  obtain ⟨hx, hb, hr, hml, hown, hts, hlocks⟩ := id C
  intro t x1 x2 x3 x4 y0 H locs hT hS hK hm ls h hl
  have m9 : mo t t9 := mo_C_word_p47 h
  unfold C_word_p47 at h
  refine lv_astore (lv' := [(5, .ref y0), (0, .ref a), (1, .int x1), (2, .int x2), (3, .int x3), (4, .int x4)]) hx hb dX0_word_47 hl (by decide) rfl (fun ls hl => ?_)
  refine lv_iconst (v := 0) hx hb dX0_word_49 (by decide) ?_
  refine lv_istore (lv' := [(6, .int (0 : Int32)), (5, .ref y0), (0, .ref a), (1, .int x1), (2, .int x2), (3, .int x3), (4, .int x4)]) hx hb dX0_word_50 hl (by decide) rfl (fun ls hl => ?_)
  exact bX0_word_p52 C fu t x1 x2 x3 x4 y0 (0 : Int32) H locs hT hS hK hm ls h (lv_sub hl [2, 3, 4, 5, 6, 1, 0] rfl)
theorem bX0_word_p26 {p : Program} {l : Launch} {e : Env} {s : State} {m : MethodId} {args : Array Value} {below : List Frame} {meth : Method} {c : Code} {D : va_G} {dA : Nat → ClassId} {a : Nat} {k : KP a} {t0 : CS} {r : Int32} {t9 : CS} (C : cx p s m args meth c cX0_word RX0 8 (some .int)) : ∀ (t : CS) (x1 : Int32) (x2 : Int32) (x3 : Int32) (x4 : Int32) (H : Heap) (locs : List Loc) (hT : cW D dA a k t H) (hS : cS a s.heap H locs t0.2.2.2 2 t) (hK : kC D dA a k t.2.2.2 s) (hm : mo t0 t) (ls : Array Slot), C_word_p26 t x1 x2 x3 x4 = some (r, t9) → lv_has ls 8 [(0, .ref a), (1, .int x1), (2, .int x2), (3, .int x3), (4, .int x4)] → W p l e (rmX0_word t0 t9) s m args below meth c H locs (t.2.2.2 0 - t0.2.2.2 0) (t.2.2.2 1 - t0.2.2.2 1) (MQ below (cQ D dA a k 2 t0 t9 (some (.int r))) args s (t9.2.2.2 0 - t0.2.2.2 0) (t9.2.2.2 1 - t0.2.2.2 1) (ca a)) (F0 m 26 ls []) := by
  obtain ⟨hx, hb, hr, hml, hown, hts, hlocks⟩ := id C
  intro t x1 x2 x3 x4 H locs hT hS hK hm ls h hl
  have m9 : mo t t9 := mo_C_word_p26 h
  unfold C_word_p26 at h
  refine lv_iload hx hb dX0_word_26 (lv_at hl 4 rfl) ?_
  refine lv_if_eq (tgt := 41) hx hb dX0_word_28 (by decide) (fun c => ?_) (fun c => ?_)
  · replace h := if_t c h
    refine lv_iconst (v := -1) hx hb dX0_word_41 (by decide) ?_
    cases h
    exact ec_i C hT hS rfl dX0_word_42
  · replace h := if_f c h
    refine lv_iload_n hx hb dX0_word_31 rfl (lv_at hl 3 rfl) ?_
    refine lv_iconst (v := 0) hx hb dX0_word_32 (by decide) ?_
    refine lv_bipush (v := 9) hx hb dX0_word_33 (by decide) ?_
    obtain ⟨v1, hv1, h⟩ := bd1_some h
    refine r_int (run_s (As := [.int x3, .int (0 : Int32), .int (9 : Int32)]) (rest := []) C (mX0_in hv1) q341 q342 q158 q343 ⟨rfl, rfl⟩ hdX0_in ⟨Nat.le_of_ble_eq_true rfl, Nat.le_of_ble_eq_true rfl⟩ (mo_z m9) rfl hl.1 rfl (Nat.le_of_ble_eq_true rfl) dX0_word_35) ?_
    refine lv_if_ne (tgt := 43) hx hb dX0_word_38 (by decide) (fun c => ?_) (fun c => ?_)
    · replace h := if_f c h
      refine lv_iload hx hb dX0_word_43 (lv_at hl 4 rfl) ?_
      obtain ⟨⟨hg3a, hg3b⟩, h⟩ := ngt_some h
      obtain ⟨t2, et2, h⟩ := lt1_ex h
      have m9 : mo t2 t9 := mo_C_word_p47 h
      refine n_newi C hK hT hS hg3a hg3b (mo_n hm et2 m9) dX0_word_45 (fun t_ H et_ hT hS hK => ?_)
      obtain rfl := et2.trans et_.symm
      refine W.widen (mo_n1 hm et2).1 (mo_n1 hm et2).2 ?_
      replace hm := hm.tr (mo.new et2)
      exact bX0_word_p47 C t2 x1 x2 x3 x4 (t.2.2.2 0) H locs hT hS hK hm ls h (lv_sub hl [0, 1, 2, 3, 4] rfl)
    · replace h := if_t c h
      refine lv_iconst (v := -1) hx hb dX0_word_41 (by decide) ?_
      cases h
      exact ec_i C hT hS rfl dX0_word_42
theorem bX0_word_p3 {p : Program} {l : Launch} {e : Env} {s : State} {m : MethodId} {args : Array Value} {below : List Frame} {meth : Method} {c : Code} {D : va_G} {dA : Nat → ClassId} {a : Nat} {k : KP a} {t0 : CS} {r : Int32} {t9 : CS} (C : cx p s m args meth c cX0_word RX0 8 (some .int)) : ∀ (n : Nat), ∀ (t : CS) (x1 : Int32) (x2 : Int32) (x3 : Int32) (x4 : Int32) (H : Heap) (locs : List Loc) (hT : cW D dA a k t H) (hS : cS a s.heap H locs t0.2.2.2 2 t) (hK : kC D dA a k t.2.2.2 s) (hm : mo t0 t) (ls : Array Slot), C_word_p3 n t x1 x2 x3 x4 = some (r, t9) → lv_has ls 8 [(0, .ref a), (1, .int x1), (2, .int x2), (3, .int x3), (4, .int x4)] → W p l e (rmX0_word t0 t9) s m args below meth c H locs (t.2.2.2 0 - t0.2.2.2 0) (t.2.2.2 1 - t0.2.2.2 1) (MQ below (cQ D dA a k 2 t0 t9 (some (.int r))) args s (t9.2.2.2 0 - t0.2.2.2 0) (t9.2.2.2 1 - t0.2.2.2 1) (ca a)) (F0 m 3 ls []) := by
  obtain ⟨hx, hb, hr, hml, hown, hts, hlocks⟩ := id C
  intro n
  induction n with
  | zero =>
    intro t x1 x2 x3 x4 H locs hT hS hK hm ls h hl
    have h : none = some _ := h
    cases h
  | succ n ih =>
    intro t x1 x2 x3 x4 H locs hT hS hK hm ls h hl
    have m9 : mo t t9 := mo_C_word_p3 (n + 1) _ _ _ _ _ _ _ h
    rw [C_word_p3] at h
    refine lv_iload hx hb dX0_word_3 (lv_at hl 4 rfl) ?_
    refine lv_bipush (v := 8) hx hb dX0_word_5 (by decide) ?_
    refine lv_icmp_ge (tgt := 26) hx hb dX0_word_7 (by decide) (fun c => ?_) (fun c => ?_)
    · replace h := if_t c h
      exact bX0_word_p26 C t x1 x2 x3 x4 H locs hT hS hK hm ls h (lv_sub hl [0, 1, 2, 3, 4] rfl)
    · replace h := if_f c h
      refine lv_iload_n hx hb dX0_word_10 rfl (lv_at hl 1 rfl) ?_
      refine lv_iload_n hx hb dX0_word_11 rfl (lv_at hl 2 rfl) ?_
      refine lv_iload hx hb dX0_word_12 (lv_at hl 4 rfl) ?_
      obtain ⟨v1, hv1, h⟩ := bd1_some h
      refine r_int (run_s (As := [.int x1, .int x2, .int x4]) (rest := []) C (mX0_byteOf hv1) q351 q352 q158 q353 ⟨rfl, rfl⟩ hdX0_byteOf ⟨Nat.le_of_ble_eq_true rfl, Nat.le_of_ble_eq_true rfl⟩ (mo_z m9) rfl hl.1 rfl (Nat.le_of_ble_eq_true rfl) dX0_word_14) ?_
      refine lv_if_eq (tgt := 26) hx hb dX0_word_17 (by decide) (fun c => ?_) (fun c => ?_)
      · replace h := if_t c h
        exact bX0_word_p26 C t x1 x2 x3 x4 H locs hT hS hK hm ls h (lv_sub hl [0, 1, 2, 3, 4] rfl)
      · replace h := if_f c h
        obtain ⟨v2, ev2⟩ : ∃ y : Int32, y = x4 + (1 : Int32) := ⟨_, rfl⟩
        replace h := lt1_sub ev2 h
        refine lv_iinc (v := v2) (lv' := [(4, .int v2), (0, .ref a), (1, .int x1), (2, .int x2), (3, .int x3)]) hx hb dX0_word_20 hl (k := 4) rfl (by rw [ev2]; rfl) (by decide) rfl (fun ls hl => ?_)
        refine lv_goto (tgt := 3) hx hb dX0_word_23 (by decide) ?_
        exact ih t x1 x2 x3 v2 H locs hT hS hK hm ls h (lv_sub hl [1, 2, 3, 4, 0] rfl)
theorem bX0_word {p : Program} {l : Launch} {e : Env} {s : State} {m : MethodId} {args : Array Value} {below : List Frame} {meth : Method} {c : Code} {D : va_G} {dA : Nat → ClassId} {a : Nat} {k : KP a} {t0 : CS} {r : Int32} {t9 : CS} (C : cx p s m args meth c cX0_word RX0 8 (some .int)) : ∀ (t : CS) (x1 : Int32) (x2 : Int32) (x3 : Int32) (H : Heap) (locs : List Loc) (hT : cW D dA a k t H) (hS : cS a s.heap H locs t0.2.2.2 2 t) (hK : kC D dA a k t.2.2.2 s) (hm : mo t0 t) (ls : Array Slot), C_word t x1 x2 x3 = some (r, t9) → lv_has ls 8 [(0, .ref a), (1, .int x1), (2, .int x2), (3, .int x3)] → W p l e (rmX0_word t0 t9) s m args below meth c H locs (t.2.2.2 0 - t0.2.2.2 0) (t.2.2.2 1 - t0.2.2.2 1) (MQ below (cQ D dA a k 2 t0 t9 (some (.int r))) args s (t9.2.2.2 0 - t0.2.2.2 0) (t9.2.2.2 1 - t0.2.2.2 1) (ca a)) (F0 m 0 ls []) := by
  obtain ⟨hx, hb, hr, hml, hown, hts, hlocks⟩ := id C
  intro t x1 x2 x3 H locs hT hS hK hm ls h hl
  have m9 : mo t t9 := mo_C_word h
  unfold C_word at h
  refine lv_iconst (v := 0) hx hb dX0_word_0 (by decide) ?_
  refine lv_istore (lv' := [(4, .int (0 : Int32)), (0, .ref a), (1, .int x1), (2, .int x2), (3, .int x3)]) hx hb dX0_word_1 hl (by decide) rfl (fun ls hl => ?_)
  exact bX0_word_p3 C fu t x1 x2 x3 (0 : Int32) H locs hT hS hK hm ls h (lv_sub hl [1, 2, 3, 4, 0] rfl)
theorem mX0_word {l : Launch} {D : va_G} {dA : Nat → ClassId} {a : Nat} {k : KP a} {t : CS} {x1 : Int32} {x2 : Int32} {x3 : Int32} {r : Int32} {t9 : CS} (h : C_word t x1 x2 x3 = some (r, t9)) : Met l yX0_word (ws_ yX0_word cX0_word 8 (some .int)) (rmX0_word t t9) (cPc D dA a k t [.ref a, .int x1, .int x2, .int x3]) (cQ D dA a k 2 t t9 (some (.int r))) (t9.2.2.2 0 - t.2.2.2 0) (t9.2.2.2 1 - t.2.2.2 1) (ca a) := en_C (by decide +kernel) rfl (Nat.le_of_ble_eq_true rfl) (fun p e s m below meth c ls C hK hT hl => sub0 (bX0_word C t x1 x2 x3 _ [] hT cS.rf hK mo.rf ls h hl))
set_option maxRecDepth 20000 in
abbrev rmX0_addsSaying : Room := { frames := 0, cells := 0, slots := 0, locals := 0 }
theorem hdX0_addsSaying : yX0_addsSaying.cls = RX0 ∧ yX0_addsSaying.cls ≠ "java/lang/invoke/MethodHandle" ∧ yX0_addsSaying.cls ≠ "java/lang/invoke/VarHandle" ∧ (parseMethodDescriptor yX0_addsSaying.desc).map (fun d => d.parameters.length) = some 1 := by decide +kernel
theorem bX0_addsSaying {p : Program} {l : Launch} {e : Env} {s : State} {m : MethodId} {args : Array Value} {below : List Frame} {meth : Method} {c : Code} {D : va_G} {dA : Nat → ClassId} {a : Nat} {k : KP a} {t0 : CS} {r : Int32} {t9 : CS} (C : cx p s m args meth c cX0_addsSaying RX0 2 (some .int)) : ∀ (t : CS) (x1 : Nat) (H : Heap) (locs : List Loc) (hT : cW D dA a k t H) (hS : cS a s.heap H locs t0.2.2.2 0 t) (hK : kC D dA a k t.2.2.2 s) (ls : Array Slot), C_addsSaying t x1 = some (r, t9) → lv_has ls 2 [(0, .ref a), (1, .ref x1)] → W p l e rmX0_addsSaying s m args below meth c H locs 0 0 (MQ below (cQ D dA a k 0 t0 t9 (some (.int r))) args s 0 0 (ca a)) (F0 m 0 ls []) := by
  obtain ⟨hx, hb, hr, hml, hown, hts, hlocks⟩ := id C
  intro t x1 H locs hT hS hK ls h hl
  unfold C_addsSaying at h
  refine lv_aload_n hx hb dX0_addsSaying_0 rfl (lv_at hl 0 rfl) ?_
  refine cg0 C hK hT dX0_addsSaying_1 ?_
  refine c_getSN C hK hT (Or.inl rfl) 0 (by decide) (nf222 hK.2.1) rfl (v := .ref (a + 2)) rfl dX0_addsSaying_4 ?_
  refine lv_iconst (v := 1) hx hb dX0_addsSaying_7 (by decide) ?_
  obtain ⟨hi1, h⟩ := ck_some h
  refine c_ild C hK hT 2 7 (by decide) (fun _ _ => rfl) hi1 dX0_addsSaying_8 ?_
  refine lv_bipush (v := 8) hx hb dX0_addsSaying_9 (by decide) ?_
  refine lv_icmp_ne (tgt := 16) hx hb dX0_addsSaying_11 (by decide) (fun c => ?_) (fun c => ?_)
  · replace h := if_f c h
    refine lv_aload_n hx hb dX0_addsSaying_16 rfl (lv_at hl 0 rfl) ?_
    refine cg0 C hK hT dX0_addsSaying_17 ?_
    refine c_getSN C hK hT (Or.inl rfl) 5 (by decide) (nf232 hK.2.1) rfl (v := .ref (a + 7)) rfl dX0_addsSaying_20 ?_
    refine lv_aload_n hx hb dX0_addsSaying_23 rfl (lv_at hl 0 rfl) ?_
    refine cg0 C hK hT dX0_addsSaying_24 ?_
    refine c_getSN C hK hT (Or.inl rfl) 0 (by decide) (nf222 hK.2.1) rfl (v := .ref (a + 2)) rfl dX0_addsSaying_27 ?_
    refine lv_iconst (v := 1) hx hb dX0_addsSaying_30 (by decide) ?_
    obtain ⟨hi2, h⟩ := ck_some h
    refine c_ild C hK hT 2 7 (by decide) (fun _ _ => rfl) hi2 dX0_addsSaying_31 ?_
    refine lv_aload_n hx hb dX0_addsSaying_32 rfl (lv_at hl 1 rfl) ?_
    obtain ⟨hi3, h⟩ := ck_some h
    obtain ⟨⟨nhc4, fhc4, hc4⟩, h⟩ := ckA_some h
    refine c_astG C hK hT hS 7 8 (by decide) (fun _ _ => rfl) hi3 hc4 dX0_addsSaying_33 (fun t5 H locs et5 hT hS hK => ?_)
    replace h := lt1_sub et5 h
    refine lv_aload_n hx hb dX0_addsSaying_34 rfl (lv_at hl 0 rfl) ?_
    refine cg0 C hK hT dX0_addsSaying_35 ?_
    refine c_getSN C hK hT (Or.inl rfl) 0 (by decide) (nf222 hK.2.1) rfl (v := .ref (a + 2)) rfl dX0_addsSaying_38 ?_
    refine lv_iconst (v := 1) hx hb dX0_addsSaying_41 (by decide) ?_
    refine lv_dup2_11 hx hb dX0_addsSaying_42 rfl rfl ?_
    obtain ⟨hi6, h⟩ := ck_some h
    refine c_ild C hK hT 2 7 (by decide) (fun _ _ => rfl) hi6 dX0_addsSaying_43 ?_
    refine lv_iconst (v := 1) hx hb dX0_addsSaying_44 (by decide) ?_
    refine lv_iadd hx hb dX0_addsSaying_45 ?_
    obtain ⟨hi7, h⟩ := ck_some h
    refine c_ist C hK hT hS 2 7 (by decide) (fun _ _ => rfl) hi7 dX0_addsSaying_46 (fun t8 H locs et8 hT hS hK => ?_)
    replace h := lt1_sub et8 h
    refine lv_aload_n hx hb dX0_addsSaying_47 rfl (lv_at hl 0 rfl) ?_
    refine cg0 C hK hT dX0_addsSaying_48 ?_
    refine c_getSN C hK hT (Or.inl rfl) 0 (by decide) (nf222 hK.2.1) rfl (v := .ref (a + 2)) rfl dX0_addsSaying_51 ?_
    refine lv_iconst (v := 1) hx hb dX0_addsSaying_54 (by decide) ?_
    obtain ⟨hi9, h⟩ := ck_some h
    refine c_ild C hK hT 2 7 (by decide) (fun _ _ => rfl) hi9 dX0_addsSaying_55 ?_
    refine lv_iconst (v := 1) hx hb dX0_addsSaying_56 (by decide) ?_
    refine lv_isub hx hb dX0_addsSaying_57 ?_
    exact ec_i C hT hS h dX0_addsSaying_58
  · replace h := if_t c h
    refine lv_iconst (v := -1) hx hb dX0_addsSaying_14 (by decide) ?_
    exact ec_i C hT hS h dX0_addsSaying_15
theorem mX0_addsSaying {l : Launch} {D : va_G} {dA : Nat → ClassId} {a : Nat} {k : KP a} {t : CS} {x1 : Nat} {r : Int32} {t9 : CS} (h : C_addsSaying t x1 = some (r, t9)) : Met l yX0_addsSaying (ws_ yX0_addsSaying cX0_addsSaying 2 (some .int)) rmX0_addsSaying (cPc D dA a k t [.ref a, .ref x1]) (cQ D dA a k 0 t t9 (some (.int r))) 0 0 (ca a) := en_C (by decide +kernel) rfl (Nat.le_of_ble_eq_true rfl) (fun p e s m below meth c ls C hK hT hl => bX0_addsSaying C t x1 _ [] hT cS.rf hK ls h hl)
set_option maxRecDepth 20000 in
abbrev rmX0_saying (t t9 : CS) : Room := { frames := 1, cells := t9.2.2.2 0 - t.2.2.2 0, slots := t9.2.2.2 1 - t.2.2.2 1, locals := 21 }
theorem hdX0_saying : yX0_saying.cls = RX0 ∧ yX0_saying.cls ≠ "java/lang/invoke/MethodHandle" ∧ yX0_saying.cls ≠ "java/lang/invoke/VarHandle" ∧ (parseMethodDescriptor yX0_saying.desc).map (fun d => d.parameters.length) = some 1 := by decide +kernel
theorem bX0_saying_p57 {p : Program} {l : Launch} {e : Env} {s : State} {m : MethodId} {args : Array Value} {below : List Frame} {meth : Method} {c : Code} {D : va_G} {dA : Nat → ClassId} {a : Nat} {k : KP a} {t0 : CS} {r : Int32} {t9 : CS} (C : cx p s m args meth c cX0_saying RX0 7 (some .int)) : ∀ (n : Nat), ∀ (t : CS) (x4 : Nat) (x5 : Int32) (x6 : Int32) (H : Heap) (locs : List Loc) (hT : cW D dA a k t H) (hS : cS a s.heap H locs t0.2.2.2 2 t) (hK : kC D dA a k t.2.2.2 s) (hm : mo t0 t) (ls : Array Slot), C_saying_p57 n t x4 x5 x6 = some (r, t9) → lv_has ls 7 [(0, .ref a), (4, .ref x4), (5, .int x5), (6, .int x6)] → W p l e (rmX0_saying t0 t9) s m args below meth c H locs (t.2.2.2 0 - t0.2.2.2 0) (t.2.2.2 1 - t0.2.2.2 1) (MQ below (cQ D dA a k 2 t0 t9 (some (.int r))) args s (t9.2.2.2 0 - t0.2.2.2 0) (t9.2.2.2 1 - t0.2.2.2 1) (ca a)) (F0 m 57 ls []) := by
  obtain ⟨hx, hb, hr, hml, hown, hts, hlocks⟩ := id C
  intro n
  induction n with
  | zero =>
    intro t x4 x5 x6 H locs hT hS hK hm ls h hl
    have h : none = some _ := h
    cases h
  | succ n ih =>
    intro t x4 x5 x6 H locs hT hS hK hm ls h hl
    have m9 : mo t t9 := mo_C_saying_p57 (n + 1) _ _ _ _ _ _ h
    rw [C_saying_p57] at h
    refine lv_iload hx hb dX0_saying_57 (lv_at hl 2 rfl) ?_
    refine lv_if_lt (tgt := 85) hx hb dX0_saying_59 (by decide) (fun c => ?_) (fun c => ?_)
    · replace h := if_t c h
      refine lv_aload_n hx hb dX0_saying_85 rfl (lv_at hl 0 rfl) ?_
      refine lv_aload hx hb dX0_saying_86 (lv_at hl 1 rfl) ?_
      obtain ⟨v1, t2, ht2, h⟩ := bd2_some h
      refine wc_int hS hK (run_c (As := [.ref x4]) (rest := []) C hK hT hS.2.1 (rv_X hK hT) (mX0_addsSaying ht2) q490 q492 qs1 q158 q493 ⟨rfl, rfl⟩ hdX0_addsSaying ⟨Nat.le_of_ble_eq_true rfl, Nat.le_of_ble_eq_true rfl⟩ (mo_z m9) rfl hl.1 rfl (Nat.le_of_ble_eq_true rfl) dX0_saying_88) (fun H locs hT hS hK hNt2 => ?_)
      have mm : mo t t2 := mo.ni hNt2
      replace hm := hm.tr mm
      replace m9 : mo t2 t9 := mo.bk (funext fun i => hNt2 i (Nat.zero_le _)) m9
      refine W.widen (mo_s mm).1 (mo_s mm).2 ?_
      cases h
      exact ec_i C hT hS rfl dX0_saying_91
    · replace h := if_f c h
      refine lv_aload hx hb dX0_saying_62 (lv_at hl 1 rfl) ?_
      refine lv_iload hx hb dX0_saying_64 (lv_at hl 2 rfl) ?_
      refine lv_iload hx hb dX0_saying_66 (lv_at hl 3 rfl) ?_
      refine lv_bipush (v := 10) hx hb dX0_saying_68 (by decide) ?_
      refine lv_irem hx hb dX0_saying_70 (by decide) ?_
      obtain ⟨t3, ht3, h⟩ := bd1_some h
      refine d_ist C hK hT hS ht3 dX0_saying_71 (fun H locs hT hS hK => ?_)
      have mm : mo t t3 := mo.nn (das_N ht3)
      replace hm := hm.tr mm
      replace m9 : mo t3 t9 := mo.bk (das_N ht3) m9
      refine W.widen (mo_s mm).1 (mo_s mm).2 ?_
      obtain ⟨v4, ev4⟩ : ∃ y : Int32, y = x5 + (-1 : Int32) := ⟨_, rfl⟩
      replace h := lt1_sub ev4 h
      refine lv_iinc (v := v4) (lv' := [(5, .int v4), (0, .ref a), (4, .ref x4), (6, .int x6)]) hx hb dX0_saying_72 hl (k := 2) rfl (by rw [ev4]; rfl) (by decide) rfl (fun ls hl => ?_)
      refine lv_iload hx hb dX0_saying_75 (lv_at hl 3 rfl) ?_
      refine lv_bipush (v := 10) hx hb dX0_saying_77 (by decide) ?_
      refine lv_idiv hx hb dX0_saying_79 (by decide) ?_
      refine lv_topi (fun v5 ev5 => ?_)
      replace h := lt1_sub ev5 h
      refine lv_istore (lv' := [(6, .int v5), (5, .int v4), (0, .ref a), (4, .ref x4)]) hx hb dX0_saying_80 hl (by decide) rfl (fun ls hl => ?_)
      refine lv_goto (tgt := 57) hx hb dX0_saying_82 (by decide) ?_
      exact ih t3 x4 v4 v5 H locs hT hS hK hm ls h (lv_sub hl [2, 3, 1, 0] rfl)
theorem bX0_saying_p47 {p : Program} {l : Launch} {e : Env} {s : State} {m : MethodId} {args : Array Value} {below : List Frame} {meth : Method} {c : Code} {D : va_G} {dA : Nat → ClassId} {a : Nat} {k : KP a} {t0 : CS} {r : Int32} {t9 : CS} (C : cx p s m args meth c cX0_saying RX0 7 (some .int)) : ∀ (t : CS) (x1 : Int32) (x2 : Int32) (y0 : Nat) (H : Heap) (locs : List Loc) (hT : cW D dA a k t H) (hS : cS a s.heap H locs t0.2.2.2 2 t) (hK : kC D dA a k t.2.2.2 s) (hm : mo t0 t) (ls : Array Slot), C_saying_p47 t x1 x2 y0 = some (r, t9) → lv_has ls 7 [(0, .ref a), (1, .int x1), (2, .int x2)] → W p l e (rmX0_saying t0 t9) s m args below meth c H locs (t.2.2.2 0 - t0.2.2.2 0) (t.2.2.2 1 - t0.2.2.2 1) (MQ below (cQ D dA a k 2 t0 t9 (some (.int r))) args s (t9.2.2.2 0 - t0.2.2.2 0) (t9.2.2.2 1 - t0.2.2.2 1) (ca a)) (F0 m 47 ls [.ref y0]) := by
  obtain ⟨hx, hb, hr, hml, hown, hts, hlocks⟩ := id C
  intro t x1 x2 y0 H locs hT hS hK hm ls h hl
  have m9 : mo t t9 := mo_C_saying_p47 h
  unfold C_saying_p47 at h
  refine lv_astore (lv' := [(4, .ref y0), (0, .ref a), (1, .int x1), (2, .int x2)]) hx hb dX0_saying_47 hl (by decide) rfl (fun ls hl => ?_)
  refine lv_iload_n hx hb dX0_saying_49 rfl (lv_at hl 3 rfl) ?_
  refine lv_iconst (v := 1) hx hb dX0_saying_50 (by decide) ?_
  refine lv_isub hx hb dX0_saying_51 ?_
  refine lv_topi (fun v1 ev1 => ?_)
  replace h := lt1_sub ev1 h
  refine lv_istore (lv' := [(5, .int v1), (4, .ref y0), (0, .ref a), (1, .int x1), (2, .int x2)]) hx hb dX0_saying_52 hl (by decide) rfl (fun ls hl => ?_)
  refine lv_iload_n hx hb dX0_saying_54 rfl (lv_at hl 3 rfl) ?_
  refine lv_istore (lv' := [(6, .int x1), (5, .int v1), (4, .ref y0), (0, .ref a), (1, .int x1), (2, .int x2)]) hx hb dX0_saying_55 hl (by decide) rfl (fun ls hl => ?_)
  exact bX0_saying_p57 C fu t y0 v1 x1 H locs hT hS hK hm ls h (lv_sub hl [3, 2, 1, 0] rfl)
theorem bX0_saying_p4 {p : Program} {l : Launch} {e : Env} {s : State} {m : MethodId} {args : Array Value} {below : List Frame} {meth : Method} {c : Code} {D : va_G} {dA : Nat → ClassId} {a : Nat} {k : KP a} {t0 : CS} {r : Int32} {t9 : CS} (C : cx p s m args meth c cX0_saying RX0 7 (some .int)) : ∀ (n : Nat), ∀ (t : CS) (x1 : Int32) (x2 : Int32) (x3 : Int32) (H : Heap) (locs : List Loc) (hT : cW D dA a k t H) (hS : cS a s.heap H locs t0.2.2.2 2 t) (hK : kC D dA a k t.2.2.2 s) (hm : mo t0 t) (ls : Array Slot), C_saying_p4 n t x1 x2 x3 = some (r, t9) → lv_has ls 7 [(0, .ref a), (1, .int x1), (2, .int x2), (3, .int x3)] → W p l e (rmX0_saying t0 t9) s m args below meth c H locs (t.2.2.2 0 - t0.2.2.2 0) (t.2.2.2 1 - t0.2.2.2 1) (MQ below (cQ D dA a k 2 t0 t9 (some (.int r))) args s (t9.2.2.2 0 - t0.2.2.2 0) (t9.2.2.2 1 - t0.2.2.2 1) (ca a)) (F0 m 4 ls []) := by
  obtain ⟨hx, hb, hr, hml, hown, hts, hlocks⟩ := id C
  intro n
  induction n with
  | zero =>
    intro t x1 x2 x3 H locs hT hS hK hm ls h hl
    have h : none = some _ := h
    cases h
  | succ n ih =>
    intro t x1 x2 x3 H locs hT hS hK hm ls h hl
    have m9 : mo t t9 := mo_C_saying_p4 (n + 1) _ _ _ _ _ _ h
    rw [C_saying_p4] at h
    refine lv_iload_n hx hb dX0_saying_4 rfl (lv_at hl 1 rfl) ?_
    refine lv_iload_n hx hb dX0_saying_5 rfl (lv_at hl 3 rfl) ?_
    obtain ⟨hn, h⟩ := nz_some h
    refine lv_idiv hx hb dX0_saying_6 hn ?_
    refine lv_bipush (v := 9) hx hb dX0_saying_7 (by decide) ?_
    refine lv_icmp_le (tgt := 23) hx hb dX0_saying_9 (by decide) (fun c => ?_) (fun c => ?_)
    · replace h := if_t c h
      refine lv_iload_n hx hb dX0_saying_23 rfl (lv_at hl 1 rfl) ?_
      refine lv_bipush (v := 10) hx hb dX0_saying_24 (by decide) ?_
      refine lv_icmp_lt (tgt := 42) hx hb dX0_saying_26 (by decide) (fun c => ?_) (fun c => ?_)
      · replace h := if_t c h
        refine lv_iconst (v := -1) hx hb dX0_saying_42 (by decide) ?_
        cases h
        exact ec_i C hT hS rfl dX0_saying_43
      · replace h := if_f c h
        refine lv_iload_n hx hb dX0_saying_29 rfl (lv_at hl 2 rfl) ?_
        refine lv_bipush (v := 8) hx hb dX0_saying_30 (by decide) ?_
        refine lv_icmp_gt (tgt := 42) hx hb dX0_saying_32 (by decide) (fun c => ?_) (fun c => ?_)
        · replace h := if_t c h
          refine lv_iconst (v := -1) hx hb dX0_saying_42 (by decide) ?_
          cases h
          exact ec_i C hT hS rfl dX0_saying_43
        · replace h := if_f c h
          refine lv_iload_n hx hb dX0_saying_35 rfl (lv_at hl 1 rfl) ?_
          refine lv_iload_n hx hb dX0_saying_36 rfl (lv_at hl 3 rfl) ?_
          obtain ⟨hn, h⟩ := nz_some h
          refine lv_idiv hx hb dX0_saying_37 hn ?_
          refine lv_iconst (v := 1) hx hb dX0_saying_38 (by decide) ?_
          refine lv_icmp_eq (tgt := 44) hx hb dX0_saying_39 (by decide) (fun c => ?_) (fun c => ?_)
          · replace h := if_t c h
            refine lv_iload_n hx hb dX0_saying_44 rfl (lv_at hl 2 rfl) ?_
            obtain ⟨⟨hg2a, hg2b⟩, h⟩ := ngt_some h
            obtain ⟨t1, et1, h⟩ := lt1_ex h
            have m9 : mo t1 t9 := mo_C_saying_p47 h
            refine n_newi C hK hT hS hg2a hg2b (mo_n hm et1 m9) dX0_saying_45 (fun t_ H et_ hT hS hK => ?_)
            obtain rfl := et1.trans et_.symm
            refine W.widen (mo_n1 hm et1).1 (mo_n1 hm et1).2 ?_
            replace hm := hm.tr (mo.new et1)
            exact bX0_saying_p47 C t1 x1 x2 (t.2.2.2 0) H locs hT hS hK hm ls h (lv_sub hl [0, 1, 2] rfl)
          · replace h := if_f c h
            refine lv_iconst (v := -1) hx hb dX0_saying_42 (by decide) ?_
            cases h
            exact ec_i C hT hS rfl dX0_saying_43
    · replace h := if_f c h
      refine lv_iload_n hx hb dX0_saying_12 rfl (lv_at hl 3 rfl) ?_
      refine lv_bipush (v := 10) hx hb dX0_saying_13 (by decide) ?_
      refine lv_imul hx hb dX0_saying_15 ?_
      refine lv_topi (fun v3 ev3 => ?_)
      replace h := lt1_sub ev3 h
      refine lv_istore_n (lv' := [(3, .int v3), (0, .ref a), (1, .int x1), (2, .int x2)]) hx hb dX0_saying_16 rfl hl (by decide) rfl (fun ls hl => ?_)
      obtain ⟨v4, ev4⟩ : ∃ y : Int32, y = x2 + (1 : Int32) := ⟨_, rfl⟩
      replace h := lt1_sub ev4 h
      refine lv_iinc (v := v4) (lv' := [(2, .int v4), (3, .int v3), (0, .ref a), (1, .int x1)]) hx hb dX0_saying_17 hl (k := 3) rfl (by rw [ev4]; rfl) (by decide) rfl (fun ls hl => ?_)
      refine lv_goto (tgt := 4) hx hb dX0_saying_20 (by decide) ?_
      exact ih t x1 v4 v3 H locs hT hS hK hm ls h (lv_sub hl [2, 3, 0, 1] rfl)
theorem bX0_saying {p : Program} {l : Launch} {e : Env} {s : State} {m : MethodId} {args : Array Value} {below : List Frame} {meth : Method} {c : Code} {D : va_G} {dA : Nat → ClassId} {a : Nat} {k : KP a} {t0 : CS} {r : Int32} {t9 : CS} (C : cx p s m args meth c cX0_saying RX0 7 (some .int)) : ∀ (t : CS) (x1 : Int32) (H : Heap) (locs : List Loc) (hT : cW D dA a k t H) (hS : cS a s.heap H locs t0.2.2.2 2 t) (hK : kC D dA a k t.2.2.2 s) (hm : mo t0 t) (ls : Array Slot), C_saying t x1 = some (r, t9) → lv_has ls 7 [(0, .ref a), (1, .int x1)] → W p l e (rmX0_saying t0 t9) s m args below meth c H locs (t.2.2.2 0 - t0.2.2.2 0) (t.2.2.2 1 - t0.2.2.2 1) (MQ below (cQ D dA a k 2 t0 t9 (some (.int r))) args s (t9.2.2.2 0 - t0.2.2.2 0) (t9.2.2.2 1 - t0.2.2.2 1) (ca a)) (F0 m 0 ls []) := by
  obtain ⟨hx, hb, hr, hml, hown, hts, hlocks⟩ := id C
  intro t x1 H locs hT hS hK hm ls h hl
  have m9 : mo t t9 := mo_C_saying h
  unfold C_saying at h
  refine lv_iconst (v := 0) hx hb dX0_saying_0 (by decide) ?_
  refine lv_istore_n (lv' := [(2, .int (0 : Int32)), (0, .ref a), (1, .int x1)]) hx hb dX0_saying_1 rfl hl (by decide) rfl (fun ls hl => ?_)
  refine lv_iconst (v := 1) hx hb dX0_saying_2 (by decide) ?_
  refine lv_istore_n (lv' := [(3, .int (1 : Int32)), (2, .int (0 : Int32)), (0, .ref a), (1, .int x1)]) hx hb dX0_saying_3 rfl hl (by decide) rfl (fun ls hl => ?_)
  exact bX0_saying_p4 C fu t x1 (0 : Int32) (1 : Int32) H locs hT hS hK hm ls h (lv_sub hl [2, 3, 1, 0] rfl)
theorem mX0_saying {l : Launch} {D : va_G} {dA : Nat → ClassId} {a : Nat} {k : KP a} {t : CS} {x1 : Int32} {r : Int32} {t9 : CS} (h : C_saying t x1 = some (r, t9)) : Met l yX0_saying (ws_ yX0_saying cX0_saying 7 (some .int)) (rmX0_saying t t9) (cPc D dA a k t [.ref a, .int x1]) (cQ D dA a k 2 t t9 (some (.int r))) (t9.2.2.2 0 - t.2.2.2 0) (t9.2.2.2 1 - t.2.2.2 1) (ca a) := en_C (by decide +kernel) rfl (Nat.le_of_ble_eq_true rfl) (fun p e s m below meth c ls C hK hT hl => sub0 (bX0_saying C t x1 _ [] hT cS.rf hK mo.rf ls h hl))
set_option maxRecDepth 20000 in
abbrev rmX0_put : Room := { frames := 0, cells := 0, slots := 0, locals := 0 }
theorem hdX0_put : yX0_put.cls = RX0 ∧ yX0_put.cls ≠ "java/lang/invoke/MethodHandle" ∧ yX0_put.cls ≠ "java/lang/invoke/VarHandle" ∧ (parseMethodDescriptor yX0_put.desc).map (fun d => d.parameters.length) = some 1 := by decide +kernel
theorem bX0_put_p3 {p : Program} {l : Launch} {e : Env} {s : State} {m : MethodId} {args : Array Value} {below : List Frame} {meth : Method} {c : Code} {D : va_G} {dA : Nat → ClassId} {a : Nat} {k : KP a} {t0 : CS} {t9 : CS} (C : cx p s m args meth c cX0_put RX0 3 none) : ∀ (n : Nat), ∀ (t : CS) (x1 : Int32) (x2 : Int32) (H : Heap) (locs : List Loc) (hT : cW D dA a k t H) (hS : cS a s.heap H locs t0.2.2.2 0 t) (hK : kC D dA a k t.2.2.2 s) (ls : Array Slot), C_put_p3 n t x1 x2 = some t9 → lv_has ls 3 [(0, .ref a), (1, .int x1), (2, .int x2)] → W p l e rmX0_put s m args below meth c H locs 0 0 (MQ below (cQ D dA a k 0 t0 t9 none) args s 0 0 (ca a)) (F0 m 3 ls []) := by
  obtain ⟨hx, hb, hr, hml, hown, hts, hlocks⟩ := id C
  intro n
  induction n with
  | zero =>
    intro t x1 x2 H locs hT hS hK ls h hl
    have h : none = some _ := h
    cases h
  | succ n ih =>
    intro t x1 x2 H locs hT hS hK ls h hl
    rw [C_put_p3] at h
    refine lv_iload_n hx hb dX0_put_3 rfl (lv_at hl 2 rfl) ?_
    refine lv_if_lt (tgt := 36) hx hb dX0_put_4 (by decide) (fun c => ?_) (fun c => ?_)
    · replace h := if_t c h
      exact ec_v C hT hS h dX0_put_36
    · replace h := if_f c h
      refine lv_aload_n hx hb dX0_put_7 rfl (lv_at hl 0 rfl) ?_
      refine cg2 C hK hT dX0_put_8 ?_
      refine lv_aload_n hx hb dX0_put_11 rfl (lv_at hl 0 rfl) ?_
      refine cg3 C hK hT dX0_put_12 ?_
      refine lv_iload_n hx hb dX0_put_15 rfl (lv_at hl 1 rfl) ?_
      refine lv_iload_n hx hb dX0_put_16 rfl (lv_at hl 2 rfl) ?_
      refine lv_ishr hx hb dX0_put_17 ?_
      refine lv_i2b hx hb dX0_put_18 rfl ?_
      obtain ⟨hi1, h⟩ := ck_some h
      refine c_bst C hK hT hS 105 300 (by decide) (fun _ _ => rfl) hi1 dX0_put_19 (fun t2 H locs et2 hT hS hK => ?_)
      replace h := lt1_sub et2 h
      refine lv_aload_n hx hb dX0_put_20 rfl (lv_at hl 0 rfl) ?_
      refine lv_dup hx hb dX0_put_21 rfl ?_
      refine cg3 C hK hT dX0_put_22 ?_
      refine lv_iconst (v := 1) hx hb dX0_put_25 (by decide) ?_
      refine lv_iadd hx hb dX0_put_26 ?_
      refine cp3 C hK hT hS dX0_put_27 (fun t3 H locs et3 hT hS hK => ?_)
      replace h := lt1_sub et3 h
      obtain ⟨v4, ev4⟩ : ∃ y : Int32, y = x2 + (-8 : Int32) := ⟨_, rfl⟩
      replace h := lt1_sub ev4 h
      refine lv_iinc (v := v4) (lv' := [(2, .int v4), (0, .ref a), (1, .int x1)]) hx hb dX0_put_30 hl (k := 2) rfl (by rw [ev4]; rfl) (by decide) rfl (fun ls hl => ?_)
      refine lv_goto (tgt := 3) hx hb dX0_put_33 (by decide) ?_
      exact ih t3 x1 v4 H locs hT hS hK ls h (lv_sub hl [1, 2, 0] rfl)
theorem bX0_put {p : Program} {l : Launch} {e : Env} {s : State} {m : MethodId} {args : Array Value} {below : List Frame} {meth : Method} {c : Code} {D : va_G} {dA : Nat → ClassId} {a : Nat} {k : KP a} {t0 : CS} {t9 : CS} (C : cx p s m args meth c cX0_put RX0 3 none) : ∀ (t : CS) (x1 : Int32) (H : Heap) (locs : List Loc) (hT : cW D dA a k t H) (hS : cS a s.heap H locs t0.2.2.2 0 t) (hK : kC D dA a k t.2.2.2 s) (ls : Array Slot), C_put t x1 = some t9 → lv_has ls 3 [(0, .ref a), (1, .int x1)] → W p l e rmX0_put s m args below meth c H locs 0 0 (MQ below (cQ D dA a k 0 t0 t9 none) args s 0 0 (ca a)) (F0 m 0 ls []) := by
  obtain ⟨hx, hb, hr, hml, hown, hts, hlocks⟩ := id C
  intro t x1 H locs hT hS hK ls h hl
  unfold C_put at h
  refine lv_bipush (v := 24) hx hb dX0_put_0 (by decide) ?_
  refine lv_istore_n (lv' := [(2, .int (24 : Int32)), (0, .ref a), (1, .int x1)]) hx hb dX0_put_2 rfl hl (by decide) rfl (fun ls hl => ?_)
  exact bX0_put_p3 C fu t x1 (24 : Int32) H locs hT hS hK ls h (lv_sub hl [1, 2, 0] rfl)
theorem mX0_put {l : Launch} {D : va_G} {dA : Nat → ClassId} {a : Nat} {k : KP a} {t : CS} {x1 : Int32} {t9 : CS} (h : C_put t x1 = some t9) : Met l yX0_put (ws_ yX0_put cX0_put 3 none) rmX0_put (cPc D dA a k t [.ref a, .int x1]) (cQ D dA a k 0 t t9 none) 0 0 (ca a) := en_C (by decide +kernel) rfl (Nat.le_of_ble_eq_true rfl) (fun p e s m below meth c ls C hK hT hl => bX0_put C t x1 _ [] hT cS.rf hK ls h hl)
set_option maxRecDepth 20000 in
abbrev rmX0_feed : Room := { frames := 1, cells := 0, slots := 0, locals := 22 }
theorem hdX0_feed : yX0_feed.cls = RX0 ∧ yX0_feed.cls ≠ "java/lang/invoke/MethodHandle" ∧ yX0_feed.cls ≠ "java/lang/invoke/VarHandle" ∧ (parseMethodDescriptor yX0_feed.desc).map (fun d => d.parameters.length) = some 5 := by decide +kernel
theorem bX0_feed {p : Program} {l : Launch} {e : Env} {s : State} {m : MethodId} {args : Array Value} {below : List Frame} {meth : Method} {c : Code} {D : va_G} {dA : Nat → ClassId} {a : Nat} {k : KP a} {t0 : CS} {r : Int32} {t9 : CS} (C : cx p s m args meth c cX0_feed RX0 6 (some .int)) : ∀ (t : CS) (x1 : Int32) (x2 : Int32) (x3 : Int32) (x4 : Int32) (x5 : Int32) (H : Heap) (locs : List Loc) (hT : cW D dA a k t H) (hS : cS a s.heap H locs t0.2.2.2 0 t) (hK : kC D dA a k t.2.2.2 s) (ls : Array Slot), C_feed t x1 x2 x3 x4 x5 = some (r, t9) → lv_has ls 6 [(0, .ref a), (1, .int x1), (2, .int x2), (3, .int x3), (4, .int x4), (5, .int x5)] → W p l e rmX0_feed s m args below meth c H locs 0 0 (MQ below (cQ D dA a k 0 t0 t9 (some (.int r))) args s 0 0 (ca a)) (F0 m 0 ls []) := by
  obtain ⟨hx, hb, hr, hml, hown, hts, hlocks⟩ := id C
  intro t x1 x2 x3 x4 x5 H locs hT hS hK ls h hl
  unfold C_feed at h
  refine lv_aload_n hx hb dX0_feed_0 rfl (lv_at hl 0 rfl) ?_
  refine cg3 C hK hT dX0_feed_1 ?_
  refine lv_bipush (v := 20) hx hb dX0_feed_4 (by decide) ?_
  refine lv_iadd hx hb dX0_feed_6 ?_
  refine lv_sipush (v := 300) hx hb dX0_feed_7 (by decide) ?_
  refine lv_icmp_le (tgt := 15) hx hb dX0_feed_10 (by decide) (fun c => ?_) (fun c => ?_)
  · replace h := if_t c h
    refine lv_aload_n hx hb dX0_feed_15 rfl (lv_at hl 0 rfl) ?_
    refine lv_iload_n hx hb dX0_feed_16 rfl (lv_at hl 1 rfl) ?_
    obtain ⟨t1, ht1, h⟩ := bd1_some h
    refine wc_void hS hK (run_c (As := [.int x1]) (rest := []) C hK hT hS.2.1 (rv_X hK hT) (mX0_put ht1) q498 q500 qs2 q158 q501 ⟨rfl, rfl⟩ hdX0_put ⟨Nat.le_of_ble_eq_true rfl, Nat.le_of_ble_eq_true rfl⟩ ⟨Nat.zero_le _, Nat.zero_le _⟩ rfl hl.1 rfl (Nat.le_of_ble_eq_true rfl) dX0_feed_17) (fun H locs hT hS hK hNt1 => ?_)
    refine lv_aload_n hx hb dX0_feed_20 rfl (lv_at hl 0 rfl) ?_
    refine lv_iload_n hx hb dX0_feed_21 rfl (lv_at hl 2 rfl) ?_
    obtain ⟨t2, ht2, h⟩ := bd1_some h
    refine wc_void hS hK (run_c (As := [.int x2]) (rest := []) C hK hT hS.2.1 (rv_X hK hT) (mX0_put ht2) q498 q500 qs2 q158 q501 ⟨rfl, rfl⟩ hdX0_put ⟨Nat.le_of_ble_eq_true rfl, Nat.le_of_ble_eq_true rfl⟩ ⟨Nat.zero_le _, Nat.zero_le _⟩ rfl hl.1 rfl (Nat.le_of_ble_eq_true rfl) dX0_feed_22) (fun H locs hT hS hK hNt2 => ?_)
    refine lv_aload_n hx hb dX0_feed_25 rfl (lv_at hl 0 rfl) ?_
    refine lv_iload_n hx hb dX0_feed_26 rfl (lv_at hl 3 rfl) ?_
    obtain ⟨t3, ht3, h⟩ := bd1_some h
    refine wc_void hS hK (run_c (As := [.int x3]) (rest := []) C hK hT hS.2.1 (rv_X hK hT) (mX0_put ht3) q498 q500 qs2 q158 q501 ⟨rfl, rfl⟩ hdX0_put ⟨Nat.le_of_ble_eq_true rfl, Nat.le_of_ble_eq_true rfl⟩ ⟨Nat.zero_le _, Nat.zero_le _⟩ rfl hl.1 rfl (Nat.le_of_ble_eq_true rfl) dX0_feed_27) (fun H locs hT hS hK hNt3 => ?_)
    refine lv_aload_n hx hb dX0_feed_30 rfl (lv_at hl 0 rfl) ?_
    refine lv_iload hx hb dX0_feed_31 (lv_at hl 4 rfl) ?_
    obtain ⟨t4, ht4, h⟩ := bd1_some h
    refine wc_void hS hK (run_c (As := [.int x4]) (rest := []) C hK hT hS.2.1 (rv_X hK hT) (mX0_put ht4) q498 q500 qs2 q158 q501 ⟨rfl, rfl⟩ hdX0_put ⟨Nat.le_of_ble_eq_true rfl, Nat.le_of_ble_eq_true rfl⟩ ⟨Nat.zero_le _, Nat.zero_le _⟩ rfl hl.1 rfl (Nat.le_of_ble_eq_true rfl) dX0_feed_33) (fun H locs hT hS hK hNt4 => ?_)
    refine lv_aload_n hx hb dX0_feed_36 rfl (lv_at hl 0 rfl) ?_
    refine lv_iload hx hb dX0_feed_37 (lv_at hl 5 rfl) ?_
    obtain ⟨t5, ht5, h⟩ := bd1_some h
    refine wc_void hS hK (run_c (As := [.int x5]) (rest := []) C hK hT hS.2.1 (rv_X hK hT) (mX0_put ht5) q498 q500 qs2 q158 q501 ⟨rfl, rfl⟩ hdX0_put ⟨Nat.le_of_ble_eq_true rfl, Nat.le_of_ble_eq_true rfl⟩ ⟨Nat.zero_le _, Nat.zero_le _⟩ rfl hl.1 rfl (Nat.le_of_ble_eq_true rfl) dX0_feed_39) (fun H locs hT hS hK hNt5 => ?_)
    refine lv_aload_n hx hb dX0_feed_42 rfl (lv_at hl 0 rfl) ?_
    refine cg3 C hK hT dX0_feed_43 ?_
    exact ec_i C hT hS h dX0_feed_46
  · replace h := if_f c h
    refine lv_iconst (v := -1) hx hb dX0_feed_13 (by decide) ?_
    exact ec_i C hT hS h dX0_feed_14
theorem mX0_feed {l : Launch} {D : va_G} {dA : Nat → ClassId} {a : Nat} {k : KP a} {t : CS} {x1 : Int32} {x2 : Int32} {x3 : Int32} {x4 : Int32} {x5 : Int32} {r : Int32} {t9 : CS} (h : C_feed t x1 x2 x3 x4 x5 = some (r, t9)) : Met l yX0_feed (ws_ yX0_feed cX0_feed 6 (some .int)) rmX0_feed (cPc D dA a k t [.ref a, .int x1, .int x2, .int x3, .int x4, .int x5]) (cQ D dA a k 0 t t9 (some (.int r))) 0 0 (ca a) := en_C (by decide +kernel) rfl (Nat.le_of_ble_eq_true rfl) (fun p e s m below meth c ls C hK hT hl => bX0_feed C t x1 x2 x3 x4 x5 _ [] hT cS.rf hK ls h hl)
set_option maxRecDepth 20000 in
abbrev rmX0_end : Room := { frames := 1, cells := 0, slots := 0, locals := 22 }
theorem hdX0_end : yX0_end.cls = RX0 ∧ yX0_end.cls ≠ "java/lang/invoke/MethodHandle" ∧ yX0_end.cls ≠ "java/lang/invoke/VarHandle" ∧ (parseMethodDescriptor yX0_end.desc).map (fun d => d.parameters.length) = some 1 := by decide +kernel
theorem bX0_end {p : Program} {l : Launch} {e : Env} {s : State} {m : MethodId} {args : Array Value} {below : List Frame} {meth : Method} {c : Code} {D : va_G} {dA : Nat → ClassId} {a : Nat} {k : KP a} {t0 : CS} {r : Int32} {t9 : CS} (C : cx p s m args meth c cX0_end RX0 2 (some .int)) : ∀ (t : CS) (x1 : Int32) (H : Heap) (locs : List Loc) (hT : cW D dA a k t H) (hS : cS a s.heap H locs t0.2.2.2 0 t) (hK : kC D dA a k t.2.2.2 s) (ls : Array Slot), C_end t x1 = some (r, t9) → lv_has ls 2 [(0, .ref a), (1, .int x1)] → W p l e rmX0_end s m args below meth c H locs 0 0 (MQ below (cQ D dA a k 0 t0 t9 (some (.int r))) args s 0 0 (ca a)) (F0 m 0 ls []) := by
  obtain ⟨hx, hb, hr, hml, hown, hts, hlocks⟩ := id C
  intro t x1 H locs hT hS hK ls h hl
  unfold C_end at h
  refine lv_iload_n hx hb dX0_end_0 rfl (lv_at hl 1 rfl) ?_
  refine lv_iconst (v := 0) hx hb dX0_end_1 (by decide) ?_
  refine lv_aload_n hx hb dX0_end_2 rfl (lv_at hl 0 rfl) ?_
  refine cg3 C hK hT dX0_end_3 ?_
  obtain ⟨v1, hv1, h⟩ := bd1_some h
  refine r_int (run_s (As := [.int x1, .int (0 : Int32), .int (t.1 0 3)]) (rest := []) C (mX0_in hv1) q341 q342 q158 q343 ⟨rfl, rfl⟩ hdX0_in ⟨Nat.le_of_ble_eq_true rfl, Nat.le_of_ble_eq_true rfl⟩ ⟨Nat.zero_le _, Nat.zero_le _⟩ rfl hl.1 rfl (Nat.le_of_ble_eq_true rfl) dX0_end_6) ?_
  refine lv_if_ne (tgt := 14) hx hb dX0_end_9 (by decide) (fun c => ?_) (fun c => ?_)
  · replace h := if_f c h
    refine lv_aload_n hx hb dX0_end_14 rfl (lv_at hl 0 rfl) ?_
    refine lv_iload_n hx hb dX0_end_15 rfl (lv_at hl 1 rfl) ?_
    refine cp3 C hK hT hS dX0_end_16 (fun t2 H locs et2 hT hS hK => ?_)
    replace h := lt1_sub et2 h
    refine lv_iload_n hx hb dX0_end_19 rfl (lv_at hl 1 rfl) ?_
    exact ec_i C hT hS h dX0_end_20
  · replace h := if_t c h
    refine lv_iconst (v := -1) hx hb dX0_end_12 (by decide) ?_
    exact ec_i C hT hS h dX0_end_13
theorem mX0_end {l : Launch} {D : va_G} {dA : Nat → ClassId} {a : Nat} {k : KP a} {t : CS} {x1 : Int32} {r : Int32} {t9 : CS} (h : C_end t x1 = some (r, t9)) : Met l yX0_end (ws_ yX0_end cX0_end 2 (some .int)) rmX0_end (cPc D dA a k t [.ref a, .int x1]) (cQ D dA a k 0 t t9 (some (.int r))) 0 0 (ca a) := en_C (by decide +kernel) rfl (Nat.le_of_ble_eq_true rfl) (fun p e s m below meth c ls C hK hT hl => bX0_end C t x1 _ [] hT cS.rf hK ls h hl)
set_option maxRecDepth 20000 in
abbrev rmJ7_init : Room := { frames := 1, cells := 0, slots := 0, locals := 30 }
theorem hdJ7_init : yJ7_init.name = "<init>" ∧ yJ7_init.cls ≠ "java/lang/invoke/MethodHandle" ∧ yJ7_init.cls ≠ "java/lang/invoke/VarHandle" ∧ (parseMethodDescriptor yJ7_init.desc).map (fun d => d.parameters.length) = some 0 := by decide +kernel
theorem bJ7_init {p : Program} {l : Launch} {e : Env} {s : State} {m : MethodId} {args : Array Value} {below : List Frame} {meth : Method} {c : Code} {D : va_G} {dA : Nat → ClassId} {a : Nat} {k : KP a} {t : CS} (C : cx p s m args meth c cJ7_init RJ7 1 none) (hK : kC D dA a k t.2.2.2 s) (hT : cW D dA a k t s.heap) (hin : meth.name = "<init>") : ∀ (x0 : Nat) (ls : Array Slot), J_J7_init t x0 = some () → lv_has ls 1 [(0, .ref x0)] → W p l e rmJ7_init s m args below meth c s.heap [] 0 0 (MQ below (rQv none) args s 0 0 nof) (F0 m 0 ls []) := by
  obtain ⟨hx, hb, hr, hml, hown, hts, hlocks⟩ := id C
  intro x0 ls h hl
  unfold J_J7_init at h
  refine lv_aload_n hx hb dJ7_init_0 rfl (lv_at hl 0 rfl) ?_
  refine W.objInit hx hb hown (hts _ q563) (hts _ q200) (hts _ q201) rfl (by rw [hml]; exact hl.1) rfl dJ7_init_1 (Nat.le_of_ble_eq_true rfl) (Nat.le_of_ble_eq_true rfl) ?_
  refine W.eq (g2 := F0 m 4 ls []) rfl ?_
  exact e_rv C h dJ7_init_4
theorem mJ7_init {l : Launch} {D : va_G} {dA : Nat → ClassId} {a : Nat} {k : KP a} {t : CS} {x0 : Nat} (h : J_J7_init t x0 = some ()) : Met l yJ7_init (ws_ yJ7_init cJ7_init 1 none) rmJ7_init (cPc D dA a k t [.ref x0]) (rQv none) 0 0 nof := en_Ci (by decide +kernel) rfl (Nat.le_of_ble_eq_true rfl) (fun p e s m below meth c ls C hin hK hT hl => bJ7_init C hK hT hin x0 ls h hl)
set_option maxRecDepth 20000 in
abbrev rmJ8_init : Room := { frames := 2, cells := 0, slots := 0, locals := 50 }
theorem hdJ8_init : yJ8_init.name = "<init>" ∧ yJ8_init.cls ≠ "java/lang/invoke/MethodHandle" ∧ yJ8_init.cls ≠ "java/lang/invoke/VarHandle" ∧ (parseMethodDescriptor yJ8_init.desc).map (fun d => d.parameters.length) = some 0 := by decide +kernel
theorem bJ8_init {p : Program} {l : Launch} {e : Env} {s : State} {m : MethodId} {args : Array Value} {below : List Frame} {meth : Method} {c : Code} {D : va_G} {dA : Nat → ClassId} {a : Nat} {k : KP a} {t0 : CS} {t9 : CS} (C : cx p s m args meth c cJ8_init RJ8 1 none) (hin : meth.name = "<init>") : ∀ (t : CS) (x0 : Nat) (H : Heap) (locs : List Loc) (hT : cW D dA a k t H) (hS : cS a s.heap H locs t0.2.2.2 0 t) (hK : kC D dA a k t.2.2.2 s) (ls : Array Slot), J_J8_init t x0 = some t9 → lv_has ls 1 [(0, .ref x0)] → W p l e rmJ8_init s m args below meth c H locs 0 0 (MQ below (cQ D dA a k 0 t0 t9 none) args s 0 0 (ca a)) (F0 m 0 ls []) := by
  obtain ⟨hx, hb, hr, hml, hown, hts, hlocks⟩ := id C
  intro t x0 H locs hT hS hK ls h hl
  unfold J_J8_init at h
  refine lv_aload_n hx hb dJ8_init_0 rfl (lv_at hl 0 rfl) ?_
  obtain ⟨v1, hv1, h⟩ := bd1_some h
  refine r_void (run_i (As := []) (rest := []) C hK hT hS.2.1 (mJ7_init hv1) q560 q561 q173 q562 ⟨rfl, rfl⟩ hdJ7_init ⟨Nat.le_of_ble_eq_true rfl, Nat.le_of_ble_eq_true rfl⟩ ⟨Nat.zero_le _, Nat.zero_le _⟩ rfl hl.1 rfl (Nat.le_of_ble_eq_true rfl) dJ8_init_1) ?_
  refine lv_aload_n hx hb dJ8_init_4 rfl (lv_at hl 0 rfl) ?_
  refine lv_iconst (v := 0) hx hb dJ8_init_5 (by decide) ?_
  obtain ⟨t2, ht2, h⟩ := bd1_some h
  refine d_putU (rf := "java/util/AbstractList") (ci := 15) in_J9 tyJ9 tyJ9_ok nmJ9 rfl C hK hT hS 0 (by decide) q568 (fun _ h => h) rfl ht2 (tyJ9_ok 0 (by decide)) rfl rfl dJ8_init_6 (fun H locs hT hS hK => ?_)
  exact ec_v C hT hS h dJ8_init_9
theorem mJ8_init {l : Launch} {D : va_G} {dA : Nat → ClassId} {a : Nat} {k : KP a} {t : CS} {x0 : Nat} {t9 : CS} (h : J_J8_init t x0 = some t9) : Met l yJ8_init (ws_ yJ8_init cJ8_init 1 none) rmJ8_init (cPc D dA a k t [.ref x0]) (cQ D dA a k 0 t t9 none) 0 0 (ca a) := en_Ci (by decide +kernel) rfl (Nat.le_of_ble_eq_true rfl) (fun p e s m below meth c ls C hin hK hT hl => bJ8_init C hin t x0 _ [] hT cS.rf hK ls h hl)
set_option maxRecDepth 20000 in
abbrev rmJ9_init : Room := { frames := 3, cells := 0, slots := 0, locals := 70 }
theorem hdJ9_init : yJ9_init.name = "<init>" ∧ yJ9_init.cls ≠ "java/lang/invoke/MethodHandle" ∧ yJ9_init.cls ≠ "java/lang/invoke/VarHandle" ∧ (parseMethodDescriptor yJ9_init.desc).map (fun d => d.parameters.length) = some 0 := by decide +kernel
theorem bJ9_init {p : Program} {l : Launch} {e : Env} {s : State} {m : MethodId} {args : Array Value} {below : List Frame} {meth : Method} {c : Code} {D : va_G} {dA : Nat → ClassId} {a : Nat} {k : KP a} {t0 : CS} {t9 : CS} (C : cx p s m args meth c cJ9_init RJ9 1 none) (hin : meth.name = "<init>") : ∀ (t : CS) (x0 : Nat) (H : Heap) (locs : List Loc) (hT : cW D dA a k t H) (hS : cS a s.heap H locs t0.2.2.2 0 t) (hK : kC D dA a k t.2.2.2 s) (ls : Array Slot), J_J9_init t x0 = some t9 → lv_has ls 1 [(0, .ref x0)] → W p l e rmJ9_init s m args below meth c H locs 0 0 (MQ below (cQ D dA a k 0 t0 t9 none) args s 0 0 (ca a)) (F0 m 0 ls []) := by
  obtain ⟨hx, hb, hr, hml, hown, hts, hlocks⟩ := id C
  intro t x0 H locs hT hS hK ls h hl
  unfold J_J9_init at h
  refine lv_aload_n hx hb dJ9_init_0 rfl (lv_at hl 0 rfl) ?_
  obtain ⟨t1, ht1, h⟩ := bd1_some h
  refine wc_void hS hK (run_i (As := []) (rest := []) C hK hT hS.2.1 (mJ8_init ht1) q557 q558 q174 q559 ⟨rfl, rfl⟩ hdJ8_init ⟨Nat.le_of_ble_eq_true rfl, Nat.le_of_ble_eq_true rfl⟩ ⟨Nat.zero_le _, Nat.zero_le _⟩ rfl hl.1 rfl (Nat.le_of_ble_eq_true rfl) dJ9_init_1) (fun H locs hT hS hK hNt1 => ?_)
  refine lv_aload_n hx hb dJ9_init_4 rfl (lv_at hl 0 rfl) ?_
  refine g_stat hK.2.2.1.2.2.2.1.1 C hS.va q564 dJ9_init_5 ?_
  obtain ⟨t2, ht2, h⟩ := bd1_some h
  refine d_put (ci := 15) in_J9 tyJ9 tyJ9_ok nmJ9 rfl C hK hT hS 1 (by decide) q566 rfl (Or.inl rfl) ht2 (tyJ9_ok 1 (by decide)) rfl rfl dJ9_init_8 (fun H locs hT hS hK => ?_)
  exact ec_v C hT hS h dJ9_init_11
theorem mJ9_init {l : Launch} {D : va_G} {dA : Nat → ClassId} {a : Nat} {k : KP a} {t : CS} {x0 : Nat} {t9 : CS} (h : J_J9_init t x0 = some t9) : Met l yJ9_init (ws_ yJ9_init cJ9_init 1 none) rmJ9_init (cPc D dA a k t [.ref x0]) (cQ D dA a k 0 t t9 none) 0 0 (ca a) := en_Ci (by decide +kernel) rfl (Nat.le_of_ble_eq_true rfl) (fun p e s m below meth c ls C hin hK hT hl => bJ9_init C hin t x0 _ [] hT cS.rf hK ls h hl)
set_option maxRecDepth 20000 in
abbrev rmX5_init (t t9 : CS) : Room := { frames := 4, cells := t9.2.2.2 0 - t.2.2.2 0, slots := t9.2.2.2 1 - t.2.2.2 1, locals := 90 }
theorem hdX5_init : yX5_init.name = "<init>" ∧ yX5_init.cls ≠ "java/lang/invoke/MethodHandle" ∧ yX5_init.cls ≠ "java/lang/invoke/VarHandle" ∧ (parseMethodDescriptor yX5_init.desc).map (fun d => d.parameters.length) = some 0 := by decide +kernel
theorem bX5_init_p8 {p : Program} {l : Launch} {e : Env} {s : State} {m : MethodId} {args : Array Value} {below : List Frame} {meth : Method} {c : Code} {D : va_G} {dA : Nat → ClassId} {a : Nat} {k : KP a} {t0 : CS} {t9 : CS} (C : cx p s m args meth c cX5_init RX5 1 none) (hin : meth.name = "<init>") : ∀ (t : CS) (y0 : Nat) (y1 : Nat) (H : Heap) (locs : List Loc) (hT : cW D dA a k t H) (hS : cS a s.heap H locs t0.2.2.2 2 t) (hK : kC D dA a k t.2.2.2 s) (hm : mo t0 t) (ls : Array Slot), C_X5_init_p8 t y0 y1 = some t9 → lv_has ls 1 [] → W p l e (rmX5_init t0 t9) s m args below meth c H locs (t.2.2.2 0 - t0.2.2.2 0) (t.2.2.2 1 - t0.2.2.2 1) (MQ below (cQ D dA a k 2 t0 t9 none) args s (t9.2.2.2 0 - t0.2.2.2 0) (t9.2.2.2 1 - t0.2.2.2 1) (ca a)) (F0 m 8 ls [.ref y1, .ref y0]) := by
  obtain ⟨hx, hb, hr, hml, hown, hts, hlocks⟩ := id C
  intro t y0 y1 H locs hT hS hK hm ls h hl
  have m9 : mo t t9 := mo_C_X5_init_p8 h
  unfold C_X5_init_p8 at h
  refine lv_dup hx hb dX5_init_8 rfl ?_
  obtain ⟨t1, ht1, h⟩ := bd1_some h
  refine wc_void hS hK (run_i (As := []) (rest := [.ref y1, .ref y0]) C hK hT hS.2.1 (mJ9_init ht1) q554 q555 q175 q556 ⟨rfl, rfl⟩ hdJ9_init ⟨Nat.le_of_ble_eq_true rfl, Nat.le_of_ble_eq_true rfl⟩ (mo_z m9) rfl hl.1 rfl (Nat.le_of_ble_eq_true rfl) dX5_init_9) (fun H locs hT hS hK hNt1 => ?_)
  have mm : mo t t1 := mo.ni hNt1
  replace hm := hm.tr mm
  replace m9 : mo t1 t9 := mo.bk (funext fun i => hNt1 i (Nat.zero_le _)) m9
  refine W.widen (mo_s mm).1 (mo_s mm).2 ?_
  obtain ⟨t2, ht2, h⟩ := bd1_some h
  refine d_put (ci := 5) in_X5 tyX5 tyX5_ok nmX5 rfl C hK hT hS 5 (by decide) q587 rfl (Or.inr ⟨rfl, hin, rfl⟩) ht2 (tyX5_ok 5 (by decide)) rfl rfl dX5_init_12 (fun H locs hT hS hK => ?_)
  have mm : mo t1 t2 := mo.nn (dpf_N ht2)
  replace hm := hm.tr mm
  replace m9 : mo t2 t9 := mo.bk (dpf_N ht2) m9
  refine W.widen (mo_s mm).1 (mo_s mm).2 ?_
  cases h
  exact ec_v C hT hS rfl dX5_init_15
theorem bX5_init {p : Program} {l : Launch} {e : Env} {s : State} {m : MethodId} {args : Array Value} {below : List Frame} {meth : Method} {c : Code} {D : va_G} {dA : Nat → ClassId} {a : Nat} {k : KP a} {t0 : CS} {t9 : CS} (C : cx p s m args meth c cX5_init RX5 1 none) (hin : meth.name = "<init>") : ∀ (t : CS) (x0 : Nat) (H : Heap) (locs : List Loc) (hT : cW D dA a k t H) (hS : cS a s.heap H locs t0.2.2.2 2 t) (hK : kC D dA a k t.2.2.2 s) (hm : mo t0 t) (ls : Array Slot), C_X5_init t x0 = some t9 → lv_has ls 1 [(0, .ref x0)] → W p l e (rmX5_init t0 t9) s m args below meth c H locs (t.2.2.2 0 - t0.2.2.2 0) (t.2.2.2 1 - t0.2.2.2 1) (MQ below (cQ D dA a k 2 t0 t9 none) args s (t9.2.2.2 0 - t0.2.2.2 0) (t9.2.2.2 1 - t0.2.2.2 1) (ca a)) (F0 m 0 ls []) := by
  obtain ⟨hx, hb, hr, hml, hown, hts, hlocks⟩ := id C
  intro t x0 H locs hT hS hK hm ls h hl
  have m9 : mo t t9 := mo_C_X5_init h
  unfold C_X5_init at h
  refine lv_aload_n hx hb dX5_init_0 rfl (lv_at hl 0 rfl) ?_
  refine W.objInit hx hb hown (hts _ q551) (hts _ q200) (hts _ q201) rfl (by rw [hml]; exact hl.1) rfl dX5_init_1 (Nat.le_of_ble_eq_true rfl) (Nat.le_of_ble_eq_true rfl) ?_
  refine W.eq (g2 := F0 m 4 ls []) rfl ?_
  refine lv_aload_n hx hb dX5_init_4 rfl (lv_at hl 0 rfl) ?_
  obtain ⟨t1, et1, h⟩ := lt1_ex h
  have m9 : mo t1 t9 := mo_C_X5_init_p8 h
  refine n_new (ci := 15) (fs := [.int 0, .null, .int 0]) in_J9 tyJ9 tyJ9_ok rfl C hK hT hS q552 q553 q175 (fun j hj => by rcases (show j = 0 ∨ j = 1 ∨ j = 2 by omega) with rfl | rfl | rfl <;> rfl) (mo_n hm et1 m9) dX5_init_5 (fun t_ H et_ hT hS hK => ?_)
  obtain rfl := et1.trans et_.symm
  refine W.widen (mo_n1 hm et1).1 (mo_n1 hm et1).2 ?_
  replace hm := hm.tr (mo.new et1)
  exact bX5_init_p8 C hin t1 x0 (t.2.2.2 0) H locs hT hS hK hm ls h (lv_sub hl [] rfl)
theorem mX5_init {l : Launch} {D : va_G} {dA : Nat → ClassId} {a : Nat} {k : KP a} {t : CS} {x0 : Nat} {t9 : CS} (h : C_X5_init t x0 = some t9) : Met l yX5_init (ws_ yX5_init cX5_init 1 none) (rmX5_init t t9) (cPc D dA a k t [.ref x0]) (cQ D dA a k 2 t t9 none) (t9.2.2.2 0 - t.2.2.2 0) (t9.2.2.2 1 - t.2.2.2 1) (ca a) := en_Ci (by decide +kernel) rfl (Nat.le_of_ble_eq_true rfl) (fun p e s m below meth c ls C hin hK hT hl => sub0 (bX5_init C hin t x0 _ [] hT cS.rf hK mo.rf ls h hl))
set_option maxRecDepth 20000 in
abbrev rmX0_fault : Room := { frames := 0, cells := 0, slots := 0, locals := 0 }
theorem hdX0_fault : yX0_fault.cls = RX0 ∧ yX0_fault.cls ≠ "java/lang/invoke/MethodHandle" ∧ yX0_fault.cls ≠ "java/lang/invoke/VarHandle" ∧ (parseMethodDescriptor yX0_fault.desc).map (fun d => d.parameters.length) = some 1 := by decide +kernel
theorem bX0_fault {p : Program} {l : Launch} {e : Env} {s : State} {m : MethodId} {args : Array Value} {below : List Frame} {meth : Method} {c : Code} {D : va_G} {dA : Nat → ClassId} {a : Nat} {k : KP a} {t : CS} {r : Int32} (C : cx p s m args meth c cX0_fault RX0 2 (some .int)) (hK : kC D dA a k t.2.2.2 s) (hT : cW D dA a k t s.heap) : ∀ (x1 : Int32) (ls : Array Slot), C_fault t x1 = some r → lv_has ls 2 [(0, .ref a), (1, .int x1)] → W p l e rmX0_fault s m args below meth c s.heap [] 0 0 (MQ below (rQi r) args s 0 0 nof) (F0 m 0 ls []) := by
  obtain ⟨hx, hb, hr, hml, hown, hts, hlocks⟩ := id C
  intro x1 ls h hl
  unfold C_fault at h
  refine lv_iload_n hx hb dX0_fault_0 rfl (lv_at hl 1 rfl) ?_
  refine lv_if_ne (tgt := 11) hx hb dX0_fault_1 (by decide) (fun c => ?_) (fun c => ?_)
  · replace h := if_f c h
    refine lv_iload_n hx hb dX0_fault_11 rfl (lv_at hl 1 rfl) ?_
    refine lv_iconst (v := 1) hx hb dX0_fault_12 (by decide) ?_
    refine lv_icmp_ne (tgt := 23) hx hb dX0_fault_13 (by decide) (fun c => ?_) (fun c => ?_)
    · replace h := if_f c h
      refine lv_iconst (v := -1) hx hb dX0_fault_23 (by decide) ?_
      exact e_ri C h dX0_fault_24
    · replace h := if_t c h
      refine lv_aload_n hx hb dX0_fault_16 rfl (lv_at hl 0 rfl) ?_
      refine cg5 C hK hT dX0_fault_17 ?_
      refine lv_goto (tgt := 24) hx hb dX0_fault_20 (by decide) ?_
      exact e_ri C h dX0_fault_24
  · replace h := if_t c h
    refine lv_aload_n hx hb dX0_fault_4 rfl (lv_at hl 0 rfl) ?_
    refine cg4 C hK hT dX0_fault_5 ?_
    refine lv_goto (tgt := 24) hx hb dX0_fault_8 (by decide) ?_
    exact e_ri C h dX0_fault_24
theorem mX0_fault {l : Launch} {D : va_G} {dA : Nat → ClassId} {a : Nat} {k : KP a} {t : CS} {x1 : Int32} {r : Int32} (h : C_fault t x1 = some r) : Met l yX0_fault (ws_ yX0_fault cX0_fault 2 (some .int)) rmX0_fault (cPc D dA a k t [.ref a, .int x1]) (rQi r) 0 0 nof := en_C (by decide +kernel) rfl (Nat.le_of_ble_eq_true rfl) (fun p e s m below meth c ls C hK hT hl => bX0_fault C hK hT x1 ls h hl)
set_option maxRecDepth 20000 in
abbrev rmX0_isText : Room := { frames := 1, cells := 0, slots := 0, locals := 22 }
theorem hdX0_isText : yX0_isText.cls = RX0 ∧ yX0_isText.cls ≠ "java/lang/invoke/MethodHandle" ∧ yX0_isText.cls ≠ "java/lang/invoke/VarHandle" ∧ (parseMethodDescriptor yX0_isText.desc).map (fun d => d.parameters.length) = some 1 := by decide +kernel
theorem bX0_isText {p : Program} {l : Launch} {e : Env} {s : State} {m : MethodId} {args : Array Value} {below : List Frame} {meth : Method} {c : Code} {D : va_G} {dA : Nat → ClassId} {a : Nat} {k : KP a} {t : CS} {r : Int32} (C : cx p s m args meth c cX0_isText RX0 2 (some .boolean)) (hK : kC D dA a k t.2.2.2 s) (hT : cW D dA a k t s.heap) : ∀ (x1 : Int32) (ls : Array Slot), C_isText t x1 = some r → lv_has ls 2 [(0, .ref a), (1, .int x1)] → W p l e rmX0_isText s m args below meth c s.heap [] 0 0 (MQ below (rQi r) args s 0 0 nof) (F0 m 0 ls []) := by
  obtain ⟨hx, hb, hr, hml, hown, hts, hlocks⟩ := id C
  intro x1 ls h hl
  unfold C_isText at h
  refine lv_iload_n hx hb dX0_isText_0 rfl (lv_at hl 1 rfl) ?_
  refine lv_iconst (v := 0) hx hb dX0_isText_1 (by decide) ?_
  refine lv_aload_n hx hb dX0_isText_2 rfl (lv_at hl 0 rfl) ?_
  refine cg0 C hK hT dX0_isText_3 ?_
  refine c_getSN C hK hT (Or.inl rfl) 0 (by decide) (nf222 hK.2.1) rfl (v := .ref (a + 2)) rfl dX0_isText_6 ?_
  refine lv_iconst (v := 2) hx hb dX0_isText_9 (by decide) ?_
  obtain ⟨hi1, h⟩ := ck_some h
  refine c_ild C hK hT 2 7 (by decide) (fun _ _ => rfl) hi1 dX0_isText_10 ?_
  refine lv_iconst (v := 1) hx hb dX0_isText_11 (by decide) ?_
  refine lv_isub hx hb dX0_isText_12 ?_
  obtain ⟨v2, hv2, h⟩ := bd1_some h
  refine r_int (run_s (As := [.int x1, .int (0 : Int32), .int ((t.1 2 (2 : Int32).toNatClampNeg) - (1 : Int32))]) (rest := []) C (mX0_in hv2) q341 q342 q158 q343 ⟨rfl, rfl⟩ hdX0_in ⟨Nat.le_of_ble_eq_true rfl, Nat.le_of_ble_eq_true rfl⟩ ⟨Nat.zero_le _, Nat.zero_le _⟩ rfl hl.1 rfl (Nat.le_of_ble_eq_true rfl) dX0_isText_13) ?_
  obtain ⟨hz, h⟩ := zr_some h
  exact e_rz C hz h dX0_isText_16
theorem mX0_isText {l : Launch} {D : va_G} {dA : Nat → ClassId} {a : Nat} {k : KP a} {t : CS} {x1 : Int32} {r : Int32} (h : C_isText t x1 = some r) : Met l yX0_isText (ws_ yX0_isText cX0_isText 2 (some .boolean)) rmX0_isText (cPc D dA a k t [.ref a, .int x1]) (rQi r) 0 0 nof := en_C (by decide +kernel) rfl (Nat.le_of_ble_eq_true rfl) (fun p e s m below meth c ls C hK hT hl => bX0_isText C hK hT x1 ls h hl)
set_option maxRecDepth 20000 in
abbrev rmX0_by : Room := { frames := 2, cells := 0, slots := 0, locals := 43 }
theorem hdX0_by : yX0_by.cls = RX0 ∧ yX0_by.cls ≠ "java/lang/invoke/MethodHandle" ∧ yX0_by.cls ≠ "java/lang/invoke/VarHandle" ∧ (parseMethodDescriptor yX0_by.desc).map (fun d => d.parameters.length) = some 1 := by decide +kernel
theorem bX0_by_p15 {p : Program} {l : Launch} {e : Env} {s : State} {m : MethodId} {args : Array Value} {below : List Frame} {meth : Method} {c : Code} {D : va_G} {dA : Nat → ClassId} {a : Nat} {k : KP a} {t0 : CS} {r : Int32} {t9 : CS} (C : cx p s m args meth c cX0_by RX0 2 (some .boolean)) : ∀ (t : CS) (x1 : Int32) (H : Heap) (locs : List Loc) (hT : cW D dA a k t H) (hS : cS a s.heap H locs t0.2.2.2 0 t) (hK : kC D dA a k t.2.2.2 s) (ls : Array Slot), C_by_p15 t x1 = some (r, t9) → lv_has ls 2 [(0, .ref a), (1, .int x1)] → W p l e rmX0_by s m args below meth c H locs 0 0 (MQ below (cQ D dA a k 0 t0 t9 (some (.int r))) args s 0 0 (ca a)) (F0 m 15 ls []) := by
  obtain ⟨hx, hb, hr, hml, hown, hts, hlocks⟩ := id C
  intro t x1 H locs hT hS hK ls h hl
  unfold C_by_p15 at h
  refine lv_aload_n hx hb dX0_by_15 rfl (lv_at hl 0 rfl) ?_
  refine cg0 C hK hT dX0_by_16 ?_
  refine c_getSN C hK hT (Or.inl rfl) 0 (by decide) (nf222 hK.2.1) rfl (v := .ref (a + 2)) rfl dX0_by_19 ?_
  refine lv_iconst (v := 3) hx hb dX0_by_22 (by decide) ?_
  refine lv_iload_n hx hb dX0_by_23 rfl (lv_at hl 1 rfl) ?_
  obtain ⟨hi1, h⟩ := ck_some h
  refine c_ist C hK hT hS 2 7 (by decide) (fun _ _ => rfl) hi1 dX0_by_24 (fun t2 H locs et2 hT hS hK => ?_)
  replace h := lt1_sub et2 h
  refine lv_iconst (v := 1) hx hb dX0_by_25 (by decide) ?_
  exact ec_z C hT hS (Or.inr rfl) h dX0_by_26
theorem bX0_by {p : Program} {l : Launch} {e : Env} {s : State} {m : MethodId} {args : Array Value} {below : List Frame} {meth : Method} {c : Code} {D : va_G} {dA : Nat → ClassId} {a : Nat} {k : KP a} {t0 : CS} {r : Int32} {t9 : CS} (C : cx p s m args meth c cX0_by RX0 2 (some .boolean)) : ∀ (t : CS) (x1 : Int32) (H : Heap) (locs : List Loc) (hT : cW D dA a k t H) (hS : cS a s.heap H locs t0.2.2.2 0 t) (hK : kC D dA a k t.2.2.2 s) (ls : Array Slot), C_by t x1 = some (r, t9) → lv_has ls 2 [(0, .ref a), (1, .int x1)] → W p l e rmX0_by s m args below meth c H locs 0 0 (MQ below (cQ D dA a k 0 t0 t9 (some (.int r))) args s 0 0 (ca a)) (F0 m 0 ls []) := by
  obtain ⟨hx, hb, hr, hml, hown, hts, hlocks⟩ := id C
  intro t x1 H locs hT hS hK ls h hl
  unfold C_by at h
  refine lv_iload_n hx hb dX0_by_0 rfl (lv_at hl 1 rfl) ?_
  refine lv_iconst (v := -1) hx hb dX0_by_1 (by decide) ?_
  refine lv_icmp_eq (tgt := 15) hx hb dX0_by_2 (by decide) (fun c => ?_) (fun c => ?_)
  · replace h := if_t c h
    exact bX0_by_p15 C t x1 H locs hT hS hK ls h (lv_sub hl [0, 1] rfl)
  · replace h := if_f c h
    refine lv_aload_n hx hb dX0_by_5 rfl (lv_at hl 0 rfl) ?_
    refine lv_iload_n hx hb dX0_by_6 rfl (lv_at hl 1 rfl) ?_
    obtain ⟨v1, hv1, h⟩ := bd1_some h
    refine r_int (run_c (As := [.int x1]) (rest := []) C hK hT hS.2.1 (rv_X hK hT) (mX0_isText hv1) q1044 q1046 qs26 q158 q1047 ⟨rfl, rfl⟩ hdX0_isText ⟨Nat.le_of_ble_eq_true rfl, Nat.le_of_ble_eq_true rfl⟩ ⟨Nat.zero_le _, Nat.zero_le _⟩ rfl hl.1 rfl (Nat.le_of_ble_eq_true rfl) dX0_by_7) ?_
    refine lv_if_ne (tgt := 15) hx hb dX0_by_10 (by decide) (fun c => ?_) (fun c => ?_)
    · replace h := if_f c h
      exact bX0_by_p15 C t x1 H locs hT hS hK ls h (lv_sub hl [0, 1] rfl)
    · replace h := if_t c h
      refine lv_iconst (v := 0) hx hb dX0_by_13 (by decide) ?_
      exact ec_z C hT hS (Or.inl rfl) h dX0_by_14
theorem mX0_by {l : Launch} {D : va_G} {dA : Nat → ClassId} {a : Nat} {k : KP a} {t : CS} {x1 : Int32} {r : Int32} {t9 : CS} (h : C_by t x1 = some (r, t9)) : Met l yX0_by (ws_ yX0_by cX0_by 2 (some .boolean)) rmX0_by (cPc D dA a k t [.ref a, .int x1]) (cQ D dA a k 0 t t9 (some (.int r))) 0 0 (ca a) := en_C (by decide +kernel) rfl (Nat.le_of_ble_eq_true rfl) (fun p e s m below meth c ls C hK hT hl => bX0_by C t x1 _ [] hT cS.rf hK ls h hl)
set_option maxRecDepth 20000 in
abbrev rmJ5_bitCount : Room := { frames := 0, cells := 0, slots := 0, locals := 0 }
theorem hdJ5_bitCount : yJ5_bitCount.cls ≠ "java/lang/invoke/MethodHandle" ∧ yJ5_bitCount.cls ≠ "java/lang/invoke/VarHandle" ∧ (parseMethodDescriptor yJ5_bitCount.desc).map (fun d => d.parameters.length) = some 1 := by decide +kernel
theorem bJ5_bitCount {p : Program} {l : Launch} {e : Env} {s : State} {m : MethodId} {args : Array Value} {below : List Frame} {meth : Method} {c : Code} {r : Int32} (C : cx p s m args meth c cJ5_bitCount RJ5 1 (some .int)) : ∀ (x0 : Int32) (ls : Array Slot), J_J5_bitCount x0 = some r → lv_has ls 1 [(0, .int x0)] → W p l e rmJ5_bitCount s m args below meth c s.heap [] 0 0 (MQ below (rQi r) args s 0 0 nof) (F0 m 0 ls []) := by
  obtain ⟨hx, hb, hr, hml, hown, hts, hlocks⟩ := id C
  intro x0 ls h hl
  unfold J_J5_bitCount at h
  refine lv_iload_n hx hb dJ5_bitCount_0 rfl (lv_at hl 0 rfl) ?_
  refine lv_iload_n hx hb dJ5_bitCount_1 rfl (lv_at hl 0 rfl) ?_
  refine lv_iconst (v := 1) hx hb dJ5_bitCount_2 (by decide) ?_
  refine lv_iushr hx hb dJ5_bitCount_3 rfl ?_
  refine lv_ldcw hx hb hown (hts _ q1082) dJ5_bitCount_4 ?_
  refine lv_iand hx hb dJ5_bitCount_7 ?_
  refine lv_isub hx hb dJ5_bitCount_8 ?_
  refine lv_topi (fun v1 ev1 => ?_)
  replace h := lt1_sub ev1 h
  refine lv_istore_n (lv' := [(0, .int v1)]) hx hb dJ5_bitCount_9 rfl hl (by decide) rfl (fun ls hl => ?_)
  refine lv_iload_n hx hb dJ5_bitCount_10 rfl (lv_at hl 0 rfl) ?_
  refine lv_ldcw hx hb hown (hts _ q1083) dJ5_bitCount_11 ?_
  refine lv_iand hx hb dJ5_bitCount_14 ?_
  refine lv_iload_n hx hb dJ5_bitCount_15 rfl (lv_at hl 0 rfl) ?_
  refine lv_iconst (v := 2) hx hb dJ5_bitCount_16 (by decide) ?_
  refine lv_iushr hx hb dJ5_bitCount_17 rfl ?_
  refine lv_ldcw hx hb hown (hts _ q1083) dJ5_bitCount_18 ?_
  refine lv_iand hx hb dJ5_bitCount_21 ?_
  refine lv_iadd hx hb dJ5_bitCount_22 ?_
  refine lv_topi (fun v2 ev2 => ?_)
  replace h := lt1_sub ev2 h
  refine lv_istore_n (lv' := [(0, .int v2)]) hx hb dJ5_bitCount_23 rfl hl (by decide) rfl (fun ls hl => ?_)
  refine lv_iload_n hx hb dJ5_bitCount_24 rfl (lv_at hl 0 rfl) ?_
  refine lv_iload_n hx hb dJ5_bitCount_25 rfl (lv_at hl 0 rfl) ?_
  refine lv_iconst (v := 4) hx hb dJ5_bitCount_26 (by decide) ?_
  refine lv_iushr hx hb dJ5_bitCount_27 rfl ?_
  refine lv_iadd hx hb dJ5_bitCount_28 ?_
  refine lv_ldcw hx hb hown (hts _ q1084) dJ5_bitCount_29 ?_
  refine lv_iand hx hb dJ5_bitCount_32 ?_
  refine lv_topi (fun v3 ev3 => ?_)
  replace h := lt1_sub ev3 h
  refine lv_istore_n (lv' := [(0, .int v3)]) hx hb dJ5_bitCount_33 rfl hl (by decide) rfl (fun ls hl => ?_)
  refine lv_iload_n hx hb dJ5_bitCount_34 rfl (lv_at hl 0 rfl) ?_
  refine lv_iload_n hx hb dJ5_bitCount_35 rfl (lv_at hl 0 rfl) ?_
  refine lv_bipush (v := 8) hx hb dJ5_bitCount_36 (by decide) ?_
  refine lv_iushr hx hb dJ5_bitCount_38 rfl ?_
  refine lv_iadd hx hb dJ5_bitCount_39 ?_
  refine lv_topi (fun v4 ev4 => ?_)
  replace h := lt1_sub ev4 h
  refine lv_istore_n (lv' := [(0, .int v4)]) hx hb dJ5_bitCount_40 rfl hl (by decide) rfl (fun ls hl => ?_)
  refine lv_iload_n hx hb dJ5_bitCount_41 rfl (lv_at hl 0 rfl) ?_
  refine lv_iload_n hx hb dJ5_bitCount_42 rfl (lv_at hl 0 rfl) ?_
  refine lv_bipush (v := 16) hx hb dJ5_bitCount_43 (by decide) ?_
  refine lv_iushr hx hb dJ5_bitCount_45 rfl ?_
  refine lv_iadd hx hb dJ5_bitCount_46 ?_
  refine lv_topi (fun v5 ev5 => ?_)
  replace h := lt1_sub ev5 h
  refine lv_istore_n (lv' := [(0, .int v5)]) hx hb dJ5_bitCount_47 rfl hl (by decide) rfl (fun ls hl => ?_)
  refine lv_iload_n hx hb dJ5_bitCount_48 rfl (lv_at hl 0 rfl) ?_
  refine lv_bipush (v := 63) hx hb dJ5_bitCount_49 (by decide) ?_
  refine lv_iand hx hb dJ5_bitCount_51 ?_
  exact e_ri C h dJ5_bitCount_52
theorem mJ5_bitCount {l : Launch} {x0 : Int32} {r : Int32} (h : J_J5_bitCount x0 = some r) : Met l yJ5_bitCount (ws_ yJ5_bitCount cJ5_bitCount 1 (some .int)) rmJ5_bitCount (sPc [.int x0]) (rQi r) 0 0 nof := en_S (by decide +kernel) rfl (Nat.le_of_ble_eq_true rfl) (fun p e s m below meth c ls C hl => bJ5_bitCount C x0 ls h hl)
set_option maxRecDepth 20000 in
abbrev rmX0_outs : Room := { frames := 1, cells := 0, slots := 0, locals := 20 }
theorem hdX0_outs : yX0_outs.cls = RX0 ∧ yX0_outs.cls ≠ "java/lang/invoke/MethodHandle" ∧ yX0_outs.cls ≠ "java/lang/invoke/VarHandle" ∧ (parseMethodDescriptor yX0_outs.desc).map (fun d => d.parameters.length) = some 0 := by decide +kernel
theorem bX0_outs {p : Program} {l : Launch} {e : Env} {s : State} {m : MethodId} {args : Array Value} {below : List Frame} {meth : Method} {c : Code} {D : va_G} {dA : Nat → ClassId} {a : Nat} {k : KP a} {t : CS} {r : Int32} (C : cx p s m args meth c cX0_outs RX0 1 (some .int)) (hK : kC D dA a k t.2.2.2 s) (hT : cW D dA a k t s.heap) : ∀ (ls : Array Slot), C_outs t = some r → lv_has ls 1 [(0, .ref a)] → W p l e rmX0_outs s m args below meth c s.heap [] 0 0 (MQ below (rQi r) args s 0 0 nof) (F0 m 0 ls []) := by
  obtain ⟨hx, hb, hr, hml, hown, hts, hlocks⟩ := id C
  intro ls h hl
  unfold C_outs at h
  refine lv_aload_n hx hb dX0_outs_0 rfl (lv_at hl 0 rfl) ?_
  refine cg0 C hK hT dX0_outs_1 ?_
  refine c_getSN C hK hT (Or.inl rfl) 1 (by decide) (nf224 hK.2.1) rfl (v := .ref (a + 3)) rfl dX0_outs_4 ?_
  refine lv_iconst (v := 0) hx hb dX0_outs_7 (by decide) ?_
  obtain ⟨hi1, h⟩ := ck_some h
  refine c_ild C hK hT 3 192 (by decide) (fun _ _ => rfl) hi1 dX0_outs_8 ?_
  obtain ⟨v2, hv2, h⟩ := bd1_some h
  refine r_int (run_s (As := [.int (t.1 3 (0 : Int32).toNatClampNeg)]) (rest := []) C (mJ5_bitCount hv2) q1079 q1080 q168 q1081 ⟨rfl, rfl⟩ hdJ5_bitCount ⟨Nat.le_of_ble_eq_true rfl, Nat.le_of_ble_eq_true rfl⟩ ⟨Nat.zero_le _, Nat.zero_le _⟩ rfl hl.1 rfl (Nat.le_of_ble_eq_true rfl) dX0_outs_9) ?_
  exact e_ri C h dX0_outs_12
theorem mX0_outs {l : Launch} {D : va_G} {dA : Nat → ClassId} {a : Nat} {k : KP a} {t : CS} {r : Int32} (h : C_outs t = some r) : Met l yX0_outs (ws_ yX0_outs cX0_outs 1 (some .int)) rmX0_outs (cPc D dA a k t [.ref a]) (rQi r) 0 0 nof := en_C (by decide +kernel) rfl (Nat.le_of_ble_eq_true rfl) (fun p e s m below meth c ls C hK hT hl => bX0_outs C hK hT ls h hl)
set_option maxRecDepth 20000 in
abbrev rmX1_keeps : Room := { frames := 2, cells := 0, slots := 0, locals := 60 }
theorem hdX1_keeps : yX1_keeps.cls = RX1 ∧ yX1_keeps.cls ≠ "java/lang/invoke/MethodHandle" ∧ yX1_keeps.cls ≠ "java/lang/invoke/VarHandle" ∧ (parseMethodDescriptor yX1_keeps.desc).map (fun d => d.parameters.length) = some 0 := by decide +kernel
theorem bX1_keeps_p52 {p : Program} {l : Launch} {e : Env} {s : State} {m : MethodId} {args : Array Value} {below : List Frame} {meth : Method} {c : Code} {D : va_G} {dA : Nat → ClassId} {a : Nat} {k : KP a} {t0 : CS} {t9 : CS} (C : cx p s m args meth c cX1_keeps RX1 2 none) : ∀ (t : CS) (H : Heap) (locs : List Loc) (hT : cW D dA a k t H) (hS : cS a s.heap H locs t0.2.2.2 0 t) (hK : kC D dA a k t.2.2.2 s) (ls : Array Slot), C_X1_keeps_p52 t = some t9 → lv_has ls 2 [(0, .ref (a + 1))] → W p l e rmX1_keeps s m args below meth c H locs 0 0 (MQ below (cQ D dA a k 0 t0 t9 none) args s 0 0 (ca a)) (F0 m 52 ls []) := by
  obtain ⟨hx, hb, hr, hml, hown, hts, hlocks⟩ := id C
  intro t H locs hT hS hK ls h hl
  unfold C_X1_keeps_p52 at h
  refine lv_aload_n hx hb dX1_keeps_52 rfl (lv_at hl 0 rfl) ?_
  refine c_getS C hK hT (Or.inl rfl) 1 (by decide) q223 rfl (v := .ref (a + 3)) rfl dX1_keeps_53 ?_
  refine lv_aload_n hx hb dX1_keeps_56 rfl (lv_at hl 0 rfl) ?_
  refine c_getS C hK hT (Or.inl rfl) 7 (by decide) q235 rfl (v := .ref (a + 21)) rfl dX1_keeps_57 ?_
  refine lv_aload_n hx hb dX1_keeps_60 rfl (lv_at hl 0 rfl) ?_
  refine c_getS C hK hT (Or.inl rfl) 0 (by decide) q221 rfl (v := .ref (a + 2)) rfl dX1_keeps_61 ?_
  refine lv_iconst (v := 4) hx hb dX1_keeps_64 (by decide) ?_
  obtain ⟨hi1, h⟩ := ck_some h
  refine c_ild C hK hT 2 7 (by decide) (fun _ _ => rfl) hi1 dX1_keeps_65 ?_
  obtain ⟨hi2, h⟩ := ck_some h
  refine c_ald C hK hT 21 30 6 (by decide) rfl (g := fun j => some (a + (22 + j))) (by rfl) (by rfl) hi2 rfl dX1_keeps_66 ?_
  refine x_copy C hK hT hS 3 (22 + (t.1 2 (4 : Int32).toNatClampNeg).toNatClampNeg) 192 (by decide) (fam_k22 hi2) (fun _ _ => rfl) (fam_a22 hi2) (by decide) hl.1 (Nat.le_of_ble_eq_true rfl) ⟨Nat.le_of_ble_eq_true rfl, Nat.le_of_ble_eq_true rfl⟩ ⟨Nat.zero_le _, Nat.zero_le _⟩ q263 dX1_keeps_67 (fun t3 H locs et3 hT hS hK => ?_)
  replace h := lt1_sub et3 h
  refine lv_aload_n hx hb dX1_keeps_70 rfl (lv_at hl 0 rfl) ?_
  refine c_getS C hK hT (Or.inl rfl) 0 (by decide) q221 rfl (v := .ref (a + 2)) rfl dX1_keeps_71 ?_
  refine lv_iconst (v := 4) hx hb dX1_keeps_74 (by decide) ?_
  refine lv_dup2_11 hx hb dX1_keeps_75 rfl rfl ?_
  obtain ⟨hi4, h⟩ := ck_some h
  refine c_ild C hK hT 2 7 (by decide) (fun _ _ => rfl) hi4 dX1_keeps_76 ?_
  refine lv_iconst (v := 1) hx hb dX1_keeps_77 (by decide) ?_
  refine lv_iadd hx hb dX1_keeps_78 ?_
  obtain ⟨hi5, h⟩ := ck_some h
  refine c_ist C hK hT hS 2 7 (by decide) (fun _ _ => rfl) hi5 dX1_keeps_79 (fun t6 H locs et6 hT hS hK => ?_)
  replace h := lt1_sub et6 h
  exact ec_v C hT hS h dX1_keeps_80
theorem bX1_keeps_p13 {p : Program} {l : Launch} {e : Env} {s : State} {m : MethodId} {args : Array Value} {below : List Frame} {meth : Method} {c : Code} {D : va_G} {dA : Nat → ClassId} {a : Nat} {k : KP a} {t0 : CS} {t9 : CS} (C : cx p s m args meth c cX1_keeps RX1 2 none) : ∀ (n : Nat), ∀ (t : CS) (x1 : Int32) (H : Heap) (locs : List Loc) (hT : cW D dA a k t H) (hS : cS a s.heap H locs t0.2.2.2 0 t) (hK : kC D dA a k t.2.2.2 s) (ls : Array Slot), C_X1_keeps_p13 n t x1 = some t9 → lv_has ls 2 [(0, .ref (a + 1)), (1, .int x1)] → W p l e rmX1_keeps s m args below meth c H locs 0 0 (MQ below (cQ D dA a k 0 t0 t9 none) args s 0 0 (ca a)) (F0 m 13 ls []) := by
  obtain ⟨hx, hb, hr, hml, hown, hts, hlocks⟩ := id C
  intro n
  induction n with
  | zero =>
    intro t x1 H locs hT hS hK ls h hl
    have h : none = some _ := h
    cases h
  | succ n ih =>
    intro t x1 H locs hT hS hK ls h hl
    rw [C_X1_keeps_p13] at h
    refine lv_iload_n hx hb dX1_keeps_13 rfl (lv_at hl 1 rfl) ?_
    refine lv_bipush (v := 30) hx hb dX1_keeps_14 (by decide) ?_
    refine lv_icmp_ge (tgt := 42) hx hb dX1_keeps_16 (by decide) (fun c => ?_) (fun c => ?_)
    · replace h := if_t c h
      refine lv_aload_n hx hb dX1_keeps_42 rfl (lv_at hl 0 rfl) ?_
      refine c_getS C hK hT (Or.inl rfl) 0 (by decide) q221 rfl (v := .ref (a + 2)) rfl dX1_keeps_43 ?_
      refine lv_iconst (v := 4) hx hb dX1_keeps_46 (by decide) ?_
      refine lv_dup2_11 hx hb dX1_keeps_47 rfl rfl ?_
      obtain ⟨hi1, h⟩ := ck_some h
      refine c_ild C hK hT 2 7 (by decide) (fun _ _ => rfl) hi1 dX1_keeps_48 ?_
      refine lv_iconst (v := 1) hx hb dX1_keeps_49 (by decide) ?_
      refine lv_isub hx hb dX1_keeps_50 ?_
      obtain ⟨hi2, h⟩ := ck_some h
      refine c_ist C hK hT hS 2 7 (by decide) (fun _ _ => rfl) hi2 dX1_keeps_51 (fun t3 H locs et3 hT hS hK => ?_)
      replace h := lt1_sub et3 h
      exact bX1_keeps_p52 C t3 H locs hT hS hK ls h (lv_sub hl [0] rfl)
    · replace h := if_f c h
      refine lv_aload_n hx hb dX1_keeps_19 rfl (lv_at hl 0 rfl) ?_
      refine c_getS C hK hT (Or.inl rfl) 7 (by decide) q235 rfl (v := .ref (a + 21)) rfl dX1_keeps_20 ?_
      refine lv_iload_n hx hb dX1_keeps_23 rfl (lv_at hl 1 rfl) ?_
      obtain ⟨hi4, h⟩ := ck_some h
      refine c_ald C hK hT 21 30 6 (by decide) rfl (g := fun j => some (a + (22 + j))) (by rfl) (by rfl) hi4 rfl dX1_keeps_24 ?_
      refine lv_aload_n hx hb dX1_keeps_25 rfl (lv_at hl 0 rfl) ?_
      refine c_getS C hK hT (Or.inl rfl) 7 (by decide) q235 rfl (v := .ref (a + 21)) rfl dX1_keeps_26 ?_
      refine lv_iload_n hx hb dX1_keeps_29 rfl (lv_at hl 1 rfl) ?_
      refine lv_iconst (v := 1) hx hb dX1_keeps_30 (by decide) ?_
      refine lv_isub hx hb dX1_keeps_31 ?_
      obtain ⟨hi5, h⟩ := ck_some h
      refine c_ald C hK hT 21 30 6 (by decide) rfl (g := fun j => some (a + (22 + j))) (by rfl) (by rfl) hi5 rfl dX1_keeps_32 ?_
      refine x_copy C hK hT hS (22 + x1.toNatClampNeg) (22 + (x1 - (1 : Int32)).toNatClampNeg) 192 (fam_k22 hi4) (fam_k22 hi5) (fam_a22 hi4) (fam_a22 hi5) (by decide) hl.1 (Nat.le_of_ble_eq_true rfl) ⟨Nat.le_of_ble_eq_true rfl, Nat.le_of_ble_eq_true rfl⟩ ⟨Nat.zero_le _, Nat.zero_le _⟩ q263 dX1_keeps_33 (fun t6 H locs et6 hT hS hK => ?_)
      replace h := lt1_sub et6 h
      obtain ⟨v7, ev7⟩ : ∃ y : Int32, y = x1 + (1 : Int32) := ⟨_, rfl⟩
      replace h := lt1_sub ev7 h
      refine lv_iinc (v := v7) (lv' := [(1, .int v7), (0, .ref (a + 1))]) hx hb dX1_keeps_36 hl (k := 1) rfl (by rw [ev7]; rfl) (by decide) rfl (fun ls hl => ?_)
      refine lv_goto (tgt := 13) hx hb dX1_keeps_39 (by decide) ?_
      exact ih t6 v7 H locs hT hS hK ls h (lv_sub hl [1, 0] rfl)
theorem bX1_keeps {p : Program} {l : Launch} {e : Env} {s : State} {m : MethodId} {args : Array Value} {below : List Frame} {meth : Method} {c : Code} {D : va_G} {dA : Nat → ClassId} {a : Nat} {k : KP a} {t0 : CS} {t9 : CS} (C : cx p s m args meth c cX1_keeps RX1 2 none) : ∀ (t : CS) (H : Heap) (locs : List Loc) (hT : cW D dA a k t H) (hS : cS a s.heap H locs t0.2.2.2 0 t) (hK : kC D dA a k t.2.2.2 s) (ls : Array Slot), C_X1_keeps t = some t9 → lv_has ls 2 [(0, .ref (a + 1))] → W p l e rmX1_keeps s m args below meth c H locs 0 0 (MQ below (cQ D dA a k 0 t0 t9 none) args s 0 0 (ca a)) (F0 m 0 ls []) := by
  obtain ⟨hx, hb, hr, hml, hown, hts, hlocks⟩ := id C
  intro t H locs hT hS hK ls h hl
  unfold C_X1_keeps at h
  refine lv_aload_n hx hb dX1_keeps_0 rfl (lv_at hl 0 rfl) ?_
  refine c_getS C hK hT (Or.inl rfl) 0 (by decide) q221 rfl (v := .ref (a + 2)) rfl dX1_keeps_1 ?_
  refine lv_iconst (v := 4) hx hb dX1_keeps_4 (by decide) ?_
  obtain ⟨hi1, h⟩ := ck_some h
  refine c_ild C hK hT 2 7 (by decide) (fun _ _ => rfl) hi1 dX1_keeps_5 ?_
  refine lv_bipush (v := 30) hx hb dX1_keeps_6 (by decide) ?_
  refine lv_icmp_ne (tgt := 52) hx hb dX1_keeps_8 (by decide) (fun c => ?_) (fun c => ?_)
  · replace h := if_f c h
    exact bX1_keeps_p52 C t H locs hT hS hK ls h (lv_sub hl [0] rfl)
  · replace h := if_t c h
    refine lv_iconst (v := 1) hx hb dX1_keeps_11 (by decide) ?_
    refine lv_istore_n (lv' := [(1, .int (1 : Int32)), (0, .ref (a + 1))]) hx hb dX1_keeps_12 rfl hl (by decide) rfl (fun ls hl => ?_)
    exact bX1_keeps_p13 C fu t (1 : Int32) H locs hT hS hK ls h (lv_sub hl [1, 0] rfl)
theorem mX1_keeps {l : Launch} {D : va_G} {dA : Nat → ClassId} {a : Nat} {k : KP a} {t : CS} {t9 : CS} (h : C_X1_keeps t = some t9) : Met l yX1_keeps (ws_ yX1_keeps cX1_keeps 2 none) rmX1_keeps (cPc D dA a k t [.ref (a + 1)]) (cQ D dA a k 0 t t9 none) 0 0 (ca a) := en_C (by decide +kernel) rfl (Nat.le_of_ble_eq_true rfl) (fun p e s m below meth c ls C hK hT hl => bX1_keeps C t _ [] hT cS.rf hK ls h hl)
set_option maxRecDepth 20000 in
abbrev rmX1_isOut : Room := { frames := 1, cells := 0, slots := 0, locals := 21 }
theorem hdX1_isOut : yX1_isOut.cls = RX1 ∧ yX1_isOut.cls ≠ "java/lang/invoke/MethodHandle" ∧ yX1_isOut.cls ≠ "java/lang/invoke/VarHandle" ∧ (parseMethodDescriptor yX1_isOut.desc).map (fun d => d.parameters.length) = some 1 := by decide +kernel
theorem bX1_isOut {p : Program} {l : Launch} {e : Env} {s : State} {m : MethodId} {args : Array Value} {below : List Frame} {meth : Method} {c : Code} {D : va_G} {dA : Nat → ClassId} {a : Nat} {k : KP a} {t : CS} {r : Int32} (C : cx p s m args meth c cX1_isOut RX1 2 (some .boolean)) (hK : kC D dA a k t.2.2.2 s) (hT : cW D dA a k t s.heap) : ∀ (x1 : Int32) (ls : Array Slot), C_X1_isOut t x1 = some r → lv_has ls 2 [(0, .ref (a + 1)), (1, .int x1)] → W p l e rmX1_isOut s m args below meth c s.heap [] 0 0 (MQ below (rQi r) args s 0 0 nof) (F0 m 0 ls []) := by
  obtain ⟨hx, hb, hr, hml, hown, hts, hlocks⟩ := id C
  intro x1 ls h hl
  unfold C_X1_isOut at h
  refine lv_aload_n hx hb dX1_isOut_0 rfl (lv_at hl 0 rfl) ?_
  refine c_getS C hK hT (Or.inl rfl) 1 (by decide) q223 rfl (v := .ref (a + 3)) rfl dX1_isOut_1 ?_
  refine lv_iconst (v := 0) hx hb dX1_isOut_4 (by decide) ?_
  obtain ⟨hi1, h⟩ := ck_some h
  refine c_ild C hK hT 3 192 (by decide) (fun _ _ => rfl) hi1 dX1_isOut_5 ?_
  refine lv_iload_n hx hb dX1_isOut_6 rfl (lv_at hl 1 rfl) ?_
  obtain ⟨v2, hv2, h⟩ := bd1_some h
  refine r_int (run_sN (As := [.int (t.1 3 (0 : Int32).toNatClampNeg), .int x1]) (rest := []) C (mX0_has hv2) (nm1068 hK.2.1) q345 q158 q346 ⟨rfl, rfl⟩ hdX0_has ⟨Nat.le_of_ble_eq_true rfl, Nat.le_of_ble_eq_true rfl⟩ ⟨Nat.zero_le _, Nat.zero_le _⟩ rfl hl.1 rfl (Nat.le_of_ble_eq_true rfl) dX1_isOut_7) ?_
  obtain ⟨hz, h⟩ := zr_some h
  exact e_rz C hz h dX1_isOut_10
theorem mX1_isOut {l : Launch} {D : va_G} {dA : Nat → ClassId} {a : Nat} {k : KP a} {t : CS} {x1 : Int32} {r : Int32} (h : C_X1_isOut t x1 = some r) : Met l yX1_isOut (ws_ yX1_isOut cX1_isOut 2 (some .boolean)) rmX1_isOut (cPc D dA a k t [.ref (a + 1), .int x1]) (rQi r) 0 0 nof := en_C (by decide +kernel) rfl (Nat.le_of_ble_eq_true rfl) (fun p e s m below meth c ls C hK hT hl => bX1_isOut C hK hT x1 ls h hl)
set_option maxRecDepth 20000 in
abbrev rmX0_rules : Room := { frames := 0, cells := 0, slots := 0, locals := 0 }
theorem hdX0_rules : yX0_rules.cls = RX0 ∧ yX0_rules.cls ≠ "java/lang/invoke/MethodHandle" ∧ yX0_rules.cls ≠ "java/lang/invoke/VarHandle" ∧ (parseMethodDescriptor yX0_rules.desc).map (fun d => d.parameters.length) = some 0 := by decide +kernel
theorem bX0_rules {p : Program} {l : Launch} {e : Env} {s : State} {m : MethodId} {args : Array Value} {below : List Frame} {meth : Method} {c : Code} {D : va_G} {dA : Nat → ClassId} {a : Nat} {k : KP a} {t : CS} {r : Nat} (C : cx p s m args meth c cX0_rules RX0 1 (some (.object "LettersOnStrike$Text"))) (hK : kC D dA a k t.2.2.2 s) (hT : cW D dA a k t s.heap) : ∀ (ls : Array Slot), C_rules t = some r → lv_has ls 1 [(0, .ref a)] → W p l e rmX0_rules s m args below meth c s.heap [] 0 0 (MQ below (rQv (some (.ref r))) args s 0 0 nof) (F0 m 0 ls []) := by
  obtain ⟨hx, hb, hr, hml, hown, hts, hlocks⟩ := id C
  intro ls h hl
  unfold C_rules at h
  refine lv_aload_n hx hb dX0_rules_0 rfl (lv_at hl 0 rfl) ?_
  refine cg0 C hK hT dX0_rules_1 ?_
  refine c_getSN C hK hT (Or.inl rfl) 0 (by decide) (nf222 hK.2.1) rfl (v := .ref (a + 2)) rfl dX0_rules_4 ?_
  refine lv_iconst (v := 3) hx hb dX0_rules_7 (by decide) ?_
  obtain ⟨hi1, h⟩ := ck_some h
  refine c_ild C hK hT 2 7 (by decide) (fun _ _ => rfl) hi1 dX0_rules_8 ?_
  refine lv_iconst (v := -1) hx hb dX0_rules_9 (by decide) ?_
  refine lv_icmp_ne (tgt := 19) hx hb dX0_rules_10 (by decide) (fun c => ?_) (fun c => ?_)
  · replace h := if_f c h
    refine lv_aload_n hx hb dX0_rules_19 rfl (lv_at hl 0 rfl) ?_
    refine cg0 C hK hT dX0_rules_20 ?_
    refine c_getSN C hK hT (Or.inl rfl) 8 (by decide) (nf238 hK.2.1) rfl (v := .ref (a + 52)) rfl dX0_rules_23 ?_
    refine lv_aload_n hx hb dX0_rules_26 rfl (lv_at hl 0 rfl) ?_
    refine cg0 C hK hT dX0_rules_27 ?_
    refine c_getSN C hK hT (Or.inl rfl) 0 (by decide) (nf222 hK.2.1) rfl (v := .ref (a + 2)) rfl dX0_rules_30 ?_
    refine lv_iconst (v := 3) hx hb dX0_rules_33 (by decide) ?_
    obtain ⟨hi2, h⟩ := ck_some h
    refine c_ild C hK hT 2 7 (by decide) (fun _ _ => rfl) hi2 dX0_rules_34 ?_
    obtain ⟨hi3, h⟩ := ck_some h
    obtain ⟨r4, hr4, h⟩ := bd1_some h
    refine c_ald C hK hT 52 4 5 (by decide) rfl (g := t.2.1 52) (by rfl) (by rfl) hi3 hr4 dX0_rules_35 ?_
    exact e_rr C (Or.inl ⟨_, rfl⟩) h dX0_rules_36
  · replace h := if_t c h
    refine g_nothing C hK va_S.rf q1073 dX0_rules_13 ?_
    refine lv_goto (tgt := 36) hx hb dX0_rules_16 (by decide) ?_
    exact e_rr C (Or.inl ⟨_, rfl⟩) h dX0_rules_36
theorem mX0_rules {l : Launch} {D : va_G} {dA : Nat → ClassId} {a : Nat} {k : KP a} {t : CS} {r : Nat} (h : C_rules t = some r) : Met l yX0_rules (ws_ yX0_rules cX0_rules 1 (some (.object "LettersOnStrike$Text"))) rmX0_rules (cPc D dA a k t [.ref a]) (rQv (some (.ref r))) 0 0 nof := en_C (by decide +kernel) rfl (Nat.le_of_ble_eq_true rfl) (fun p e s m below meth c ls C hK hT hl => bX0_rules C hK hT ls h hl)
set_option maxRecDepth 20000 in
abbrev rmX0_tiedOf : Room := { frames := 1, cells := 0, slots := 0, locals := 20 }
theorem hdX0_tiedOf : yX0_tiedOf.cls = RX0 ∧ yX0_tiedOf.cls ≠ "java/lang/invoke/MethodHandle" ∧ yX0_tiedOf.cls ≠ "java/lang/invoke/VarHandle" ∧ (parseMethodDescriptor yX0_tiedOf.desc).map (fun d => d.parameters.length) = some 1 := by decide +kernel
theorem bX0_tiedOf {p : Program} {l : Launch} {e : Env} {s : State} {m : MethodId} {args : Array Value} {below : List Frame} {meth : Method} {c : Code} {D : va_G} {dA : Nat → ClassId} {a : Nat} {k : KP a} {t : CS} {r : Int32} (C : cx p s m args meth c cX0_tiedOf RX0 2 (some .int)) (hK : kC D dA a k t.2.2.2 s) (hT : cW D dA a k t s.heap) : ∀ (x1 : Int32) (ls : Array Slot), C_tiedOf t x1 = some r → lv_has ls 2 [(0, .ref a), (1, .int x1)] → W p l e rmX0_tiedOf s m args below meth c s.heap [] 0 0 (MQ below (rQi r) args s 0 0 nof) (F0 m 0 ls []) := by
  obtain ⟨hx, hb, hr, hml, hown, hts, hlocks⟩ := id C
  intro x1 ls h hl
  unfold C_tiedOf at h
  refine lv_aload_n hx hb dX0_tiedOf_0 rfl (lv_at hl 0 rfl) ?_
  refine cg0 C hK hT dX0_tiedOf_1 ?_
  refine c_getSN C hK hT (Or.inl rfl) 2 (by decide) (nf226 hK.2.1) rfl (v := .ref (a + 4)) rfl dX0_tiedOf_4 ?_
  refine lv_iload_n hx hb dX0_tiedOf_7 rfl (lv_at hl 1 rfl) ?_
  obtain ⟨hi1, h⟩ := ck_some h
  refine c_ild C hK hT 4 26 (by decide) (fun _ _ => rfl) hi1 dX0_tiedOf_8 ?_
  refine lv_aload_n hx hb dX0_tiedOf_9 rfl (lv_at hl 0 rfl) ?_
  refine cg0 C hK hT dX0_tiedOf_10 ?_
  refine c_getSN C hK hT (Or.inl rfl) 1 (by decide) (nf224 hK.2.1) rfl (v := .ref (a + 3)) rfl dX0_tiedOf_13 ?_
  refine lv_iconst (v := 0) hx hb dX0_tiedOf_16 (by decide) ?_
  obtain ⟨hi2, h⟩ := ck_some h
  refine c_ild C hK hT 3 192 (by decide) (fun _ _ => rfl) hi2 dX0_tiedOf_17 ?_
  refine lv_iand hx hb dX0_tiedOf_18 ?_
  obtain ⟨v3, hv3, h⟩ := bd1_some h
  refine r_int (run_s (As := [.int ((t.1 4 x1.toNatClampNeg) &&& (t.1 3 (0 : Int32).toNatClampNeg))]) (rest := []) C (mJ5_bitCount hv3) q1079 q1080 q168 q1081 ⟨rfl, rfl⟩ hdJ5_bitCount ⟨Nat.le_of_ble_eq_true rfl, Nat.le_of_ble_eq_true rfl⟩ ⟨Nat.zero_le _, Nat.zero_le _⟩ rfl hl.1 rfl (Nat.le_of_ble_eq_true rfl) dX0_tiedOf_19) ?_
  exact e_ri C h dX0_tiedOf_22
theorem mX0_tiedOf {l : Launch} {D : va_G} {dA : Nat → ClassId} {a : Nat} {k : KP a} {t : CS} {x1 : Int32} {r : Int32} (h : C_tiedOf t x1 = some r) : Met l yX0_tiedOf (ws_ yX0_tiedOf cX0_tiedOf 2 (some .int)) rmX0_tiedOf (cPc D dA a k t [.ref a, .int x1]) (rQi r) 0 0 nof := en_C (by decide +kernel) rfl (Nat.le_of_ble_eq_true rfl) (fun p e s m below meth c ls C hK hT hl => bX0_tiedOf C hK hT x1 ls h hl)
set_option maxRecDepth 20000 in
abbrev rmX0_names : Room := { frames := 2, cells := 0, slots := 0, locals := 40 }
theorem hdX0_names : yX0_names.cls = RX0 ∧ yX0_names.cls ≠ "java/lang/invoke/MethodHandle" ∧ yX0_names.cls ≠ "java/lang/invoke/VarHandle" ∧ (parseMethodDescriptor yX0_names.desc).map (fun d => d.parameters.length) = some 0 := by decide +kernel
theorem bX0_names {p : Program} {l : Launch} {e : Env} {s : State} {m : MethodId} {args : Array Value} {below : List Frame} {meth : Method} {c : Code} {D : va_G} {dA : Nat → ClassId} {a : Nat} {k : KP a} {t0 : CS} {t9 : CS} (C : cx p s m args meth c cX0_names RX0 1 none) : ∀ (t : CS) (H : Heap) (locs : List Loc) (hT : cW D dA a k t H) (hS : cS a s.heap H locs t0.2.2.2 0 t) (hK : kC D dA a k t.2.2.2 s) (ls : Array Slot), C_names t = some t9 → lv_has ls 1 [(0, .ref a)] → W p l e rmX0_names s m args below meth c H locs 0 0 (MQ below (cQ D dA a k 0 t0 t9 none) args s 0 0 (ca a)) (F0 m 0 ls []) := by
  obtain ⟨hx, hb, hr, hml, hown, hts, hlocks⟩ := id C
  intro t H locs hT hS hK ls h hl
  unfold C_names at h
  refine lv_aload_n hx hb dX0_names_0 rfl (lv_at hl 0 rfl) ?_
  refine cg6 C hK hT dX0_names_1 ?_
  refine lv_iconst (v := 0) hx hb dX0_names_4 (by decide) ?_
  refine lv_aload_n hx hb dX0_names_5 rfl (lv_at hl 0 rfl) ?_
  refine cg0 C hK hT dX0_names_6 ?_
  refine c_getSN C hK hT (Or.inl rfl) 1 (by decide) (nf224 hK.2.1) rfl (v := .ref (a + 3)) rfl dX0_names_9 ?_
  refine lv_iconst (v := 1) hx hb dX0_names_12 (by decide) ?_
  obtain ⟨hi1, h⟩ := ck_some h
  refine c_ild C hK hT 3 192 (by decide) (fun _ _ => rfl) hi1 dX0_names_13 ?_
  obtain ⟨hi2, h⟩ := ck_some h
  refine c_ist C hK hT hS 106 14 (by decide) (fun _ _ => rfl) hi2 dX0_names_14 (fun t3 H locs et3 hT hS hK => ?_)
  replace h := lt1_sub et3 h
  refine lv_aload_n hx hb dX0_names_15 rfl (lv_at hl 0 rfl) ?_
  refine cg6 C hK hT dX0_names_16 ?_
  refine lv_iconst (v := 1) hx hb dX0_names_19 (by decide) ?_
  refine lv_aload_n hx hb dX0_names_20 rfl (lv_at hl 0 rfl) ?_
  obtain ⟨v4, hv4, h⟩ := bd1_some h
  refine r_int (run_c (As := []) (rest := [.int (1 : Int32), .ref (a + 106)]) C hK hT hS.2.1 (rv_X hK hT) (mX0_outs hv4) q1089 q1091 qs32 q158 q1092 ⟨rfl, rfl⟩ hdX0_outs ⟨Nat.le_of_ble_eq_true rfl, Nat.le_of_ble_eq_true rfl⟩ ⟨Nat.zero_le _, Nat.zero_le _⟩ rfl hl.1 rfl (Nat.le_of_ble_eq_true rfl) dX0_names_21) ?_
  obtain ⟨hi5, h⟩ := ck_some h
  refine c_ist C hK hT hS 106 14 (by decide) (fun _ _ => rfl) hi5 dX0_names_24 (fun t6 H locs et6 hT hS hK => ?_)
  replace h := lt1_sub et6 h
  exact ec_v C hT hS h dX0_names_25
theorem mX0_names {l : Launch} {D : va_G} {dA : Nat → ClassId} {a : Nat} {k : KP a} {t : CS} {t9 : CS} (h : C_names t = some t9) : Met l yX0_names (ws_ yX0_names cX0_names 1 none) rmX0_names (cPc D dA a k t [.ref a]) (cQ D dA a k 0 t t9 none) 0 0 (ca a) := en_C (by decide +kernel) rfl (Nat.le_of_ble_eq_true rfl) (fun p e s m below meth c ls C hK hT hl => bX0_names C t _ [] hT cS.rf hK ls h hl)
set_option maxRecDepth 20000 in
abbrev rmX3_bits : Room := { frames := 0, cells := 0, slots := 0, locals := 0 }
theorem hdX3_bits : yX3_bits.cls = RX3 ∧ yX3_bits.cls ≠ "java/lang/invoke/MethodHandle" ∧ yX3_bits.cls ≠ "java/lang/invoke/VarHandle" ∧ (parseMethodDescriptor yX3_bits.desc).map (fun d => d.parameters.length) = some 0 := by decide +kernel
theorem bX3_bits {p : Program} {l : Launch} {e : Env} {s : State} {m : MethodId} {args : Array Value} {below : List Frame} {meth : Method} {c : Code} {D : va_G} {dA : Nat → ClassId} {a : Nat} {k : KP a} {t : CS} {r : Int32} (C : cx p s m args meth c cX3_bits RX3 1 (some .int)) (hK : kC D dA a k t.2.2.2 s) (hT : cW D dA a k t s.heap) : ∀ (x0 : Nat) (ls : Array Slot), C_X3_bits t x0 = some r → lv_has ls 1 [(0, .ref x0)] → W p l e rmX3_bits s m args below meth c s.heap [] 0 0 (MQ below (rQi r) args s 0 0 nof) (F0 m 0 ls []) := by
  obtain ⟨hx, hb, hr, hml, hown, hts, hlocks⟩ := id C
  intro x0 ls h hl
  unfold C_X3_bits at h
  refine lv_aload_n hx hb dX3_bits_0 rfl (lv_at hl 0 rfl) ?_
  obtain ⟨v1, hv1, h⟩ := bd1_some h
  refine d_get (ci := 3) in_X3 rfl C hK hT 1 (by decide) q477 rfl (gI_some hv1) dX3_bits_1 ?_
  exact e_ri C h dX3_bits_4
theorem mX3_bits {l : Launch} {D : va_G} {dA : Nat → ClassId} {a : Nat} {k : KP a} {t : CS} {x0 : Nat} {r : Int32} (h : C_X3_bits t x0 = some r) : Met l yX3_bits (ws_ yX3_bits cX3_bits 1 (some .int)) rmX3_bits (cPc D dA a k t [.ref x0]) (rQi r) 0 0 nof := en_C (by decide +kernel) rfl (Nat.le_of_ble_eq_true rfl) (fun p e s m below meth c ls C hK hT hl => bX3_bits C hK hT x0 ls h hl)
set_option maxRecDepth 20000 in
abbrev rmX0_usesOf : Room := { frames := 1, cells := 0, slots := 0, locals := 21 }
theorem hdX0_usesOf : yX0_usesOf.cls = RX0 ∧ yX0_usesOf.cls ≠ "java/lang/invoke/MethodHandle" ∧ yX0_usesOf.cls ≠ "java/lang/invoke/VarHandle" ∧ (parseMethodDescriptor yX0_usesOf.desc).map (fun d => d.parameters.length) = some 1 := by decide +kernel
theorem bX0_usesOf_p42 {p : Program} {l : Launch} {e : Env} {s : State} {m : MethodId} {args : Array Value} {below : List Frame} {meth : Method} {c : Code} {D : va_G} {dA : Nat → ClassId} {a : Nat} {k : KP a} {t : CS} {r : Int32} (C : cx p s m args meth c cX0_usesOf RX0 4 (some .int)) (hK : kC D dA a k t.2.2.2 s) (hT : cW D dA a k t s.heap) {k4 : Int32 → Int32 → Int32 → Option Int32} (hk4 : ∀ (x1 : Int32) (x2 : Int32) (x3 : Int32) (ls : Array Slot), k4 x1 x2 x3 = some r → lv_has ls 4 [(0, .ref a), (1, .int x1), (2, .int x2), (3, .int x3)] → W p l e rmX0_usesOf s m args below meth c s.heap [] 0 0 (MQ below (rQi r) args s 0 0 nof) (F0 m 4 ls [])) : ∀ (x1 : Int32) (x3 : Int32) (y0 : Int32) (y1 : Int32) (ls : Array Slot), C_usesOf_p42 k4 t x1 x3 y0 y1 = some r → lv_has ls 4 [(0, .ref a), (1, .int x1), (3, .int x3)] → W p l e rmX0_usesOf s m args below meth c s.heap [] 0 0 (MQ below (rQi r) args s 0 0 nof) (F0 m 42 ls [.int y1, .int y0]) := by
  obtain ⟨hx, hb, hr, hml, hown, hts, hlocks⟩ := id C
  intro x1 x3 y0 y1 ls h hl
  unfold C_usesOf_p42 at h
  refine lv_iadd hx hb dX0_usesOf_42 ?_
  refine lv_topi (fun v1 ev1 => ?_)
  replace h := lt1_sub ev1 h
  refine lv_istore_n (lv' := [(2, .int v1), (0, .ref a), (1, .int x1), (3, .int x3)]) hx hb dX0_usesOf_43 rfl hl (by decide) rfl (fun ls hl => ?_)
  obtain ⟨v2, ev2⟩ : ∃ y : Int32, y = x3 + (1 : Int32) := ⟨_, rfl⟩
  replace h := lt1_sub ev2 h
  refine lv_iinc (v := v2) (lv' := [(3, .int v2), (2, .int v1), (0, .ref a), (1, .int x1)]) hx hb dX0_usesOf_44 hl (k := 3) rfl (by rw [ev2]; rfl) (by decide) rfl (fun ls hl => ?_)
  refine lv_goto (tgt := 4) hx hb dX0_usesOf_47 (by decide) ?_
  exact hk4 x1 v1 v2 ls h (lv_sub hl [2, 3, 1, 0] rfl)
theorem bX0_usesOf_p4 {p : Program} {l : Launch} {e : Env} {s : State} {m : MethodId} {args : Array Value} {below : List Frame} {meth : Method} {c : Code} {D : va_G} {dA : Nat → ClassId} {a : Nat} {k : KP a} {t : CS} {r : Int32} (C : cx p s m args meth c cX0_usesOf RX0 4 (some .int)) (hK : kC D dA a k t.2.2.2 s) (hT : cW D dA a k t s.heap) : ∀ (n : Nat), ∀ (x1 : Int32) (x2 : Int32) (x3 : Int32) (ls : Array Slot), C_usesOf_p4 t n x1 x2 x3 = some r → lv_has ls 4 [(0, .ref a), (1, .int x1), (2, .int x2), (3, .int x3)] → W p l e rmX0_usesOf s m args below meth c s.heap [] 0 0 (MQ below (rQi r) args s 0 0 nof) (F0 m 4 ls []) := by
  obtain ⟨hx, hb, hr, hml, hown, hts, hlocks⟩ := id C
  intro n
  induction n with
  | zero =>
    intro x1 x2 x3 ls h hl
    have h : none = some _ := h
    cases h
  | succ n ih =>
    intro x1 x2 x3 ls h hl
    rw [C_usesOf_p4] at h
    refine lv_iload_n hx hb dX0_usesOf_4 rfl (lv_at hl 3 rfl) ?_
    refine lv_aload_n hx hb dX0_usesOf_5 rfl (lv_at hl 0 rfl) ?_
    refine cg0 C hK hT dX0_usesOf_6 ?_
    refine c_getSN C hK hT (Or.inl rfl) 0 (by decide) (nf222 hK.2.1) rfl (v := .ref (a + 2)) rfl dX0_usesOf_9 ?_
    refine lv_iconst (v := 0) hx hb dX0_usesOf_12 (by decide) ?_
    obtain ⟨hi1, h⟩ := ck_some h
    refine c_ild C hK hT 2 7 (by decide) (fun _ _ => rfl) hi1 dX0_usesOf_13 ?_
    refine lv_icmp_ge (tgt := 50) hx hb dX0_usesOf_14 (by decide) (fun c => ?_) (fun c => ?_)
    · replace h := if_t c h
      refine lv_iload_n hx hb dX0_usesOf_50 rfl (lv_at hl 2 rfl) ?_
      exact e_ri C h dX0_usesOf_51
    · replace h := if_f c h
      refine lv_iload_n hx hb dX0_usesOf_17 rfl (lv_at hl 2 rfl) ?_
      refine lv_aload_n hx hb dX0_usesOf_18 rfl (lv_at hl 0 rfl) ?_
      refine cg0 C hK hT dX0_usesOf_19 ?_
      refine c_getSN C hK hT (Or.inl rfl) 4 (by decide) (nf230 hK.2.1) rfl (v := .ref (a + 6)) rfl dX0_usesOf_22 ?_
      refine lv_iload_n hx hb dX0_usesOf_25 rfl (lv_at hl 3 rfl) ?_
      obtain ⟨hi2, h⟩ := ck_some h
      obtain ⟨r3, hr3, h⟩ := bd1_some h
      refine c_ald C hK hT 6 24 4 (by decide) rfl (g := t.2.1 6) (by rfl) (by rfl) hi2 hr3 dX0_usesOf_26 ?_
      obtain ⟨hc4, h⟩ := ckC_some h
      obtain ⟨v5, hv5, h⟩ := bd1_some h
      refine r_int (run_c (As := []) (rest := [.int x2]) C hK hT (fun _ _ => rfl) (rv_D (ci := 3) rfl hK hT hc4) (mX3_bits hv5) q1098 q1099 q1100 q170 q1101 ⟨rfl, rfl⟩ hdX3_bits ⟨Nat.le_of_ble_eq_true rfl, Nat.le_of_ble_eq_true rfl⟩ ⟨Nat.zero_le _, Nat.zero_le _⟩ rfl hl.1 rfl (Nat.le_of_ble_eq_true rfl) dX0_usesOf_27) ?_
      refine lv_iload_n hx hb dX0_usesOf_30 rfl (lv_at hl 1 rfl) ?_
      obtain ⟨v6, hv6, h⟩ := bd1_some h
      refine r_int (run_s (As := [.int v5, .int x1]) (rest := [.int x2]) C (mX0_has hv6) q344 q345 q158 q346 ⟨rfl, rfl⟩ hdX0_has ⟨Nat.le_of_ble_eq_true rfl, Nat.le_of_ble_eq_true rfl⟩ ⟨Nat.zero_le _, Nat.zero_le _⟩ rfl hl.1 rfl (Nat.le_of_ble_eq_true rfl) dX0_usesOf_31) ?_
      refine lv_if_eq (tgt := 41) hx hb dX0_usesOf_34 (by decide) (fun c => ?_) (fun c => ?_)
      · replace h := if_t c h
        refine lv_iconst (v := 0) hx hb dX0_usesOf_41 (by decide) ?_
        exact bX0_usesOf_p42 C hK hT ih x1 x3 x2 (0 : Int32) ls h (lv_sub hl [0, 1, 3] rfl)
      · replace h := if_f c h
        refine lv_iconst (v := 1) hx hb dX0_usesOf_37 (by decide) ?_
        refine lv_goto (tgt := 42) hx hb dX0_usesOf_38 (by decide) ?_
        exact bX0_usesOf_p42 C hK hT ih x1 x3 x2 (1 : Int32) ls h (lv_sub hl [0, 1, 3] rfl)
theorem bX0_usesOf {p : Program} {l : Launch} {e : Env} {s : State} {m : MethodId} {args : Array Value} {below : List Frame} {meth : Method} {c : Code} {D : va_G} {dA : Nat → ClassId} {a : Nat} {k : KP a} {t : CS} {r : Int32} (C : cx p s m args meth c cX0_usesOf RX0 4 (some .int)) (hK : kC D dA a k t.2.2.2 s) (hT : cW D dA a k t s.heap) : ∀ (x1 : Int32) (ls : Array Slot), C_usesOf t x1 = some r → lv_has ls 4 [(0, .ref a), (1, .int x1)] → W p l e rmX0_usesOf s m args below meth c s.heap [] 0 0 (MQ below (rQi r) args s 0 0 nof) (F0 m 0 ls []) := by
  obtain ⟨hx, hb, hr, hml, hown, hts, hlocks⟩ := id C
  intro x1 ls h hl
  unfold C_usesOf at h
  refine lv_iconst (v := 0) hx hb dX0_usesOf_0 (by decide) ?_
  refine lv_istore_n (lv' := [(2, .int (0 : Int32)), (0, .ref a), (1, .int x1)]) hx hb dX0_usesOf_1 rfl hl (by decide) rfl (fun ls hl => ?_)
  refine lv_iconst (v := 0) hx hb dX0_usesOf_2 (by decide) ?_
  refine lv_istore_n (lv' := [(3, .int (0 : Int32)), (2, .int (0 : Int32)), (0, .ref a), (1, .int x1)]) hx hb dX0_usesOf_3 rfl hl (by decide) rfl (fun ls hl => ?_)
  exact bX0_usesOf_p4 C hK hT fu x1 (0 : Int32) (0 : Int32) ls h (lv_sub hl [2, 3, 1, 0] rfl)
theorem mX0_usesOf {l : Launch} {D : va_G} {dA : Nat → ClassId} {a : Nat} {k : KP a} {t : CS} {x1 : Int32} {r : Int32} (h : C_usesOf t x1 = some r) : Met l yX0_usesOf (ws_ yX0_usesOf cX0_usesOf 4 (some .int)) rmX0_usesOf (cPc D dA a k t [.ref a, .int x1]) (rQi r) 0 0 nof := en_C (by decide +kernel) rfl (Nat.le_of_ble_eq_true rfl) (fun p e s m below meth c ls C hK hT hl => bX0_usesOf C hK hT x1 ls h hl)
set_option maxRecDepth 20000 in
abbrev rmX7_is_106 (N : Nat) : Room := { frames := 100 + 1 * N, cells := 0, slots := 0, locals := 3400 + 40 * N }
theorem hdX7_is_106 : yX7_is.cls = RX7 ∧ yX7_is.cls ≠ "java/lang/invoke/MethodHandle" ∧ yX7_is.cls ≠ "java/lang/invoke/VarHandle" ∧ (parseMethodDescriptor yX7_is.desc).map (fun d => d.parameters.length) = some 1 := by decide +kernel
theorem bX7_is_106 {p : Program} {l : Launch} {e : Env} {s : State} {m : MethodId} {args : Array Value} {below : List Frame} {meth : Method} {c : Code} {D : va_G} {dA : Nat → ClassId} {a : Nat} {k : KP a} {t : CS} {r : Int32} (C : cx p s m args meth c cX7_is RX7 2 (some .boolean)) (hK : kC D dA a k t.2.2.2 s) (hT : cW D dA a k t s.heap) {N : Nat} {rec : CS → Nat → Option Int32} (hrec : ∀ (t : CS) (r : Nat) (v : Int32), rec t r = some v → ifM l D dA a k xIs .boolean (100 + 1 * N) (3400 + 40 * N) t r (rQi v)) : ∀ (x0 : Nat) (ls : Array Slot), C_X7_is_106 rec t x0 = some r → lv_has ls 2 [(0, .ref x0), (1, .ref (a + 106))] → W p l e (rmX7_is_106 N) s m args below meth c s.heap [] 0 0 (MQ below (rQi r) args s 0 0 nof) (F0 m 0 ls []) := by
  obtain ⟨hx, hb, hr, hml, hown, hts, hlocks⟩ := id C
  intro x0 ls h hl
  unfold C_X7_is_106 at h
  refine lv_aload_n hx hb dX7_is_0 rfl (lv_at hl 0 rfl) ?_
  obtain ⟨v1, hv1, h⟩ := bd1_some h
  refine d_get (ci := 7) in_X7 rfl C hK hT 0 (by decide) q768 rfl (gR_some hv1) dX7_is_1 ?_
  refine lv_aload_n hx hb dX7_is_4 rfl (lv_at hl 1 rfl) ?_
  obtain ⟨v2, hv2, h⟩ := bd1_some h
  refine r_int5 (run_if (rest := []) C hK hT (fun _ _ => rfl) (hrec _ _ _ hv2) ⟨Nat.le_refl _, Nat.le_refl _⟩ q1178 hdxIs ⟨Nat.zero_le _, Nat.zero_le _⟩ hl.1 rfl (Nat.le_of_ble_eq_true rfl) dX7_is_5) ?_
  refine lv_if_ne (tgt := 17) hx hb dX7_is_10 (by decide) (fun c => ?_) (fun c => ?_)
  · replace h := if_f c h
    refine lv_iconst (v := 0) hx hb dX7_is_17 (by decide) ?_
    exact e_rz C (Or.inl rfl) h dX7_is_18
  · replace h := if_t c h
    refine lv_iconst (v := 1) hx hb dX7_is_13 (by decide) ?_
    refine lv_goto (tgt := 18) hx hb dX7_is_14 (by decide) ?_
    exact e_rz C (Or.inr rfl) h dX7_is_18
theorem mX7_is_106 {l : Launch} {D : va_G} {dA : Nat → ClassId} {a : Nat} {k : KP a} {x0 : Nat} {r : Int32} {N : Nat} {rec : CS → Nat → Option Int32} (hrec : ∀ (t : CS) (r : Nat) (v : Int32), rec t r = some v → ifM l D dA a k xIs .boolean (100 + 1 * N) (3400 + 40 * N) t r (rQi v)) {t : CS} (h : C_X7_is_106 rec t x0 = some r) : Met l yX7_is (ws_ yX7_is cX7_is 2 (some .boolean)) (rmX7_is_106 N) (cPc D dA a k t [.ref x0, .ref (a + 106)]) (rQi r) 0 0 nof := en_C (by decide +kernel) rfl (Nat.le_of_ble_eq_true rfl) (fun p e s m below meth c ls C hK hT hl => bX7_is_106 C hK hT hrec x0 ls h hl)
set_option maxRecDepth 20000 in
abbrev rmJ9_size : Room := { frames := 0, cells := 0, slots := 0, locals := 0 }
theorem hdJ9_size : yJ9_size.cls = RJ9 ∧ yJ9_size.cls ≠ "java/lang/invoke/MethodHandle" ∧ yJ9_size.cls ≠ "java/lang/invoke/VarHandle" ∧ (parseMethodDescriptor yJ9_size.desc).map (fun d => d.parameters.length) = some 0 := by decide +kernel
theorem bJ9_size {p : Program} {l : Launch} {e : Env} {s : State} {m : MethodId} {args : Array Value} {below : List Frame} {meth : Method} {c : Code} {D : va_G} {dA : Nat → ClassId} {a : Nat} {k : KP a} {t : CS} {r : Int32} (C : cx p s m args meth c cJ9_size RJ9 1 (some .int)) (hK : kC D dA a k t.2.2.2 s) (hT : cW D dA a k t s.heap) : ∀ (x0 : Nat) (ls : Array Slot), J_J9_size t x0 = some r → lv_has ls 1 [(0, .ref x0)] → W p l e rmJ9_size s m args below meth c s.heap [] 0 0 (MQ below (rQi r) args s 0 0 nof) (F0 m 0 ls []) := by
  obtain ⟨hx, hb, hr, hml, hown, hts, hlocks⟩ := id C
  intro x0 ls h hl
  unfold J_J9_size at h
  refine lv_aload_n hx hb dJ9_size_0 rfl (lv_at hl 0 rfl) ?_
  obtain ⟨v1, hv1, h⟩ := bd1_some h
  refine d_get (ci := 15) in_J9 rfl C hK hT 2 (by decide) q567 rfl (gI_some hv1) dJ9_size_1 ?_
  exact e_ri C h dJ9_size_4
theorem mJ9_size {l : Launch} {D : va_G} {dA : Nat → ClassId} {a : Nat} {k : KP a} {t : CS} {x0 : Nat} {r : Int32} (h : J_J9_size t x0 = some r) : Met l yJ9_size (ws_ yJ9_size cJ9_size 1 (some .int)) rmJ9_size (cPc D dA a k t [.ref x0]) (rQi r) 0 0 nof := en_C (by decide +kernel) rfl (Nat.le_of_ble_eq_true rfl) (fun p e s m below meth c ls C hK hT hl => bJ9_size C hK hT x0 ls h hl)
set_option maxRecDepth 20000 in
abbrev rmJ12_checkIndex_n : Room := { frames := 0, cells := 0, slots := 0, locals := 0 }
theorem hdJ12_checkIndex_n : yJ12_checkIndex.cls ≠ "java/lang/invoke/MethodHandle" ∧ yJ12_checkIndex.cls ≠ "java/lang/invoke/VarHandle" ∧ (parseMethodDescriptor yJ12_checkIndex.desc).map (fun d => d.parameters.length) = some 3 := by decide +kernel
theorem bJ12_checkIndex_n_p9 {p : Program} {l : Launch} {e : Env} {s : State} {m : MethodId} {args : Array Value} {below : List Frame} {meth : Method} {c : Code} {D : va_G} {dA : Nat → ClassId} {a : Nat} {k : KP a} {t : CS} {r : Int32} (C : cx p s m args meth c cJ12_checkIndex RJ12 3 (some .int)) (hK : kC D dA a k t.2.2.2 s) (hT : cW D dA a k t s.heap) : ∀ (x0 : Int32) (x1 : Int32) (ls : Array Slot), J_J12_checkIndex_n_p9 t x0 x1 = some r → lv_has ls 3 [(0, .int x0), (1, .int x1), (2, .null)] → W p l e rmJ12_checkIndex_n s m args below meth c s.heap [] 0 0 (MQ below (rQi r) args s 0 0 nof) (F0 m 9 ls []) := by
  obtain ⟨hx, hb, hr, hml, hown, hts, hlocks⟩ := id C
  intro x0 x1 ls h hl
  unfold J_J12_checkIndex_n_p9 at h
  refine lv_aload_nN hx hb dJ12_checkIndex_9 rfl (lv_at hl 2 rfl) ?_
  refine lv_iload_n hx hb dJ12_checkIndex_10 rfl (lv_at hl 0 rfl) ?_
  refine lv_iload_n hx hb dJ12_checkIndex_11 rfl (lv_at hl 1 rfl) ?_
  cases h
theorem bJ12_checkIndex_n {p : Program} {l : Launch} {e : Env} {s : State} {m : MethodId} {args : Array Value} {below : List Frame} {meth : Method} {c : Code} {D : va_G} {dA : Nat → ClassId} {a : Nat} {k : KP a} {t : CS} {r : Int32} (C : cx p s m args meth c cJ12_checkIndex RJ12 3 (some .int)) (hK : kC D dA a k t.2.2.2 s) (hT : cW D dA a k t s.heap) : ∀ (x0 : Int32) (x1 : Int32) (ls : Array Slot), J_J12_checkIndex_n t x0 x1 = some r → lv_has ls 3 [(0, .int x0), (1, .int x1), (2, .null)] → W p l e rmJ12_checkIndex_n s m args below meth c s.heap [] 0 0 (MQ below (rQi r) args s 0 0 nof) (F0 m 0 ls []) := by
  obtain ⟨hx, hb, hr, hml, hown, hts, hlocks⟩ := id C
  intro x0 x1 ls h hl
  unfold J_J12_checkIndex_n at h
  refine lv_iload_n hx hb dJ12_checkIndex_0 rfl (lv_at hl 0 rfl) ?_
  refine lv_if_lt (tgt := 9) hx hb dJ12_checkIndex_1 (by decide) (fun c => ?_) (fun c => ?_)
  · replace h := if_t c h
    exact bJ12_checkIndex_n_p9 C hK hT x0 x1 ls h (lv_sub hl [0, 1, 2] rfl)
  · replace h := if_f c h
    refine lv_iload_n hx hb dJ12_checkIndex_4 rfl (lv_at hl 0 rfl) ?_
    refine lv_iload_n hx hb dJ12_checkIndex_5 rfl (lv_at hl 1 rfl) ?_
    refine lv_icmp_lt (tgt := 16) hx hb dJ12_checkIndex_6 (by decide) (fun c => ?_) (fun c => ?_)
    · replace h := if_t c h
      refine lv_iload_n hx hb dJ12_checkIndex_16 rfl (lv_at hl 0 rfl) ?_
      exact e_ri C h dJ12_checkIndex_17
    · replace h := if_f c h
      exact bJ12_checkIndex_n_p9 C hK hT x0 x1 ls h (lv_sub hl [0, 1, 2] rfl)
theorem mJ12_checkIndex_n {l : Launch} {D : va_G} {dA : Nat → ClassId} {a : Nat} {k : KP a} {t : CS} {x0 : Int32} {x1 : Int32} {r : Int32} (h : J_J12_checkIndex_n t x0 x1 = some r) : Met l yJ12_checkIndex (ws_ yJ12_checkIndex cJ12_checkIndex 3 (some .int)) rmJ12_checkIndex_n (cPc D dA a k t [.int x0, .int x1, .null]) (rQi r) 0 0 nof := en_C (by decide +kernel) rfl (Nat.le_of_ble_eq_true rfl) (fun p e s m below meth c ls C hK hT hl => bJ12_checkIndex_n C hK hT x0 x1 ls h hl)
set_option maxRecDepth 20000 in
abbrev rmJ17_checkIndex : Room := { frames := 1, cells := 0, slots := 0, locals := 22 }
theorem hdJ17_checkIndex : yJ17_checkIndex.cls ≠ "java/lang/invoke/MethodHandle" ∧ yJ17_checkIndex.cls ≠ "java/lang/invoke/VarHandle" ∧ (parseMethodDescriptor yJ17_checkIndex.desc).map (fun d => d.parameters.length) = some 2 := by decide +kernel
theorem bJ17_checkIndex {p : Program} {l : Launch} {e : Env} {s : State} {m : MethodId} {args : Array Value} {below : List Frame} {meth : Method} {c : Code} {D : va_G} {dA : Nat → ClassId} {a : Nat} {k : KP a} {t : CS} {r : Int32} (C : cx p s m args meth c cJ17_checkIndex RJ17 2 (some .int)) (hK : kC D dA a k t.2.2.2 s) (hT : cW D dA a k t s.heap) : ∀ (x0 : Int32) (x1 : Int32) (ls : Array Slot), J_J17_checkIndex t x0 x1 = some r → lv_has ls 2 [(0, .int x0), (1, .int x1)] → W p l e rmJ17_checkIndex s m args below meth c s.heap [] 0 0 (MQ below (rQi r) args s 0 0 nof) (F0 m 0 ls []) := by
  obtain ⟨hx, hb, hr, hml, hown, hts, hlocks⟩ := id C
  intro x0 x1 ls h hl
  unfold J_J17_checkIndex at h
  refine lv_iload_n hx hb dJ17_checkIndex_0 rfl (lv_at hl 0 rfl) ?_
  refine lv_iload_n hx hb dJ17_checkIndex_1 rfl (lv_at hl 1 rfl) ?_
  refine lv_null hx hb dJ17_checkIndex_2 ?_
  obtain ⟨v1, hv1, h⟩ := bd1_some h
  refine r_int (run_cs (As := [.int x0, .int x1, .null]) (rest := []) C hK hT (fun _ _ => rfl) (mJ12_checkIndex_n hv1) q965 q643 q178 q644 ⟨rfl, rfl⟩ hdJ12_checkIndex_n ⟨Nat.le_of_ble_eq_true rfl, Nat.le_of_ble_eq_true rfl⟩ ⟨Nat.zero_le _, Nat.zero_le _⟩ rfl hl.1 rfl (Nat.le_of_ble_eq_true rfl) dJ17_checkIndex_3) ?_
  exact e_ri C h dJ17_checkIndex_6
theorem mJ17_checkIndex {l : Launch} {D : va_G} {dA : Nat → ClassId} {a : Nat} {k : KP a} {t : CS} {x0 : Int32} {x1 : Int32} {r : Int32} (h : J_J17_checkIndex t x0 x1 = some r) : Met l yJ17_checkIndex (ws_ yJ17_checkIndex cJ17_checkIndex 2 (some .int)) rmJ17_checkIndex (cPc D dA a k t [.int x0, .int x1]) (rQi r) 0 0 nof := en_C (by decide +kernel) rfl (Nat.le_of_ble_eq_true rfl) (fun p e s m below meth c ls C hK hT hl => bJ17_checkIndex C hK hT x0 x1 ls h hl)
set_option maxRecDepth 20000 in
abbrev rmJ9_elementData : Room := { frames := 0, cells := 0, slots := 0, locals := 0 }
theorem hdJ9_elementData : yJ9_elementData.cls = RJ9 ∧ yJ9_elementData.cls ≠ "java/lang/invoke/MethodHandle" ∧ yJ9_elementData.cls ≠ "java/lang/invoke/VarHandle" ∧ (parseMethodDescriptor yJ9_elementData.desc).map (fun d => d.parameters.length) = some 1 := by decide +kernel
theorem bJ9_elementData {p : Program} {l : Launch} {e : Env} {s : State} {m : MethodId} {args : Array Value} {below : List Frame} {meth : Method} {c : Code} {D : va_G} {dA : Nat → ClassId} {a : Nat} {k : KP a} {t : CS} {r : Nat} (C : cx p s m args meth c cJ9_elementData RJ9 2 (some (.object "java/lang/Object"))) (hK : kC D dA a k t.2.2.2 s) (hT : cW D dA a k t s.heap) : ∀ (x0 : Nat) (x1 : Int32) (ls : Array Slot), J_J9_elementData t x0 x1 = some r → lv_has ls 2 [(0, .ref x0), (1, .int x1)] → W p l e rmJ9_elementData s m args below meth c s.heap [] 0 0 (MQ below (rQv (some (.ref r))) args s 0 0 nof) (F0 m 0 ls []) := by
  obtain ⟨hx, hb, hr, hml, hown, hts, hlocks⟩ := id C
  intro x0 x1 ls h hl
  unfold J_J9_elementData at h
  refine lv_aload_n hx hb dJ9_elementData_0 rfl (lv_at hl 0 rfl) ?_
  obtain ⟨v1, hv1, h⟩ := bd1_some h
  refine d_get (ci := 15) in_J9 rfl C hK hT 1 (by decide) q566 rfl (gR_some hv1) dJ9_elementData_1 ?_
  refine lv_iload_n hx hb dJ9_elementData_4 rfl (lv_at hl 1 rfl) ?_
  obtain ⟨r2, hr2, h⟩ := bd1_some h
  refine d_aldR C hK hT hr2 dJ9_elementData_5 ?_
  exact e_rr C (Or.inl ⟨_, rfl⟩) h dJ9_elementData_6
theorem mJ9_elementData {l : Launch} {D : va_G} {dA : Nat → ClassId} {a : Nat} {k : KP a} {t : CS} {x0 : Nat} {x1 : Int32} {r : Nat} (h : J_J9_elementData t x0 x1 = some r) : Met l yJ9_elementData (ws_ yJ9_elementData cJ9_elementData 2 (some (.object "java/lang/Object"))) rmJ9_elementData (cPc D dA a k t [.ref x0, .int x1]) (rQv (some (.ref r))) 0 0 nof := en_C (by decide +kernel) rfl (Nat.le_of_ble_eq_true rfl) (fun p e s m below meth c ls C hK hT hl => bJ9_elementData C hK hT x0 x1 ls h hl)
set_option maxRecDepth 20000 in
abbrev rmJ9_get : Room := { frames := 2, cells := 0, slots := 0, locals := 43 }
theorem hdJ9_get : yJ9_get.cls = RJ9 ∧ yJ9_get.cls ≠ "java/lang/invoke/MethodHandle" ∧ yJ9_get.cls ≠ "java/lang/invoke/VarHandle" ∧ (parseMethodDescriptor yJ9_get.desc).map (fun d => d.parameters.length) = some 1 := by decide +kernel
theorem bJ9_get {p : Program} {l : Launch} {e : Env} {s : State} {m : MethodId} {args : Array Value} {below : List Frame} {meth : Method} {c : Code} {D : va_G} {dA : Nat → ClassId} {a : Nat} {k : KP a} {t : CS} {r : Nat} (C : cx p s m args meth c cJ9_get RJ9 2 (some (.object "java/lang/Object"))) (hK : kC D dA a k t.2.2.2 s) (hT : cW D dA a k t s.heap) : ∀ (x0 : Nat) (x1 : Int32) (ls : Array Slot), J_J9_get t x0 x1 = some r → lv_has ls 2 [(0, .ref x0), (1, .int x1)] → W p l e rmJ9_get s m args below meth c s.heap [] 0 0 (MQ below (rQv (some (.ref r))) args s 0 0 nof) (F0 m 0 ls []) := by
  obtain ⟨hx, hb, hr, hml, hown, hts, hlocks⟩ := id C
  intro x0 x1 ls h hl
  unfold J_J9_get at h
  refine lv_iload_n hx hb dJ9_get_0 rfl (lv_at hl 1 rfl) ?_
  refine lv_aload_n hx hb dJ9_get_1 rfl (lv_at hl 0 rfl) ?_
  obtain ⟨v1, hv1, h⟩ := bd1_some h
  refine d_get (ci := 15) in_J9 rfl C hK hT 2 (by decide) q567 rfl (gI_some hv1) dJ9_get_2 ?_
  obtain ⟨v2, hv2, h⟩ := bd1_some h
  refine r_int (run_cs (As := [.int x1, .int v1]) (rest := []) C hK hT (fun _ _ => rfl) (mJ17_checkIndex hv2) q962 q963 q191 q964 ⟨rfl, rfl⟩ hdJ17_checkIndex ⟨Nat.le_of_ble_eq_true rfl, Nat.le_of_ble_eq_true rfl⟩ ⟨Nat.zero_le _, Nat.zero_le _⟩ rfl hl.1 rfl (Nat.le_of_ble_eq_true rfl) dJ9_get_5) ?_
  refine lv_pop hx hb dJ9_get_8 rfl ?_
  refine lv_aload_n hx hb dJ9_get_9 rfl (lv_at hl 0 rfl) ?_
  refine lv_iload_n hx hb dJ9_get_10 rfl (lv_at hl 1 rfl) ?_
  obtain ⟨hc3, h⟩ := ckC_some h
  obtain ⟨v4, hv4, h⟩ := bd1_some h
  refine r_ref1 (run_c (As := [.int x1]) (rest := []) C hK hT (fun _ _ => rfl) (rv_D (ci := 15) rfl hK hT hc3) (mJ9_elementData hv4) q966 q967 q968 q175 q969 ⟨rfl, rfl⟩ hdJ9_elementData ⟨Nat.le_of_ble_eq_true rfl, Nat.le_of_ble_eq_true rfl⟩ ⟨Nat.zero_le _, Nat.zero_le _⟩ rfl hl.1 rfl (Nat.le_of_ble_eq_true rfl) dJ9_get_11) ?_
  exact e_rr C (Or.inl ⟨_, rfl⟩) h dJ9_get_14
theorem mJ9_get {l : Launch} {D : va_G} {dA : Nat → ClassId} {a : Nat} {k : KP a} {t : CS} {x0 : Nat} {x1 : Int32} {r : Nat} (h : J_J9_get t x0 x1 = some r) : Met l yJ9_get (ws_ yJ9_get cJ9_get 2 (some (.object "java/lang/Object"))) rmJ9_get (cPc D dA a k t [.ref x0, .int x1]) (rQv (some (.ref r))) 0 0 nof := en_C (by decide +kernel) rfl (Nat.le_of_ble_eq_true rfl) (fun p e s m below meth c ls C hK hT hl => bJ9_get C hK hT x0 x1 ls h hl)
set_option maxRecDepth 20000 in
abbrev rmJ5_intValue : Room := { frames := 0, cells := 0, slots := 0, locals := 0 }
theorem hdJ5_intValue : yJ5_intValue.cls = RJ5 ∧ yJ5_intValue.cls ≠ "java/lang/invoke/MethodHandle" ∧ yJ5_intValue.cls ≠ "java/lang/invoke/VarHandle" ∧ (parseMethodDescriptor yJ5_intValue.desc).map (fun d => d.parameters.length) = some 0 := by decide +kernel
theorem bJ5_intValue {p : Program} {l : Launch} {e : Env} {s : State} {m : MethodId} {args : Array Value} {below : List Frame} {meth : Method} {c : Code} {D : va_G} {dA : Nat → ClassId} {a : Nat} {k : KP a} {t : CS} {r : Int32} (C : cx p s m args meth c cJ5_intValue RJ5 1 (some .int)) (hK : kC D dA a k t.2.2.2 s) (hT : cW D dA a k t s.heap) : ∀ (x0 : Nat) (ls : Array Slot), J_J5_intValue t x0 = some r → lv_has ls 1 [(0, .ref x0)] → W p l e rmJ5_intValue s m args below meth c s.heap [] 0 0 (MQ below (rQi r) args s 0 0 nof) (F0 m 0 ls []) := by
  obtain ⟨hx, hb, hr, hml, hown, hts, hlocks⟩ := id C
  intro x0 ls h hl
  unfold J_J5_intValue at h
  refine lv_aload_n hx hb dJ5_intValue_0 rfl (lv_at hl 0 rfl) ?_
  obtain ⟨v1, hv1, h⟩ := bd1_some h
  refine d_get (ci := 16) in_J5 rfl C hK hT 0 (by decide) q864 rfl (gI_some hv1) dJ5_intValue_1 ?_
  exact e_ri C h dJ5_intValue_4
theorem mJ5_intValue {l : Launch} {D : va_G} {dA : Nat → ClassId} {a : Nat} {k : KP a} {t : CS} {x0 : Nat} {r : Int32} (h : J_J5_intValue t x0 = some r) : Met l yJ5_intValue (ws_ yJ5_intValue cJ5_intValue 1 (some .int)) rmJ5_intValue (cPc D dA a k t [.ref x0]) (rQi r) 0 0 nof := en_C (by decide +kernel) rfl (Nat.le_of_ble_eq_true rfl) (fun p e s m below meth c ls C hK hT hl => bJ5_intValue C hK hT x0 ls h hl)
set_option maxRecDepth 20000 in
abbrev rmX8_of_106 (N : Nat) : Room := { frames := 20 + 1 * N, cells := 0, slots := 0, locals := 400 + 40 * N }
theorem hdX8_of_106 : yX8_of.cls = RX8 ∧ yX8_of.cls ≠ "java/lang/invoke/MethodHandle" ∧ yX8_of.cls ≠ "java/lang/invoke/VarHandle" ∧ (parseMethodDescriptor yX8_of.desc).map (fun d => d.parameters.length) = some 1 := by decide +kernel
theorem bX8_of_106_p120 {p : Program} {l : Launch} {e : Env} {s : State} {m : MethodId} {args : Array Value} {below : List Frame} {meth : Method} {c : Code} {D : va_G} {dA : Nat → ClassId} {a : Nat} {k : KP a} {t : CS} {r : Int64} (C : cx p s m args meth c cX8_of RX8 10 (some .long)) (hK : kC D dA a k t.2.2.2 s) (hT : cW D dA a k t s.heap) {N : Nat} {rec : CS → Nat → Option Int64} (hrec : ∀ (t : CS) (r : Nat) (v : Int64), rec t r = some v → ifM l D dA a k xOf .long (20 + 1 * N) (400 + 40 * N) t r (rQl v)) {k14 : Nat → Int64 → Int32 → Option Int64} (hk14 : ∀ (x0 : Nat) (x2 : Int64) (x4 : Int32) (ls : Array Slot), k14 x0 x2 x4 = some r → lv_has ls 10 [(0, .ref x0), (1, .ref (a + 106)), (2, .long x2), (4, .int x4)] → W p l e (rmX8_of_106 N) s m args below meth c s.heap [] 0 0 (MQ below (rQl r) args s 0 0 nof) (F0 m 14 ls [])) : ∀ (x0 : Nat) (x4 : Int32) (y0 : Int64) (ls : Array Slot), C_X8_of_106_p120 rec k14 t x0 x4 y0 = some r → lv_has ls 10 [(0, .ref x0), (1, .ref (a + 106)), (4, .int x4)] → W p l e (rmX8_of_106 N) s m args below meth c s.heap [] 0 0 (MQ below (rQl r) args s 0 0 nof) (F0 m 120 ls [.long y0]) := by
  obtain ⟨hx, hb, hr, hml, hown, hts, hlocks⟩ := id C
  intro x0 x4 y0 ls h hl
  unfold C_X8_of_106_p120 at h
  refine lv_lstore (lv' := [(8, .long y0), (0, .ref x0), (1, .ref (a + 106)), (4, .int x4)]) hx hb dX8_of_120 hl (by decide) rfl (fun ls hl => ?_)
  refine lv_ldc2 hx hb hown (hts _ q1163) dX8_of_122 ?_
  refine lv_ldc2 hx hb hown (hts _ q1164) dX8_of_125 ?_
  refine lv_lload hx hb dX8_of_128 (lv_at hl 0 rfl) ?_
  refine va_mmin_long hx hb (hml.trans hl.1.symm) hown (hts _ q1165) (hts _ q1166) (hts _ q180) (hts _ q1167) (by show 1 ≤ 20 + 1 * N; omega) (by show 2 + 15 ≤ 400 + 40 * N; omega) (Nat.zero_le _) (Nat.zero_le _) dX8_of_130 ?_
  refine va_mmax_long hx hb (hml.trans hl.1.symm) hown (hts _ q1168) (hts _ q1169) (hts _ q180) (hts _ q1170) (by show 1 ≤ 20 + 1 * N; omega) (by show 0 + 15 ≤ 400 + 40 * N; omega) (Nat.zero_le _) (Nat.zero_le _) dX8_of_133 ?_
  refine lv_topl (fun v1 ev1 => ?_)
  replace h := lt1_sub ev1 h
  refine lv_lstore_n (lv' := [(2, .long v1), (8, .long y0), (0, .ref x0), (1, .ref (a + 106)), (4, .int x4)]) hx hb dX8_of_136 rfl hl (by decide) rfl (fun ls hl => ?_)
  obtain ⟨v2, ev2⟩ : ∃ y : Int32, y = x4 + (1 : Int32) := ⟨_, rfl⟩
  replace h := lt1_sub ev2 h
  refine lv_iinc (v := v2) (lv' := [(4, .int v2), (2, .long v1), (8, .long y0), (0, .ref x0), (1, .ref (a + 106))]) hx hb dX8_of_137 hl (k := 4) rfl (by rw [ev2]; rfl) (by decide) rfl (fun ls hl => ?_)
  refine lv_goto (tgt := 14) hx hb dX8_of_140 (by decide) ?_
  exact hk14 x0 v1 v2 ls h (lv_sub hl [3, 4, 1, 0] rfl)
theorem bX8_of_106_p14 {p : Program} {l : Launch} {e : Env} {s : State} {m : MethodId} {args : Array Value} {below : List Frame} {meth : Method} {c : Code} {D : va_G} {dA : Nat → ClassId} {a : Nat} {k : KP a} {t : CS} {r : Int64} (C : cx p s m args meth c cX8_of RX8 10 (some .long)) (hK : kC D dA a k t.2.2.2 s) (hT : cW D dA a k t s.heap) {N : Nat} {rec : CS → Nat → Option Int64} (hrec : ∀ (t : CS) (r : Nat) (v : Int64), rec t r = some v → ifM l D dA a k xOf .long (20 + 1 * N) (400 + 40 * N) t r (rQl v)) : ∀ (n : Nat), ∀ (x0 : Nat) (x2 : Int64) (x4 : Int32) (ls : Array Slot), C_X8_of_106_p14 rec t n x0 x2 x4 = some r → lv_has ls 10 [(0, .ref x0), (1, .ref (a + 106)), (2, .long x2), (4, .int x4)] → W p l e (rmX8_of_106 N) s m args below meth c s.heap [] 0 0 (MQ below (rQl r) args s 0 0 nof) (F0 m 14 ls []) := by
  obtain ⟨hx, hb, hr, hml, hown, hts, hlocks⟩ := id C
  intro n
  induction n with
  | zero =>
    intro x0 x2 x4 ls h hl
    have h : none = some _ := h
    cases h
  | succ n ih =>
    intro x0 x2 x4 ls h hl
    rw [C_X8_of_106_p14] at h
    refine lv_iload hx hb dX8_of_14 (lv_at hl 3 rfl) ?_
    refine lv_aload_n hx hb dX8_of_16 rfl (lv_at hl 0 rfl) ?_
    obtain ⟨v1, hv1, h⟩ := bd1_some h
    refine d_get (ci := 8) in_X8 rfl C hK hT 1 (by decide) q835 rfl (gR_some hv1) dX8_of_17 ?_
    obtain ⟨hc2, h⟩ := ckC_some h
    obtain ⟨v3, hv3, h⟩ := bd1_some h
    refine r_int (run_c (As := []) (rest := [.int x4]) C hK hT (fun _ _ => rfl) (rv_D (ci := 15) rfl hK hT hc2) (mJ9_size hv3) q1155 q955 q956 q175 q957 ⟨rfl, rfl⟩ hdJ9_size ⟨show 0 + 1 ≤ 20 + 1 * N from by omega, show 8 + (1 + 11) + (0) ≤ 400 + 40 * N from by omega⟩ ⟨Nat.zero_le _, Nat.zero_le _⟩ rfl hl.1 rfl (Nat.le_of_ble_eq_true rfl) dX8_of_20) ?_
    refine lv_icmp_ge (tgt := 143) hx hb dX8_of_23 (by decide) (fun c => ?_) (fun c => ?_)
    · replace h := if_t c h
      refine lv_lload_n hx hb dX8_of_143 rfl (lv_at hl 2 rfl) ?_
      exact e_rl C h dX8_of_144
    · replace h := if_f c h
      refine lv_aload_n hx hb dX8_of_26 rfl (lv_at hl 0 rfl) ?_
      obtain ⟨v4, hv4, h⟩ := bd1_some h
      refine d_get (ci := 8) in_X8 rfl C hK hT 1 (by decide) q835 rfl (gR_some hv4) dX8_of_27 ?_
      refine lv_iload hx hb dX8_of_30 (lv_at hl 3 rfl) ?_
      obtain ⟨hc5, h⟩ := ckC_some h
      obtain ⟨v6, hv6, h⟩ := bd1_some h
      refine r_ref1 (run_c (As := [.int x4]) (rest := []) C hK hT (fun _ _ => rfl) (rv_D (ci := 15) rfl hK hT hc5) (mJ9_get hv6) q1156 q959 q960 q175 q961 ⟨rfl, rfl⟩ hdJ9_get ⟨show 2 + 1 ≤ 20 + 1 * N from by omega, show 8 + (2 + 11) + (43) ≤ 400 + 40 * N from by omega⟩ ⟨Nat.zero_le _, Nat.zero_le _⟩ rfl hl.1 rfl (Nat.le_of_ble_eq_true rfl) dX8_of_32) ?_
      obtain ⟨hc7, h⟩ := ckS_some h
      refine c_castSum C hK hT hc7 q1157 dX8_of_35 ?_
      refine lv_aload_n hx hb dX8_of_38 rfl (lv_at hl 1 rfl) ?_
      obtain ⟨v8, hv8, h⟩ := bd1_some h
      refine r_long5 (run_if (rest := []) C hK hT (fun _ _ => rfl) (hrec _ _ _ hv8) ⟨Nat.le_refl _, Nat.le_refl _⟩ q1134 hdxOf ⟨Nat.zero_le _, Nat.zero_le _⟩ hl.1 rfl (Nat.le_of_ble_eq_true rfl) dX8_of_39) ?_
      refine lv_lstore (lv' := [(5, .long v8), (0, .ref x0), (1, .ref (a + 106)), (2, .long x2), (4, .int x4)]) hx hb dX8_of_44 hl (by decide) rfl (fun ls hl => ?_)
      refine lv_aload_n hx hb dX8_of_46 rfl (lv_at hl 1 rfl) ?_
      obtain ⟨v9, hv9, h⟩ := bd1_some h
      refine d_get (ci := 8) in_X8 rfl C hK hT 2 (by decide) q836 rfl (gR_some hv9) dX8_of_47 ?_
      refine lv_iload hx hb dX8_of_50 (lv_at hl 4 rfl) ?_
      obtain ⟨hc10, h⟩ := ckC_some h
      obtain ⟨v11, hv11, h⟩ := bd1_some h
      refine r_ref1 (run_c (As := [.int x4]) (rest := []) C hK hT (fun _ _ => rfl) (rv_D (ci := 15) rfl hK hT hc10) (mJ9_get hv11) q1156 q959 q960 q175 q961 ⟨rfl, rfl⟩ hdJ9_get ⟨show 2 + 1 ≤ 20 + 1 * N from by omega, show 8 + (2 + 11) + (43) ≤ 400 + 40 * N from by omega⟩ ⟨Nat.zero_le _, Nat.zero_le _⟩ rfl hl.1 rfl (Nat.le_of_ble_eq_true rfl) dX8_of_52) ?_
      obtain ⟨hc12, h⟩ := ckC_some h
      refine c_castS (ci := 16) rfl C hK hT hc12 q1158 dX8_of_55 ?_
      obtain ⟨hc13, h⟩ := ckC_some h
      obtain ⟨v14, hv14, h⟩ := bd1_some h
      refine r_int (run_c (As := []) (rest := []) C hK hT (fun _ _ => rfl) (rv_D (ci := 16) rfl hK hT hc13) (mJ5_intValue hv14) q1159 q1160 q1161 q168 q1162 ⟨rfl, rfl⟩ hdJ5_intValue ⟨show 0 + 1 ≤ 20 + 1 * N from by omega, show 8 + (1 + 11) + (0) ≤ 400 + 40 * N from by omega⟩ ⟨Nat.zero_le _, Nat.zero_le _⟩ rfl hl.1 rfl (Nat.le_of_ble_eq_true rfl) dX8_of_58) ?_
      refine lv_istore (lv' := [(7, .int v14), (5, .long v8), (0, .ref x0), (1, .ref (a + 106)), (2, .long x2), (4, .int x4)]) hx hb dX8_of_61 hl (by decide) rfl (fun ls hl => ?_)
      refine lv_iload hx hb dX8_of_63 (lv_at hl 0 rfl) ?_
      refine lv_bipush (v := 43) hx hb dX8_of_65 (by decide) ?_
      refine lv_icmp_ne (tgt := 77) hx hb dX8_of_67 (by decide) (fun c => ?_) (fun c => ?_)
      · replace h := if_f c h
        refine lv_iload hx hb dX8_of_77 (lv_at hl 0 rfl) ?_
        refine lv_bipush (v := 45) hx hb dX8_of_79 (by decide) ?_
        refine lv_icmp_ne (tgt := 91) hx hb dX8_of_81 (by decide) (fun c => ?_) (fun c => ?_)
        · replace h := if_f c h
          refine lv_iload hx hb dX8_of_91 (lv_at hl 0 rfl) ?_
          refine lv_bipush (v := 42) hx hb dX8_of_93 (by decide) ?_
          refine lv_icmp_ne (tgt := 105) hx hb dX8_of_95 (by decide) (fun c => ?_) (fun c => ?_)
          · replace h := if_f c h
            refine lv_lload hx hb dX8_of_105 (lv_at hl 1 rfl) ?_
            refine lv_lconst (v := 0) hx hb dX8_of_107 (by decide) ?_
            refine W.lcmp hx hb dX8_of_108 ?_
            refine lv_if_ne (tgt := 116) hx hb dX8_of_109 (by decide) (fun c => ?_) (fun c => ?_)
            · replace h := if_f c h
              refine lv_lload_n hx hb dX8_of_116 rfl (lv_at hl 4 rfl) ?_
              refine lv_lload hx hb dX8_of_117 (lv_at hl 1 rfl) ?_
              obtain ⟨hn, h⟩ := nzl_some h
              refine lv_ldiv hx hb dX8_of_119 hn ?_
              exact bX8_of_106_p120 C hK hT hrec ih x0 x4 (x2 / v8) ls h (lv_sub hl [2, 3, 5] rfl)
            · replace h := if_t c h
              refine lv_lconst (v := 0) hx hb dX8_of_112 (by decide) ?_
              refine lv_goto (tgt := 120) hx hb dX8_of_113 (by decide) ?_
              exact bX8_of_106_p120 C hK hT hrec ih x0 x4 (0 : Int64) ls h (lv_sub hl [2, 3, 5] rfl)
          · replace h := if_t c h
            refine lv_lload_n hx hb dX8_of_98 rfl (lv_at hl 4 rfl) ?_
            refine lv_lload hx hb dX8_of_99 (lv_at hl 1 rfl) ?_
            refine lv_lmul hx hb dX8_of_101 ?_
            refine lv_goto (tgt := 120) hx hb dX8_of_102 (by decide) ?_
            exact bX8_of_106_p120 C hK hT hrec ih x0 x4 (x2 * v8) ls h (lv_sub hl [2, 3, 5] rfl)
        · replace h := if_t c h
          refine lv_lload_n hx hb dX8_of_84 rfl (lv_at hl 4 rfl) ?_
          refine lv_lload hx hb dX8_of_85 (lv_at hl 1 rfl) ?_
          refine lv_lsub hx hb dX8_of_87 ?_
          refine lv_goto (tgt := 120) hx hb dX8_of_88 (by decide) ?_
          exact bX8_of_106_p120 C hK hT hrec ih x0 x4 (x2 - v8) ls h (lv_sub hl [2, 3, 5] rfl)
      · replace h := if_t c h
        refine lv_lload_n hx hb dX8_of_70 rfl (lv_at hl 4 rfl) ?_
        refine lv_lload hx hb dX8_of_71 (lv_at hl 1 rfl) ?_
        refine lv_ladd hx hb dX8_of_73 ?_
        refine lv_goto (tgt := 120) hx hb dX8_of_74 (by decide) ?_
        exact bX8_of_106_p120 C hK hT hrec ih x0 x4 (x2 + v8) ls h (lv_sub hl [2, 3, 5] rfl)
theorem bX8_of_106 {p : Program} {l : Launch} {e : Env} {s : State} {m : MethodId} {args : Array Value} {below : List Frame} {meth : Method} {c : Code} {D : va_G} {dA : Nat → ClassId} {a : Nat} {k : KP a} {t : CS} {r : Int64} (C : cx p s m args meth c cX8_of RX8 10 (some .long)) (hK : kC D dA a k t.2.2.2 s) (hT : cW D dA a k t s.heap) {N : Nat} {rec : CS → Nat → Option Int64} (hrec : ∀ (t : CS) (r : Nat) (v : Int64), rec t r = some v → ifM l D dA a k xOf .long (20 + 1 * N) (400 + 40 * N) t r (rQl v)) : ∀ (x0 : Nat) (ls : Array Slot), C_X8_of_106 rec t x0 = some r → lv_has ls 10 [(0, .ref x0), (1, .ref (a + 106))] → W p l e (rmX8_of_106 N) s m args below meth c s.heap [] 0 0 (MQ below (rQl r) args s 0 0 nof) (F0 m 0 ls []) := by
  obtain ⟨hx, hb, hr, hml, hown, hts, hlocks⟩ := id C
  intro x0 ls h hl
  unfold C_X8_of_106 at h
  refine lv_aload_n hx hb dX8_of_0 rfl (lv_at hl 0 rfl) ?_
  obtain ⟨v1, hv1, h⟩ := bd1_some h
  refine d_get (ci := 8) in_X8 rfl C hK hT 0 (by decide) q834 rfl (gR_some hv1) dX8_of_1 ?_
  refine lv_aload_n hx hb dX8_of_4 rfl (lv_at hl 1 rfl) ?_
  obtain ⟨v2, hv2, h⟩ := bd1_some h
  refine r_long5 (run_if (rest := []) C hK hT (fun _ _ => rfl) (hrec _ _ _ hv2) ⟨Nat.le_refl _, Nat.le_refl _⟩ q1134 hdxOf ⟨Nat.zero_le _, Nat.zero_le _⟩ hl.1 rfl (Nat.le_of_ble_eq_true rfl) dX8_of_5) ?_
  refine lv_lstore_n (lv' := [(2, .long v2), (0, .ref x0), (1, .ref (a + 106))]) hx hb dX8_of_10 rfl hl (by decide) rfl (fun ls hl => ?_)
  refine lv_iconst (v := 0) hx hb dX8_of_11 (by decide) ?_
  refine lv_istore (lv' := [(4, .int (0 : Int32)), (2, .long v2), (0, .ref x0), (1, .ref (a + 106))]) hx hb dX8_of_12 hl (by decide) rfl (fun ls hl => ?_)
  exact bX8_of_106_p14 C hK hT hrec fu x0 v2 (0 : Int32) ls h (lv_sub hl [2, 3, 1, 0] rfl)
theorem mX8_of_106 {l : Launch} {D : va_G} {dA : Nat → ClassId} {a : Nat} {k : KP a} {x0 : Nat} {r : Int64} {N : Nat} {rec : CS → Nat → Option Int64} (hrec : ∀ (t : CS) (r : Nat) (v : Int64), rec t r = some v → ifM l D dA a k xOf .long (20 + 1 * N) (400 + 40 * N) t r (rQl v)) {t : CS} (h : C_X8_of_106 rec t x0 = some r) : Met l yX8_of (ws_ yX8_of cX8_of 10 (some .long)) (rmX8_of_106 N) (cPc D dA a k t [.ref x0, .ref (a + 106)]) (rQl r) 0 0 nof := en_C (by decide +kernel) rfl (Nat.le_of_ble_eq_true rfl) (fun p e s m below meth c ls C hK hT hl => bX8_of_106 C hK hT hrec x0 ls h hl)
set_option maxRecDepth 20000 in
abbrev rmX9_of_106 : Room := { frames := 0, cells := 0, slots := 0, locals := 0 }
theorem hdX9_of_106 : yX9_of.cls = RX9 ∧ yX9_of.cls ≠ "java/lang/invoke/MethodHandle" ∧ yX9_of.cls ≠ "java/lang/invoke/VarHandle" ∧ (parseMethodDescriptor yX9_of.desc).map (fun d => d.parameters.length) = some 1 := by decide +kernel
theorem bX9_of_106 {p : Program} {l : Launch} {e : Env} {s : State} {m : MethodId} {args : Array Value} {below : List Frame} {meth : Method} {c : Code} {D : va_G} {dA : Nat → ClassId} {a : Nat} {k : KP a} {t : CS} {r : Int64} (C : cx p s m args meth c cX9_of RX9 2 (some .long)) (hK : kC D dA a k t.2.2.2 s) (hT : cW D dA a k t s.heap) : ∀ (x0 : Nat) (ls : Array Slot), C_X9_of_106 t x0 = some r → lv_has ls 2 [(0, .ref x0), (1, .ref (a + 106))] → W p l e rmX9_of_106 s m args below meth c s.heap [] 0 0 (MQ below (rQl r) args s 0 0 nof) (F0 m 0 ls []) := by
  obtain ⟨hx, hb, hr, hml, hown, hts, hlocks⟩ := id C
  intro x0 ls h hl
  unfold C_X9_of_106 at h
  refine lv_aload_n hx hb dX9_of_0 rfl (lv_at hl 0 rfl) ?_
  obtain ⟨v1, hv1, h⟩ := bd1_some h
  refine d_get (ci := 9) in_X9 rfl C hK hT 0 (by decide) q796 rfl (gI_some hv1) dX9_of_1 ?_
  refine lv_i2l hx hb dX9_of_4 rfl ?_
  exact e_rl C h dX9_of_5
theorem mX9_of_106 {l : Launch} {D : va_G} {dA : Nat → ClassId} {a : Nat} {k : KP a} {t : CS} {x0 : Nat} {r : Int64} (h : C_X9_of_106 t x0 = some r) : Met l yX9_of (ws_ yX9_of cX9_of 2 (some .long)) rmX9_of_106 (cPc D dA a k t [.ref x0, .ref (a + 106)]) (rQl r) 0 0 nof := en_C (by decide +kernel) rfl (Nat.le_of_ble_eq_true rfl) (fun p e s m below meth c ls C hK hT hl => bX9_of_106 C hK hT x0 ls h hl)
set_option maxRecDepth 20000 in
abbrev rmX10_of_106 : Room := { frames := 0, cells := 0, slots := 0, locals := 0 }
theorem hdX10_of_106 : yX10_of.cls = RX10 ∧ yX10_of.cls ≠ "java/lang/invoke/MethodHandle" ∧ yX10_of.cls ≠ "java/lang/invoke/VarHandle" ∧ (parseMethodDescriptor yX10_of.desc).map (fun d => d.parameters.length) = some 1 := by decide +kernel
theorem bX10_of_106 {p : Program} {l : Launch} {e : Env} {s : State} {m : MethodId} {args : Array Value} {below : List Frame} {meth : Method} {c : Code} {D : va_G} {dA : Nat → ClassId} {a : Nat} {k : KP a} {t : CS} {r : Int64} (C : cx p s m args meth c cX10_of RX10 2 (some .long)) (hK : kC D dA a k t.2.2.2 s) (hT : cW D dA a k t s.heap) : ∀ (x0 : Nat) (ls : Array Slot), C_X10_of_106 t x0 = some r → lv_has ls 2 [(0, .ref x0), (1, .ref (a + 106))] → W p l e rmX10_of_106 s m args below meth c s.heap [] 0 0 (MQ below (rQl r) args s 0 0 nof) (F0 m 0 ls []) := by
  obtain ⟨hx, hb, hr, hml, hown, hts, hlocks⟩ := id C
  intro x0 ls h hl
  unfold C_X10_of_106 at h
  refine lv_aload_n hx hb dX10_of_0 rfl (lv_at hl 1 rfl) ?_
  refine lv_aload_n hx hb dX10_of_1 rfl (lv_at hl 0 rfl) ?_
  obtain ⟨v1, hv1, h⟩ := bd1_some h
  refine d_get (ci := 10) in_X10 rfl C hK hT 0 (by decide) q810 rfl (gI_some hv1) dX10_of_2 ?_
  obtain ⟨hi2, h⟩ := ck_some h
  refine c_ild C hK hT 106 14 (by decide) (fun _ _ => rfl) hi2 dX10_of_5 ?_
  refine lv_i2l hx hb dX10_of_6 rfl ?_
  exact e_rl C h dX10_of_7
theorem mX10_of_106 {l : Launch} {D : va_G} {dA : Nat → ClassId} {a : Nat} {k : KP a} {t : CS} {x0 : Nat} {r : Int64} (h : C_X10_of_106 t x0 = some r) : Met l yX10_of (ws_ yX10_of cX10_of 2 (some .long)) rmX10_of_106 (cPc D dA a k t [.ref x0, .ref (a + 106)]) (rQl r) 0 0 nof := en_C (by decide +kernel) rfl (Nat.le_of_ble_eq_true rfl) (fun p e s m below meth c ls C hK hT hl => bX10_of_106 C hK hT x0 ls h hl)
set_option maxRecDepth 20000 in
abbrev rmX11_of_106 (N : Nat) : Room := { frames := 20 + 1 * N, cells := 0, slots := 0, locals := 400 + 40 * N }
theorem hdX11_of_106 : yX11_of.cls = RX11 ∧ yX11_of.cls ≠ "java/lang/invoke/MethodHandle" ∧ yX11_of.cls ≠ "java/lang/invoke/VarHandle" ∧ (parseMethodDescriptor yX11_of.desc).map (fun d => d.parameters.length) = some 1 := by decide +kernel
theorem bX11_of_106 {p : Program} {l : Launch} {e : Env} {s : State} {m : MethodId} {args : Array Value} {below : List Frame} {meth : Method} {c : Code} {D : va_G} {dA : Nat → ClassId} {a : Nat} {k : KP a} {t : CS} {r : Int64} (C : cx p s m args meth c cX11_of RX11 2 (some .long)) (hK : kC D dA a k t.2.2.2 s) (hT : cW D dA a k t s.heap) {N : Nat} {rec : CS → Nat → Option Int64} (hrec : ∀ (t : CS) (r : Nat) (v : Int64), rec t r = some v → ifM l D dA a k xOf .long (20 + 1 * N) (400 + 40 * N) t r (rQl v)) : ∀ (x0 : Nat) (ls : Array Slot), C_X11_of_106 rec t x0 = some r → lv_has ls 2 [(0, .ref x0), (1, .ref (a + 106))] → W p l e (rmX11_of_106 N) s m args below meth c s.heap [] 0 0 (MQ below (rQl r) args s 0 0 nof) (F0 m 0 ls []) := by
  obtain ⟨hx, hb, hr, hml, hown, hts, hlocks⟩ := id C
  intro x0 ls h hl
  unfold C_X11_of_106 at h
  refine lv_aload_n hx hb dX11_of_0 rfl (lv_at hl 0 rfl) ?_
  obtain ⟨v1, hv1, h⟩ := bd1_some h
  refine d_get (ci := 11) in_X11 rfl C hK hT 0 (by decide) q824 rfl (gR_some hv1) dX11_of_1 ?_
  refine lv_aload_n hx hb dX11_of_4 rfl (lv_at hl 1 rfl) ?_
  obtain ⟨v2, hv2, h⟩ := bd1_some h
  refine r_long5 (run_if (rest := []) C hK hT (fun _ _ => rfl) (hrec _ _ _ hv2) ⟨Nat.le_refl _, Nat.le_refl _⟩ q1142 hdxOf ⟨Nat.zero_le _, Nat.zero_le _⟩ hl.1 rfl (Nat.le_of_ble_eq_true rfl) dX11_of_5) ?_
  refine lv_lneg hx hb dX11_of_10 ?_
  exact e_rl C h dX11_of_11
theorem mX11_of_106 {l : Launch} {D : va_G} {dA : Nat → ClassId} {a : Nat} {k : KP a} {x0 : Nat} {r : Int64} {N : Nat} {rec : CS → Nat → Option Int64} (hrec : ∀ (t : CS) (r : Nat) (v : Int64), rec t r = some v → ifM l D dA a k xOf .long (20 + 1 * N) (400 + 40 * N) t r (rQl v)) {t : CS} (h : C_X11_of_106 rec t x0 = some r) : Met l yX11_of (ws_ yX11_of cX11_of 2 (some .long)) (rmX11_of_106 N) (cPc D dA a k t [.ref x0, .ref (a + 106)]) (rQl r) 0 0 nof := en_C (by decide +kernel) rfl (Nat.le_of_ble_eq_true rfl) (fun p e s m below meth c ls C hK hT hl => bX11_of_106 C hK hT hrec x0 ls h hl)
set_option maxRecDepth 20000 in
theorem mE_of {l : Launch} {D : va_G} {dA : Nat → ClassId} {a : Nat} {k : KP a} : ∀ (n : Nat) (t : CS) (r : Nat) (v : Int64), E_of n t r = some v → ifM l D dA a k xOf .long (20 + 1 * n) (400 + 40 * n) t r (rQl v) := by
  intro n
  induction n with
  | zero =>
    intro t r v h
    have h : none = some _ := h
    cases h
  | succ n ih =>
    intro t r v h
    rw [E_of] at h
    split at h
    · rename_i hc
      exact ⟨8, RX8, TX8, 3, yX8_of, cX8_of, 10, rmX8_of_106 n, rfl, hc, mX8_of_106 ih h, q1128, q1130, q185, q1132, List.mem_of_getElem? (i := 2) rfl, rfl, rfl, (show 20 + 1 * n + 1 ≤ 20 + 1 * (n + 1) from by omega), (show 8 + (10 + 11) + (400 + 40 * n) ≤ 400 + 40 * (n + 1) from by omega)⟩
    · rename_i hc
      exact ⟨9, RX9, TX9, 1, yX9_of, cX9_of, 2, rmX9_of_106, rfl, hc, mX9_of_106 h, q1150, q1152, q186, q1154, List.mem_of_getElem? (i := 5) rfl, rfl, rfl, (show 0 + 1 ≤ 20 + 1 * (n + 1) from by omega), (show 8 + (2 + 11) + (0) ≤ 400 + 40 * (n + 1) from by omega)⟩
    · rename_i hc
      exact ⟨10, RX10, TX10, 1, yX10_of, cX10_of, 2, rmX10_of_106, rfl, hc, mX10_of_106 h, q1144, q1146, q187, q1148, List.mem_of_getElem? (i := 4) rfl, rfl, rfl, (show 0 + 1 ≤ 20 + 1 * (n + 1) from by omega), (show 8 + (2 + 11) + (0) ≤ 400 + 40 * (n + 1) from by omega)⟩
    · rename_i hc
      exact ⟨11, RX11, TX11, 1, yX11_of, cX11_of, 2, rmX11_of_106 n, rfl, hc, mX11_of_106 ih h, q1136, q1138, q188, q1140, List.mem_of_getElem? (i := 3) rfl, rfl, rfl, (show 20 + 1 * n + 1 ≤ 20 + 1 * (n + 1) from by omega), (show 8 + (2 + 11) + (400 + 40 * n) ≤ 400 + 40 * (n + 1) from by omega)⟩
    · cases h
set_option maxRecDepth 20000 in
abbrev rmX12_is_106 : Room := { frames := 84, cells := 0, slots := 0, locals := 2960 }
theorem hdX12_is_106 : yX12_is.cls = RX12 ∧ yX12_is.cls ≠ "java/lang/invoke/MethodHandle" ∧ yX12_is.cls ≠ "java/lang/invoke/VarHandle" ∧ (parseMethodDescriptor yX12_is.desc).map (fun d => d.parameters.length) = some 1 := by decide +kernel
theorem bX12_is_106 {p : Program} {l : Launch} {e : Env} {s : State} {m : MethodId} {args : Array Value} {below : List Frame} {meth : Method} {c : Code} {D : va_G} {dA : Nat → ClassId} {a : Nat} {k : KP a} {t : CS} {r : Int32} (C : cx p s m args meth c cX12_is RX12 4 (some .boolean)) (hK : kC D dA a k t.2.2.2 s) (hT : cW D dA a k t s.heap) : ∀ (x0 : Nat) (ls : Array Slot), C_X12_is_106 t x0 = some r → lv_has ls 4 [(0, .ref x0), (1, .ref (a + 106))] → W p l e rmX12_is_106 s m args below meth c s.heap [] 0 0 (MQ below (rQi r) args s 0 0 nof) (F0 m 0 ls []) := by
  obtain ⟨hx, hb, hr, hml, hown, hts, hlocks⟩ := id C
  intro x0 ls h hl
  unfold C_X12_is_106 at h
  refine lv_aload_n hx hb dX12_is_0 rfl (lv_at hl 0 rfl) ?_
  obtain ⟨v1, hv1, h⟩ := bd1_some h
  refine d_get (ci := 12) in_X12 rfl C hK hT 1 (by decide) q944 rfl (gR_some hv1) dX12_is_1 ?_
  refine lv_aload_n hx hb dX12_is_4 rfl (lv_at hl 1 rfl) ?_
  obtain ⟨v2, hv2, h⟩ := bd1_some h
  refine r_long5 (run_if (rest := []) C hK hT (fun _ _ => rfl) (mE_of 64 _ _ _ hv2) ⟨Nat.le_of_ble_eq_true rfl, Nat.le_of_ble_eq_true rfl⟩ q1124 hdxOf ⟨Nat.zero_le _, Nat.zero_le _⟩ hl.1 rfl (Nat.le_of_ble_eq_true rfl) dX12_is_5) ?_
  refine lv_aload_n hx hb dX12_is_10 rfl (lv_at hl 0 rfl) ?_
  obtain ⟨v3, hv3, h⟩ := bd1_some h
  refine d_get (ci := 12) in_X12 rfl C hK hT 2 (by decide) q945 rfl (gR_some hv3) dX12_is_11 ?_
  refine lv_aload_n hx hb dX12_is_14 rfl (lv_at hl 1 rfl) ?_
  obtain ⟨v4, hv4, h⟩ := bd1_some h
  refine r_long5 (run_if (rest := [.long v2]) C hK hT (fun _ _ => rfl) (mE_of 64 _ _ _ hv4) ⟨Nat.le_of_ble_eq_true rfl, Nat.le_of_ble_eq_true rfl⟩ q1124 hdxOf ⟨Nat.zero_le _, Nat.zero_le _⟩ hl.1 rfl (Nat.le_of_ble_eq_true rfl) dX12_is_15) ?_
  refine lv_lsub hx hb dX12_is_20 ?_
  refine lv_topl (fun v5 ev5 => ?_)
  replace h := lt1_sub ev5 h
  refine lv_lstore_n (lv' := [(2, .long v5), (0, .ref x0), (1, .ref (a + 106))]) hx hb dX12_is_21 rfl hl (by decide) rfl (fun ls hl => ?_)
  refine lv_aload_n hx hb dX12_is_22 rfl (lv_at hl 1 rfl) ?_
  obtain ⟨v6, hv6, h⟩ := bd1_some h
  refine d_get (ci := 12) in_X12 rfl C hK hT 0 (by decide) q943 rfl (gI_some hv6) dX12_is_23 ?_
  by_cases c : v6 = (35 : Int32)
  · replace h := if_t c h
    rw [c]
    refine lv_lookup (off := 86) (tgt := 112) hx hb dX12_is_26 (by decide) (by decide) (by decide) ?_
    refine lv_lload_n hx hb dX12_is_112 rfl (lv_at hl 0 rfl) ?_
    refine lv_lconst (v := 0) hx hb dX12_is_113 (by decide) ?_
    refine W.lcmp hx hb dX12_is_114 ?_
    refine lv_if_eq (tgt := 122) hx hb dX12_is_115 (by decide) (fun c => ?_) (fun c => ?_)
    · replace h := if_t c h
      refine lv_iconst (v := 0) hx hb dX12_is_122 (by decide) ?_
      exact e_rz C (Or.inl rfl) h dX12_is_123
    · replace h := if_f c h
      refine lv_iconst (v := 1) hx hb dX12_is_118 (by decide) ?_
      refine lv_goto (tgt := 123) hx hb dX12_is_119 (by decide) ?_
      exact e_rz C (Or.inr rfl) h dX12_is_123
  replace h := if_f c h
  have g0 := tI_ne (k := 35) (by decide) c
  by_cases c : v6 = (60 : Int32)
  · replace h := if_t c h
    rw [c]
    refine lv_lookup (off := 50) (tgt := 76) hx hb dX12_is_26 (by decide) (by decide) (by decide) ?_
    refine lv_lload_n hx hb dX12_is_76 rfl (lv_at hl 0 rfl) ?_
    refine lv_lconst (v := 0) hx hb dX12_is_77 (by decide) ?_
    refine W.lcmp hx hb dX12_is_78 ?_
    refine lv_if_ge (tgt := 86) hx hb dX12_is_79 (by decide) (fun c => ?_) (fun c => ?_)
    · replace h := if_t c h
      refine lv_iconst (v := 0) hx hb dX12_is_86 (by decide) ?_
      exact e_rz C (Or.inl rfl) h dX12_is_87
    · replace h := if_f c h
      refine lv_iconst (v := 1) hx hb dX12_is_82 (by decide) ?_
      refine lv_goto (tgt := 87) hx hb dX12_is_83 (by decide) ?_
      exact e_rz C (Or.inr rfl) h dX12_is_87
  replace h := if_f c h
  have g1 := tI_ne (k := 60) (by decide) c
  by_cases c : v6 = (61 : Int32)
  · replace h := if_t c h
    rw [c]
    refine lv_lookup (off := 74) (tgt := 100) hx hb dX12_is_26 (by decide) (by decide) (by decide) ?_
    refine lv_lload_n hx hb dX12_is_100 rfl (lv_at hl 0 rfl) ?_
    refine lv_lconst (v := 0) hx hb dX12_is_101 (by decide) ?_
    refine W.lcmp hx hb dX12_is_102 ?_
    refine lv_if_ne (tgt := 110) hx hb dX12_is_103 (by decide) (fun c => ?_) (fun c => ?_)
    · replace h := if_f c h
      refine lv_iconst (v := 0) hx hb dX12_is_110 (by decide) ?_
      exact e_rz C (Or.inl rfl) h dX12_is_111
    · replace h := if_t c h
      refine lv_iconst (v := 1) hx hb dX12_is_106 (by decide) ?_
      refine lv_goto (tgt := 111) hx hb dX12_is_107 (by decide) ?_
      exact e_rz C (Or.inr rfl) h dX12_is_111
  replace h := if_f c h
  have g2 := tI_ne (k := 61) (by decide) c
  by_cases c : v6 = (62 : Int32)
  · replace h := if_t c h
    rw [c]
    refine lv_lookup (off := 62) (tgt := 88) hx hb dX12_is_26 (by decide) (by decide) (by decide) ?_
    refine lv_lload_n hx hb dX12_is_88 rfl (lv_at hl 0 rfl) ?_
    refine lv_lconst (v := 0) hx hb dX12_is_89 (by decide) ?_
    refine W.lcmp hx hb dX12_is_90 ?_
    refine lv_if_le (tgt := 98) hx hb dX12_is_91 (by decide) (fun c => ?_) (fun c => ?_)
    · replace h := if_t c h
      refine lv_iconst (v := 0) hx hb dX12_is_98 (by decide) ?_
      exact e_rz C (Or.inl rfl) h dX12_is_99
    · replace h := if_f c h
      refine lv_iconst (v := 1) hx hb dX12_is_94 (by decide) ?_
      refine lv_goto (tgt := 99) hx hb dX12_is_95 (by decide) ?_
      exact e_rz C (Or.inr rfl) h dX12_is_99
  replace h := if_f c h
  have g3 := tI_ne (k := 62) (by decide) c
  by_cases c : v6 = (303 : Int32)
  · replace h := if_t c h
    rw [c]
    refine lv_lookup (off := 98) (tgt := 124) hx hb dX12_is_26 (by decide) (by decide) (by decide) ?_
    refine lv_lload_n hx hb dX12_is_124 rfl (lv_at hl 0 rfl) ?_
    refine lv_lconst (v := 0) hx hb dX12_is_125 (by decide) ?_
    refine W.lcmp hx hb dX12_is_126 ?_
    refine lv_if_gt (tgt := 134) hx hb dX12_is_127 (by decide) (fun c => ?_) (fun c => ?_)
    · replace h := if_t c h
      refine lv_iconst (v := 0) hx hb dX12_is_134 (by decide) ?_
      exact e_rz C (Or.inl rfl) h dX12_is_135
    · replace h := if_f c h
      refine lv_iconst (v := 1) hx hb dX12_is_130 (by decide) ?_
      refine lv_goto (tgt := 135) hx hb dX12_is_131 (by decide) ?_
      exact e_rz C (Or.inr rfl) h dX12_is_135
  replace h := if_f c h
  have g4 := tI_ne (k := 303) (by decide) c
  refine lv_lookup (off := 110) (tgt := 136) hx hb dX12_is_26 (by decide) (by simp [Op.lookupswitch.offset, g0, Ne.symm g0, g1, Ne.symm g1, g2, Ne.symm g2, g3, Ne.symm g3, g4, Ne.symm g4]) (by decide) ?_
  refine lv_lload_n hx hb dX12_is_136 rfl (lv_at hl 0 rfl) ?_
  refine lv_lconst (v := 0) hx hb dX12_is_137 (by decide) ?_
  refine W.lcmp hx hb dX12_is_138 ?_
  refine lv_if_lt (tgt := 146) hx hb dX12_is_139 (by decide) (fun c => ?_) (fun c => ?_)
  · replace h := if_t c h
    refine lv_iconst (v := 0) hx hb dX12_is_146 (by decide) ?_
    exact e_rz C (Or.inl rfl) h dX12_is_147
  · replace h := if_f c h
    refine lv_iconst (v := 1) hx hb dX12_is_142 (by decide) ?_
    refine lv_goto (tgt := 147) hx hb dX12_is_143 (by decide) ?_
    exact e_rz C (Or.inr rfl) h dX12_is_147
theorem mX12_is_106 {l : Launch} {D : va_G} {dA : Nat → ClassId} {a : Nat} {k : KP a} {t : CS} {x0 : Nat} {r : Int32} (h : C_X12_is_106 t x0 = some r) : Met l yX12_is (ws_ yX12_is cX12_is 4 (some .boolean)) rmX12_is_106 (cPc D dA a k t [.ref x0, .ref (a + 106)]) (rQi r) 0 0 nof := en_C (by decide +kernel) rfl (Nat.le_of_ble_eq_true rfl) (fun p e s m below meth c ls C hK hT hl => bX12_is_106 C hK hT x0 ls h hl)
