/-! the component's walks (texts), 0 (written by gen/gen_comp.py) -/
set_option maxRecDepth 20000
set_option maxRecDepth 20000 in
abbrev rmX4_mayName : Room := { frames := 0, cells := 0, slots := 0, locals := 0 }
theorem hdX4_mayName : yX4_mayName.cls = RX4 ∧ yX4_mayName.cls ≠ "java/lang/invoke/MethodHandle" ∧ yX4_mayName.cls ≠ "java/lang/invoke/VarHandle" ∧ (parseMethodDescriptor yX4_mayName.desc).map (fun d => d.parameters.length) = some 1 := by decide +kernel
theorem bX4_mayName_p33 {p : Program} {l : Launch} {e : Env} {s : State} {m : MethodId} {args : Array Value} {below : List Frame} {meth : Method} {c : Code} {D : va_G} {dA : Nat → ClassId} {a : Nat} {k : KP a} {t : CS} {r : Int32} (C : cx p s m args meth c cX4_mayName RX4 2 (some .boolean)) (hkl : k.1 ≠ a ∧ l.stackTraces = false) (hK : kC D dA a k t.2.2.2 s) (hT : cW D dA a k t s.heap) : ∀ (ls : Array Slot), C_X4_mayName_p33 t = some r → lv_has ls 2 [] → W p l e rmX4_mayName s m args below meth c s.heap [] 0 0 (MQ below (rQi r) args s 0 0 nof) (F0 m 33 ls []) := by
  obtain ⟨hx, hb, hr, hml, hown, hts, hlocks⟩ := id C
  intro ls h hl
  unfold C_X4_mayName_p33 at h
  refine lv_iconst (v := 1) hx hb dX4_mayName_33 (by decide) ?_
  refine lv_goto (tgt := 80) hx hb dX4_mayName_34 (by decide) ?_
  exact e_rz C (Or.inr rfl) h dX4_mayName_80
theorem bX4_mayName {p : Program} {l : Launch} {e : Env} {s : State} {m : MethodId} {args : Array Value} {below : List Frame} {meth : Method} {c : Code} {D : va_G} {dA : Nat → ClassId} {a : Nat} {k : KP a} {t : CS} {r : Int32} (C : cx p s m args meth c cX4_mayName RX4 2 (some .boolean)) (hkl : k.1 ≠ a ∧ l.stackTraces = false) (hK : kC D dA a k t.2.2.2 s) (hT : cW D dA a k t s.heap) : ∀ (x1 : Int32) (ls : Array Slot), C_X4_mayName t x1 = some r → lv_has ls 2 [(0, .ref k.1), (1, .int x1)] → W p l e rmX4_mayName s m args below meth c s.heap [] 0 0 (MQ below (rQi r) args s 0 0 nof) (F0 m 0 ls []) := by
  obtain ⟨hx, hb, hr, hml, hown, hts, hlocks⟩ := id C
  intro x1 ls h hl
  unfold C_X4_mayName at h
  refine lv_iload_n hx hb dX4_mayName_0 rfl (lv_at hl 1 rfl) ?_
  refine lv_iconst (v := 2) hx hb dX4_mayName_1 (by decide) ?_
  refine lv_icmp_ge (tgt := 7) hx hb dX4_mayName_2 (by decide) (fun c => ?_) (fun c => ?_)
  · replace h := if_t c h
    refine lv_iload_n hx hb dX4_mayName_7 rfl (lv_at hl 1 rfl) ?_
    refine lv_bipush (v := 8) hx hb dX4_mayName_8 (by decide) ?_
    refine lv_icmp_ge (tgt := 41) hx hb dX4_mayName_10 (by decide) (fun c => ?_) (fun c => ?_)
    · replace h := if_t c h
      refine lv_iload_n hx hb dX4_mayName_41 rfl (lv_at hl 1 rfl) ?_
      refine lv_bipush (v := 11) hx hb dX4_mayName_42 (by decide) ?_
      refine lv_icmp_ge (tgt := 65) hx hb dX4_mayName_44 (by decide) (fun c => ?_) (fun c => ?_)
      · replace h := if_t c h
        refine lv_aload_n hx hb dX4_mayName_65 rfl (lv_at hl 0 rfl) ?_
        refine c_getT C hK hT hkl.1 7 (by decide) q524 rfl (v := .int (t.1 200 7)) rfl dX4_mayName_66 ?_
        refine lv_sipush (v := 203) hx hb dX4_mayName_69 (by decide) ?_
        refine lv_icmp_ne (tgt := 79) hx hb dX4_mayName_72 (by decide) (fun c => ?_) (fun c => ?_)
        · replace h := if_f c h
          refine lv_iconst (v := 0) hx hb dX4_mayName_79 (by decide) ?_
          exact e_rz C (Or.inl rfl) h dX4_mayName_80
        · replace h := if_t c h
          refine lv_iconst (v := 1) hx hb dX4_mayName_75 (by decide) ?_
          refine lv_goto (tgt := 80) hx hb dX4_mayName_76 (by decide) ?_
          exact e_rz C (Or.inr rfl) h dX4_mayName_80
      · replace h := if_f c h
        refine lv_aload_n hx hb dX4_mayName_47 rfl (lv_at hl 0 rfl) ?_
        refine c_getT C hK hT hkl.1 7 (by decide) q524 rfl (v := .int (t.1 200 7)) rfl dX4_mayName_48 ?_
        refine lv_sipush (v := 202) hx hb dX4_mayName_51 (by decide) ?_
        refine lv_icmp_ne (tgt := 61) hx hb dX4_mayName_54 (by decide) (fun c => ?_) (fun c => ?_)
        · replace h := if_f c h
          refine lv_iconst (v := 0) hx hb dX4_mayName_61 (by decide) ?_
          refine lv_goto (tgt := 80) hx hb dX4_mayName_62 (by decide) ?_
          exact e_rz C (Or.inl rfl) h dX4_mayName_80
        · replace h := if_t c h
          refine lv_iconst (v := 1) hx hb dX4_mayName_57 (by decide) ?_
          refine lv_goto (tgt := 80) hx hb dX4_mayName_58 (by decide) ?_
          exact e_rz C (Or.inr rfl) h dX4_mayName_80
    · replace h := if_f c h
      refine lv_aload_n hx hb dX4_mayName_13 rfl (lv_at hl 0 rfl) ?_
      refine c_getT C hK hT hkl.1 7 (by decide) q524 rfl (v := .int (t.1 200 7)) rfl dX4_mayName_14 ?_
      refine lv_sipush (v := 200) hx hb dX4_mayName_17 (by decide) ?_
      refine lv_icmp_eq (tgt := 33) hx hb dX4_mayName_20 (by decide) (fun c => ?_) (fun c => ?_)
      · replace h := if_t c h
        exact bX4_mayName_p33 C hkl hK hT  ls h (lv_sub hl [] rfl)
      · replace h := if_f c h
        refine lv_aload_n hx hb dX4_mayName_23 rfl (lv_at hl 0 rfl) ?_
        refine c_getT C hK hT hkl.1 7 (by decide) q524 rfl (v := .int (t.1 200 7)) rfl dX4_mayName_24 ?_
        refine lv_sipush (v := 201) hx hb dX4_mayName_27 (by decide) ?_
        refine lv_icmp_ne (tgt := 37) hx hb dX4_mayName_30 (by decide) (fun c => ?_) (fun c => ?_)
        · replace h := if_f c h
          refine lv_iconst (v := 0) hx hb dX4_mayName_37 (by decide) ?_
          refine lv_goto (tgt := 80) hx hb dX4_mayName_38 (by decide) ?_
          exact e_rz C (Or.inl rfl) h dX4_mayName_80
        · replace h := if_t c h
          exact bX4_mayName_p33 C hkl hK hT  ls h (lv_sub hl [] rfl)
  · replace h := if_f c h
    refine lv_iconst (v := 1) hx hb dX4_mayName_5 (by decide) ?_
    exact e_rz C (Or.inr rfl) h dX4_mayName_6
theorem mX4_mayName {l : Launch} {D : va_G} {dA : Nat → ClassId} {a : Nat} {k : KP a} {t : CS} {x1 : Int32} {r : Int32} (hkl : k.1 ≠ a ∧ l.stackTraces = false) (h : C_X4_mayName t x1 = some r) : Met l yX4_mayName (ws_ yX4_mayName cX4_mayName 2 (some .boolean)) rmX4_mayName (cPc D dA a k t [.ref k.1, .int x1]) (rQi r) 0 0 nof := en_C (by decide +kernel) rfl (Nat.le_of_ble_eq_true rfl) (fun p e s m below meth c ls C hK hT hl => bX4_mayName C hkl hK hT x1 ls h hl)
set_option maxRecDepth 20000 in
abbrev rmX4_isLetter : Room := { frames := 0, cells := 0, slots := 0, locals := 0 }
theorem hdX4_isLetter : yX4_isLetter.cls ≠ "java/lang/invoke/MethodHandle" ∧ yX4_isLetter.cls ≠ "java/lang/invoke/VarHandle" ∧ (parseMethodDescriptor yX4_isLetter.desc).map (fun d => d.parameters.length) = some 1 := by decide +kernel
theorem bX4_isLetter_p24 {p : Program} {l : Launch} {e : Env} {s : State} {m : MethodId} {args : Array Value} {below : List Frame} {meth : Method} {c : Code} {r : Int32} (C : cx p s m args meth c cX4_isLetter RX4 1 (some .boolean)) : ∀ (ls : Array Slot), C_X4_isLetter_p24 = some r → lv_has ls 1 [] → W p l e rmX4_isLetter s m args below meth c s.heap [] 0 0 (MQ below (rQi r) args s 0 0 nof) (F0 m 24 ls []) := by
  obtain ⟨hx, hb, hr, hml, hown, hts, hlocks⟩ := id C
  intro ls h hl
  unfold C_X4_isLetter_p24 at h
  refine lv_iconst (v := 1) hx hb dX4_isLetter_24 (by decide) ?_
  refine lv_goto (tgt := 29) hx hb dX4_isLetter_25 (by decide) ?_
  exact e_rz C (Or.inr rfl) h dX4_isLetter_29
theorem bX4_isLetter_p12 {p : Program} {l : Launch} {e : Env} {s : State} {m : MethodId} {args : Array Value} {below : List Frame} {meth : Method} {c : Code} {r : Int32} (C : cx p s m args meth c cX4_isLetter RX4 1 (some .boolean)) : ∀ (x0 : Int32) (ls : Array Slot), C_X4_isLetter_p12 x0 = some r → lv_has ls 1 [(0, .int x0)] → W p l e rmX4_isLetter s m args below meth c s.heap [] 0 0 (MQ below (rQi r) args s 0 0 nof) (F0 m 12 ls []) := by
  obtain ⟨hx, hb, hr, hml, hown, hts, hlocks⟩ := id C
  intro x0 ls h hl
  unfold C_X4_isLetter_p12 at h
  refine lv_iload_n hx hb dX4_isLetter_12 rfl (lv_at hl 0 rfl) ?_
  refine lv_bipush (v := 65) hx hb dX4_isLetter_13 (by decide) ?_
  refine lv_icmp_lt (tgt := 28) hx hb dX4_isLetter_15 (by decide) (fun c => ?_) (fun c => ?_)
  · replace h := if_t c h
    refine lv_iconst (v := 0) hx hb dX4_isLetter_28 (by decide) ?_
    exact e_rz C (Or.inl rfl) h dX4_isLetter_29
  · replace h := if_f c h
    refine lv_iload_n hx hb dX4_isLetter_18 rfl (lv_at hl 0 rfl) ?_
    refine lv_bipush (v := 90) hx hb dX4_isLetter_19 (by decide) ?_
    refine lv_icmp_gt (tgt := 28) hx hb dX4_isLetter_21 (by decide) (fun c => ?_) (fun c => ?_)
    · replace h := if_t c h
      refine lv_iconst (v := 0) hx hb dX4_isLetter_28 (by decide) ?_
      exact e_rz C (Or.inl rfl) h dX4_isLetter_29
    · replace h := if_f c h
      exact bX4_isLetter_p24 C  ls h (lv_sub hl [] rfl)
theorem bX4_isLetter {p : Program} {l : Launch} {e : Env} {s : State} {m : MethodId} {args : Array Value} {below : List Frame} {meth : Method} {c : Code} {r : Int32} (C : cx p s m args meth c cX4_isLetter RX4 1 (some .boolean)) : ∀ (x0 : Int32) (ls : Array Slot), C_X4_isLetter x0 = some r → lv_has ls 1 [(0, .int x0)] → W p l e rmX4_isLetter s m args below meth c s.heap [] 0 0 (MQ below (rQi r) args s 0 0 nof) (F0 m 0 ls []) := by
  obtain ⟨hx, hb, hr, hml, hown, hts, hlocks⟩ := id C
  intro x0 ls h hl
  unfold C_X4_isLetter at h
  refine lv_iload_n hx hb dX4_isLetter_0 rfl (lv_at hl 0 rfl) ?_
  refine lv_bipush (v := 97) hx hb dX4_isLetter_1 (by decide) ?_
  refine lv_icmp_lt (tgt := 12) hx hb dX4_isLetter_3 (by decide) (fun c => ?_) (fun c => ?_)
  · replace h := if_t c h
    exact bX4_isLetter_p12 C x0 ls h (lv_sub hl [0] rfl)
  · replace h := if_f c h
    refine lv_iload_n hx hb dX4_isLetter_6 rfl (lv_at hl 0 rfl) ?_
    refine lv_bipush (v := 122) hx hb dX4_isLetter_7 (by decide) ?_
    refine lv_icmp_le (tgt := 24) hx hb dX4_isLetter_9 (by decide) (fun c => ?_) (fun c => ?_)
    · replace h := if_t c h
      exact bX4_isLetter_p24 C  ls h (lv_sub hl [] rfl)
    · replace h := if_f c h
      exact bX4_isLetter_p12 C x0 ls h (lv_sub hl [0] rfl)
theorem mX4_isLetter {l : Launch} {x0 : Int32} {r : Int32} (h : C_X4_isLetter x0 = some r) : Met l yX4_isLetter (ws_ yX4_isLetter cX4_isLetter 1 (some .boolean)) rmX4_isLetter (sPc [.int x0]) (rQi r) 0 0 nof := en_S (by decide +kernel) rfl (Nat.le_of_ble_eq_true rfl) (fun p e s m below meth c ls C hl => bX4_isLetter C x0 ls h hl)
set_option maxRecDepth 20000 in
abbrev rmX4_isDigit : Room := { frames := 0, cells := 0, slots := 0, locals := 0 }
theorem hdX4_isDigit : yX4_isDigit.cls ≠ "java/lang/invoke/MethodHandle" ∧ yX4_isDigit.cls ≠ "java/lang/invoke/VarHandle" ∧ (parseMethodDescriptor yX4_isDigit.desc).map (fun d => d.parameters.length) = some 1 := by decide +kernel
theorem bX4_isDigit {p : Program} {l : Launch} {e : Env} {s : State} {m : MethodId} {args : Array Value} {below : List Frame} {meth : Method} {c : Code} {r : Int32} (C : cx p s m args meth c cX4_isDigit RX4 1 (some .boolean)) : ∀ (x0 : Int32) (ls : Array Slot), C_X4_isDigit x0 = some r → lv_has ls 1 [(0, .int x0)] → W p l e rmX4_isDigit s m args below meth c s.heap [] 0 0 (MQ below (rQi r) args s 0 0 nof) (F0 m 0 ls []) := by
  obtain ⟨hx, hb, hr, hml, hown, hts, hlocks⟩ := id C
  intro x0 ls h hl
  unfold C_X4_isDigit at h
  refine lv_iload_n hx hb dX4_isDigit_0 rfl (lv_at hl 0 rfl) ?_
  refine lv_bipush (v := 48) hx hb dX4_isDigit_1 (by decide) ?_
  refine lv_icmp_lt (tgt := 16) hx hb dX4_isDigit_3 (by decide) (fun c => ?_) (fun c => ?_)
  · replace h := if_t c h
    refine lv_iconst (v := 0) hx hb dX4_isDigit_16 (by decide) ?_
    exact e_rz C (Or.inl rfl) h dX4_isDigit_17
  · replace h := if_f c h
    refine lv_iload_n hx hb dX4_isDigit_6 rfl (lv_at hl 0 rfl) ?_
    refine lv_bipush (v := 57) hx hb dX4_isDigit_7 (by decide) ?_
    refine lv_icmp_gt (tgt := 16) hx hb dX4_isDigit_9 (by decide) (fun c => ?_) (fun c => ?_)
    · replace h := if_t c h
      refine lv_iconst (v := 0) hx hb dX4_isDigit_16 (by decide) ?_
      exact e_rz C (Or.inl rfl) h dX4_isDigit_17
    · replace h := if_f c h
      refine lv_iconst (v := 1) hx hb dX4_isDigit_12 (by decide) ?_
      refine lv_goto (tgt := 17) hx hb dX4_isDigit_13 (by decide) ?_
      exact e_rz C (Or.inr rfl) h dX4_isDigit_17
theorem mX4_isDigit {l : Launch} {x0 : Int32} {r : Int32} (h : C_X4_isDigit x0 = some r) : Met l yX4_isDigit (ws_ yX4_isDigit cX4_isDigit 1 (some .boolean)) rmX4_isDigit (sPc [.int x0]) (rQi r) 0 0 nof := en_S (by decide +kernel) rfl (Nat.le_of_ble_eq_true rfl) (fun p e s m below meth c ls C hl => bX4_isDigit C x0 ls h hl)
set_option maxRecDepth 20000 in
abbrev rmJ10_coder : Room := { frames := 0, cells := 0, slots := 0, locals := 0 }
theorem hdJ10_coder : yJ10_coder.cls = RJ10 ∧ yJ10_coder.cls ≠ "java/lang/invoke/MethodHandle" ∧ yJ10_coder.cls ≠ "java/lang/invoke/VarHandle" ∧ (parseMethodDescriptor yJ10_coder.desc).map (fun d => d.parameters.length) = some 0 := by decide +kernel
theorem bJ10_coder {p : Program} {l : Launch} {e : Env} {s : State} {m : MethodId} {args : Array Value} {below : List Frame} {meth : Method} {c : Code} {D : va_G} {dA : Nat → ClassId} {a : Nat} {k : KP a} {t : CS} {r : Int32} (C : cx p s m args meth c cJ10_coder RJ10 1 (some (.byte))) (hK : kC D dA a k t.2.2.2 s) (hT : cW D dA a k t s.heap) : ∀ (x0 : Nat) (ls : Array Slot), J_J10_coder t x0 = some r → lv_has ls 1 [(0, .ref (dA (100 + x0)))] → W p l e rmJ10_coder s m args below meth c s.heap [] 0 0 (MQ below (rQi r) args s 0 0 nof) (F0 m 0 ls []) := by
  obtain ⟨hx, hb, hr, hml, hown, hts, hlocks⟩ := id C
  intro x0 ls h hl
  unfold J_J10_coder at h
  refine g_stat hK.2.2.1.2.2.1.2.2.2.1 C va_S.rf q624 dJ10_coder_0 ?_
  refine lv_if_eq (tgt := 13) hx hb dJ10_coder_3 (by decide) (fun c => ?_) (fun c => ?_)
  · replace h := if_t c h
    refine lv_iconst (v := 1) hx hb dJ10_coder_13 (by decide) ?_
    obtain ⟨hz, h⟩ := nby_some h
    exact e_rby C hz h dJ10_coder_14
  · replace h := if_f c h
    refine lv_aload_n hx hb dJ10_coder_6 rfl (lv_at hl 0 rfl) ?_
    obtain ⟨hq1, h⟩ := ckQ_some h
    refine q_cod C hK va_S.rf hq1 q2271 dJ10_coder_7 ?_
    refine lv_goto (tgt := 14) hx hb dJ10_coder_10 (by decide) ?_
    obtain ⟨hz, h⟩ := nby_some h
    exact e_rby C hz h dJ10_coder_14
theorem mJ10_coder {l : Launch} {D : va_G} {dA : Nat → ClassId} {a : Nat} {k : KP a} {t : CS} {x0 : Nat} {r : Int32} (h : J_J10_coder t x0 = some r) : Met l yJ10_coder (ws_ yJ10_coder cJ10_coder 1 (some (.byte))) rmJ10_coder (cPc D dA a k t [.ref (dA (100 + x0))]) (rQi r) 0 0 nof := en_C (by decide +kernel) rfl (Nat.le_of_ble_eq_true rfl) (fun p e s m below meth c ls C hK hT hl => bJ10_coder C hK hT x0 ls h hl)
set_option maxRecDepth 20000 in
abbrev rmJ10_length : Room := { frames := 1, cells := 0, slots := 0, locals := 20 }
theorem hdJ10_length : yJ10_length.cls = RJ10 ∧ yJ10_length.cls ≠ "java/lang/invoke/MethodHandle" ∧ yJ10_length.cls ≠ "java/lang/invoke/VarHandle" ∧ (parseMethodDescriptor yJ10_length.desc).map (fun d => d.parameters.length) = some 0 := by decide +kernel
theorem bJ10_length {p : Program} {l : Launch} {e : Env} {s : State} {m : MethodId} {args : Array Value} {below : List Frame} {meth : Method} {c : Code} {D : va_G} {dA : Nat → ClassId} {a : Nat} {k : KP a} {t : CS} {r : Int32} (C : cx p s m args meth c cJ10_length RJ10 1 (some .int)) (hK : kC D dA a k t.2.2.2 s) (hT : cW D dA a k t s.heap) : ∀ (x0 : Nat) (ls : Array Slot), J_J10_length t x0 = some r → lv_has ls 1 [(0, .ref (dA (100 + x0)))] → W p l e rmJ10_length s m args below meth c s.heap [] 0 0 (MQ below (rQi r) args s 0 0 nof) (F0 m 0 ls []) := by
  obtain ⟨hx, hb, hr, hml, hown, hts, hlocks⟩ := id C
  intro x0 ls h hl
  unfold J_J10_length at h
  refine lv_aload_n hx hb dJ10_length_0 rfl (lv_at hl 0 rfl) ?_
  obtain ⟨hq1, h⟩ := ckQ_some h
  refine q_val C hK va_S.rf hq1 q2270 dJ10_length_1 ?_
  obtain ⟨hq2, h⟩ := ckQ_some h
  refine b_aln C hK va_S.rf hq2 dJ10_length_4 ?_
  refine lv_aload_n hx hb dJ10_length_5 rfl (lv_at hl 0 rfl) ?_
  obtain ⟨hq3, h⟩ := ckQ_some h
  obtain ⟨v4, hv4, h⟩ := bd1_some h
  refine r_int (run_c (As := []) (rest := [.int (nI (wLen.getD x0 0))]) C hK hT (fun _ _ => rfl) (rv_Q hK va_S.rf hq3) (mJ10_coder hv4) q620 q621 q622 q176 q623 ⟨rfl, rfl⟩ hdJ10_coder ⟨Nat.le_of_ble_eq_true rfl, Nat.le_of_ble_eq_true rfl⟩ ⟨Nat.zero_le _, Nat.zero_le _⟩ rfl hl.1 rfl (Nat.le_of_ble_eq_true rfl) dJ10_length_6) ?_
  refine lv_ishr hx hb dJ10_length_9 ?_
  exact e_ri C h dJ10_length_10
theorem mJ10_length {l : Launch} {D : va_G} {dA : Nat → ClassId} {a : Nat} {k : KP a} {t : CS} {x0 : Nat} {r : Int32} (h : J_J10_length t x0 = some r) : Met l yJ10_length (ws_ yJ10_length cJ10_length 1 (some .int)) rmJ10_length (cPc D dA a k t [.ref (dA (100 + x0))]) (rQi r) 0 0 nof := en_C (by decide +kernel) rfl (Nat.le_of_ble_eq_true rfl) (fun p e s m below meth c ls C hK hT hl => bJ10_length C hK hT x0 ls h hl)
set_option maxRecDepth 20000 in
abbrev rmJ10_isLatin1 : Room := { frames := 0, cells := 0, slots := 0, locals := 0 }
theorem hdJ10_isLatin1 : yJ10_isLatin1.cls = RJ10 ∧ yJ10_isLatin1.cls ≠ "java/lang/invoke/MethodHandle" ∧ yJ10_isLatin1.cls ≠ "java/lang/invoke/VarHandle" ∧ (parseMethodDescriptor yJ10_isLatin1.desc).map (fun d => d.parameters.length) = some 0 := by decide +kernel
theorem bJ10_isLatin1 {p : Program} {l : Launch} {e : Env} {s : State} {m : MethodId} {args : Array Value} {below : List Frame} {meth : Method} {c : Code} {D : va_G} {dA : Nat → ClassId} {a : Nat} {k : KP a} {t : CS} {r : Int32} (C : cx p s m args meth c cJ10_isLatin1 RJ10 1 (some .boolean)) (hK : kC D dA a k t.2.2.2 s) (hT : cW D dA a k t s.heap) : ∀ (x0 : Nat) (ls : Array Slot), J_J10_isLatin1 t x0 = some r → lv_has ls 1 [(0, .ref (dA (100 + x0)))] → W p l e rmJ10_isLatin1 s m args below meth c s.heap [] 0 0 (MQ below (rQi r) args s 0 0 nof) (F0 m 0 ls []) := by
  obtain ⟨hx, hb, hr, hml, hown, hts, hlocks⟩ := id C
  intro x0 ls h hl
  unfold J_J10_isLatin1 at h
  refine g_stat hK.2.2.1.2.2.1.2.2.2.1 C va_S.rf q624 dJ10_isLatin1_0 ?_
  refine lv_if_eq (tgt := 17) hx hb dJ10_isLatin1_3 (by decide) (fun c => ?_) (fun c => ?_)
  · replace h := if_t c h
    refine lv_iconst (v := 0) hx hb dJ10_isLatin1_17 (by decide) ?_
    exact e_rz C (Or.inl rfl) h dJ10_isLatin1_18
  · replace h := if_f c h
    refine lv_aload_n hx hb dJ10_isLatin1_6 rfl (lv_at hl 0 rfl) ?_
    obtain ⟨hq1, h⟩ := ckQ_some h
    refine q_cod C hK va_S.rf hq1 q2271 dJ10_isLatin1_7 ?_
    refine lv_if_ne (tgt := 17) hx hb dJ10_isLatin1_10 (by decide) (fun c => ?_) (fun c => ?_)
    · replace h := if_f c h
      refine lv_iconst (v := 0) hx hb dJ10_isLatin1_17 (by decide) ?_
      exact e_rz C (Or.inl rfl) h dJ10_isLatin1_18
    · replace h := if_t c h
      refine lv_iconst (v := 1) hx hb dJ10_isLatin1_13 (by decide) ?_
      refine lv_goto (tgt := 18) hx hb dJ10_isLatin1_14 (by decide) ?_
      exact e_rz C (Or.inr rfl) h dJ10_isLatin1_18
theorem mJ10_isLatin1 {l : Launch} {D : va_G} {dA : Nat → ClassId} {a : Nat} {k : KP a} {t : CS} {x0 : Nat} {r : Int32} (h : J_J10_isLatin1 t x0 = some r) : Met l yJ10_isLatin1 (ws_ yJ10_isLatin1 cJ10_isLatin1 1 (some .boolean)) rmJ10_isLatin1 (cPc D dA a k t [.ref (dA (100 + x0))]) (rQi r) 0 0 nof := en_C (by decide +kernel) rfl (Nat.le_of_ble_eq_true rfl) (fun p e s m below meth c ls C hK hT hl => bJ10_isLatin1 C hK hT x0 ls h hl)
set_option maxRecDepth 20000 in
abbrev rmJ12_checkIndex_204 : Room := { frames := 0, cells := 0, slots := 0, locals := 0 }
theorem hdJ12_checkIndex_204 : yJ12_checkIndex.cls ≠ "java/lang/invoke/MethodHandle" ∧ yJ12_checkIndex.cls ≠ "java/lang/invoke/VarHandle" ∧ (parseMethodDescriptor yJ12_checkIndex.desc).map (fun d => d.parameters.length) = some 3 := by decide +kernel
theorem bJ12_checkIndex_204_p9 {p : Program} {l : Launch} {e : Env} {s : State} {m : MethodId} {args : Array Value} {below : List Frame} {meth : Method} {c : Code} {D : va_G} {dA : Nat → ClassId} {a : Nat} {k : KP a} {t : CS} {r : Int32} (C : cx p s m args meth c cJ12_checkIndex RJ12 3 (some .int)) (hK : kC D dA a k t.2.2.2 s) (hT : cW D dA a k t s.heap) : ∀ (x0 : Int32) (x1 : Int32) (ls : Array Slot), J_J12_checkIndex_204_p9 t x0 x1 = some r → lv_has ls 3 [(0, .int x0), (1, .int x1), (2, va_rf (vO (dA 51)))] → W p l e rmJ12_checkIndex_204 s m args below meth c s.heap [] 0 0 (MQ below (rQi r) args s 0 0 nof) (F0 m 9 ls []) := by
  obtain ⟨hx, hb, hr, hml, hown, hts, hlocks⟩ := id C
  intro x0 x1 ls h hl
  unfold J_J12_checkIndex_204_p9 at h
  refine lv_aload_nO hx hb dJ12_checkIndex_9 rfl (lv_at hl 2 rfl) ?_
  refine lv_iload_n hx hb dJ12_checkIndex_10 rfl (lv_at hl 0 rfl) ?_
  refine lv_iload_n hx hb dJ12_checkIndex_11 rfl (lv_at hl 1 rfl) ?_
  cases h
theorem bJ12_checkIndex_204 {p : Program} {l : Launch} {e : Env} {s : State} {m : MethodId} {args : Array Value} {below : List Frame} {meth : Method} {c : Code} {D : va_G} {dA : Nat → ClassId} {a : Nat} {k : KP a} {t : CS} {r : Int32} (C : cx p s m args meth c cJ12_checkIndex RJ12 3 (some .int)) (hK : kC D dA a k t.2.2.2 s) (hT : cW D dA a k t s.heap) : ∀ (x0 : Int32) (x1 : Int32) (ls : Array Slot), J_J12_checkIndex_204 t x0 x1 = some r → lv_has ls 3 [(0, .int x0), (1, .int x1), (2, va_rf (vO (dA 51)))] → W p l e rmJ12_checkIndex_204 s m args below meth c s.heap [] 0 0 (MQ below (rQi r) args s 0 0 nof) (F0 m 0 ls []) := by
  obtain ⟨hx, hb, hr, hml, hown, hts, hlocks⟩ := id C
  intro x0 x1 ls h hl
  unfold J_J12_checkIndex_204 at h
  refine lv_iload_n hx hb dJ12_checkIndex_0 rfl (lv_at hl 0 rfl) ?_
  refine lv_if_lt (tgt := 9) hx hb dJ12_checkIndex_1 (by decide) (fun c => ?_) (fun c => ?_)
  · replace h := if_t c h
    exact bJ12_checkIndex_204_p9 C hK hT x0 x1 ls h (lv_sub hl [0, 1, 2] rfl)
  · replace h := if_f c h
    refine lv_iload_n hx hb dJ12_checkIndex_4 rfl (lv_at hl 0 rfl) ?_
    refine lv_iload_n hx hb dJ12_checkIndex_5 rfl (lv_at hl 1 rfl) ?_
    refine lv_icmp_lt (tgt := 16) hx hb dJ12_checkIndex_6 (by decide) (fun c => ?_) (fun c => ?_)
    · replace h := if_t c h
      refine lv_iload_n hx hb dJ12_checkIndex_16 rfl (lv_at hl 0 rfl) ?_
      exact e_ri C h dJ12_checkIndex_17
    · replace h := if_f c h
      exact bJ12_checkIndex_204_p9 C hK hT x0 x1 ls h (lv_sub hl [0, 1, 2] rfl)
theorem mJ12_checkIndex_204 {l : Launch} {D : va_G} {dA : Nat → ClassId} {a : Nat} {k : KP a} {t : CS} {x0 : Int32} {x1 : Int32} {r : Int32} (h : J_J12_checkIndex_204 t x0 x1 = some r) : Met l yJ12_checkIndex (ws_ yJ12_checkIndex cJ12_checkIndex 3 (some .int)) rmJ12_checkIndex_204 (cPc D dA a k t [.int x0, .int x1, va_rf (vO (dA 51))]) (rQi r) 0 0 nof := en_C (by decide +kernel) rfl (by cases vO (dA 51) <;> exact Nat.le_of_ble_eq_true rfl) (fun p e s m below meth c ls C hK hT hl => bJ12_checkIndex_204 C hK hT x0 x1 ls h hl)
set_option maxRecDepth 20000 in
abbrev rmJ10_checkIndex : Room := { frames := 1, cells := 0, slots := 0, locals := 22 }
theorem hdJ10_checkIndex : yJ10_checkIndex.cls ≠ "java/lang/invoke/MethodHandle" ∧ yJ10_checkIndex.cls ≠ "java/lang/invoke/VarHandle" ∧ (parseMethodDescriptor yJ10_checkIndex.desc).map (fun d => d.parameters.length) = some 2 := by decide +kernel
theorem bJ10_checkIndex {p : Program} {l : Launch} {e : Env} {s : State} {m : MethodId} {args : Array Value} {below : List Frame} {meth : Method} {c : Code} {D : va_G} {dA : Nat → ClassId} {a : Nat} {k : KP a} {t : CS} (C : cx p s m args meth c cJ10_checkIndex RJ10 2 none) (hK : kC D dA a k t.2.2.2 s) (hT : cW D dA a k t s.heap) : ∀ (x0 : Int32) (x1 : Int32) (ls : Array Slot), J_J10_checkIndex t x0 x1 = some () → lv_has ls 2 [(0, .int x0), (1, .int x1)] → W p l e rmJ10_checkIndex s m args below meth c s.heap [] 0 0 (MQ below (rQv none) args s 0 0 nof) (F0 m 0 ls []) := by
  obtain ⟨hx, hb, hr, hml, hown, hts, hlocks⟩ := id C
  intro x0 x1 ls h hl
  unfold J_J10_checkIndex at h
  refine lv_iload_n hx hb dJ10_checkIndex_0 rfl (lv_at hl 0 rfl) ?_
  refine lv_iload_n hx hb dJ10_checkIndex_1 rfl (lv_at hl 1 rfl) ?_
  refine g_stat hK.2.2.1.2.2.1.2.2.2.2 C va_S.rf q640 dJ10_checkIndex_2 ?_
  obtain ⟨v1, hv1, h⟩ := bd1_some h
  refine r_int (run_cs (As := [.int x0, .int x1, va_rf (vO (dA 51))]) (rest := []) C hK hT (fun _ _ => rfl) (mJ12_checkIndex_204 hv1) q642 q643 q178 q644 ⟨rfl, rfl⟩ hdJ12_checkIndex_204 ⟨Nat.le_of_ble_eq_true rfl, Nat.le_of_ble_eq_true rfl⟩ ⟨Nat.zero_le _, Nat.zero_le _⟩ rfl hl.1 rfl (Nat.le_of_ble_eq_true rfl) dJ10_checkIndex_5) ?_
  refine lv_pop hx hb dJ10_checkIndex_8 rfl ?_
  exact e_rv C h dJ10_checkIndex_9
theorem mJ10_checkIndex {l : Launch} {D : va_G} {dA : Nat → ClassId} {a : Nat} {k : KP a} {t : CS} {x0 : Int32} {x1 : Int32} (h : J_J10_checkIndex t x0 x1 = some ()) : Met l yJ10_checkIndex (ws_ yJ10_checkIndex cJ10_checkIndex 2 none) rmJ10_checkIndex (cPc D dA a k t [.int x0, .int x1]) (rQv none) 0 0 nof := en_C (by decide +kernel) rfl (Nat.le_of_ble_eq_true rfl) (fun p e s m below meth c ls C hK hT hl => bJ10_checkIndex C hK hT x0 x1 ls h hl)
set_option maxRecDepth 20000 in
abbrev rmJ11_charAt : Room := { frames := 2, cells := 0, slots := 0, locals := 43 }
theorem hdJ11_charAt : yJ11_charAt.cls ≠ "java/lang/invoke/MethodHandle" ∧ yJ11_charAt.cls ≠ "java/lang/invoke/VarHandle" ∧ (parseMethodDescriptor yJ11_charAt.desc).map (fun d => d.parameters.length) = some 2 := by decide +kernel
theorem bJ11_charAt {p : Program} {l : Launch} {e : Env} {s : State} {m : MethodId} {args : Array Value} {below : List Frame} {meth : Method} {c : Code} {D : va_G} {dA : Nat → ClassId} {a : Nat} {k : KP a} {t : CS} {r : Int32} (C : cx p s m args meth c cJ11_charAt RJ11 2 (some (.char))) (hK : kC D dA a k t.2.2.2 s) (hT : cW D dA a k t s.heap) : ∀ (x0 : Nat) (x1 : Int32) (ls : Array Slot), J_J11_charAt t x0 x1 = some r → lv_has ls 2 [(0, .ref (dA (200 + x0))), (1, .int x1)] → W p l e rmJ11_charAt s m args below meth c s.heap [] 0 0 (MQ below (rQi r) args s 0 0 nof) (F0 m 0 ls []) := by
  obtain ⟨hx, hb, hr, hml, hown, hts, hlocks⟩ := id C
  intro x0 x1 ls h hl
  unfold J_J11_charAt at h
  refine lv_iload_n hx hb dJ11_charAt_0 rfl (lv_at hl 1 rfl) ?_
  refine lv_aload_n hx hb dJ11_charAt_1 rfl (lv_at hl 0 rfl) ?_
  obtain ⟨hq1, h⟩ := ckQ_some h
  refine b_aln C hK va_S.rf hq1 dJ11_charAt_2 ?_
  obtain ⟨v2, hv2, h⟩ := bd1_some h
  refine r_void (run_cs (As := [.int x1, .int (nI (wLen.getD x0 0))]) (rest := []) C hK hT (fun _ _ => rfl) (mJ10_checkIndex hv2) q637 q638 q176 q639 ⟨rfl, rfl⟩ hdJ10_checkIndex ⟨Nat.le_of_ble_eq_true rfl, Nat.le_of_ble_eq_true rfl⟩ ⟨Nat.zero_le _, Nat.zero_le _⟩ rfl hl.1 rfl (Nat.le_of_ble_eq_true rfl) dJ11_charAt_3) ?_
  refine lv_aload_n hx hb dJ11_charAt_6 rfl (lv_at hl 0 rfl) ?_
  refine lv_iload_n hx hb dJ11_charAt_7 rfl (lv_at hl 1 rfl) ?_
  obtain ⟨hq3, h⟩ := ckQ_some h
  obtain ⟨hi4, h⟩ := ck_some h
  refine b_bld C hK va_S.rf hq3 hi4 dJ11_charAt_8 ?_
  refine lv_sipush (v := 255) hx hb dJ11_charAt_9 (by decide) ?_
  refine lv_iand hx hb dJ11_charAt_12 ?_
  refine lv_i2c hx hb dJ11_charAt_13 rfl ?_
  obtain ⟨hz, h⟩ := nch_some h
  exact e_rch C hz h dJ11_charAt_14
theorem mJ11_charAt {l : Launch} {D : va_G} {dA : Nat → ClassId} {a : Nat} {k : KP a} {t : CS} {x0 : Nat} {x1 : Int32} {r : Int32} (h : J_J11_charAt t x0 x1 = some r) : Met l yJ11_charAt (ws_ yJ11_charAt cJ11_charAt 2 (some (.char))) rmJ11_charAt (cPc D dA a k t [.ref (dA (200 + x0)), .int x1]) (rQi r) 0 0 nof := en_C (by decide +kernel) rfl (Nat.le_of_ble_eq_true rfl) (fun p e s m below meth c ls C hK hT hl => bJ11_charAt C hK hT x0 x1 ls h hl)
set_option maxRecDepth 20000 in
abbrev rmJ10_charAt : Room := { frames := 3, cells := 0, slots := 0, locals := 64 }
theorem hdJ10_charAt : yJ10_charAt.cls = RJ10 ∧ yJ10_charAt.cls ≠ "java/lang/invoke/MethodHandle" ∧ yJ10_charAt.cls ≠ "java/lang/invoke/VarHandle" ∧ (parseMethodDescriptor yJ10_charAt.desc).map (fun d => d.parameters.length) = some 1 := by decide +kernel
theorem bJ10_charAt {p : Program} {l : Launch} {e : Env} {s : State} {m : MethodId} {args : Array Value} {below : List Frame} {meth : Method} {c : Code} {D : va_G} {dA : Nat → ClassId} {a : Nat} {k : KP a} {t : CS} {r : Int32} (C : cx p s m args meth c cJ10_charAt RJ10 2 (some (.char))) (hK : kC D dA a k t.2.2.2 s) (hT : cW D dA a k t s.heap) : ∀ (x0 : Nat) (x1 : Int32) (ls : Array Slot), J_J10_charAt t x0 x1 = some r → lv_has ls 2 [(0, .ref (dA (100 + x0))), (1, .int x1)] → W p l e rmJ10_charAt s m args below meth c s.heap [] 0 0 (MQ below (rQi r) args s 0 0 nof) (F0 m 0 ls []) := by
  obtain ⟨hx, hb, hr, hml, hown, hts, hlocks⟩ := id C
  intro x0 x1 ls h hl
  unfold J_J10_charAt at h
  refine lv_aload_n hx hb dJ10_charAt_0 rfl (lv_at hl 0 rfl) ?_
  obtain ⟨hq1, h⟩ := ckQ_some h
  obtain ⟨v2, hv2, h⟩ := bd1_some h
  refine r_int (run_c (As := []) (rest := []) C hK hT (fun _ _ => rfl) (rv_Q hK va_S.rf hq1) (mJ10_isLatin1 hv2) q630 q631 q632 q176 q633 ⟨rfl, rfl⟩ hdJ10_isLatin1 ⟨Nat.le_of_ble_eq_true rfl, Nat.le_of_ble_eq_true rfl⟩ ⟨Nat.zero_le _, Nat.zero_le _⟩ rfl hl.1 rfl (Nat.le_of_ble_eq_true rfl) dJ10_charAt_1) ?_
  refine lv_if_eq (tgt := 16) hx hb dJ10_charAt_4 (by decide) (fun c => ?_) (fun c => ?_)
  · replace h := if_t c h
    refine lv_aload_n hx hb dJ10_charAt_16 rfl (lv_at hl 0 rfl) ?_
    obtain ⟨hq3, h⟩ := ckQ_some h
    refine q_val C hK va_S.rf hq3 q2270 dJ10_charAt_17 ?_
    refine lv_iload_n hx hb dJ10_charAt_20 rfl (lv_at hl 1 rfl) ?_
    cases h
  · replace h := if_f c h
    refine lv_aload_n hx hb dJ10_charAt_7 rfl (lv_at hl 0 rfl) ?_
    obtain ⟨hq4, h⟩ := ckQ_some h
    refine q_val C hK va_S.rf hq4 q2270 dJ10_charAt_8 ?_
    refine lv_iload_n hx hb dJ10_charAt_11 rfl (lv_at hl 1 rfl) ?_
    obtain ⟨v5, hv5, h⟩ := bd1_some h
    refine r_int (run_cs (As := [.ref (dA (200 + x0)), .int x1]) (rest := []) C hK hT (fun _ _ => rfl) (mJ11_charAt hv5) q634 q635 q177 q636 ⟨rfl, rfl⟩ hdJ11_charAt ⟨Nat.le_of_ble_eq_true rfl, Nat.le_of_ble_eq_true rfl⟩ ⟨Nat.zero_le _, Nat.zero_le _⟩ rfl hl.1 rfl (Nat.le_of_ble_eq_true rfl) dJ10_charAt_12) ?_
    obtain ⟨hz, h⟩ := nch_some h
    exact e_rch C hz h dJ10_charAt_15
theorem mJ10_charAt {l : Launch} {D : va_G} {dA : Nat → ClassId} {a : Nat} {k : KP a} {t : CS} {x0 : Nat} {x1 : Int32} {r : Int32} (h : J_J10_charAt t x0 x1 = some r) : Met l yJ10_charAt (ws_ yJ10_charAt cJ10_charAt 2 (some (.char))) rmJ10_charAt (cPc D dA a k t [.ref (dA (100 + x0)), .int x1]) (rQi r) 0 0 nof := en_C (by decide +kernel) rfl (Nat.le_of_ble_eq_true rfl) (fun p e s m below meth c ls C hK hT hl => bJ10_charAt C hK hT x0 x1 ls h hl)
set_option maxRecDepth 20000 in
abbrev rmX4_isWord : Room := { frames := 4, cells := 0, slots := 0, locals := 85 }
theorem hdX4_isWord : yX4_isWord.cls = RX4 ∧ yX4_isWord.cls ≠ "java/lang/invoke/MethodHandle" ∧ yX4_isWord.cls ≠ "java/lang/invoke/VarHandle" ∧ (parseMethodDescriptor yX4_isWord.desc).map (fun d => d.parameters.length) = some 1 := by decide +kernel
theorem bX4_isWord_p20 {p : Program} {l : Launch} {e : Env} {s : State} {m : MethodId} {args : Array Value} {below : List Frame} {meth : Method} {c : Code} {D : va_G} {dA : Nat → ClassId} {a : Nat} {k : KP a} {t : CS} {r : Int32} (C : cx p s m args meth c cX4_isWord RX4 3 (some .boolean)) (hkl : k.1 ≠ a ∧ l.stackTraces = false) (hK : kC D dA a k t.2.2.2 s) (hT : cW D dA a k t s.heap) : ∀ (n : Nat), ∀ (x1 : Nat) (x2 : Int32) (ls : Array Slot), C_X4_isWord_p20 t n x1 x2 = some r → lv_has ls 3 [(0, .ref k.1), (1, .ref (dA (100 + x1))), (2, .int x2)] → W p l e rmX4_isWord s m args below meth c s.heap [] 0 0 (MQ below (rQi r) args s 0 0 nof) (F0 m 20 ls []) := by
  obtain ⟨hx, hb, hr, hml, hown, hts, hlocks⟩ := id C
  intro n
  induction n with
  | zero =>
    intro x1 x2 ls h hl
    have h : none = some _ := h
    cases h
  | succ n ih =>
    intro x1 x2 ls h hl
    rw [C_X4_isWord_p20] at h
    refine lv_iload_n hx hb dX4_isWord_20 rfl (lv_at hl 2 rfl) ?_
    refine lv_aload_n hx hb dX4_isWord_21 rfl (lv_at hl 1 rfl) ?_
    obtain ⟨hq1, h⟩ := ckQ_some h
    obtain ⟨v2, hv2, h⟩ := bd1_some h
    refine r_int (run_c (As := []) (rest := [.int x2]) C hK hT (fun _ _ => rfl) (rv_Q hK va_S.rf hq1) (mJ10_length hv2) q616 q617 q618 q176 q619 ⟨rfl, rfl⟩ hdJ10_length ⟨Nat.le_of_ble_eq_true rfl, Nat.le_of_ble_eq_true rfl⟩ ⟨Nat.zero_le _, Nat.zero_le _⟩ rfl hl.1 rfl (Nat.le_of_ble_eq_true rfl) dX4_isWord_22) ?_
    refine lv_icmp_ge (tgt := 55) hx hb dX4_isWord_25 (by decide) (fun c => ?_) (fun c => ?_)
    · replace h := if_t c h
      refine lv_iconst (v := 1) hx hb dX4_isWord_55 (by decide) ?_
      exact e_rz C (Or.inr rfl) h dX4_isWord_56
    · replace h := if_f c h
      refine lv_aload_n hx hb dX4_isWord_28 rfl (lv_at hl 0 rfl) ?_
      refine c_getT C hK hT hkl.1 0 (by decide) q517 rfl (v := .ref (a + 105)) rfl dX4_isWord_29 ?_
      refine lv_aload_n hx hb dX4_isWord_32 rfl (lv_at hl 0 rfl) ?_
      refine c_getT C hK hT hkl.1 3 (by decide) q520 rfl (v := .int (t.1 200 3)) rfl dX4_isWord_33 ?_
      refine lv_iload_n hx hb dX4_isWord_36 rfl (lv_at hl 2 rfl) ?_
      refine lv_iadd hx hb dX4_isWord_37 ?_
      obtain ⟨hi3, h⟩ := ck_some h
      refine c_bld C hK hT 105 300 (by decide) (fun _ _ => rfl) hi3 dX4_isWord_38 ?_
      refine lv_aload_n hx hb dX4_isWord_39 rfl (lv_at hl 1 rfl) ?_
      refine lv_iload_n hx hb dX4_isWord_40 rfl (lv_at hl 2 rfl) ?_
      obtain ⟨hq4, h⟩ := ckQ_some h
      obtain ⟨v5, hv5, h⟩ := bd1_some h
      refine r_int (run_c (As := [.int x2]) (rest := [.int (t.1 105 ((t.1 200 3) + x2).toNatClampNeg)]) C hK hT (fun _ _ => rfl) (rv_Q hK va_S.rf hq4) (mJ10_charAt hv5) q626 q627 q628 q176 q629 ⟨rfl, rfl⟩ hdJ10_charAt ⟨Nat.le_of_ble_eq_true rfl, Nat.le_of_ble_eq_true rfl⟩ ⟨Nat.zero_le _, Nat.zero_le _⟩ rfl hl.1 rfl (Nat.le_of_ble_eq_true rfl) dX4_isWord_41) ?_
      refine lv_icmp_eq (tgt := 49) hx hb dX4_isWord_44 (by decide) (fun c => ?_) (fun c => ?_)
      · replace h := if_t c h
        obtain ⟨v6, ev6⟩ : ∃ y : Int32, y = x2 + (1 : Int32) := ⟨_, rfl⟩
        replace h := lt1_sub ev6 h
        refine lv_iinc (v := v6) (lv' := [(2, .int v6), (0, .ref k.1), (1, .ref (dA (100 + x1)))]) hx hb dX4_isWord_49 hl (k := 2) rfl (by rw [ev6]; rfl) (by decide) rfl (fun ls hl => ?_)
        refine lv_goto (tgt := 20) hx hb dX4_isWord_52 (by decide) ?_
        exact ih x1 v6 ls h (lv_sub hl [1, 2, 0] rfl)
      · replace h := if_f c h
        refine lv_iconst (v := 0) hx hb dX4_isWord_47 (by decide) ?_
        exact e_rz C (Or.inl rfl) h dX4_isWord_48
theorem bX4_isWord {p : Program} {l : Launch} {e : Env} {s : State} {m : MethodId} {args : Array Value} {below : List Frame} {meth : Method} {c : Code} {D : va_G} {dA : Nat → ClassId} {a : Nat} {k : KP a} {t : CS} {r : Int32} (C : cx p s m args meth c cX4_isWord RX4 3 (some .boolean)) (hkl : k.1 ≠ a ∧ l.stackTraces = false) (hK : kC D dA a k t.2.2.2 s) (hT : cW D dA a k t s.heap) : ∀ (x1 : Nat) (ls : Array Slot), C_X4_isWord t x1 = some r → lv_has ls 3 [(0, .ref k.1), (1, .ref (dA (100 + x1)))] → W p l e rmX4_isWord s m args below meth c s.heap [] 0 0 (MQ below (rQi r) args s 0 0 nof) (F0 m 0 ls []) := by
  obtain ⟨hx, hb, hr, hml, hown, hts, hlocks⟩ := id C
  intro x1 ls h hl
  unfold C_X4_isWord at h
  refine lv_aload_n hx hb dX4_isWord_0 rfl (lv_at hl 0 rfl) ?_
  refine c_getT C hK hT hkl.1 2 (by decide) q519 rfl (v := .int (t.1 200 2)) rfl dX4_isWord_1 ?_
  refine lv_aload_n hx hb dX4_isWord_4 rfl (lv_at hl 0 rfl) ?_
  refine c_getT C hK hT hkl.1 3 (by decide) q520 rfl (v := .int (t.1 200 3)) rfl dX4_isWord_5 ?_
  refine lv_isub hx hb dX4_isWord_8 ?_
  refine lv_aload_n hx hb dX4_isWord_9 rfl (lv_at hl 1 rfl) ?_
  obtain ⟨hq1, h⟩ := ckQ_some h
  obtain ⟨v2, hv2, h⟩ := bd1_some h
  refine r_int (run_c (As := []) (rest := [.int ((t.1 200 2) - (t.1 200 3))]) C hK hT (fun _ _ => rfl) (rv_Q hK va_S.rf hq1) (mJ10_length hv2) q616 q617 q618 q176 q619 ⟨rfl, rfl⟩ hdJ10_length ⟨Nat.le_of_ble_eq_true rfl, Nat.le_of_ble_eq_true rfl⟩ ⟨Nat.zero_le _, Nat.zero_le _⟩ rfl hl.1 rfl (Nat.le_of_ble_eq_true rfl) dX4_isWord_10) ?_
  refine lv_icmp_eq (tgt := 18) hx hb dX4_isWord_13 (by decide) (fun c => ?_) (fun c => ?_)
  · replace h := if_t c h
    refine lv_iconst (v := 0) hx hb dX4_isWord_18 (by decide) ?_
    refine lv_istore_n (lv' := [(2, .int (0 : Int32)), (0, .ref k.1), (1, .ref (dA (100 + x1)))]) hx hb dX4_isWord_19 rfl hl (by decide) rfl (fun ls hl => ?_)
    exact bX4_isWord_p20 C hkl hK hT fu x1 (0 : Int32) ls h (lv_sub hl [1, 2, 0] rfl)
  · replace h := if_f c h
    refine lv_iconst (v := 0) hx hb dX4_isWord_16 (by decide) ?_
    exact e_rz C (Or.inl rfl) h dX4_isWord_17
theorem mX4_isWord {l : Launch} {D : va_G} {dA : Nat → ClassId} {a : Nat} {k : KP a} {t : CS} {x1 : Nat} {r : Int32} (hkl : k.1 ≠ a ∧ l.stackTraces = false) (h : C_X4_isWord t x1 = some r) : Met l yX4_isWord (ws_ yX4_isWord cX4_isWord 3 (some .boolean)) rmX4_isWord (cPc D dA a k t [.ref k.1, .ref (dA (100 + x1))]) (rQi r) 0 0 nof := en_C (by decide +kernel) rfl (Nat.le_of_ble_eq_true rfl) (fun p e s m below meth c ls C hK hT hl => bX4_isWord C hkl hK hT x1 ls h hl)
set_option maxRecDepth 20000 in
abbrev rmX4_next : Room := { frames := 5, cells := 0, slots := 0, locals := 107 }
theorem hdX4_next : yX4_next.cls = RX4 ∧ yX4_next.cls ≠ "java/lang/invoke/MethodHandle" ∧ yX4_next.cls ≠ "java/lang/invoke/VarHandle" ∧ (parseMethodDescriptor yX4_next.desc).map (fun d => d.parameters.length) = some 0 := by decide +kernel
theorem bX4_next_p39 {p : Program} {l : Launch} {e : Env} {s : State} {m : MethodId} {args : Array Value} {below : List Frame} {meth : Method} {c : Code} {D : va_G} {dA : Nat → ClassId} {a : Nat} {k : KP a} {t0 : CS} {t9 : CS} (C : cx p s m args meth c cX4_next RX4 3 none) (hkl : k.1 ≠ a ∧ l.stackTraces = false) {k0 : CS → Option CS} (hk0 : ∀ (t : CS) (H : Heap) (locs : List Loc) (hT : cW D dA a k t H) (hS : cS a s.heap H locs t0.2.2.2 0 t) (hK : kC D dA a k t.2.2.2 s) (ls : Array Slot), k0 t = some t9 → lv_has ls 3 [(0, .ref k.1)] → W p l e rmX4_next s m args below meth c H locs 0 0 (MQ below (cQ D dA a k 0 t0 t9 none) args s 0 0 (ca a)) (F0 m 0 ls [])) : ∀ (t : CS) (H : Heap) (locs : List Loc) (hT : cW D dA a k t H) (hS : cS a s.heap H locs t0.2.2.2 0 t) (hK : kC D dA a k t.2.2.2 s) (ls : Array Slot), C_X4_next_p39 k0 t = some t9 → lv_has ls 3 [(0, .ref k.1)] → W p l e rmX4_next s m args below meth c H locs 0 0 (MQ below (cQ D dA a k 0 t0 t9 none) args s 0 0 (ca a)) (F0 m 39 ls []) := by
  obtain ⟨hx, hb, hr, hml, hown, hts, hlocks⟩ := id C
  intro t H locs hT hS hK ls h hl
  unfold C_X4_next_p39 at h
  refine lv_aload_n hx hb dX4_next_39 rfl (lv_at hl 0 rfl) ?_
  refine lv_dup hx hb dX4_next_40 rfl ?_
  refine c_getT C hK hT hkl.1 2 (by decide) q519 rfl (v := .int (t.1 200 2)) rfl dX4_next_41 ?_
  refine lv_iconst (v := 1) hx hb dX4_next_44 (by decide) ?_
  refine lv_iadd hx hb dX4_next_45 ?_
  refine c_putT C hK hT hkl.1 hS 2 (by decide) q519 rfl rfl (tyX4_ok 2 (by decide)) dX4_next_46 (fun t1 H locs et1 hT hS hK => ?_)
  replace h := lt1_sub et1 h
  refine lv_goto (tgt := 0) hx hb dX4_next_49 (by decide) ?_
  exact hk0 t1 H locs hT hS hK ls h (lv_sub hl [0] rfl)
theorem bX4_next_p173 {p : Program} {l : Launch} {e : Env} {s : State} {m : MethodId} {args : Array Value} {below : List Frame} {meth : Method} {c : Code} {D : va_G} {dA : Nat → ClassId} {a : Nat} {k : KP a} {t0 : CS} {t9 : CS} (C : cx p s m args meth c cX4_next RX4 3 none) (hkl : k.1 ≠ a ∧ l.stackTraces = false) {k144 : CS → Int32 → Option CS} (hk144 : ∀ (t : CS) (x1 : Int32) (H : Heap) (locs : List Loc) (hT : cW D dA a k t H) (hS : cS a s.heap H locs t0.2.2.2 0 t) (hK : kC D dA a k t.2.2.2 s) (ls : Array Slot), k144 t x1 = some t9 → lv_has ls 3 [(0, .ref k.1), (1, .int x1)] → W p l e rmX4_next s m args below meth c H locs 0 0 (MQ below (cQ D dA a k 0 t0 t9 none) args s 0 0 (ca a)) (F0 m 144 ls [])) : ∀ (t : CS) (x1 : Int32) (H : Heap) (locs : List Loc) (hT : cW D dA a k t H) (hS : cS a s.heap H locs t0.2.2.2 0 t) (hK : kC D dA a k t.2.2.2 s) (ls : Array Slot), C_X4_next_p173 k144 t x1 = some t9 → lv_has ls 3 [(0, .ref k.1), (1, .int x1)] → W p l e rmX4_next s m args below meth c H locs 0 0 (MQ below (cQ D dA a k 0 t0 t9 none) args s 0 0 (ca a)) (F0 m 173 ls []) := by
  obtain ⟨hx, hb, hr, hml, hown, hts, hlocks⟩ := id C
  intro t x1 H locs hT hS hK ls h hl
  unfold C_X4_next_p173 at h
  obtain ⟨v1, ev1⟩ : ∃ y : Int32, y = x1 + (1 : Int32) := ⟨_, rfl⟩
  replace h := lt1_sub ev1 h
  refine lv_iinc (v := v1) (lv' := [(1, .int v1), (0, .ref k.1)]) hx hb dX4_next_173 hl (k := 1) rfl (by rw [ev1]; rfl) (by decide) rfl (fun ls hl => ?_)
  refine lv_goto (tgt := 144) hx hb dX4_next_176 (by decide) ?_
  exact hk144 t v1 H locs hT hS hK ls h (lv_sub hl [1, 0] rfl)
theorem bX4_next_p144 {p : Program} {l : Launch} {e : Env} {s : State} {m : MethodId} {args : Array Value} {below : List Frame} {meth : Method} {c : Code} {D : va_G} {dA : Nat → ClassId} {a : Nat} {k : KP a} {t0 : CS} {t9 : CS} (C : cx p s m args meth c cX4_next RX4 3 none) (hkl : k.1 ≠ a ∧ l.stackTraces = false) : ∀ (n : Nat), ∀ (t : CS) (x1 : Int32) (H : Heap) (locs : List Loc) (hT : cW D dA a k t H) (hS : cS a s.heap H locs t0.2.2.2 0 t) (hK : kC D dA a k t.2.2.2 s) (ls : Array Slot), C_X4_next_p144 n t x1 = some t9 → lv_has ls 3 [(0, .ref k.1), (1, .int x1)] → W p l e rmX4_next s m args below meth c H locs 0 0 (MQ below (cQ D dA a k 0 t0 t9 none) args s 0 0 (ca a)) (F0 m 144 ls []) := by
  obtain ⟨hx, hb, hr, hml, hown, hts, hlocks⟩ := id C
  intro n
  induction n with
  | zero =>
    intro t x1 H locs hT hS hK ls h hl
    have h : none = some _ := h
    cases h
  | succ n ih =>
    intro t x1 H locs hT hS hK ls h hl
    rw [C_X4_next_p144] at h
    refine lv_iload_n hx hb dX4_next_144 rfl (lv_at hl 1 rfl) ?_
    refine g_stat hK.2.2.1.2.2.1.1 C hS.va q610 dX4_next_145 ?_
    refine w_aln C hK hS.va dX4_next_148 ?_
    refine lv_icmp_ge (tgt := 179) hx hb dX4_next_149 (by decide) (fun c => ?_) (fun c => ?_)
    · replace h := if_t c h
      refine lv_goto (tgt := 402) hx hb dX4_next_179 (by decide) ?_
      exact ec_v C hT hS h dX4_next_402
    · replace h := if_f c h
      refine lv_aload_n hx hb dX4_next_152 rfl (lv_at hl 0 rfl) ?_
      refine g_stat hK.2.2.1.2.2.1.1 C hS.va q610 dX4_next_153 ?_
      refine lv_iload_n hx hb dX4_next_156 rfl (lv_at hl 1 rfl) ?_
      obtain ⟨hi1, h⟩ := ck_some h
      refine w_ald C hK hS.va hi1 dX4_next_157 ?_
      obtain ⟨v2, hv2, h⟩ := bd1_some h
      refine r_int (run_c (As := [.ref (dA (100 + x1.toNatClampNeg))]) (rest := []) C hK hT hS.2.1 (rv_T hK hT hkl.1) (mX4_isWord hkl hv2) q612 q614 qs4 q171 q615 ⟨rfl, rfl⟩ hdX4_isWord ⟨Nat.le_of_ble_eq_true rfl, Nat.le_of_ble_eq_true rfl⟩ ⟨Nat.zero_le _, Nat.zero_le _⟩ rfl hl.1 rfl (Nat.le_of_ble_eq_true rfl) dX4_next_158) ?_
      refine lv_if_eq (tgt := 173) hx hb dX4_next_161 (by decide) (fun c => ?_) (fun c => ?_)
      · replace h := if_t c h
        exact bX4_next_p173 C hkl ih t x1 H locs hT hS hK ls h (lv_sub hl [0, 1] rfl)
      · replace h := if_f c h
        refine lv_aload_n hx hb dX4_next_164 rfl (lv_at hl 0 rfl) ?_
        refine lv_sipush (v := 200) hx hb dX4_next_165 (by decide) ?_
        refine lv_iload_n hx hb dX4_next_168 rfl (lv_at hl 1 rfl) ?_
        refine lv_iadd hx hb dX4_next_169 ?_
        refine c_putT C hK hT hkl.1 hS 4 (by decide) q521 rfl rfl (tyX4_ok 4 (by decide)) dX4_next_170 (fun t3 H locs et3 hT hS hK => ?_)
        replace h := lt1_sub et3 h
        exact bX4_next_p173 C hkl ih t3 x1 H locs hT hS hK ls h (lv_sub hl [0, 1] rfl)
theorem bX4_next_p135 {p : Program} {l : Launch} {e : Env} {s : State} {m : MethodId} {args : Array Value} {below : List Frame} {meth : Method} {c : Code} {D : va_G} {dA : Nat → ClassId} {a : Nat} {k : KP a} {t0 : CS} {t9 : CS} (C : cx p s m args meth c cX4_next RX4 3 none) (hkl : k.1 ≠ a ∧ l.stackTraces = false) : ∀ (t : CS) (H : Heap) (locs : List Loc) (hT : cW D dA a k t H) (hS : cS a s.heap H locs t0.2.2.2 0 t) (hK : kC D dA a k t.2.2.2 s) (ls : Array Slot), C_X4_next_p135 t = some t9 → lv_has ls 3 [(0, .ref k.1)] → W p l e rmX4_next s m args below meth c H locs 0 0 (MQ below (cQ D dA a k 0 t0 t9 none) args s 0 0 (ca a)) (F0 m 135 ls []) := by
  obtain ⟨hx, hb, hr, hml, hown, hts, hlocks⟩ := id C
  intro t H locs hT hS hK ls h hl
  unfold C_X4_next_p135 at h
  refine lv_aload_n hx hb dX4_next_135 rfl (lv_at hl 0 rfl) ?_
  refine lv_sipush (v := 302) hx hb dX4_next_136 (by decide) ?_
  refine c_putT C hK hT hkl.1 hS 4 (by decide) q521 rfl rfl (tyX4_ok 4 (by decide)) dX4_next_139 (fun t1 H locs et1 hT hS hK => ?_)
  replace h := lt1_sub et1 h
  refine lv_iconst (v := 0) hx hb dX4_next_142 (by decide) ?_
  refine lv_istore_n (lv' := [(1, .int (0 : Int32)), (0, .ref k.1)]) hx hb dX4_next_143 rfl hl (by decide) rfl (fun ls hl => ?_)
  exact bX4_next_p144 C hkl fu t1 (0 : Int32) H locs hT hS hK ls h (lv_sub hl [1, 0] rfl)
theorem bX4_next_p96 {p : Program} {l : Launch} {e : Env} {s : State} {m : MethodId} {args : Array Value} {below : List Frame} {meth : Method} {c : Code} {D : va_G} {dA : Nat → ClassId} {a : Nat} {k : KP a} {t0 : CS} {t9 : CS} (C : cx p s m args meth c cX4_next RX4 3 none) (hkl : k.1 ≠ a ∧ l.stackTraces = false) : ∀ (n : Nat), ∀ (t : CS) (H : Heap) (locs : List Loc) (hT : cW D dA a k t H) (hS : cS a s.heap H locs t0.2.2.2 0 t) (hK : kC D dA a k t.2.2.2 s) (ls : Array Slot), C_X4_next_p96 n t = some t9 → lv_has ls 3 [(0, .ref k.1)] → W p l e rmX4_next s m args below meth c H locs 0 0 (MQ below (cQ D dA a k 0 t0 t9 none) args s 0 0 (ca a)) (F0 m 96 ls []) := by
  obtain ⟨hx, hb, hr, hml, hown, hts, hlocks⟩ := id C
  intro n
  induction n with
  | zero =>
    intro t H locs hT hS hK ls h hl
    have h : none = some _ := h
    cases h
  | succ n ih =>
    intro t H locs hT hS hK ls h hl
    rw [C_X4_next_p96] at h
    refine lv_aload_n hx hb dX4_next_96 rfl (lv_at hl 0 rfl) ?_
    refine c_getT C hK hT hkl.1 2 (by decide) q519 rfl (v := .int (t.1 200 2)) rfl dX4_next_97 ?_
    refine lv_aload_n hx hb dX4_next_100 rfl (lv_at hl 0 rfl) ?_
    refine c_getT C hK hT hkl.1 1 (by decide) q518 rfl (v := .int (t.1 200 1)) rfl dX4_next_101 ?_
    refine lv_icmp_ge (tgt := 135) hx hb dX4_next_104 (by decide) (fun c => ?_) (fun c => ?_)
    · replace h := if_t c h
      exact bX4_next_p135 C hkl t H locs hT hS hK ls h (lv_sub hl [0] rfl)
    · replace h := if_f c h
      refine lv_aload_n hx hb dX4_next_107 rfl (lv_at hl 0 rfl) ?_
      refine c_getT C hK hT hkl.1 0 (by decide) q517 rfl (v := .ref (a + 105)) rfl dX4_next_108 ?_
      refine lv_aload_n hx hb dX4_next_111 rfl (lv_at hl 0 rfl) ?_
      refine c_getT C hK hT hkl.1 2 (by decide) q519 rfl (v := .int (t.1 200 2)) rfl dX4_next_112 ?_
      obtain ⟨hi1, h⟩ := ck_some h
      refine c_bld C hK hT 105 300 (by decide) (fun _ _ => rfl) hi1 dX4_next_115 ?_
      obtain ⟨v2, hv2, h⟩ := bd1_some h
      refine r_int (run_s (As := [.int (t.1 105 (t.1 200 2).toNatClampNeg)]) (rest := []) C (mX4_isLetter hv2) q607 q608 q171 q609 ⟨rfl, rfl⟩ hdX4_isLetter ⟨Nat.le_of_ble_eq_true rfl, Nat.le_of_ble_eq_true rfl⟩ ⟨Nat.zero_le _, Nat.zero_le _⟩ rfl hl.1 rfl (Nat.le_of_ble_eq_true rfl) dX4_next_116) ?_
      refine lv_if_eq (tgt := 135) hx hb dX4_next_119 (by decide) (fun c => ?_) (fun c => ?_)
      · replace h := if_t c h
        exact bX4_next_p135 C hkl t H locs hT hS hK ls h (lv_sub hl [0] rfl)
      · replace h := if_f c h
        refine lv_aload_n hx hb dX4_next_122 rfl (lv_at hl 0 rfl) ?_
        refine lv_dup hx hb dX4_next_123 rfl ?_
        refine c_getT C hK hT hkl.1 2 (by decide) q519 rfl (v := .int (t.1 200 2)) rfl dX4_next_124 ?_
        refine lv_iconst (v := 1) hx hb dX4_next_127 (by decide) ?_
        refine lv_iadd hx hb dX4_next_128 ?_
        refine c_putT C hK hT hkl.1 hS 2 (by decide) q519 rfl rfl (tyX4_ok 2 (by decide)) dX4_next_129 (fun t3 H locs et3 hT hS hK => ?_)
        replace h := lt1_sub et3 h
        refine lv_goto (tgt := 96) hx hb dX4_next_132 (by decide) ?_
        exact ih t3 H locs hT hS hK ls h (lv_sub hl [0] rfl)
theorem bX4_next_p209 {p : Program} {l : Launch} {e : Env} {s : State} {m : MethodId} {args : Array Value} {below : List Frame} {meth : Method} {c : Code} {D : va_G} {dA : Nat → ClassId} {a : Nat} {k : KP a} {t0 : CS} {t9 : CS} (C : cx p s m args meth c cX4_next RX4 3 none) (hkl : k.1 ≠ a ∧ l.stackTraces = false) : ∀ (n : Nat), ∀ (t : CS) (H : Heap) (locs : List Loc) (hT : cW D dA a k t H) (hS : cS a s.heap H locs t0.2.2.2 0 t) (hK : kC D dA a k t.2.2.2 s) (ls : Array Slot), C_X4_next_p209 n t = some t9 → lv_has ls 3 [(0, .ref k.1)] → W p l e rmX4_next s m args below meth c H locs 0 0 (MQ below (cQ D dA a k 0 t0 t9 none) args s 0 0 (ca a)) (F0 m 209 ls []) := by
  obtain ⟨hx, hb, hr, hml, hown, hts, hlocks⟩ := id C
  intro n
  induction n with
  | zero =>
    intro t H locs hT hS hK ls h hl
    have h : none = some _ := h
    cases h
  | succ n ih =>
    intro t H locs hT hS hK ls h hl
    rw [C_X4_next_p209] at h
    refine lv_aload_n hx hb dX4_next_209 rfl (lv_at hl 0 rfl) ?_
    refine c_getT C hK hT hkl.1 2 (by decide) q519 rfl (v := .int (t.1 200 2)) rfl dX4_next_210 ?_
    refine lv_aload_n hx hb dX4_next_213 rfl (lv_at hl 0 rfl) ?_
    refine c_getT C hK hT hkl.1 1 (by decide) q518 rfl (v := .int (t.1 200 1)) rfl dX4_next_214 ?_
    refine lv_icmp_ge (tgt := 402) hx hb dX4_next_217 (by decide) (fun c => ?_) (fun c => ?_)
    · replace h := if_t c h
      exact ec_v C hT hS h dX4_next_402
    · replace h := if_f c h
      refine lv_aload_n hx hb dX4_next_220 rfl (lv_at hl 0 rfl) ?_
      refine c_getT C hK hT hkl.1 0 (by decide) q517 rfl (v := .ref (a + 105)) rfl dX4_next_221 ?_
      refine lv_aload_n hx hb dX4_next_224 rfl (lv_at hl 0 rfl) ?_
      refine c_getT C hK hT hkl.1 2 (by decide) q519 rfl (v := .int (t.1 200 2)) rfl dX4_next_225 ?_
      obtain ⟨hi1, h⟩ := ck_some h
      refine c_bld C hK hT 105 300 (by decide) (fun _ _ => rfl) hi1 dX4_next_228 ?_
      obtain ⟨v2, hv2, h⟩ := bd1_some h
      refine r_int (run_s (As := [.int (t.1 105 (t.1 200 2).toNatClampNeg)]) (rest := []) C (mX4_isDigit hv2) q664 q665 q171 q666 ⟨rfl, rfl⟩ hdX4_isDigit ⟨Nat.le_of_ble_eq_true rfl, Nat.le_of_ble_eq_true rfl⟩ ⟨Nat.zero_le _, Nat.zero_le _⟩ rfl hl.1 rfl (Nat.le_of_ble_eq_true rfl) dX4_next_229) ?_
      refine lv_if_eq (tgt := 402) hx hb dX4_next_232 (by decide) (fun c => ?_) (fun c => ?_)
      · replace h := if_t c h
        exact ec_v C hT hS h dX4_next_402
      · replace h := if_f c h
        refine lv_aload_n hx hb dX4_next_235 rfl (lv_at hl 0 rfl) ?_
        refine lv_ldc hx hb hown (hts _ q667) dX4_next_236 ?_
        refine lv_bipush (v := 10) hx hb dX4_next_238 (by decide) ?_
        refine lv_aload_n hx hb dX4_next_240 rfl (lv_at hl 0 rfl) ?_
        refine c_getT C hK hT hkl.1 5 (by decide) q522 rfl (v := .int (t.1 200 5)) rfl dX4_next_241 ?_
        refine lv_imul hx hb dX4_next_244 ?_
        refine lv_aload_n hx hb dX4_next_245 rfl (lv_at hl 0 rfl) ?_
        refine c_getT C hK hT hkl.1 0 (by decide) q517 rfl (v := .ref (a + 105)) rfl dX4_next_246 ?_
        refine lv_aload_n hx hb dX4_next_249 rfl (lv_at hl 0 rfl) ?_
        refine c_getT C hK hT hkl.1 2 (by decide) q519 rfl (v := .int (t.1 200 2)) rfl dX4_next_250 ?_
        obtain ⟨hi3, h⟩ := ck_some h
        refine c_bld C hK hT 105 300 (by decide) (fun _ _ => rfl) hi3 dX4_next_253 ?_
        refine lv_iadd hx hb dX4_next_254 ?_
        refine lv_bipush (v := 48) hx hb dX4_next_255 (by decide) ?_
        refine lv_isub hx hb dX4_next_257 ?_
        refine va_mmin hx hb (hml.trans hl.1.symm) hown (hts _ q668) (hts _ q669) (hts _ q180) (hts _ q670) (Nat.le_of_ble_eq_true rfl) (Nat.le_of_ble_eq_true rfl) (Nat.zero_le _) (Nat.zero_le _) dX4_next_258 ?_
        refine c_putT C hK hT hkl.1 hS 5 (by decide) q522 rfl rfl (tyX4_ok 5 (by decide)) dX4_next_261 (fun t4 H locs et4 hT hS hK => ?_)
        replace h := lt1_sub et4 h
        refine lv_aload_n hx hb dX4_next_264 rfl (lv_at hl 0 rfl) ?_
        refine lv_dup hx hb dX4_next_265 rfl ?_
        refine c_getT C hK hT hkl.1 2 (by decide) q519 rfl (v := .int (t4.1 200 2)) rfl dX4_next_266 ?_
        refine lv_iconst (v := 1) hx hb dX4_next_269 (by decide) ?_
        refine lv_iadd hx hb dX4_next_270 ?_
        refine c_putT C hK hT hkl.1 hS 2 (by decide) q519 rfl rfl (tyX4_ok 2 (by decide)) dX4_next_271 (fun t5 H locs et5 hT hS hK => ?_)
        replace h := lt1_sub et5 h
        refine lv_goto (tgt := 209) hx hb dX4_next_274 (by decide) ?_
        exact ih t5 H locs hT hS hK ls h (lv_sub hl [0] rfl)
theorem bX4_next_p330 {p : Program} {l : Launch} {e : Env} {s : State} {m : MethodId} {args : Array Value} {below : List Frame} {meth : Method} {c : Code} {D : va_G} {dA : Nat → ClassId} {a : Nat} {k : KP a} {t0 : CS} {t9 : CS} (C : cx p s m args meth c cX4_next RX4 3 none) (hkl : k.1 ≠ a ∧ l.stackTraces = false) {k306 : CS → Int32 → Int32 → Option CS} (hk306 : ∀ (t : CS) (x1 : Int32) (x2 : Int32) (H : Heap) (locs : List Loc) (hT : cW D dA a k t H) (hS : cS a s.heap H locs t0.2.2.2 0 t) (hK : kC D dA a k t.2.2.2 s) (ls : Array Slot), k306 t x1 x2 = some t9 → lv_has ls 3 [(0, .ref k.1), (1, .int x1), (2, .int x2)] → W p l e rmX4_next s m args below meth c H locs 0 0 (MQ below (cQ D dA a k 0 t0 t9 none) args s 0 0 (ca a)) (F0 m 306 ls [])) : ∀ (t : CS) (x1 : Int32) (x2 : Int32) (H : Heap) (locs : List Loc) (hT : cW D dA a k t H) (hS : cS a s.heap H locs t0.2.2.2 0 t) (hK : kC D dA a k t.2.2.2 s) (ls : Array Slot), C_X4_next_p330 k306 t x1 x2 = some t9 → lv_has ls 3 [(0, .ref k.1), (1, .int x1), (2, .int x2)] → W p l e rmX4_next s m args below meth c H locs 0 0 (MQ below (cQ D dA a k 0 t0 t9 none) args s 0 0 (ca a)) (F0 m 330 ls []) := by
  obtain ⟨hx, hb, hr, hml, hown, hts, hlocks⟩ := id C
  intro t x1 x2 H locs hT hS hK ls h hl
  unfold C_X4_next_p330 at h
  obtain ⟨v1, ev1⟩ : ∃ y : Int32, y = x2 + (1 : Int32) := ⟨_, rfl⟩
  replace h := lt1_sub ev1 h
  refine lv_iinc (v := v1) (lv' := [(2, .int v1), (0, .ref k.1), (1, .int x1)]) hx hb dX4_next_330 hl (k := 2) rfl (by rw [ev1]; rfl) (by decide) rfl (fun ls hl => ?_)
  refine lv_goto (tgt := 306) hx hb dX4_next_333 (by decide) ?_
  exact hk306 t x1 v1 H locs hT hS hK ls h (lv_sub hl [1, 2, 0] rfl)
theorem bX4_next_p389 {p : Program} {l : Launch} {e : Env} {s : State} {m : MethodId} {args : Array Value} {below : List Frame} {meth : Method} {c : Code} {D : va_G} {dA : Nat → ClassId} {a : Nat} {k : KP a} {t0 : CS} {t9 : CS} (C : cx p s m args meth c cX4_next RX4 3 none) (hkl : k.1 ≠ a ∧ l.stackTraces = false) : ∀ (t : CS) (y1 : Int32) (H : Heap) (locs : List Loc) (hT : cW D dA a k t H) (hS : cS a s.heap H locs t0.2.2.2 0 t) (hK : kC D dA a k t.2.2.2 s) (ls : Array Slot), C_X4_next_p389 t y1 = some t9 → lv_has ls 3 [(0, .ref k.1)] → W p l e rmX4_next s m args below meth c H locs 0 0 (MQ below (cQ D dA a k 0 t0 t9 none) args s 0 0 (ca a)) (F0 m 389 ls [.int y1, .ref k.1]) := by
  obtain ⟨hx, hb, hr, hml, hown, hts, hlocks⟩ := id C
  intro t y1 H locs hT hS hK ls h hl
  unfold C_X4_next_p389 at h
  refine c_putT C hK hT hkl.1 hS 4 (by decide) q521 rfl rfl (tyX4_ok 4 (by decide)) dX4_next_389 (fun t1 H locs et1 hT hS hK => ?_)
  replace h := lt1_sub et1 h
  refine lv_aload_n hx hb dX4_next_392 rfl (lv_at hl 0 rfl) ?_
  refine lv_dup hx hb dX4_next_393 rfl ?_
  refine c_getT C hK hT hkl.1 2 (by decide) q519 rfl (v := .int (t1.1 200 2)) rfl dX4_next_394 ?_
  refine lv_iconst (v := 1) hx hb dX4_next_397 (by decide) ?_
  refine lv_iadd hx hb dX4_next_398 ?_
  refine c_putT C hK hT hkl.1 hS 2 (by decide) q519 rfl rfl (tyX4_ok 2 (by decide)) dX4_next_399 (fun t2 H locs et2 hT hS hK => ?_)
  replace h := lt1_sub et2 h
  exact ec_v C hT hS h dX4_next_402
theorem bX4_next_p348 {p : Program} {l : Launch} {e : Env} {s : State} {m : MethodId} {args : Array Value} {below : List Frame} {meth : Method} {c : Code} {D : va_G} {dA : Nat → ClassId} {a : Nat} {k : KP a} {t0 : CS} {t9 : CS} (C : cx p s m args meth c cX4_next RX4 3 none) (hkl : k.1 ≠ a ∧ l.stackTraces = false) : ∀ (t : CS) (x1 : Int32) (H : Heap) (locs : List Loc) (hT : cW D dA a k t H) (hS : cS a s.heap H locs t0.2.2.2 0 t) (hK : kC D dA a k t.2.2.2 s) (ls : Array Slot), C_X4_next_p348 t x1 = some t9 → lv_has ls 3 [(0, .ref k.1), (1, .int x1)] → W p l e rmX4_next s m args below meth c H locs 0 0 (MQ below (cQ D dA a k 0 t0 t9 none) args s 0 0 (ca a)) (F0 m 348 ls []) := by
  obtain ⟨hx, hb, hr, hml, hown, hts, hlocks⟩ := id C
  intro t x1 H locs hT hS hK ls h hl
  unfold C_X4_next_p348 at h
  refine lv_aload_n hx hb dX4_next_348 rfl (lv_at hl 0 rfl) ?_
  refine c_getT C hK hT hkl.1 2 (by decide) q519 rfl (v := .int (t.1 200 2)) rfl dX4_next_349 ?_
  refine lv_aload_n hx hb dX4_next_352 rfl (lv_at hl 0 rfl) ?_
  refine c_getT C hK hT hkl.1 1 (by decide) q518 rfl (v := .int (t.1 200 1)) rfl dX4_next_353 ?_
  refine lv_icmp_ge (tgt := 402) hx hb dX4_next_356 (by decide) (fun c => ?_) (fun c => ?_)
  · replace h := if_t c h
    exact ec_v C hT hS h dX4_next_402
  · replace h := if_f c h
    refine lv_aload_n hx hb dX4_next_359 rfl (lv_at hl 0 rfl) ?_
    refine c_getT C hK hT hkl.1 0 (by decide) q517 rfl (v := .ref (a + 105)) rfl dX4_next_360 ?_
    refine lv_aload_n hx hb dX4_next_363 rfl (lv_at hl 0 rfl) ?_
    refine c_getT C hK hT hkl.1 2 (by decide) q519 rfl (v := .int (t.1 200 2)) rfl dX4_next_364 ?_
    obtain ⟨hi1, h⟩ := ck_some h
    refine c_bld C hK hT 105 300 (by decide) (fun _ _ => rfl) hi1 dX4_next_367 ?_
    refine lv_bipush (v := 61) hx hb dX4_next_368 (by decide) ?_
    refine lv_icmp_ne (tgt := 402) hx hb dX4_next_370 (by decide) (fun c => ?_) (fun c => ?_)
    · replace h := if_f c h
      exact ec_v C hT hS h dX4_next_402
    · replace h := if_t c h
      refine lv_aload_n hx hb dX4_next_373 rfl (lv_at hl 0 rfl) ?_
      refine lv_iload_n hx hb dX4_next_374 rfl (lv_at hl 1 rfl) ?_
      refine lv_bipush (v := 60) hx hb dX4_next_375 (by decide) ?_
      refine lv_icmp_ne (tgt := 386) hx hb dX4_next_377 (by decide) (fun c => ?_) (fun c => ?_)
      · replace h := if_f c h
        refine lv_sipush (v := 304) hx hb dX4_next_386 (by decide) ?_
        exact bX4_next_p389 C hkl t (304 : Int32) H locs hT hS hK ls h (lv_sub hl [0] rfl)
      · replace h := if_t c h
        refine lv_sipush (v := 303) hx hb dX4_next_380 (by decide) ?_
        refine lv_goto (tgt := 389) hx hb dX4_next_383 (by decide) ?_
        exact bX4_next_p389 C hkl t (303 : Int32) H locs hT hS hK ls h (lv_sub hl [0] rfl)
theorem bX4_next_p306 {p : Program} {l : Launch} {e : Env} {s : State} {m : MethodId} {args : Array Value} {below : List Frame} {meth : Method} {c : Code} {D : va_G} {dA : Nat → ClassId} {a : Nat} {k : KP a} {t0 : CS} {t9 : CS} (C : cx p s m args meth c cX4_next RX4 3 none) (hkl : k.1 ≠ a ∧ l.stackTraces = false) : ∀ (n : Nat), ∀ (t : CS) (x1 : Int32) (x2 : Int32) (H : Heap) (locs : List Loc) (hT : cW D dA a k t H) (hS : cS a s.heap H locs t0.2.2.2 0 t) (hK : kC D dA a k t.2.2.2 s) (ls : Array Slot), C_X4_next_p306 n t x1 x2 = some t9 → lv_has ls 3 [(0, .ref k.1), (1, .int x1), (2, .int x2)] → W p l e rmX4_next s m args below meth c H locs 0 0 (MQ below (cQ D dA a k 0 t0 t9 none) args s 0 0 (ca a)) (F0 m 306 ls []) := by
  obtain ⟨hx, hb, hr, hml, hown, hts, hlocks⟩ := id C
  intro n
  induction n with
  | zero =>
    intro t x1 x2 H locs hT hS hK ls h hl
    have h : none = some _ := h
    cases h
  | succ n ih =>
    intro t x1 x2 H locs hT hS hK ls h hl
    rw [C_X4_next_p306] at h
    refine lv_iload_n hx hb dX4_next_306 rfl (lv_at hl 2 rfl) ?_
    refine q_ldc C hK dX4_next_307 ?_
    obtain ⟨hq1, h⟩ := ckQ_some h
    obtain ⟨v2, hv2, h⟩ := bd1_some h
    refine r_int (run_c (As := []) (rest := [.int x2]) C hK hT hS.2.1 (rv_Q hK hS.va hq1) (mJ10_length hv2) q616 q617 q618 q176 q619 ⟨rfl, rfl⟩ hdJ10_length ⟨Nat.le_of_ble_eq_true rfl, Nat.le_of_ble_eq_true rfl⟩ ⟨Nat.zero_le _, Nat.zero_le _⟩ rfl hl.1 rfl (Nat.le_of_ble_eq_true rfl) dX4_next_309) ?_
    refine lv_icmp_ge (tgt := 336) hx hb dX4_next_312 (by decide) (fun c => ?_) (fun c => ?_)
    · replace h := if_t c h
      refine lv_iload_n hx hb dX4_next_336 rfl (lv_at hl 1 rfl) ?_
      refine lv_bipush (v := 60) hx hb dX4_next_337 (by decide) ?_
      refine lv_icmp_eq (tgt := 348) hx hb dX4_next_339 (by decide) (fun c => ?_) (fun c => ?_)
      · replace h := if_t c h
        exact bX4_next_p348 C hkl t x1 H locs hT hS hK ls h (lv_sub hl [0, 1] rfl)
      · replace h := if_f c h
        refine lv_iload_n hx hb dX4_next_342 rfl (lv_at hl 1 rfl) ?_
        refine lv_bipush (v := 62) hx hb dX4_next_343 (by decide) ?_
        refine lv_icmp_ne (tgt := 402) hx hb dX4_next_345 (by decide) (fun c => ?_) (fun c => ?_)
        · replace h := if_f c h
          exact ec_v C hT hS h dX4_next_402
        · replace h := if_t c h
          exact bX4_next_p348 C hkl t x1 H locs hT hS hK ls h (lv_sub hl [0, 1] rfl)
    · replace h := if_f c h
      refine q_ldc C hK dX4_next_315 ?_
      refine lv_iload_n hx hb dX4_next_317 rfl (lv_at hl 2 rfl) ?_
      obtain ⟨hq3, h⟩ := ckQ_some h
      obtain ⟨v4, hv4, h⟩ := bd1_some h
      refine r_int (run_c (As := [.int x2]) (rest := []) C hK hT hS.2.1 (rv_Q hK hS.va hq3) (mJ10_charAt hv4) q626 q627 q628 q176 q629 ⟨rfl, rfl⟩ hdJ10_charAt ⟨Nat.le_of_ble_eq_true rfl, Nat.le_of_ble_eq_true rfl⟩ ⟨Nat.zero_le _, Nat.zero_le _⟩ rfl hl.1 rfl (Nat.le_of_ble_eq_true rfl) dX4_next_318) ?_
      refine lv_iload_n hx hb dX4_next_321 rfl (lv_at hl 1 rfl) ?_
      refine lv_icmp_ne (tgt := 330) hx hb dX4_next_322 (by decide) (fun c => ?_) (fun c => ?_)
      · replace h := if_f c h
        exact bX4_next_p330 C hkl ih t x1 x2 H locs hT hS hK ls h (lv_sub hl [0, 1, 2] rfl)
      · replace h := if_t c h
        refine lv_aload_n hx hb dX4_next_325 rfl (lv_at hl 0 rfl) ?_
        refine lv_iload_n hx hb dX4_next_326 rfl (lv_at hl 1 rfl) ?_
        refine c_putT C hK hT hkl.1 hS 4 (by decide) q521 rfl rfl (tyX4_ok 4 (by decide)) dX4_next_327 (fun t5 H locs et5 hT hS hK => ?_)
        replace h := lt1_sub et5 h
        exact bX4_next_p330 C hkl ih t5 x1 x2 H locs hT hS hK ls h (lv_sub hl [0, 1, 2] rfl)
theorem bX4_next_p52 {p : Program} {l : Launch} {e : Env} {s : State} {m : MethodId} {args : Array Value} {below : List Frame} {meth : Method} {c : Code} {D : va_G} {dA : Nat → ClassId} {a : Nat} {k : KP a} {t0 : CS} {t9 : CS} (C : cx p s m args meth c cX4_next RX4 3 none) (hkl : k.1 ≠ a ∧ l.stackTraces = false) : ∀ (t : CS) (H : Heap) (locs : List Loc) (hT : cW D dA a k t H) (hS : cS a s.heap H locs t0.2.2.2 0 t) (hK : kC D dA a k t.2.2.2 s) (ls : Array Slot), C_X4_next_p52 t = some t9 → lv_has ls 3 [(0, .ref k.1)] → W p l e rmX4_next s m args below meth c H locs 0 0 (MQ below (cQ D dA a k 0 t0 t9 none) args s 0 0 (ca a)) (F0 m 52 ls []) := by
  obtain ⟨hx, hb, hr, hml, hown, hts, hlocks⟩ := id C
  intro t H locs hT hS hK ls h hl
  unfold C_X4_next_p52 at h
  refine lv_aload_n hx hb dX4_next_52 rfl (lv_at hl 0 rfl) ?_
  refine lv_aload_n hx hb dX4_next_53 rfl (lv_at hl 0 rfl) ?_
  refine c_getT C hK hT hkl.1 2 (by decide) q519 rfl (v := .int (t.1 200 2)) rfl dX4_next_54 ?_
  refine c_putT C hK hT hkl.1 hS 3 (by decide) q520 rfl rfl (tyX4_ok 3 (by decide)) dX4_next_57 (fun t1 H locs et1 hT hS hK => ?_)
  replace h := lt1_sub et1 h
  refine lv_aload_n hx hb dX4_next_60 rfl (lv_at hl 0 rfl) ?_
  refine c_getT C hK hT hkl.1 2 (by decide) q519 rfl (v := .int (t1.1 200 2)) rfl dX4_next_61 ?_
  refine lv_aload_n hx hb dX4_next_64 rfl (lv_at hl 0 rfl) ?_
  refine c_getT C hK hT hkl.1 1 (by decide) q518 rfl (v := .int (t1.1 200 1)) rfl dX4_next_65 ?_
  refine lv_icmp_ne (tgt := 81) hx hb dX4_next_68 (by decide) (fun c => ?_) (fun c => ?_)
  · replace h := if_f c h
    refine lv_aload_n hx hb dX4_next_81 rfl (lv_at hl 0 rfl) ?_
    refine c_getT C hK hT hkl.1 0 (by decide) q517 rfl (v := .ref (a + 105)) rfl dX4_next_82 ?_
    refine lv_aload_n hx hb dX4_next_85 rfl (lv_at hl 0 rfl) ?_
    refine c_getT C hK hT hkl.1 2 (by decide) q519 rfl (v := .int (t1.1 200 2)) rfl dX4_next_86 ?_
    obtain ⟨hi2, h⟩ := ck_some h
    refine c_bld C hK hT 105 300 (by decide) (fun _ _ => rfl) hi2 dX4_next_89 ?_
    obtain ⟨v3, hv3, h⟩ := bd1_some h
    refine r_int (run_s (As := [.int (t1.1 105 (t1.1 200 2).toNatClampNeg)]) (rest := []) C (mX4_isLetter hv3) q607 q608 q171 q609 ⟨rfl, rfl⟩ hdX4_isLetter ⟨Nat.le_of_ble_eq_true rfl, Nat.le_of_ble_eq_true rfl⟩ ⟨Nat.zero_le _, Nat.zero_le _⟩ rfl hl.1 rfl (Nat.le_of_ble_eq_true rfl) dX4_next_90) ?_
    refine lv_if_eq (tgt := 182) hx hb dX4_next_93 (by decide) (fun c => ?_) (fun c => ?_)
    · replace h := if_t c h
      refine lv_aload_n hx hb dX4_next_182 rfl (lv_at hl 0 rfl) ?_
      refine c_getT C hK hT hkl.1 0 (by decide) q517 rfl (v := .ref (a + 105)) rfl dX4_next_183 ?_
      refine lv_aload_n hx hb dX4_next_186 rfl (lv_at hl 0 rfl) ?_
      refine c_getT C hK hT hkl.1 2 (by decide) q519 rfl (v := .int (t1.1 200 2)) rfl dX4_next_187 ?_
      obtain ⟨hi4, h⟩ := ck_some h
      refine c_bld C hK hT 105 300 (by decide) (fun _ _ => rfl) hi4 dX4_next_190 ?_
      obtain ⟨v5, hv5, h⟩ := bd1_some h
      refine r_int (run_s (As := [.int (t1.1 105 (t1.1 200 2).toNatClampNeg)]) (rest := []) C (mX4_isDigit hv5) q664 q665 q171 q666 ⟨rfl, rfl⟩ hdX4_isDigit ⟨Nat.le_of_ble_eq_true rfl, Nat.le_of_ble_eq_true rfl⟩ ⟨Nat.zero_le _, Nat.zero_le _⟩ rfl hl.1 rfl (Nat.le_of_ble_eq_true rfl) dX4_next_191) ?_
      refine lv_if_eq (tgt := 277) hx hb dX4_next_194 (by decide) (fun c => ?_) (fun c => ?_)
      · replace h := if_t c h
        refine lv_aload_n hx hb dX4_next_277 rfl (lv_at hl 0 rfl) ?_
        refine c_getT C hK hT hkl.1 0 (by decide) q517 rfl (v := .ref (a + 105)) rfl dX4_next_278 ?_
        refine lv_aload_n hx hb dX4_next_281 rfl (lv_at hl 0 rfl) ?_
        refine c_getT C hK hT hkl.1 2 (by decide) q519 rfl (v := .int (t1.1 200 2)) rfl dX4_next_282 ?_
        obtain ⟨hi6, h⟩ := ck_some h
        refine c_bld C hK hT 105 300 (by decide) (fun _ _ => rfl) hi6 dX4_next_285 ?_
        refine lv_topi (fun v7 ev7 => ?_)
        replace h := lt1_sub ev7 h
        refine lv_istore_n (lv' := [(1, .int v7), (0, .ref k.1)]) hx hb dX4_next_286 rfl hl (by decide) rfl (fun ls hl => ?_)
        refine lv_aload_n hx hb dX4_next_287 rfl (lv_at hl 1 rfl) ?_
        refine lv_dup hx hb dX4_next_288 rfl ?_
        refine c_getT C hK hT hkl.1 2 (by decide) q519 rfl (v := .int (t1.1 200 2)) rfl dX4_next_289 ?_
        refine lv_iconst (v := 1) hx hb dX4_next_292 (by decide) ?_
        refine lv_iadd hx hb dX4_next_293 ?_
        refine c_putT C hK hT hkl.1 hS 2 (by decide) q519 rfl rfl (tyX4_ok 2 (by decide)) dX4_next_294 (fun t8 H locs et8 hT hS hK => ?_)
        replace h := lt1_sub et8 h
        refine lv_aload_n hx hb dX4_next_297 rfl (lv_at hl 1 rfl) ?_
        refine lv_sipush (v := 302) hx hb dX4_next_298 (by decide) ?_
        refine c_putT C hK hT hkl.1 hS 4 (by decide) q521 rfl rfl (tyX4_ok 4 (by decide)) dX4_next_301 (fun t9 H locs et9 hT hS hK => ?_)
        replace h := lt1_sub et9 h
        refine lv_iconst (v := 0) hx hb dX4_next_304 (by decide) ?_
        refine lv_istore_n (lv' := [(2, .int (0 : Int32)), (1, .int v7), (0, .ref k.1)]) hx hb dX4_next_305 rfl hl (by decide) rfl (fun ls hl => ?_)
        exact bX4_next_p306 C hkl fu t9 v7 (0 : Int32) H locs hT hS hK ls h (lv_sub hl [2, 1, 0] rfl)
      · replace h := if_f c h
        refine lv_aload_n hx hb dX4_next_197 rfl (lv_at hl 0 rfl) ?_
        refine lv_sipush (v := 300) hx hb dX4_next_198 (by decide) ?_
        refine c_putT C hK hT hkl.1 hS 4 (by decide) q521 rfl rfl (tyX4_ok 4 (by decide)) dX4_next_201 (fun t10 H locs et10 hT hS hK => ?_)
        replace h := lt1_sub et10 h
        refine lv_aload_n hx hb dX4_next_204 rfl (lv_at hl 0 rfl) ?_
        refine lv_iconst (v := 0) hx hb dX4_next_205 (by decide) ?_
        refine c_putT C hK hT hkl.1 hS 5 (by decide) q522 rfl rfl (tyX4_ok 5 (by decide)) dX4_next_206 (fun t11 H locs et11 hT hS hK => ?_)
        replace h := lt1_sub et11 h
        exact bX4_next_p209 C hkl fu t11 H locs hT hS hK ls h (lv_sub hl [0] rfl)
    · replace h := if_f c h
      exact bX4_next_p96 C hkl fu t1 H locs hT hS hK ls h (lv_sub hl [0] rfl)
  · replace h := if_t c h
    refine lv_aload_n hx hb dX4_next_71 rfl (lv_at hl 0 rfl) ?_
    refine lv_sipush (v := 301) hx hb dX4_next_72 (by decide) ?_
    refine c_putT C hK hT hkl.1 hS 4 (by decide) q521 rfl rfl (tyX4_ok 4 (by decide)) dX4_next_75 (fun t12 H locs et12 hT hS hK => ?_)
    replace h := lt1_sub et12 h
    refine lv_goto (tgt := 402) hx hb dX4_next_78 (by decide) ?_
    exact ec_v C hT hS h dX4_next_402
theorem bX4_next_p0 {p : Program} {l : Launch} {e : Env} {s : State} {m : MethodId} {args : Array Value} {below : List Frame} {meth : Method} {c : Code} {D : va_G} {dA : Nat → ClassId} {a : Nat} {k : KP a} {t0 : CS} {t9 : CS} (C : cx p s m args meth c cX4_next RX4 3 none) (hkl : k.1 ≠ a ∧ l.stackTraces = false) : ∀ (n : Nat), ∀ (t : CS) (H : Heap) (locs : List Loc) (hT : cW D dA a k t H) (hS : cS a s.heap H locs t0.2.2.2 0 t) (hK : kC D dA a k t.2.2.2 s) (ls : Array Slot), C_X4_next_p0 n t = some t9 → lv_has ls 3 [(0, .ref k.1)] → W p l e rmX4_next s m args below meth c H locs 0 0 (MQ below (cQ D dA a k 0 t0 t9 none) args s 0 0 (ca a)) (F0 m 0 ls []) := by
  obtain ⟨hx, hb, hr, hml, hown, hts, hlocks⟩ := id C
  intro n
  induction n with
  | zero =>
    intro t H locs hT hS hK ls h hl
    have h : none = some _ := h
    cases h
  | succ n ih =>
    intro t H locs hT hS hK ls h hl
    rw [C_X4_next_p0] at h
    refine lv_aload_n hx hb dX4_next_0 rfl (lv_at hl 0 rfl) ?_
    refine c_getT C hK hT hkl.1 2 (by decide) q519 rfl (v := .int (t.1 200 2)) rfl dX4_next_1 ?_
    refine lv_aload_n hx hb dX4_next_4 rfl (lv_at hl 0 rfl) ?_
    refine c_getT C hK hT hkl.1 1 (by decide) q518 rfl (v := .int (t.1 200 1)) rfl dX4_next_5 ?_
    refine lv_icmp_ge (tgt := 52) hx hb dX4_next_8 (by decide) (fun c => ?_) (fun c => ?_)
    · replace h := if_t c h
      exact bX4_next_p52 C hkl t H locs hT hS hK ls h (lv_sub hl [0] rfl)
    · replace h := if_f c h
      refine lv_aload_n hx hb dX4_next_11 rfl (lv_at hl 0 rfl) ?_
      refine c_getT C hK hT hkl.1 0 (by decide) q517 rfl (v := .ref (a + 105)) rfl dX4_next_12 ?_
      refine lv_aload_n hx hb dX4_next_15 rfl (lv_at hl 0 rfl) ?_
      refine c_getT C hK hT hkl.1 2 (by decide) q519 rfl (v := .int (t.1 200 2)) rfl dX4_next_16 ?_
      obtain ⟨hi1, h⟩ := ck_some h
      refine c_bld C hK hT 105 300 (by decide) (fun _ _ => rfl) hi1 dX4_next_19 ?_
      refine lv_bipush (v := 32) hx hb dX4_next_20 (by decide) ?_
      refine lv_icmp_eq (tgt := 39) hx hb dX4_next_22 (by decide) (fun c => ?_) (fun c => ?_)
      · replace h := if_t c h
        exact bX4_next_p39 C hkl ih t H locs hT hS hK ls h (lv_sub hl [0] rfl)
      · replace h := if_f c h
        refine lv_aload_n hx hb dX4_next_25 rfl (lv_at hl 0 rfl) ?_
        refine c_getT C hK hT hkl.1 0 (by decide) q517 rfl (v := .ref (a + 105)) rfl dX4_next_26 ?_
        refine lv_aload_n hx hb dX4_next_29 rfl (lv_at hl 0 rfl) ?_
        refine c_getT C hK hT hkl.1 2 (by decide) q519 rfl (v := .int (t.1 200 2)) rfl dX4_next_30 ?_
        obtain ⟨hi2, h⟩ := ck_some h
        refine c_bld C hK hT 105 300 (by decide) (fun _ _ => rfl) hi2 dX4_next_33 ?_
        refine lv_bipush (v := 10) hx hb dX4_next_34 (by decide) ?_
        refine lv_icmp_ne (tgt := 52) hx hb dX4_next_36 (by decide) (fun c => ?_) (fun c => ?_)
        · replace h := if_f c h
          exact bX4_next_p52 C hkl t H locs hT hS hK ls h (lv_sub hl [0] rfl)
        · replace h := if_t c h
          exact bX4_next_p39 C hkl ih t H locs hT hS hK ls h (lv_sub hl [0] rfl)
theorem bX4_next {p : Program} {l : Launch} {e : Env} {s : State} {m : MethodId} {args : Array Value} {below : List Frame} {meth : Method} {c : Code} {D : va_G} {dA : Nat → ClassId} {a : Nat} {k : KP a} {t0 : CS} {t9 : CS} (C : cx p s m args meth c cX4_next RX4 3 none) (hkl : k.1 ≠ a ∧ l.stackTraces = false) : ∀ (t : CS) (H : Heap) (locs : List Loc) (hT : cW D dA a k t H) (hS : cS a s.heap H locs t0.2.2.2 0 t) (hK : kC D dA a k t.2.2.2 s) (ls : Array Slot), C_X4_next t = some t9 → lv_has ls 3 [(0, .ref k.1)] → W p l e rmX4_next s m args below meth c H locs 0 0 (MQ below (cQ D dA a k 0 t0 t9 none) args s 0 0 (ca a)) (F0 m 0 ls []) := by
  obtain ⟨hx, hb, hr, hml, hown, hts, hlocks⟩ := id C
  intro t H locs hT hS hK ls h hl
  unfold C_X4_next at h
  exact bX4_next_p0 C hkl fu t H locs hT hS hK ls h (lv_sub hl [0] rfl)
theorem mX4_next {l : Launch} {D : va_G} {dA : Nat → ClassId} {a : Nat} {k : KP a} {t : CS} {t9 : CS} (hkl : k.1 ≠ a ∧ l.stackTraces = false) (h : C_X4_next t = some t9) : Met l yX4_next (ws_ yX4_next cX4_next 3 none) rmX4_next (cPc D dA a k t [.ref k.1]) (cQ D dA a k 0 t t9 none) 0 0 (ca a) := en_C (by decide +kernel) rfl (Nat.le_of_ble_eq_true rfl) (fun p e s m below meth c ls C hK hT hl => bX4_next C hkl t _ [] hT cS.rf hK ls h hl)
set_option maxRecDepth 20000 in
abbrev rmX4_opens (t t9 : CS) : Room := { frames := 21, cells := t9.2.2.2 0 - t.2.2.2 0, slots := t9.2.2.2 1 - t.2.2.2 1, locals := 221 }
theorem hdX4_opens : yX4_opens.cls = RX4 ∧ yX4_opens.cls ≠ "java/lang/invoke/MethodHandle" ∧ yX4_opens.cls ≠ "java/lang/invoke/VarHandle" ∧ (parseMethodDescriptor yX4_opens.desc).map (fun d => d.parameters.length) = some 0 := by decide +kernel
theorem bX4_opens_p14 {p : Program} {l : Launch} {e : Env} {s : State} {m : MethodId} {args : Array Value} {below : List Frame} {meth : Method} {c : Code} {D : va_G} {dA : Nat → ClassId} {a : Nat} {k : KP a} {t0 : CS} {r : Except Nat Unit} {t9 : CS} (C : cx p s m args meth c cX4_opens RX4 1 none) (hxt : ∀ x ∈ c.exceptionTable.toList, False) (hkl : k.1 ≠ a ∧ l.stackTraces = false) : ∀ (t : CS) (y0 : Nat) (H : Heap) (locs : List Loc) (hT : cW D dA a k t H) (hS : cS a s.heap H locs t0.2.2.2 2 t) (hK : kC D dA a k t.2.2.2 s) (hm : mo t0 t) (ls : Array Slot), C_X4_opens_p14 t y0 = some (r, t9) → lv_has ls 1 [] → W p l e (rmX4_opens t0 t9) s m args below meth c H locs (t.2.2.2 0 - t0.2.2.2 0) (t.2.2.2 1 - t0.2.2.2 1) (vx_MQ below (xQ D dA a k t0 t9 fU r) (xX D dA a k t0 t9 r) args s (t9.2.2.2 0 - t0.2.2.2 0) (t9.2.2.2 1 - t0.2.2.2 1) (ca a)) (F0 m 14 ls [.ref y0]) := by
  obtain ⟨hx, hb, hr, hml, hown, hts, hlocks⟩ := id C
  intro t y0 H locs hT hS hK hm ls h hl
  have m9 : mo t t9 := mo_C_X4_opens_p14 h
  unfold C_X4_opens_p14 at h
  obtain ⟨hw1, h⟩ := ckW_some h
  cases h
  exact ex_thr C hxt hK hT hS hw1 dX4_opens_14
theorem bX4_opens {p : Program} {l : Launch} {e : Env} {s : State} {m : MethodId} {args : Array Value} {below : List Frame} {meth : Method} {c : Code} {D : va_G} {dA : Nat → ClassId} {a : Nat} {k : KP a} {t0 : CS} {r : Except Nat Unit} {t9 : CS} (C : cx p s m args meth c cX4_opens RX4 1 none) (hxt : ∀ x ∈ c.exceptionTable.toList, False) (hkl : k.1 ≠ a ∧ l.stackTraces = false) : ∀ (t : CS) (H : Heap) (locs : List Loc) (hT : cW D dA a k t H) (hS : cS a s.heap H locs t0.2.2.2 2 t) (hK : kC D dA a k t.2.2.2 s) (hm : mo t0 t) (ls : Array Slot), C_X4_opens t = some (r, t9) → lv_has ls 1 [(0, .ref k.1)] → W p l e (rmX4_opens t0 t9) s m args below meth c H locs (t.2.2.2 0 - t0.2.2.2 0) (t.2.2.2 1 - t0.2.2.2 1) (vx_MQ below (xQ D dA a k t0 t9 fU r) (xX D dA a k t0 t9 r) args s (t9.2.2.2 0 - t0.2.2.2 0) (t9.2.2.2 1 - t0.2.2.2 1) (ca a)) (F0 m 0 ls []) := by
  obtain ⟨hx, hb, hr, hml, hown, hts, hlocks⟩ := id C
  intro t H locs hT hS hK hm ls h hl
  have m9 : mo t t9 := mo_C_X4_opens h
  unfold C_X4_opens at h
  refine lv_aload_n hx hb dX4_opens_0 rfl (lv_at hl 0 rfl) ?_
  refine c_getT C hK hT hkl.1 6 (by decide) q523 rfl (v := .int (t.1 200 6)) rfl dX4_opens_1 ?_
  refine lv_bipush (v := 8) hx hb dX4_opens_4 (by decide) ?_
  refine lv_icmp_ne (tgt := 15) hx hb dX4_opens_6 (by decide) (fun c => ?_) (fun c => ?_)
  · replace h := if_f c h
    refine lv_aload_n hx hb dX4_opens_15 rfl (lv_at hl 0 rfl) ?_
    refine lv_dup hx hb dX4_opens_16 rfl ?_
    refine c_getT C hK hT hkl.1 6 (by decide) q523 rfl (v := .int (t.1 200 6)) rfl dX4_opens_17 ?_
    refine lv_iconst (v := 1) hx hb dX4_opens_20 (by decide) ?_
    refine lv_iadd hx hb dX4_opens_21 ?_
    refine c_putT C hK hT hkl.1 hS 6 (by decide) q523 rfl rfl (tyX4_ok 6 (by decide)) dX4_opens_22 (fun t1 H locs et1 hT hS hK => ?_)
    replace h := lt1_sub et1 h
    have mm : mo t t1 := mo.nn (by rw [et1]; rfl)
    replace hm := hm.tr mm
    replace m9 : mo t1 t9 := mo.bk (by rw [et1]; rfl) m9
    refine W.widen (mo_s mm).1 (mo_s mm).2 ?_
    refine lv_aload_n hx hb dX4_opens_25 rfl (lv_at hl 0 rfl) ?_
    obtain ⟨t2, ht2, h⟩ := bd1_some h
    refine wc_void hS hK (run_c (As := []) (rest := []) C hK hT hS.2.1 (rv_T hK hT hkl.1) (mX4_next hkl ht2) q603 q605 qs3 q171 q606 ⟨rfl, rfl⟩ hdX4_next ⟨Nat.le_of_ble_eq_true rfl, Nat.le_of_ble_eq_true rfl⟩ (mo_z m9) rfl hl.1 rfl (Nat.le_of_ble_eq_true rfl) dX4_opens_26) (fun H locs hT hS hK hNt2 => ?_)
    have mm : mo t1 t2 := mo.ni hNt2
    replace hm := hm.tr mm
    replace m9 : mo t2 t9 := mo.bk (funext fun i => hNt2 i (Nat.zero_le _)) m9
    refine W.widen (mo_s mm).1 (mo_s mm).2 ?_
    cases h
    exact toX (ec_v C hT hS rfl dX4_opens_29)
  · replace h := if_t c h
    refine lv_aload_n hx hb dX4_opens_9 rfl (lv_at hl 0 rfl) ?_
    refine lv_iconst (v := 3) hx hb dX4_opens_10 (by decide) ?_
    obtain ⟨v4, t3, ht3, h⟩ := bd2_some h
    have mm : mo t t3 := mo_C_wrong ht3
    have m9 : mo t3 t9 := mo_C_X4_opens_p14 h
    refine wa_ref hS hK (run_c (As := [.int (3 : Int32)]) (rest := []) C hK hT hS.2.1 (rv_T hK hT hkl.1) (mX4_wrong hkl ht3) q672 q674 qs5 q171 q675 ⟨rfl, rfl⟩ hdX4_wrong ⟨Nat.le_of_ble_eq_true rfl, Nat.le_of_ble_eq_true rfl⟩ (mo_c hm mm m9) rfl hl.1 rfl (Nat.le_of_ble_eq_true rfl) dX4_opens_11) (fun H locs hT hS hK => ?_)
    refine W.widen (mo_c hm mm mo.rf).1 (mo_c hm mm mo.rf).2 ?_
    replace hm := hm.tr mm
    exact bX4_opens_p14 C hxt hkl t3 v4 H locs hT hS hK hm ls h (lv_sub hl [] rfl)
theorem mX4_opens {l : Launch} {D : va_G} {dA : Nat → ClassId} {a : Nat} {k : KP a} {t : CS} {r : Except Nat Unit} {t9 : CS} (hkl : k.1 ≠ a ∧ l.stackTraces = false) (h : C_X4_opens t = some (r, t9)) : vx_Met l yX4_opens (ws_ yX4_opens cX4_opens 1 none) (rmX4_opens t t9) (cPc D dA a k t [.ref k.1]) (xQ D dA a k t t9 fU r) (xX D dA a k t t9 r) (t9.2.2.2 0 - t.2.2.2 0) (t9.2.2.2 1 - t.2.2.2 1) (ca a) := en_X (by decide +kernel) rfl (Nat.le_of_ble_eq_true rfl) (fun p e s m below meth c ls C hxt hK hT hl => sub0 (bX4_opens C hxt hkl t _ [] hT cS.rf hK mo.rf ls h hl))
set_option maxRecDepth 20000 in
abbrev rmX10_init : Room := { frames := 2, cells := 0, slots := 0, locals := 50 }
theorem hdX10_init : yX10_init.name = "<init>" ∧ yX10_init.cls ≠ "java/lang/invoke/MethodHandle" ∧ yX10_init.cls ≠ "java/lang/invoke/VarHandle" ∧ (parseMethodDescriptor yX10_init.desc).map (fun d => d.parameters.length) = some 1 := by decide +kernel
theorem bX10_init {p : Program} {l : Launch} {e : Env} {s : State} {m : MethodId} {args : Array Value} {below : List Frame} {meth : Method} {c : Code} {D : va_G} {dA : Nat → ClassId} {a : Nat} {k : KP a} {t0 : CS} {t9 : CS} (C : cx p s m args meth c cX10_init RX10 2 none) (hin : meth.name = "<init>") : ∀ (t : CS) (x0 : Nat) (x1 : Int32) (H : Heap) (locs : List Loc) (hT : cW D dA a k t H) (hS : cS a s.heap H locs t0.2.2.2 0 t) (hK : kC D dA a k t.2.2.2 s) (ls : Array Slot), C_X10_init t x0 x1 = some t9 → lv_has ls 2 [(0, .ref x0), (1, .int x1)] → W p l e rmX10_init s m args below meth c H locs 0 0 (MQ below (cQ D dA a k 0 t0 t9 none) args s 0 0 (ca a)) (F0 m 0 ls []) := by
  obtain ⟨hx, hb, hr, hml, hown, hts, hlocks⟩ := id C
  intro t x0 x1 H locs hT hS hK ls h hl
  unfold C_X10_init at h
  refine lv_aload_n hx hb dX10_init_0 rfl (lv_at hl 0 rfl) ?_
  obtain ⟨v1, hv1, h⟩ := bd1_some h
  refine r_void (run_i (As := []) (rest := []) C hK hT hS.2.1 (mJ6_init hv1) q809 q473 q169 q474 ⟨rfl, rfl⟩ hdJ6_init ⟨Nat.le_of_ble_eq_true rfl, Nat.le_of_ble_eq_true rfl⟩ ⟨Nat.zero_le _, Nat.zero_le _⟩ rfl hl.1 rfl (Nat.le_of_ble_eq_true rfl) dX10_init_1) ?_
  refine lv_aload_n hx hb dX10_init_4 rfl (lv_at hl 0 rfl) ?_
  refine lv_iload_n hx hb dX10_init_5 rfl (lv_at hl 1 rfl) ?_
  obtain ⟨t2, ht2, h⟩ := bd1_some h
  refine d_put (ci := 10) in_X10 tyX10 tyX10_ok nmX10 rfl C hK hT hS 0 (by decide) q810 rfl (Or.inr ⟨rfl, hin, rfl⟩) ht2 (tyX10_ok 0 (by decide)) rfl rfl dX10_init_6 (fun H locs hT hS hK => ?_)
  exact ec_v C hT hS h dX10_init_9
theorem mX10_init {l : Launch} {D : va_G} {dA : Nat → ClassId} {a : Nat} {k : KP a} {t : CS} {x0 : Nat} {x1 : Int32} {t9 : CS} (h : C_X10_init t x0 x1 = some t9) : Met l yX10_init (ws_ yX10_init cX10_init 2 none) rmX10_init (cPc D dA a k t [.ref x0, .int x1]) (cQ D dA a k 0 t t9 none) 0 0 (ca a) := en_Ci (by decide +kernel) rfl (Nat.le_of_ble_eq_true rfl) (fun p e s m below meth c ls C hin hK hT hl => bX10_init C hin t x0 x1 _ [] hT cS.rf hK ls h hl)
set_option maxRecDepth 20000 in
abbrev rmX4_number (t t9 : CS) : Room := { frames := 21, cells := t9.2.2.2 0 - t.2.2.2 0, slots := t9.2.2.2 1 - t.2.2.2 1, locals := 221 }
theorem hdX4_number : yX4_number.cls = RX4 ∧ yX4_number.cls ≠ "java/lang/invoke/MethodHandle" ∧ yX4_number.cls ≠ "java/lang/invoke/VarHandle" ∧ (parseMethodDescriptor yX4_number.desc).map (fun d => d.parameters.length) = some 2 := by decide +kernel
theorem bX4_number_p15 {p : Program} {l : Launch} {e : Env} {s : State} {m : MethodId} {args : Array Value} {below : List Frame} {meth : Method} {c : Code} {D : va_G} {dA : Nat → ClassId} {a : Nat} {k : KP a} {t0 : CS} {r : Except Nat Int32} {t9 : CS} (C : cx p s m args meth c cX4_number RX4 4 (some .int)) (hxt : ∀ x ∈ c.exceptionTable.toList, False) (hkl : k.1 ≠ a ∧ l.stackTraces = false) : ∀ (t : CS) (y0 : Nat) (H : Heap) (locs : List Loc) (hT : cW D dA a k t H) (hS : cS a s.heap H locs t0.2.2.2 2 t) (hK : kC D dA a k t.2.2.2 s) (hm : mo t0 t) (ls : Array Slot), C_X4_number_p15 t y0 = some (r, t9) → lv_has ls 4 [] → W p l e (rmX4_number t0 t9) s m args below meth c H locs (t.2.2.2 0 - t0.2.2.2 0) (t.2.2.2 1 - t0.2.2.2 1) (vx_MQ below (xQ D dA a k t0 t9 fI r) (xX D dA a k t0 t9 r) args s (t9.2.2.2 0 - t0.2.2.2 0) (t9.2.2.2 1 - t0.2.2.2 1) (ca a)) (F0 m 15 ls [.ref y0]) := by
  obtain ⟨hx, hb, hr, hml, hown, hts, hlocks⟩ := id C
  intro t y0 H locs hT hS hK hm ls h hl
  have m9 : mo t t9 := mo_C_X4_number_p15 h
  unfold C_X4_number_p15 at h
  obtain ⟨hw1, h⟩ := ckW_some h
  cases h
  exact ex_thr C hxt hK hT hS hw1 dX4_number_15
theorem bX4_number_p37 {p : Program} {l : Launch} {e : Env} {s : State} {m : MethodId} {args : Array Value} {below : List Frame} {meth : Method} {c : Code} {D : va_G} {dA : Nat → ClassId} {a : Nat} {k : KP a} {t0 : CS} {r : Except Nat Int32} {t9 : CS} (C : cx p s m args meth c cX4_number RX4 4 (some .int)) (hxt : ∀ x ∈ c.exceptionTable.toList, False) (hkl : k.1 ≠ a ∧ l.stackTraces = false) : ∀ (t : CS) (y0 : Nat) (H : Heap) (locs : List Loc) (hT : cW D dA a k t H) (hS : cS a s.heap H locs t0.2.2.2 2 t) (hK : kC D dA a k t.2.2.2 s) (hm : mo t0 t) (ls : Array Slot), C_X4_number_p37 t y0 = some (r, t9) → lv_has ls 4 [] → W p l e (rmX4_number t0 t9) s m args below meth c H locs (t.2.2.2 0 - t0.2.2.2 0) (t.2.2.2 1 - t0.2.2.2 1) (vx_MQ below (xQ D dA a k t0 t9 fI r) (xX D dA a k t0 t9 r) args s (t9.2.2.2 0 - t0.2.2.2 0) (t9.2.2.2 1 - t0.2.2.2 1) (ca a)) (F0 m 37 ls [.ref y0]) := by
  obtain ⟨hx, hb, hr, hml, hown, hts, hlocks⟩ := id C
  intro t y0 H locs hT hS hK hm ls h hl
  have m9 : mo t t9 := mo_C_X4_number_p37 h
  unfold C_X4_number_p37 at h
  obtain ⟨hw1, h⟩ := ckW_some h
  cases h
  exact ex_thr C hxt hK hT hS hw1 dX4_number_37
theorem bX4_number_p32 {p : Program} {l : Launch} {e : Env} {s : State} {m : MethodId} {args : Array Value} {below : List Frame} {meth : Method} {c : Code} {D : va_G} {dA : Nat → ClassId} {a : Nat} {k : KP a} {t0 : CS} {r : Except Nat Int32} {t9 : CS} (C : cx p s m args meth c cX4_number RX4 4 (some .int)) (hxt : ∀ x ∈ c.exceptionTable.toList, False) (hkl : k.1 ≠ a ∧ l.stackTraces = false) : ∀ (t : CS) (H : Heap) (locs : List Loc) (hT : cW D dA a k t H) (hS : cS a s.heap H locs t0.2.2.2 2 t) (hK : kC D dA a k t.2.2.2 s) (hm : mo t0 t) (ls : Array Slot), C_X4_number_p32 t = some (r, t9) → lv_has ls 4 [(0, .ref k.1)] → W p l e (rmX4_number t0 t9) s m args below meth c H locs (t.2.2.2 0 - t0.2.2.2 0) (t.2.2.2 1 - t0.2.2.2 1) (vx_MQ below (xQ D dA a k t0 t9 fI r) (xX D dA a k t0 t9 r) args s (t9.2.2.2 0 - t0.2.2.2 0) (t9.2.2.2 1 - t0.2.2.2 1) (ca a)) (F0 m 32 ls []) := by
  obtain ⟨hx, hb, hr, hml, hown, hts, hlocks⟩ := id C
  intro t H locs hT hS hK hm ls h hl
  have m9 : mo t t9 := mo_C_X4_number_p32 h
  unfold C_X4_number_p32 at h
  refine lv_aload_n hx hb dX4_number_32 rfl (lv_at hl 0 rfl) ?_
  refine lv_iconst (v := 2) hx hb dX4_number_33 (by decide) ?_
  obtain ⟨v2, t1, ht1, h⟩ := bd2_some h
  have mm : mo t t1 := mo_C_wrong ht1
  have m9 : mo t1 t9 := mo_C_X4_number_p37 h
  refine wa_ref hS hK (run_c (As := [.int (2 : Int32)]) (rest := []) C hK hT hS.2.1 (rv_T hK hT hkl.1) (mX4_wrong hkl ht1) q672 q674 qs5 q171 q675 ⟨rfl, rfl⟩ hdX4_wrong ⟨Nat.le_of_ble_eq_true rfl, Nat.le_of_ble_eq_true rfl⟩ (mo_c hm mm m9) rfl hl.1 rfl (Nat.le_of_ble_eq_true rfl) dX4_number_34) (fun H locs hT hS hK => ?_)
  refine W.widen (mo_c hm mm mo.rf).1 (mo_c hm mm mo.rf).2 ?_
  replace hm := hm.tr mm
  exact bX4_number_p37 C hxt hkl t1 v2 H locs hT hS hK hm ls h (lv_sub hl [] rfl)
theorem bX4_number {p : Program} {l : Launch} {e : Env} {s : State} {m : MethodId} {args : Array Value} {below : List Frame} {meth : Method} {c : Code} {D : va_G} {dA : Nat → ClassId} {a : Nat} {k : KP a} {t0 : CS} {r : Except Nat Int32} {t9 : CS} (C : cx p s m args meth c cX4_number RX4 4 (some .int)) (hxt : ∀ x ∈ c.exceptionTable.toList, False) (hkl : k.1 ≠ a ∧ l.stackTraces = false) : ∀ (t : CS) (x1 : Int32) (x2 : Int32) (H : Heap) (locs : List Loc) (hT : cW D dA a k t H) (hS : cS a s.heap H locs t0.2.2.2 2 t) (hK : kC D dA a k t.2.2.2 s) (hm : mo t0 t) (ls : Array Slot), C_X4_number t x1 x2 = some (r, t9) → lv_has ls 4 [(0, .ref k.1), (1, .int x1), (2, .int x2)] → W p l e (rmX4_number t0 t9) s m args below meth c H locs (t.2.2.2 0 - t0.2.2.2 0) (t.2.2.2 1 - t0.2.2.2 1) (vx_MQ below (xQ D dA a k t0 t9 fI r) (xX D dA a k t0 t9 r) args s (t9.2.2.2 0 - t0.2.2.2 0) (t9.2.2.2 1 - t0.2.2.2 1) (ca a)) (F0 m 0 ls []) := by
  obtain ⟨hx, hb, hr, hml, hown, hts, hlocks⟩ := id C
  intro t x1 x2 H locs hT hS hK hm ls h hl
  have m9 : mo t t9 := mo_C_X4_number h
  unfold C_X4_number at h
  refine lv_aload_n hx hb dX4_number_0 rfl (lv_at hl 0 rfl) ?_
  refine c_getT C hK hT hkl.1 4 (by decide) q521 rfl (v := .int (t.1 200 4)) rfl dX4_number_1 ?_
  refine lv_sipush (v := 300) hx hb dX4_number_4 (by decide) ?_
  refine lv_icmp_eq (tgt := 16) hx hb dX4_number_7 (by decide) (fun c => ?_) (fun c => ?_)
  · replace h := if_t c h
    refine lv_aload_n hx hb dX4_number_16 rfl (lv_at hl 0 rfl) ?_
    refine c_getT C hK hT hkl.1 5 (by decide) q522 rfl (v := .int (t.1 200 5)) rfl dX4_number_17 ?_
    refine lv_iload_n hx hb dX4_number_20 rfl (lv_at hl 1 rfl) ?_
    refine lv_icmp_lt (tgt := 32) hx hb dX4_number_21 (by decide) (fun c => ?_) (fun c => ?_)
    · replace h := if_t c h
      exact bX4_number_p32 C hxt hkl t H locs hT hS hK hm ls h (lv_sub hl [0] rfl)
    · replace h := if_f c h
      refine lv_aload_n hx hb dX4_number_24 rfl (lv_at hl 0 rfl) ?_
      refine c_getT C hK hT hkl.1 5 (by decide) q522 rfl (v := .int (t.1 200 5)) rfl dX4_number_25 ?_
      refine lv_iload_n hx hb dX4_number_28 rfl (lv_at hl 2 rfl) ?_
      refine lv_icmp_le (tgt := 38) hx hb dX4_number_29 (by decide) (fun c => ?_) (fun c => ?_)
      · replace h := if_t c h
        refine lv_aload_n hx hb dX4_number_38 rfl (lv_at hl 0 rfl) ?_
        refine c_getT C hK hT hkl.1 5 (by decide) q522 rfl (v := .int (t.1 200 5)) rfl dX4_number_39 ?_
        refine lv_topi (fun v1 ev1 => ?_)
        replace h := lt1_sub ev1 h
        refine lv_istore_n (lv' := [(3, .int v1), (0, .ref k.1), (1, .int x1), (2, .int x2)]) hx hb dX4_number_42 rfl hl (by decide) rfl (fun ls hl => ?_)
        refine lv_aload_n hx hb dX4_number_43 rfl (lv_at hl 1 rfl) ?_
        obtain ⟨t2, ht2, h⟩ := bd1_some h
        refine wc_void hS hK (run_c (As := []) (rest := []) C hK hT hS.2.1 (rv_T hK hT hkl.1) (mX4_next hkl ht2) q603 q605 qs3 q171 q606 ⟨rfl, rfl⟩ hdX4_next ⟨Nat.le_of_ble_eq_true rfl, Nat.le_of_ble_eq_true rfl⟩ (mo_z m9) rfl hl.1 rfl (Nat.le_of_ble_eq_true rfl) dX4_number_44) (fun H locs hT hS hK hNt2 => ?_)
        have mm : mo t t2 := mo.ni hNt2
        replace hm := hm.tr mm
        replace m9 : mo t2 t9 := mo.bk (funext fun i => hNt2 i (Nat.zero_le _)) m9
        refine W.widen (mo_s mm).1 (mo_s mm).2 ?_
        refine lv_iload_n hx hb dX4_number_47 rfl (lv_at hl 0 rfl) ?_
        cases h
        exact toX (ec_i C hT hS rfl dX4_number_48)
      · replace h := if_f c h
        exact bX4_number_p32 C hxt hkl t H locs hT hS hK hm ls h (lv_sub hl [0] rfl)
  · replace h := if_f c h
    refine lv_aload_n hx hb dX4_number_10 rfl (lv_at hl 0 rfl) ?_
    refine lv_iconst (v := 1) hx hb dX4_number_11 (by decide) ?_
    obtain ⟨v4, t3, ht3, h⟩ := bd2_some h
    have mm : mo t t3 := mo_C_wrong ht3
    have m9 : mo t3 t9 := mo_C_X4_number_p15 h
    refine wa_ref hS hK (run_c (As := [.int (1 : Int32)]) (rest := []) C hK hT hS.2.1 (rv_T hK hT hkl.1) (mX4_wrong hkl ht3) q672 q674 qs5 q171 q675 ⟨rfl, rfl⟩ hdX4_wrong ⟨Nat.le_of_ble_eq_true rfl, Nat.le_of_ble_eq_true rfl⟩ (mo_c hm mm m9) rfl hl.1 rfl (Nat.le_of_ble_eq_true rfl) dX4_number_12) (fun H locs hT hS hK => ?_)
    refine W.widen (mo_c hm mm mo.rf).1 (mo_c hm mm mo.rf).2 ?_
    replace hm := hm.tr mm
    exact bX4_number_p15 C hxt hkl t3 v4 H locs hT hS hK hm ls h (lv_sub hl [] rfl)
theorem mX4_number {l : Launch} {D : va_G} {dA : Nat → ClassId} {a : Nat} {k : KP a} {t : CS} {x1 : Int32} {x2 : Int32} {r : Except Nat Int32} {t9 : CS} (hkl : k.1 ≠ a ∧ l.stackTraces = false) (h : C_X4_number t x1 x2 = some (r, t9)) : vx_Met l yX4_number (ws_ yX4_number cX4_number 4 (some .int)) (rmX4_number t t9) (cPc D dA a k t [.ref k.1, .int x1, .int x2]) (xQ D dA a k t t9 fI r) (xX D dA a k t t9 r) (t9.2.2.2 0 - t.2.2.2 0) (t9.2.2.2 1 - t.2.2.2 1) (ca a) := en_X (by decide +kernel) rfl (Nat.le_of_ble_eq_true rfl) (fun p e s m below meth c ls C hxt hK hT hl => sub0 (bX4_number C hxt hkl t x1 x2 _ [] hT cS.rf hK mo.rf ls h hl))
set_option maxRecDepth 20000 in
abbrev rmX8_init (t t9 : CS) : Room := { frames := 4, cells := t9.2.2.2 0 - t.2.2.2 0, slots := t9.2.2.2 1 - t.2.2.2 1, locals := 90 }
theorem hdX8_init : yX8_init.name = "<init>" ∧ yX8_init.cls ≠ "java/lang/invoke/MethodHandle" ∧ yX8_init.cls ≠ "java/lang/invoke/VarHandle" ∧ (parseMethodDescriptor yX8_init.desc).map (fun d => d.parameters.length) = some 1 := by decide +kernel
theorem bX8_init_p19 {p : Program} {l : Launch} {e : Env} {s : State} {m : MethodId} {args : Array Value} {below : List Frame} {meth : Method} {c : Code} {D : va_G} {dA : Nat → ClassId} {a : Nat} {k : KP a} {t0 : CS} {t9 : CS} (C : cx p s m args meth c cX8_init RX8 2 none) (hin : meth.name = "<init>") : ∀ (t : CS) (x0 : Nat) (x1 : Nat) (y0 : Nat) (y1 : Nat) (H : Heap) (locs : List Loc) (hT : cW D dA a k t H) (hS : cS a s.heap H locs t0.2.2.2 2 t) (hK : kC D dA a k t.2.2.2 s) (hm : mo t0 t) (ls : Array Slot), C_X8_init_p19 t x0 x1 y0 y1 = some t9 → lv_has ls 2 [(0, .ref x0), (1, .ref x1)] → W p l e (rmX8_init t0 t9) s m args below meth c H locs (t.2.2.2 0 - t0.2.2.2 0) (t.2.2.2 1 - t0.2.2.2 1) (MQ below (cQ D dA a k 2 t0 t9 none) args s (t9.2.2.2 0 - t0.2.2.2 0) (t9.2.2.2 1 - t0.2.2.2 1) (ca a)) (F0 m 19 ls [.ref y1, .ref y0]) := by
  obtain ⟨hx, hb, hr, hml, hown, hts, hlocks⟩ := id C
  intro t x0 x1 y0 y1 H locs hT hS hK hm ls h hl
  have m9 : mo t t9 := mo_C_X8_init_p19 h
  unfold C_X8_init_p19 at h
  refine lv_dup hx hb dX8_init_19 rfl ?_
  obtain ⟨t1, ht1, h⟩ := bd1_some h
  refine wc_void hS hK (run_i (As := []) (rest := [.ref y1, .ref y0]) C hK hT hS.2.1 (mJ9_init ht1) q833 q555 q175 q556 ⟨rfl, rfl⟩ hdJ9_init ⟨Nat.le_of_ble_eq_true rfl, Nat.le_of_ble_eq_true rfl⟩ (mo_z m9) rfl hl.1 rfl (Nat.le_of_ble_eq_true rfl) dX8_init_20) (fun H locs hT hS hK hNt1 => ?_)
  have mm : mo t t1 := mo.ni hNt1
  replace hm := hm.tr mm
  replace m9 : mo t1 t9 := mo.bk (funext fun i => hNt1 i (Nat.zero_le _)) m9
  refine W.widen (mo_s mm).1 (mo_s mm).2 ?_
  obtain ⟨t2, ht2, h⟩ := bd1_some h
  refine d_put (ci := 8) in_X8 tyX8 tyX8_ok nmX8 rfl C hK hT hS 2 (by decide) q836 rfl (Or.inr ⟨rfl, hin, rfl⟩) ht2 (tyX8_ok 2 (by decide)) rfl rfl dX8_init_23 (fun H locs hT hS hK => ?_)
  have mm : mo t1 t2 := mo.nn (dpf_N ht2)
  replace hm := hm.tr mm
  replace m9 : mo t2 t9 := mo.bk (dpf_N ht2) m9
  refine W.widen (mo_s mm).1 (mo_s mm).2 ?_
  refine lv_aload_n hx hb dX8_init_26 rfl (lv_at hl 0 rfl) ?_
  refine lv_aload_n hx hb dX8_init_27 rfl (lv_at hl 1 rfl) ?_
  obtain ⟨t3, ht3, h⟩ := bd1_some h
  refine d_put (ci := 8) in_X8 tyX8 tyX8_ok nmX8 rfl C hK hT hS 0 (by decide) q834 rfl (Or.inr ⟨rfl, hin, rfl⟩) ht3 (tyX8_ok 0 (by decide)) rfl rfl dX8_init_28 (fun H locs hT hS hK => ?_)
  have mm : mo t2 t3 := mo.nn (dpf_N ht3)
  replace hm := hm.tr mm
  replace m9 : mo t3 t9 := mo.bk (dpf_N ht3) m9
  refine W.widen (mo_s mm).1 (mo_s mm).2 ?_
  cases h
  exact ec_v C hT hS rfl dX8_init_31
theorem bX8_init_p8 {p : Program} {l : Launch} {e : Env} {s : State} {m : MethodId} {args : Array Value} {below : List Frame} {meth : Method} {c : Code} {D : va_G} {dA : Nat → ClassId} {a : Nat} {k : KP a} {t0 : CS} {t9 : CS} (C : cx p s m args meth c cX8_init RX8 2 none) (hin : meth.name = "<init>") : ∀ (t : CS) (x0 : Nat) (x1 : Nat) (y0 : Nat) (y1 : Nat) (H : Heap) (locs : List Loc) (hT : cW D dA a k t H) (hS : cS a s.heap H locs t0.2.2.2 2 t) (hK : kC D dA a k t.2.2.2 s) (hm : mo t0 t) (ls : Array Slot), C_X8_init_p8 t x0 x1 y0 y1 = some t9 → lv_has ls 2 [(0, .ref x0), (1, .ref x1)] → W p l e (rmX8_init t0 t9) s m args below meth c H locs (t.2.2.2 0 - t0.2.2.2 0) (t.2.2.2 1 - t0.2.2.2 1) (MQ below (cQ D dA a k 2 t0 t9 none) args s (t9.2.2.2 0 - t0.2.2.2 0) (t9.2.2.2 1 - t0.2.2.2 1) (ca a)) (F0 m 8 ls [.ref y1, .ref y0]) := by
  obtain ⟨hx, hb, hr, hml, hown, hts, hlocks⟩ := id C
  intro t x0 x1 y0 y1 H locs hT hS hK hm ls h hl
  have m9 : mo t t9 := mo_C_X8_init_p8 h
  unfold C_X8_init_p8 at h
  refine lv_dup hx hb dX8_init_8 rfl ?_
  obtain ⟨t1, ht1, h⟩ := bd1_some h
  refine wc_void hS hK (run_i (As := []) (rest := [.ref y1, .ref y0]) C hK hT hS.2.1 (mJ9_init ht1) q833 q555 q175 q556 ⟨rfl, rfl⟩ hdJ9_init ⟨Nat.le_of_ble_eq_true rfl, Nat.le_of_ble_eq_true rfl⟩ (mo_z m9) rfl hl.1 rfl (Nat.le_of_ble_eq_true rfl) dX8_init_9) (fun H locs hT hS hK hNt1 => ?_)
  have mm : mo t t1 := mo.ni hNt1
  replace hm := hm.tr mm
  replace m9 : mo t1 t9 := mo.bk (funext fun i => hNt1 i (Nat.zero_le _)) m9
  refine W.widen (mo_s mm).1 (mo_s mm).2 ?_
  obtain ⟨t2, ht2, h⟩ := bd1_some h
  refine d_put (ci := 8) in_X8 tyX8 tyX8_ok nmX8 rfl C hK hT hS 1 (by decide) q835 rfl (Or.inr ⟨rfl, hin, rfl⟩) ht2 (tyX8_ok 1 (by decide)) rfl rfl dX8_init_12 (fun H locs hT hS hK => ?_)
  have mm : mo t1 t2 := mo.nn (dpf_N ht2)
  replace hm := hm.tr mm
  replace m9 : mo t2 t9 := mo.bk (dpf_N ht2) m9
  refine W.widen (mo_s mm).1 (mo_s mm).2 ?_
  refine lv_aload_n hx hb dX8_init_15 rfl (lv_at hl 0 rfl) ?_
  obtain ⟨t3, et3, h⟩ := lt1_ex h
  have m9 : mo t3 t9 := mo_C_X8_init_p19 h
  refine n_new (ci := 15) (fs := [.int 0, .null, .int 0]) in_J9 tyJ9 tyJ9_ok rfl C hK hT hS q832 q553 q175 (fun j hj => by rcases (show j = 0 ∨ j = 1 ∨ j = 2 by omega) with rfl | rfl | rfl <;> rfl) (mo_n hm et3 m9) dX8_init_16 (fun t_ H et_ hT hS hK => ?_)
  obtain rfl := et3.trans et_.symm
  refine W.widen (mo_n1 hm et3).1 (mo_n1 hm et3).2 ?_
  replace hm := hm.tr (mo.new et3)
  exact bX8_init_p19 C hin t3 x0 x1 x0 (t2.2.2.2 0) H locs hT hS hK hm ls h (lv_sub hl [0, 1] rfl)
theorem bX8_init {p : Program} {l : Launch} {e : Env} {s : State} {m : MethodId} {args : Array Value} {below : List Frame} {meth : Method} {c : Code} {D : va_G} {dA : Nat → ClassId} {a : Nat} {k : KP a} {t0 : CS} {t9 : CS} (C : cx p s m args meth c cX8_init RX8 2 none) (hin : meth.name = "<init>") : ∀ (t : CS) (x0 : Nat) (x1 : Nat) (H : Heap) (locs : List Loc) (hT : cW D dA a k t H) (hS : cS a s.heap H locs t0.2.2.2 2 t) (hK : kC D dA a k t.2.2.2 s) (hm : mo t0 t) (ls : Array Slot), C_X8_init t x0 x1 = some t9 → lv_has ls 2 [(0, .ref x0), (1, .ref x1)] → W p l e (rmX8_init t0 t9) s m args below meth c H locs (t.2.2.2 0 - t0.2.2.2 0) (t.2.2.2 1 - t0.2.2.2 1) (MQ below (cQ D dA a k 2 t0 t9 none) args s (t9.2.2.2 0 - t0.2.2.2 0) (t9.2.2.2 1 - t0.2.2.2 1) (ca a)) (F0 m 0 ls []) := by
  obtain ⟨hx, hb, hr, hml, hown, hts, hlocks⟩ := id C
  intro t x0 x1 H locs hT hS hK hm ls h hl
  have m9 : mo t t9 := mo_C_X8_init h
  unfold C_X8_init at h
  refine lv_aload_n hx hb dX8_init_0 rfl (lv_at hl 0 rfl) ?_
  refine W.objInit hx hb hown (hts _ q831) (hts _ q200) (hts _ q201) rfl (by rw [hml]; exact hl.1) rfl dX8_init_1 (Nat.le_of_ble_eq_true rfl) (Nat.le_of_ble_eq_true rfl) ?_
  refine W.eq (g2 := F0 m 4 ls []) rfl ?_
  refine lv_aload_n hx hb dX8_init_4 rfl (lv_at hl 0 rfl) ?_
  obtain ⟨t1, et1, h⟩ := lt1_ex h
  have m9 : mo t1 t9 := mo_C_X8_init_p8 h
  refine n_new (ci := 15) (fs := [.int 0, .null, .int 0]) in_J9 tyJ9 tyJ9_ok rfl C hK hT hS q832 q553 q175 (fun j hj => by rcases (show j = 0 ∨ j = 1 ∨ j = 2 by omega) with rfl | rfl | rfl <;> rfl) (mo_n hm et1 m9) dX8_init_5 (fun t_ H et_ hT hS hK => ?_)
  obtain rfl := et1.trans et_.symm
  refine W.widen (mo_n1 hm et1).1 (mo_n1 hm et1).2 ?_
  replace hm := hm.tr (mo.new et1)
  exact bX8_init_p8 C hin t1 x0 x1 x0 (t.2.2.2 0) H locs hT hS hK hm ls h (lv_sub hl [0, 1] rfl)
theorem mX8_init {l : Launch} {D : va_G} {dA : Nat → ClassId} {a : Nat} {k : KP a} {t : CS} {x0 : Nat} {x1 : Nat} {t9 : CS} (h : C_X8_init t x0 x1 = some t9) : Met l yX8_init (ws_ yX8_init cX8_init 2 none) (rmX8_init t t9) (cPc D dA a k t [.ref x0, .ref x1]) (cQ D dA a k 2 t t9 none) (t9.2.2.2 0 - t.2.2.2 0) (t9.2.2.2 1 - t.2.2.2 1) (ca a) := en_Ci (by decide +kernel) rfl (Nat.le_of_ble_eq_true rfl) (fun p e s m below meth c ls C hin hK hT hl => sub0 (bX8_init C hin t x0 x1 _ [] hT cS.rf hK mo.rf ls h hl))
set_option maxRecDepth 20000 in
abbrev rmJ9_isEmpty : Room := { frames := 0, cells := 0, slots := 0, locals := 0 }
theorem hdJ9_isEmpty : yJ9_isEmpty.cls = RJ9 ∧ yJ9_isEmpty.cls ≠ "java/lang/invoke/MethodHandle" ∧ yJ9_isEmpty.cls ≠ "java/lang/invoke/VarHandle" ∧ (parseMethodDescriptor yJ9_isEmpty.desc).map (fun d => d.parameters.length) = some 0 := by decide +kernel
theorem bJ9_isEmpty {p : Program} {l : Launch} {e : Env} {s : State} {m : MethodId} {args : Array Value} {below : List Frame} {meth : Method} {c : Code} {D : va_G} {dA : Nat → ClassId} {a : Nat} {k : KP a} {t : CS} {r : Int32} (C : cx p s m args meth c cJ9_isEmpty RJ9 1 (some .boolean)) (hK : kC D dA a k t.2.2.2 s) (hT : cW D dA a k t s.heap) : ∀ (x0 : Nat) (ls : Array Slot), J_J9_isEmpty t x0 = some r → lv_has ls 1 [(0, .ref x0)] → W p l e rmJ9_isEmpty s m args below meth c s.heap [] 0 0 (MQ below (rQi r) args s 0 0 nof) (F0 m 0 ls []) := by
  obtain ⟨hx, hb, hr, hml, hown, hts, hlocks⟩ := id C
  intro x0 ls h hl
  unfold J_J9_isEmpty at h
  refine lv_aload_n hx hb dJ9_isEmpty_0 rfl (lv_at hl 0 rfl) ?_
  obtain ⟨v1, hv1, h⟩ := bd1_some h
  refine d_get (ci := 15) in_J9 rfl C hK hT 2 (by decide) q567 rfl (gI_some hv1) dJ9_isEmpty_1 ?_
  refine lv_if_ne (tgt := 11) hx hb dJ9_isEmpty_4 (by decide) (fun c => ?_) (fun c => ?_)
  · replace h := if_f c h
    refine lv_iconst (v := 0) hx hb dJ9_isEmpty_11 (by decide) ?_
    exact e_rz C (Or.inl rfl) h dJ9_isEmpty_12
  · replace h := if_t c h
    refine lv_iconst (v := 1) hx hb dJ9_isEmpty_7 (by decide) ?_
    refine lv_goto (tgt := 12) hx hb dJ9_isEmpty_8 (by decide) ?_
    exact e_rz C (Or.inr rfl) h dJ9_isEmpty_12
theorem mJ9_isEmpty {l : Launch} {D : va_G} {dA : Nat → ClassId} {a : Nat} {k : KP a} {t : CS} {x0 : Nat} {r : Int32} (h : J_J9_isEmpty t x0 = some r) : Met l yJ9_isEmpty (ws_ yJ9_isEmpty cJ9_isEmpty 1 (some .boolean)) rmJ9_isEmpty (cPc D dA a k t [.ref x0]) (rQi r) 0 0 nof := en_C (by decide +kernel) rfl (Nat.le_of_ble_eq_true rfl) (fun p e s m below meth c ls C hK hT hl => bJ9_isEmpty C hK hT x0 ls h hl)
set_option maxRecDepth 20000 in
abbrev rmX8_itself : Room := { frames := 1, cells := 0, slots := 0, locals := 20 }
theorem hdX8_itself : yX8_itself.cls = RX8 ∧ yX8_itself.cls ≠ "java/lang/invoke/MethodHandle" ∧ yX8_itself.cls ≠ "java/lang/invoke/VarHandle" ∧ (parseMethodDescriptor yX8_itself.desc).map (fun d => d.parameters.length) = some 0 := by decide +kernel
theorem bX8_itself {p : Program} {l : Launch} {e : Env} {s : State} {m : MethodId} {args : Array Value} {below : List Frame} {meth : Method} {c : Code} {D : va_G} {dA : Nat → ClassId} {a : Nat} {k : KP a} {t : CS} {r : Nat} (C : cx p s m args meth c cX8_itself RX8 1 (some (.object "LettersOnStrike$Sum"))) (hK : kC D dA a k t.2.2.2 s) (hT : cW D dA a k t s.heap) : ∀ (x0 : Nat) (ls : Array Slot), C_X8_itself t x0 = some r → lv_has ls 1 [(0, .ref x0)] → W p l e rmX8_itself s m args below meth c s.heap [] 0 0 (MQ below (rQv (some (.ref r))) args s 0 0 nof) (F0 m 0 ls []) := by
  obtain ⟨hx, hb, hr, hml, hown, hts, hlocks⟩ := id C
  intro x0 ls h hl
  unfold C_X8_itself at h
  refine lv_aload_n hx hb dX8_itself_0 rfl (lv_at hl 0 rfl) ?_
  obtain ⟨v1, hv1, h⟩ := bd1_some h
  refine d_get (ci := 8) in_X8 rfl C hK hT 1 (by decide) q835 rfl (gR_some hv1) dX8_itself_1 ?_
  obtain ⟨hc2, h⟩ := ckC_some h
  obtain ⟨v3, hv3, h⟩ := bd1_some h
  refine r_int (run_c (As := []) (rest := []) C hK hT (fun _ _ => rfl) (rv_D (ci := 15) rfl hK hT hc2) (mJ9_isEmpty hv3) q933 q934 q935 q175 q936 ⟨rfl, rfl⟩ hdJ9_isEmpty ⟨Nat.le_of_ble_eq_true rfl, Nat.le_of_ble_eq_true rfl⟩ ⟨Nat.zero_le _, Nat.zero_le _⟩ rfl hl.1 rfl (Nat.le_of_ble_eq_true rfl) dX8_itself_4) ?_
  refine lv_if_eq (tgt := 17) hx hb dX8_itself_7 (by decide) (fun c => ?_) (fun c => ?_)
  · replace h := if_t c h
    refine lv_aload_n hx hb dX8_itself_17 rfl (lv_at hl 0 rfl) ?_
    exact e_rr C (Or.inl ⟨_, rfl⟩) h dX8_itself_18
  · replace h := if_f c h
    refine lv_aload_n hx hb dX8_itself_10 rfl (lv_at hl 0 rfl) ?_
    obtain ⟨v4, hv4, h⟩ := bd1_some h
    refine d_get (ci := 8) in_X8 rfl C hK hT 0 (by decide) q834 rfl (gR_some hv4) dX8_itself_11 ?_
    refine lv_goto (tgt := 18) hx hb dX8_itself_14 (by decide) ?_
    exact e_rr C (Or.inl ⟨_, rfl⟩) h dX8_itself_18
theorem mX8_itself {l : Launch} {D : va_G} {dA : Nat → ClassId} {a : Nat} {k : KP a} {t : CS} {x0 : Nat} {r : Nat} (h : C_X8_itself t x0 = some r) : Met l yX8_itself (ws_ yX8_itself cX8_itself 1 (some (.object "LettersOnStrike$Sum"))) rmX8_itself (cPc D dA a k t [.ref x0]) (rQv (some (.ref r))) 0 0 nof := en_C (by decide +kernel) rfl (Nat.le_of_ble_eq_true rfl) (fun p e s m below meth c ls C hK hT hl => bX8_itself C hK hT x0 ls h hl)
set_option maxRecDepth 20000 in
abbrev rmJ5_valueOf : Room := { frames := 0, cells := 0, slots := 0, locals := 0 }
theorem hdJ5_valueOf : yJ5_valueOf.cls ≠ "java/lang/invoke/MethodHandle" ∧ yJ5_valueOf.cls ≠ "java/lang/invoke/VarHandle" ∧ (parseMethodDescriptor yJ5_valueOf.desc).map (fun d => d.parameters.length) = some 1 := by decide +kernel
theorem bJ5_valueOf_p23 {p : Program} {l : Launch} {e : Env} {s : State} {m : MethodId} {args : Array Value} {below : List Frame} {meth : Method} {c : Code} {D : va_G} {dA : Nat → ClassId} {a : Nat} {k : KP a} {t : CS} {r : Nat} (C : cx p s m args meth c cJ5_valueOf RJ5 1 (some (.object "java/lang/Intege\x72"))) (hK : kC D dA a k t.2.2.2 s) (hT : cW D dA a k t s.heap) : ∀ (x0 : Int32) (ls : Array Slot), J_J5_valueOf_p23 t x0 = some r → lv_has ls 1 [(0, .int x0)] → W p l e rmJ5_valueOf s m args below meth c s.heap [] 0 0 (MQ below (rQv (some (.ref r))) args s 0 0 nof) (F0 m 23 ls []) := by
  obtain ⟨hx, hb, hr, hml, hown, hts, hlocks⟩ := id C
  intro x0 ls h hl
  unfold J_J5_valueOf_p23 at h
  cases h
theorem bJ5_valueOf {p : Program} {l : Launch} {e : Env} {s : State} {m : MethodId} {args : Array Value} {below : List Frame} {meth : Method} {c : Code} {D : va_G} {dA : Nat → ClassId} {a : Nat} {k : KP a} {t : CS} {r : Nat} (C : cx p s m args meth c cJ5_valueOf RJ5 1 (some (.object "java/lang/Intege\x72"))) (hK : kC D dA a k t.2.2.2 s) (hT : cW D dA a k t s.heap) : ∀ (x0 : Int32) (ls : Array Slot), J_J5_valueOf t x0 = some r → lv_has ls 1 [(0, .int x0)] → W p l e rmJ5_valueOf s m args below meth c s.heap [] 0 0 (MQ below (rQv (some (.ref r))) args s 0 0 nof) (F0 m 0 ls []) := by
  obtain ⟨hx, hb, hr, hml, hown, hts, hlocks⟩ := id C
  intro x0 ls h hl
  unfold J_J5_valueOf at h
  refine lv_iload_n hx hb dJ5_valueOf_0 rfl (lv_at hl 0 rfl) ?_
  refine lv_bipush (v := -128) hx hb dJ5_valueOf_1 (by decide) ?_
  refine lv_icmp_lt (tgt := 23) hx hb dJ5_valueOf_3 (by decide) (fun c => ?_) (fun c => ?_)
  · replace h := if_t c h
    exact bJ5_valueOf_p23 C hK hT x0 ls h (lv_sub hl [0] rfl)
  · replace h := if_f c h
    refine lv_iload_n hx hb dJ5_valueOf_6 rfl (lv_at hl 0 rfl) ?_
    refine g_stat hK.2.2.1.2.1.2.2 C va_S.rf q851 dJ5_valueOf_7 ?_
    refine lv_icmp_gt (tgt := 23) hx hb dJ5_valueOf_10 (by decide) (fun c => ?_) (fun c => ?_)
    · replace h := if_t c h
      exact bJ5_valueOf_p23 C hK hT x0 ls h (lv_sub hl [0] rfl)
    · replace h := if_f c h
      refine g_stat hK.2.2.1.2.1.1 C va_S.rf q853 dJ5_valueOf_13 ?_
      refine lv_iload_n hx hb dJ5_valueOf_16 rfl (lv_at hl 0 rfl) ?_
      refine lv_sipush (v := 128) hx hb dJ5_valueOf_17 (by decide) ?_
      refine lv_iadd hx hb dJ5_valueOf_20 ?_
      obtain ⟨hi1, h⟩ := ck_some h
      refine i_ald C hK va_S.rf hi1 dJ5_valueOf_21 ?_
      exact e_rr C (Or.inl ⟨_, rfl⟩) h dJ5_valueOf_22
theorem mJ5_valueOf {l : Launch} {D : va_G} {dA : Nat → ClassId} {a : Nat} {k : KP a} {t : CS} {x0 : Int32} {r : Nat} (h : J_J5_valueOf t x0 = some r) : Met l yJ5_valueOf (ws_ yJ5_valueOf cJ5_valueOf 1 (some (.object "java/lang/Intege\x72"))) rmJ5_valueOf (cPc D dA a k t [.int x0]) (rQv (some (.ref r))) 0 0 nof := en_C (by decide +kernel) rfl (Nat.le_of_ble_eq_true rfl) (fun p e s m below meth c ls C hK hT hl => bJ5_valueOf C hK hT x0 ls h hl)
set_option maxRecDepth 20000 in
abbrev rmJ1_newLength : Room := { frames := 1, cells := 0, slots := 0, locals := 40 }
theorem hdJ1_newLength : yJ1_newLength.cls ≠ "java/lang/invoke/MethodHandle" ∧ yJ1_newLength.cls ≠ "java/lang/invoke/VarHandle" ∧ (parseMethodDescriptor yJ1_newLength.desc).map (fun d => d.parameters.length) = some 3 := by decide +kernel
theorem bJ1_newLength_p21 {p : Program} {l : Launch} {e : Env} {s : State} {m : MethodId} {args : Array Value} {below : List Frame} {meth : Method} {c : Code} {r : Int32} (C : cx p s m args meth c cJ1_newLength RJ1 4 (some .int)) : ∀ (x0 : Int32) (x1 : Int32) (ls : Array Slot), J_J1_newLength_p21 x0 x1 = some r → lv_has ls 4 [(0, .int x0), (1, .int x1)] → W p l e rmJ1_newLength s m args below meth c s.heap [] 0 0 (MQ below (rQi r) args s 0 0 nof) (F0 m 21 ls []) := by
  obtain ⟨hx, hb, hr, hml, hown, hts, hlocks⟩ := id C
  intro x0 x1 ls h hl
  unfold J_J1_newLength_p21 at h
  refine lv_iload_n hx hb dJ1_newLength_21 rfl (lv_at hl 0 rfl) ?_
  refine lv_iload_n hx hb dJ1_newLength_22 rfl (lv_at hl 1 rfl) ?_
  cases h
theorem bJ1_newLength {p : Program} {l : Launch} {e : Env} {s : State} {m : MethodId} {args : Array Value} {below : List Frame} {meth : Method} {c : Code} {r : Int32} (C : cx p s m args meth c cJ1_newLength RJ1 4 (some .int)) : ∀ (x0 : Int32) (x1 : Int32) (x2 : Int32) (ls : Array Slot), J_J1_newLength x0 x1 x2 = some r → lv_has ls 4 [(0, .int x0), (1, .int x1), (2, .int x2)] → W p l e rmJ1_newLength s m args below meth c s.heap [] 0 0 (MQ below (rQi r) args s 0 0 nof) (F0 m 0 ls []) := by
  obtain ⟨hx, hb, hr, hml, hown, hts, hlocks⟩ := id C
  intro x0 x1 x2 ls h hl
  unfold J_J1_newLength at h
  refine lv_iload_n hx hb dJ1_newLength_0 rfl (lv_at hl 0 rfl) ?_
  refine lv_iload_n hx hb dJ1_newLength_1 rfl (lv_at hl 1 rfl) ?_
  refine lv_iload_n hx hb dJ1_newLength_2 rfl (lv_at hl 2 rfl) ?_
  refine va_mmax hx hb (hml.trans hl.1.symm) hown (hts _ q887) (hts _ q888) (hts _ q180) (hts _ q889) (Nat.le_of_ble_eq_true rfl) (Nat.le_of_ble_eq_true rfl) (Nat.zero_le _) (Nat.zero_le _) dJ1_newLength_3 ?_
  refine lv_iadd hx hb dJ1_newLength_6 ?_
  refine lv_topi (fun v1 ev1 => ?_)
  replace h := lt1_sub ev1 h
  refine lv_istore_n (lv' := [(3, .int v1), (0, .int x0), (1, .int x1), (2, .int x2)]) hx hb dJ1_newLength_7 rfl hl (by decide) rfl (fun ls hl => ?_)
  refine lv_iconst (v := 0) hx hb dJ1_newLength_8 (by decide) ?_
  refine lv_iload_n hx hb dJ1_newLength_9 rfl (lv_at hl 0 rfl) ?_
  refine lv_icmp_ge (tgt := 21) hx hb dJ1_newLength_10 (by decide) (fun c => ?_) (fun c => ?_)
  · replace h := if_t c h
    exact bJ1_newLength_p21 C x0 x1 ls h (lv_sub hl [1, 2] rfl)
  · replace h := if_f c h
    refine lv_iload_n hx hb dJ1_newLength_13 rfl (lv_at hl 0 rfl) ?_
    refine lv_ldc hx hb hown (hts _ q890) dJ1_newLength_14 ?_
    refine lv_icmp_gt (tgt := 21) hx hb dJ1_newLength_16 (by decide) (fun c => ?_) (fun c => ?_)
    · replace h := if_t c h
      exact bJ1_newLength_p21 C x0 x1 ls h (lv_sub hl [1, 2] rfl)
    · replace h := if_f c h
      refine lv_iload_n hx hb dJ1_newLength_19 rfl (lv_at hl 0 rfl) ?_
      exact e_ri C h dJ1_newLength_20
theorem mJ1_newLength {l : Launch} {x0 : Int32} {x1 : Int32} {x2 : Int32} {r : Int32} (h : J_J1_newLength x0 x1 x2 = some r) : Met l yJ1_newLength (ws_ yJ1_newLength cJ1_newLength 4 (some .int)) rmJ1_newLength (sPc [.int x0, .int x1, .int x2]) (rQi r) 0 0 nof := en_S (by decide +kernel) rfl (Nat.le_of_ble_eq_true rfl) (fun p e s m below meth c ls C hl => bJ1_newLength C x0 x1 x2 ls h hl)
set_option maxRecDepth 20000 in
abbrev rmJ0_copyOf_2_201 (t t9 : CS) : Room := { frames := 1, cells := t9.2.2.2 0 - t.2.2.2 0, slots := t9.2.2.2 1 - t.2.2.2 1, locals := 40 }
theorem hdJ0_copyOf_2_201 : yJ0_copyOf_2.cls ≠ "java/lang/invoke/MethodHandle" ∧ yJ0_copyOf_2.cls ≠ "java/lang/invoke/VarHandle" ∧ (parseMethodDescriptor yJ0_copyOf_2.desc).map (fun d => d.parameters.length) = some 3 := by decide +kernel
theorem bJ0_copyOf_2_201_p24 {p : Program} {l : Launch} {e : Env} {s : State} {m : MethodId} {args : Array Value} {below : List Frame} {meth : Method} {c : Code} {D : va_G} {dA : Nat → ClassId} {a : Nat} {k : KP a} {t0 : CS} {r : Nat} {t9 : CS} (C : cx p s m args meth c cJ0_copyOf_2 RJ0 4 (some (.array (.object "java/lang/Object")))) : ∀ (t : CS) (x0 : Nat) (x1 : Int32) (y0 : Nat) (H : Heap) (locs : List Loc) (hT : cW D dA a k t H) (hS : cS a s.heap H locs t0.2.2.2 2 t) (hK : kC D dA a k t.2.2.2 s) (hm : mo t0 t) (ls : Array Slot), J_J0_copyOf_2_201_p24 t x0 x1 y0 = some (r, t9) → lv_has ls 4 [(0, .ref x0), (1, .int x1)] → W p l e (rmJ0_copyOf_2_201 t0 t9) s m args below meth c H locs (t.2.2.2 0 - t0.2.2.2 0) (t.2.2.2 1 - t0.2.2.2 1) (MQ below (cQ D dA a k 2 t0 t9 (some (.ref r))) args s (t9.2.2.2 0 - t0.2.2.2 0) (t9.2.2.2 1 - t0.2.2.2 1) (ca a)) (F0 m 24 ls [.ref y0]) := by
  obtain ⟨hx, hb, hr, hml, hown, hts, hlocks⟩ := id C
  intro t x0 x1 y0 H locs hT hS hK hm ls h hl
  have m9 : mo t t9 := mo_J_J0_copyOf_2_201_p24 h
  unfold J_J0_copyOf_2_201_p24 at h
  refine lv_astore_n (lv' := [(3, .ref y0), (0, .ref x0), (1, .int x1)]) hx hb dJ0_copyOf_2_24 rfl hl (by decide) rfl (fun ls hl => ?_)
  refine lv_aload_n hx hb dJ0_copyOf_2_25 rfl (lv_at hl 1 rfl) ?_
  refine lv_iconst (v := 0) hx hb dJ0_copyOf_2_26 (by decide) ?_
  refine lv_aload_n hx hb dJ0_copyOf_2_27 rfl (lv_at hl 0 rfl) ?_
  refine lv_iconst (v := 0) hx hb dJ0_copyOf_2_28 (by decide) ?_
  refine lv_aload_n hx hb dJ0_copyOf_2_29 rfl (lv_at hl 1 rfl) ?_
  obtain ⟨v1, hv1, h⟩ := bd1_some h
  refine e_aln C hK hT hS.va hv1 dJ0_copyOf_2_30 ?_
  refine lv_iload_n hx hb dJ0_copyOf_2_31 rfl (lv_at hl 2 rfl) ?_
  refine va_mmin hx hb (hml.trans hl.1.symm) hown (hts _ q925) (hts _ q669) (hts _ q180) (hts _ q670) (by exact Nat.le_of_ble_eq_true rfl) (by exact Nat.le_of_ble_eq_true rfl) (mo_z m9).1 (mo_z m9).2 dJ0_copyOf_2_32 ?_
  obtain ⟨t2, ht2, h⟩ := bd1_some h
  refine d_copyO C hK hT hS hl.1 q926 ht2 ⟨Nat.le_of_ble_eq_true rfl, Nat.le_of_ble_eq_true rfl⟩ (Nat.le_of_ble_eq_true rfl) dJ0_copyOf_2_35 (fun H locs hT hS hK => ?_)
  have mm : mo t t2 := mo.nn (dcO_N ht2)
  replace hm := hm.tr mm
  replace m9 : mo t2 t9 := mo.bk (dcO_N ht2) m9
  refine W.widen (mo_s mm).1 (mo_s mm).2 ?_
  refine lv_aload_n hx hb dJ0_copyOf_2_38 rfl (lv_at hl 0 rfl) ?_
  cases h
  exact ec_r C (Or.inr ⟨_, rfl⟩) hT hS rfl dJ0_copyOf_2_39
theorem bJ0_copyOf_2_201_p10 {p : Program} {l : Launch} {e : Env} {s : State} {m : MethodId} {args : Array Value} {below : List Frame} {meth : Method} {c : Code} {D : va_G} {dA : Nat → ClassId} {a : Nat} {k : KP a} {t0 : CS} {r : Nat} {t9 : CS} (C : cx p s m args meth c cJ0_copyOf_2 RJ0 4 (some (.array (.object "java/lang/Object")))) : ∀ (t : CS) (x0 : Nat) (x1 : Int32) (y0 : Nat) (H : Heap) (locs : List Loc) (hT : cW D dA a k t H) (hS : cS a s.heap H locs t0.2.2.2 2 t) (hK : kC D dA a k t.2.2.2 s) (hm : mo t0 t) (ls : Array Slot), J_J0_copyOf_2_201_p10 t x0 x1 y0 = some (r, t9) → lv_has ls 4 [(0, .ref x0), (1, .int x1)] → W p l e (rmJ0_copyOf_2_201 t0 t9) s m args below meth c H locs (t.2.2.2 0 - t0.2.2.2 0) (t.2.2.2 1 - t0.2.2.2 1) (MQ below (cQ D dA a k 2 t0 t9 (some (.ref r))) args s (t9.2.2.2 0 - t0.2.2.2 0) (t9.2.2.2 1 - t0.2.2.2 1) (ca a)) (F0 m 10 ls [.ref y0]) := by
  obtain ⟨hx, hb, hr, hml, hown, hts, hlocks⟩ := id C
  intro t x0 x1 y0 H locs hT hS hK hm ls h hl
  have m9 : mo t t9 := mo_J_J0_copyOf_2_201_p10 h
  unfold J_J0_copyOf_2_201_p10 at h
  refine lv_goto (tgt := 24) hx hb dJ0_copyOf_2_10 (by decide) ?_
  exact bJ0_copyOf_2_201_p24 C t x0 x1 y0 H locs hT hS hK hm ls h (lv_sub hl [0, 1] rfl)
theorem bJ0_copyOf_2_201 {p : Program} {l : Launch} {e : Env} {s : State} {m : MethodId} {args : Array Value} {below : List Frame} {meth : Method} {c : Code} {D : va_G} {dA : Nat → ClassId} {a : Nat} {k : KP a} {t0 : CS} {r : Nat} {t9 : CS} (C : cx p s m args meth c cJ0_copyOf_2 RJ0 4 (some (.array (.object "java/lang/Object")))) : ∀ (t : CS) (x0 : Nat) (x1 : Int32) (H : Heap) (locs : List Loc) (hT : cW D dA a k t H) (hS : cS a s.heap H locs t0.2.2.2 2 t) (hK : kC D dA a k t.2.2.2 s) (hm : mo t0 t) (ls : Array Slot), J_J0_copyOf_2_201 t x0 x1 = some (r, t9) → lv_has ls 4 [(0, .ref x0), (1, .int x1), (2, .ref (dA 50))] → W p l e (rmJ0_copyOf_2_201 t0 t9) s m args below meth c H locs (t.2.2.2 0 - t0.2.2.2 0) (t.2.2.2 1 - t0.2.2.2 1) (MQ below (cQ D dA a k 2 t0 t9 (some (.ref r))) args s (t9.2.2.2 0 - t0.2.2.2 0) (t9.2.2.2 1 - t0.2.2.2 1) (ca a)) (F0 m 0 ls []) := by
  obtain ⟨hx, hb, hr, hml, hown, hts, hlocks⟩ := id C
  intro t x0 x1 H locs hT hS hK hm ls h hl
  have m9 : mo t t9 := mo_J_J0_copyOf_2_201 h
  unfold J_J0_copyOf_2_201 at h
  refine lv_aload_n hx hb dJ0_copyOf_2_0 rfl (lv_at hl 2 rfl) ?_
  refine m_ldc C hK q922 dJ0_copyOf_2_1 ?_
  refine lv_acmp_ne (tgt := 13) (rx := some (dA 50)) (ry := some (dA 50)) hx hb dJ0_copyOf_2_3 (by decide) (fun c => absurd rfl c) (fun c => ?_)
  refine lv_iload_n hx hb dJ0_copyOf_2_6 rfl (lv_at hl 1 rfl) ?_
  obtain ⟨⟨hg2a, hg2b⟩, h⟩ := ngt_some h
  obtain ⟨t1, et1, h⟩ := lt1_ex h
  have m9 : mo t1 t9 := mo_J_J0_copyOf_2_201_p10 h
  refine n_newO C hK hT hS q924 hg2a hg2b (mo_n hm et1 m9) dJ0_copyOf_2_7 (fun t_ H et_ hT hS hK => ?_)
  obtain rfl := et1.trans et_.symm
  refine W.widen (mo_n1 hm et1).1 (mo_n1 hm et1).2 ?_
  replace hm := hm.tr (mo.new et1)
  exact bJ0_copyOf_2_201_p10 C t1 x0 x1 (t.2.2.2 0) H locs hT hS hK hm ls h (lv_sub hl [0, 1] rfl)
theorem mJ0_copyOf_2_201 {l : Launch} {D : va_G} {dA : Nat → ClassId} {a : Nat} {k : KP a} {t : CS} {x0 : Nat} {x1 : Int32} {r : Nat} {t9 : CS} (h : J_J0_copyOf_2_201 t x0 x1 = some (r, t9)) : Met l yJ0_copyOf_2 (ws_ yJ0_copyOf_2 cJ0_copyOf_2 4 (some (.array (.object "java/lang/Object")))) (rmJ0_copyOf_2_201 t t9) (cPc D dA a k t [.ref x0, .int x1, .ref (dA 50)]) (cQ D dA a k 2 t t9 (some (.ref r))) (t9.2.2.2 0 - t.2.2.2 0) (t9.2.2.2 1 - t.2.2.2 1) (ca a) := en_C (by decide +kernel) rfl (Nat.le_of_ble_eq_true rfl) (fun p e s m below meth c ls C hK hT hl => sub0 (bJ0_copyOf_2_201 C t x0 x1 _ [] hT cS.rf hK mo.rf ls h hl))
set_option maxRecDepth 20000 in
abbrev rmJ0_copyOf (t t9 : CS) : Room := { frames := 2, cells := t9.2.2.2 0 - t.2.2.2 0, slots := t9.2.2.2 1 - t.2.2.2 1, locals := 63 }
theorem hdJ0_copyOf : yJ0_copyOf.cls ≠ "java/lang/invoke/MethodHandle" ∧ yJ0_copyOf.cls ≠ "java/lang/invoke/VarHandle" ∧ (parseMethodDescriptor yJ0_copyOf.desc).map (fun d => d.parameters.length) = some 2 := by decide +kernel
theorem bJ0_copyOf_p9 {p : Program} {l : Launch} {e : Env} {s : State} {m : MethodId} {args : Array Value} {below : List Frame} {meth : Method} {c : Code} {D : va_G} {dA : Nat → ClassId} {a : Nat} {k : KP a} {t0 : CS} {r : Nat} {t9 : CS} (C : cx p s m args meth c cJ0_copyOf RJ0 2 (some (.array (.object "java/lang/Object")))) : ∀ (t : CS) (y0 : Nat) (H : Heap) (locs : List Loc) (hT : cW D dA a k t H) (hS : cS a s.heap H locs t0.2.2.2 2 t) (hK : kC D dA a k t.2.2.2 s) (hm : mo t0 t) (ls : Array Slot), J_J0_copyOf_p9 t y0 = some (r, t9) → lv_has ls 2 [] → W p l e (rmJ0_copyOf t0 t9) s m args below meth c H locs (t.2.2.2 0 - t0.2.2.2 0) (t.2.2.2 1 - t0.2.2.2 1) (MQ below (cQ D dA a k 2 t0 t9 (some (.ref r))) args s (t9.2.2.2 0 - t0.2.2.2 0) (t9.2.2.2 1 - t0.2.2.2 1) (ca a)) (F0 m 9 ls [.ref y0]) := by
  obtain ⟨hx, hb, hr, hml, hown, hts, hlocks⟩ := id C
  intro t y0 H locs hT hS hK hm ls h hl
  have m9 : mo t t9 := mo_J_J0_copyOf_p9 h
  unfold J_J0_copyOf_p9 at h
  cases h
  exact ec_r C (Or.inr ⟨_, rfl⟩) hT hS rfl dJ0_copyOf_9
theorem bJ0_copyOf {p : Program} {l : Launch} {e : Env} {s : State} {m : MethodId} {args : Array Value} {below : List Frame} {meth : Method} {c : Code} {D : va_G} {dA : Nat → ClassId} {a : Nat} {k : KP a} {t0 : CS} {r : Nat} {t9 : CS} (C : cx p s m args meth c cJ0_copyOf RJ0 2 (some (.array (.object "java/lang/Object")))) : ∀ (t : CS) (x0 : Nat) (x1 : Int32) (H : Heap) (locs : List Loc) (hT : cW D dA a k t H) (hS : cS a s.heap H locs t0.2.2.2 2 t) (hK : kC D dA a k t.2.2.2 s) (hm : mo t0 t) (ls : Array Slot), J_J0_copyOf t x0 x1 = some (r, t9) → lv_has ls 2 [(0, .ref x0), (1, .int x1)] → W p l e (rmJ0_copyOf t0 t9) s m args below meth c H locs (t.2.2.2 0 - t0.2.2.2 0) (t.2.2.2 1 - t0.2.2.2 1) (MQ below (cQ D dA a k 2 t0 t9 (some (.ref r))) args s (t9.2.2.2 0 - t0.2.2.2 0) (t9.2.2.2 1 - t0.2.2.2 1) (ca a)) (F0 m 0 ls []) := by
  obtain ⟨hx, hb, hr, hml, hown, hts, hlocks⟩ := id C
  intro t x0 x1 H locs hT hS hK hm ls h hl
  have m9 : mo t t9 := mo_J_J0_copyOf h
  unfold J_J0_copyOf at h
  refine lv_aload_n hx hb dJ0_copyOf_0 rfl (lv_at hl 0 rfl) ?_
  refine lv_iload_n hx hb dJ0_copyOf_1 rfl (lv_at hl 1 rfl) ?_
  refine lv_aload_n hx hb dJ0_copyOf_2 rfl (lv_at hl 0 rfl) ?_
  obtain ⟨v1, hv1, h⟩ := bd1_some h
  refine m_getC C hK hT hl.1 hv1 q897 q2259 q898 q918 ⟨Nat.le_of_ble_eq_true rfl, Nat.le_of_ble_eq_true rfl⟩ (Nat.le_of_ble_eq_true rfl) dJ0_copyOf_3 ?_
  obtain ⟨v3, t2, ht2, h⟩ := bd2_some h
  have mm : mo t t2 := mo_J_J0_copyOf_2_201 ht2
  have m9 : mo t2 t9 := mo_J_J0_copyOf_p9 h
  refine wa_ref hS hK (run_cs (As := [.ref x0, .int x1, .ref (dA 50)]) (rest := []) C hK hT hS.2.1 (mJ0_copyOf_2_201 ht2) q919 q920 q160 q921 ⟨rfl, rfl⟩ hdJ0_copyOf_2_201 ⟨Nat.le_of_ble_eq_true rfl, Nat.le_of_ble_eq_true rfl⟩ (mo_c hm mm m9) rfl hl.1 rfl (Nat.le_of_ble_eq_true rfl) dJ0_copyOf_6) (fun H locs hT hS hK => ?_)
  refine W.widen (mo_c hm mm mo.rf).1 (mo_c hm mm mo.rf).2 ?_
  replace hm := hm.tr mm
  exact bJ0_copyOf_p9 C t2 v3 H locs hT hS hK hm ls h (lv_sub hl [] rfl)
theorem mJ0_copyOf {l : Launch} {D : va_G} {dA : Nat → ClassId} {a : Nat} {k : KP a} {t : CS} {x0 : Nat} {x1 : Int32} {r : Nat} {t9 : CS} (h : J_J0_copyOf t x0 x1 = some (r, t9)) : Met l yJ0_copyOf (ws_ yJ0_copyOf cJ0_copyOf 2 (some (.array (.object "java/lang/Object")))) (rmJ0_copyOf t t9) (cPc D dA a k t [.ref x0, .int x1]) (cQ D dA a k 2 t t9 (some (.ref r))) (t9.2.2.2 0 - t.2.2.2 0) (t9.2.2.2 1 - t.2.2.2 1) (ca a) := en_C (by decide +kernel) rfl (Nat.le_of_ble_eq_true rfl) (fun p e s m below meth c ls C hK hT hl => sub0 (bJ0_copyOf C t x0 x1 _ [] hT cS.rf hK mo.rf ls h hl))
set_option maxRecDepth 20000 in
abbrev rmJ9_grow_2 (t t9 : CS) : Room := { frames := 3, cells := t9.2.2.2 0 - t.2.2.2 0, slots := t9.2.2.2 1 - t.2.2.2 1, locals := 84 }
theorem hdJ9_grow_2 : yJ9_grow_2.cls = RJ9 ∧ yJ9_grow_2.cls ≠ "java/lang/invoke/MethodHandle" ∧ yJ9_grow_2.cls ≠ "java/lang/invoke/VarHandle" ∧ (parseMethodDescriptor yJ9_grow_2.desc).map (fun d => d.parameters.length) = some 1 := by decide +kernel
theorem bJ9_grow_2_p40 {p : Program} {l : Launch} {e : Env} {s : State} {m : MethodId} {args : Array Value} {below : List Frame} {meth : Method} {c : Code} {D : va_G} {dA : Nat → ClassId} {a : Nat} {k : KP a} {t0 : CS} {r : Nat} {t9 : CS} (C : cx p s m args meth c cJ9_grow_2 RJ9 4 (some (.array (.object "java/lang/Object")))) : ∀ (t : CS) (y0 : Nat) (y1 : Nat) (H : Heap) (locs : List Loc) (hT : cW D dA a k t H) (hS : cS a s.heap H locs t0.2.2.2 2 t) (hK : kC D dA a k t.2.2.2 s) (hm : mo t0 t) (ls : Array Slot), J_J9_grow_2_p40 t y0 y1 = some (r, t9) → lv_has ls 4 [] → W p l e (rmJ9_grow_2 t0 t9) s m args below meth c H locs (t.2.2.2 0 - t0.2.2.2 0) (t.2.2.2 1 - t0.2.2.2 1) (MQ below (cQ D dA a k 2 t0 t9 (some (.ref r))) args s (t9.2.2.2 0 - t0.2.2.2 0) (t9.2.2.2 1 - t0.2.2.2 1) (ca a)) (F0 m 40 ls [.ref y1, .ref y0]) := by
  obtain ⟨hx, hb, hr, hml, hown, hts, hlocks⟩ := id C
  intro t y0 y1 H locs hT hS hK hm ls h hl
  have m9 : mo t t9 := mo_J_J9_grow_2_p40 h
  unfold J_J9_grow_2_p40 at h
  refine lv_dup_x1 hx hb dJ9_grow_2_40 rfl rfl ?_
  obtain ⟨t1, ht1, h⟩ := bd1_some h
  refine d_put (ci := 15) in_J9 tyJ9 tyJ9_ok nmJ9 rfl C hK hT hS 1 (by decide) q566 rfl (Or.inl rfl) ht1 (tyJ9_ok 1 (by decide)) rfl rfl dJ9_grow_2_41 (fun H locs hT hS hK => ?_)
  have mm : mo t t1 := mo.nn (dpf_N ht1)
  replace hm := hm.tr mm
  replace m9 : mo t1 t9 := mo.bk (dpf_N ht1) m9
  refine W.widen (mo_s mm).1 (mo_s mm).2 ?_
  cases h
  exact ec_r C (Or.inr ⟨_, rfl⟩) hT hS rfl dJ9_grow_2_44
theorem bJ9_grow_2_p20 {p : Program} {l : Launch} {e : Env} {s : State} {m : MethodId} {args : Array Value} {below : List Frame} {meth : Method} {c : Code} {D : va_G} {dA : Nat → ClassId} {a : Nat} {k : KP a} {t0 : CS} {r : Nat} {t9 : CS} (C : cx p s m args meth c cJ9_grow_2 RJ9 4 (some (.array (.object "java/lang/Object")))) : ∀ (t : CS) (x0 : Nat) (x1 : Int32) (x2 : Int32) (H : Heap) (locs : List Loc) (hT : cW D dA a k t H) (hS : cS a s.heap H locs t0.2.2.2 2 t) (hK : kC D dA a k t.2.2.2 s) (hm : mo t0 t) (ls : Array Slot), J_J9_grow_2_p20 t x0 x1 x2 = some (r, t9) → lv_has ls 4 [(0, .ref x0), (1, .int x1), (2, .int x2)] → W p l e (rmJ9_grow_2 t0 t9) s m args below meth c H locs (t.2.2.2 0 - t0.2.2.2 0) (t.2.2.2 1 - t0.2.2.2 1) (MQ below (cQ D dA a k 2 t0 t9 (some (.ref r))) args s (t9.2.2.2 0 - t0.2.2.2 0) (t9.2.2.2 1 - t0.2.2.2 1) (ca a)) (F0 m 20 ls []) := by
  obtain ⟨hx, hb, hr, hml, hown, hts, hlocks⟩ := id C
  intro t x0 x1 x2 H locs hT hS hK hm ls h hl
  have m9 : mo t t9 := mo_J_J9_grow_2_p20 h
  unfold J_J9_grow_2_p20 at h
  refine lv_iload_n hx hb dJ9_grow_2_20 rfl (lv_at hl 2 rfl) ?_
  refine lv_iload_n hx hb dJ9_grow_2_21 rfl (lv_at hl 1 rfl) ?_
  refine lv_iload_n hx hb dJ9_grow_2_22 rfl (lv_at hl 2 rfl) ?_
  refine lv_isub hx hb dJ9_grow_2_23 ?_
  refine lv_iload_n hx hb dJ9_grow_2_24 rfl (lv_at hl 2 rfl) ?_
  refine lv_iconst (v := 1) hx hb dJ9_grow_2_25 (by decide) ?_
  refine lv_ishr hx hb dJ9_grow_2_26 ?_
  obtain ⟨v1, hv1, h⟩ := bd1_some h
  refine r_int (run_s (As := [.int x2, .int (x1 - x2), .int (x2 >>> ((1 : Int32) &&& (31 : Int32)))]) (rest := []) C (mJ1_newLength hv1) q884 q885 q163 q886 ⟨rfl, rfl⟩ hdJ1_newLength ⟨Nat.le_of_ble_eq_true rfl, Nat.le_of_ble_eq_true rfl⟩ (mo_z m9) rfl hl.1 rfl (Nat.le_of_ble_eq_true rfl) dJ9_grow_2_27) ?_
  refine lv_istore_n (lv' := [(3, .int v1), (0, .ref x0), (1, .int x1), (2, .int x2)]) hx hb dJ9_grow_2_30 rfl hl (by decide) rfl (fun ls hl => ?_)
  refine lv_aload_n hx hb dJ9_grow_2_31 rfl (lv_at hl 1 rfl) ?_
  refine lv_aload_n hx hb dJ9_grow_2_32 rfl (lv_at hl 1 rfl) ?_
  obtain ⟨v2, hv2, h⟩ := bd1_some h
  refine d_get (ci := 15) in_J9 rfl C hK hT 1 (by decide) q566 rfl (gR_some hv2) dJ9_grow_2_33 ?_
  refine lv_iload_n hx hb dJ9_grow_2_36 rfl (lv_at hl 0 rfl) ?_
  obtain ⟨v4, t3, ht3, h⟩ := bd2_some h
  have mm : mo t t3 := mo_J_J0_copyOf ht3
  have m9 : mo t3 t9 := mo_J_J9_grow_2_p40 h
  refine wa_ref hS hK (run_cs (As := [.ref v2, .int v1]) (rest := [.ref x0]) C hK hT hS.2.1 (mJ0_copyOf ht3) q894 q895 q160 q896 ⟨rfl, rfl⟩ hdJ0_copyOf ⟨Nat.le_of_ble_eq_true rfl, Nat.le_of_ble_eq_true rfl⟩ (mo_c hm mm m9) rfl hl.1 rfl (Nat.le_of_ble_eq_true rfl) dJ9_grow_2_37) (fun H locs hT hS hK => ?_)
  refine W.widen (mo_c hm mm mo.rf).1 (mo_c hm mm mo.rf).2 ?_
  replace hm := hm.tr mm
  exact bJ9_grow_2_p40 C t3 x0 v4 H locs hT hS hK hm ls h (lv_sub hl [] rfl)
theorem bJ9_grow_2_p55 {p : Program} {l : Launch} {e : Env} {s : State} {m : MethodId} {args : Array Value} {below : List Frame} {meth : Method} {c : Code} {D : va_G} {dA : Nat → ClassId} {a : Nat} {k : KP a} {t0 : CS} {r : Nat} {t9 : CS} (C : cx p s m args meth c cJ9_grow_2 RJ9 4 (some (.array (.object "java/lang/Object")))) : ∀ (t : CS) (y0 : Nat) (y1 : Nat) (H : Heap) (locs : List Loc) (hT : cW D dA a k t H) (hS : cS a s.heap H locs t0.2.2.2 2 t) (hK : kC D dA a k t.2.2.2 s) (hm : mo t0 t) (ls : Array Slot), J_J9_grow_2_p55 t y0 y1 = some (r, t9) → lv_has ls 4 [] → W p l e (rmJ9_grow_2 t0 t9) s m args below meth c H locs (t.2.2.2 0 - t0.2.2.2 0) (t.2.2.2 1 - t0.2.2.2 1) (MQ below (cQ D dA a k 2 t0 t9 (some (.ref r))) args s (t9.2.2.2 0 - t0.2.2.2 0) (t9.2.2.2 1 - t0.2.2.2 1) (ca a)) (F0 m 55 ls [.ref y1, .ref y0]) := by
  obtain ⟨hx, hb, hr, hml, hown, hts, hlocks⟩ := id C
  intro t y0 y1 H locs hT hS hK hm ls h hl
  have m9 : mo t t9 := mo_J_J9_grow_2_p55 h
  unfold J_J9_grow_2_p55 at h
  refine lv_dup_x1 hx hb dJ9_grow_2_55 rfl rfl ?_
  obtain ⟨t1, ht1, h⟩ := bd1_some h
  refine d_put (ci := 15) in_J9 tyJ9 tyJ9_ok nmJ9 rfl C hK hT hS 1 (by decide) q566 rfl (Or.inl rfl) ht1 (tyJ9_ok 1 (by decide)) rfl rfl dJ9_grow_2_56 (fun H locs hT hS hK => ?_)
  have mm : mo t t1 := mo.nn (dpf_N ht1)
  replace hm := hm.tr mm
  replace m9 : mo t1 t9 := mo.bk (dpf_N ht1) m9
  refine W.widen (mo_s mm).1 (mo_s mm).2 ?_
  cases h
  exact ec_r C (Or.inr ⟨_, rfl⟩) hT hS rfl dJ9_grow_2_59
theorem bJ9_grow_2 {p : Program} {l : Launch} {e : Env} {s : State} {m : MethodId} {args : Array Value} {below : List Frame} {meth : Method} {c : Code} {D : va_G} {dA : Nat → ClassId} {a : Nat} {k : KP a} {t0 : CS} {r : Nat} {t9 : CS} (C : cx p s m args meth c cJ9_grow_2 RJ9 4 (some (.array (.object "java/lang/Object")))) : ∀ (t : CS) (x0 : Nat) (x1 : Int32) (H : Heap) (locs : List Loc) (hT : cW D dA a k t H) (hS : cS a s.heap H locs t0.2.2.2 2 t) (hK : kC D dA a k t.2.2.2 s) (hm : mo t0 t) (ls : Array Slot), J_J9_grow_2 t x0 x1 = some (r, t9) → lv_has ls 4 [(0, .ref x0), (1, .int x1)] → W p l e (rmJ9_grow_2 t0 t9) s m args below meth c H locs (t.2.2.2 0 - t0.2.2.2 0) (t.2.2.2 1 - t0.2.2.2 1) (MQ below (cQ D dA a k 2 t0 t9 (some (.ref r))) args s (t9.2.2.2 0 - t0.2.2.2 0) (t9.2.2.2 1 - t0.2.2.2 1) (ca a)) (F0 m 0 ls []) := by
  obtain ⟨hx, hb, hr, hml, hown, hts, hlocks⟩ := id C
  intro t x0 x1 H locs hT hS hK hm ls h hl
  have m9 : mo t t9 := mo_J_J9_grow_2 h
  unfold J_J9_grow_2 at h
  refine lv_aload_n hx hb dJ9_grow_2_0 rfl (lv_at hl 0 rfl) ?_
  obtain ⟨v1, hv1, h⟩ := bd1_some h
  refine d_get (ci := 15) in_J9 rfl C hK hT 1 (by decide) q566 rfl (gR_some hv1) dJ9_grow_2_1 ?_
  obtain ⟨v2, hv2, h⟩ := bd1_some h
  refine e_aln C hK hT hS.va hv2 dJ9_grow_2_4 ?_
  refine lv_topi (fun v3 ev3 => ?_)
  replace h := lt1_sub ev3 h
  refine lv_istore_n (lv' := [(2, .int v3), (0, .ref x0), (1, .int x1)]) hx hb dJ9_grow_2_5 rfl hl (by decide) rfl (fun ls hl => ?_)
  refine lv_iload_n hx hb dJ9_grow_2_6 rfl (lv_at hl 0 rfl) ?_
  refine lv_if_gt (tgt := 20) hx hb dJ9_grow_2_7 (by decide) (fun c => ?_) (fun c => ?_)
  · replace h := if_t c h
    exact bJ9_grow_2_p20 C t x0 x1 v3 H locs hT hS hK hm ls h (lv_sub hl [1, 2, 0] rfl)
  · replace h := if_f c h
    refine lv_aload_n hx hb dJ9_grow_2_10 rfl (lv_at hl 1 rfl) ?_
    obtain ⟨v4, hv4, h⟩ := bd1_some h
    refine d_get (ci := 15) in_J9 rfl C hK hT 1 (by decide) q566 rfl (gR_some hv4) dJ9_grow_2_11 ?_
    refine g_stat hK.2.2.1.2.2.2.1.1 C hS.va q564 dJ9_grow_2_14 ?_
    refine lv_acmp_eq (tgt := 45) (rx := some v4) (ry := some (t.2.2.2 6)) hx hb dJ9_grow_2_17 (by decide) (fun c => ?_) (fun c => ?_)
    · replace h := if_t (Option.some.inj c) h
      refine lv_aload_n hx hb dJ9_grow_2_45 rfl (lv_at hl 1 rfl) ?_
      refine lv_bipush (v := 10) hx hb dJ9_grow_2_46 (by decide) ?_
      refine lv_iload_n hx hb dJ9_grow_2_48 rfl (lv_at hl 2 rfl) ?_
      refine va_mmax hx hb (hml.trans hl.1.symm) hown (hts _ q927) (hts _ q888) (hts _ q180) (hts _ q889) (by exact Nat.le_of_ble_eq_true rfl) (by exact Nat.le_of_ble_eq_true rfl) (mo_z m9).1 (mo_z m9).2 dJ9_grow_2_49 ?_
      refine lv_topi (fun v5 ev5 => ?_)
      replace h := lt1_sub ev5 h
      obtain ⟨⟨hg7a, hg7b⟩, h⟩ := ngt_some h
      obtain ⟨t6, et6, h⟩ := lt1_ex h
      have m9 : mo t6 t9 := mo_J_J9_grow_2_p55 h
      refine n_newO C hK hT hS q928 hg7a hg7b (mo_n hm et6 m9) dJ9_grow_2_52 (fun t_ H et_ hT hS hK => ?_)
      obtain rfl := et6.trans et_.symm
      refine W.widen (mo_n1 hm et6).1 (mo_n1 hm et6).2 ?_
      replace hm := hm.tr (mo.new et6)
      exact bJ9_grow_2_p55 C t6 x0 (t.2.2.2 0) H locs hT hS hK hm ls h (lv_sub hl [] rfl)
    · replace h := if_f (fun e => c (congrArg some e)) h
      exact bJ9_grow_2_p20 C t x0 x1 v3 H locs hT hS hK hm ls h (lv_sub hl [1, 2, 0] rfl)
theorem mJ9_grow_2 {l : Launch} {D : va_G} {dA : Nat → ClassId} {a : Nat} {k : KP a} {t : CS} {x0 : Nat} {x1 : Int32} {r : Nat} {t9 : CS} (h : J_J9_grow_2 t x0 x1 = some (r, t9)) : Met l yJ9_grow_2 (ws_ yJ9_grow_2 cJ9_grow_2 4 (some (.array (.object "java/lang/Object")))) (rmJ9_grow_2 t t9) (cPc D dA a k t [.ref x0, .int x1]) (cQ D dA a k 2 t t9 (some (.ref r))) (t9.2.2.2 0 - t.2.2.2 0) (t9.2.2.2 1 - t.2.2.2 1) (ca a) := en_C (by decide +kernel) rfl (Nat.le_of_ble_eq_true rfl) (fun p e s m below meth c ls C hK hT hl => sub0 (bJ9_grow_2 C t x0 x1 _ [] hT cS.rf hK mo.rf ls h hl))
set_option maxRecDepth 20000 in
abbrev rmJ9_grow (t t9 : CS) : Room := { frames := 4, cells := t9.2.2.2 0 - t.2.2.2 0, slots := t9.2.2.2 1 - t.2.2.2 1, locals := 107 }
theorem hdJ9_grow : yJ9_grow.cls = RJ9 ∧ yJ9_grow.cls ≠ "java/lang/invoke/MethodHandle" ∧ yJ9_grow.cls ≠ "java/lang/invoke/VarHandle" ∧ (parseMethodDescriptor yJ9_grow.desc).map (fun d => d.parameters.length) = some 0 := by decide +kernel
theorem bJ9_grow_p10 {p : Program} {l : Launch} {e : Env} {s : State} {m : MethodId} {args : Array Value} {below : List Frame} {meth : Method} {c : Code} {D : va_G} {dA : Nat → ClassId} {a : Nat} {k : KP a} {t0 : CS} {r : Nat} {t9 : CS} (C : cx p s m args meth c cJ9_grow RJ9 1 (some (.array (.object "java/lang/Object")))) : ∀ (t : CS) (y0 : Nat) (H : Heap) (locs : List Loc) (hT : cW D dA a k t H) (hS : cS a s.heap H locs t0.2.2.2 2 t) (hK : kC D dA a k t.2.2.2 s) (hm : mo t0 t) (ls : Array Slot), J_J9_grow_p10 t y0 = some (r, t9) → lv_has ls 1 [] → W p l e (rmJ9_grow t0 t9) s m args below meth c H locs (t.2.2.2 0 - t0.2.2.2 0) (t.2.2.2 1 - t0.2.2.2 1) (MQ below (cQ D dA a k 2 t0 t9 (some (.ref r))) args s (t9.2.2.2 0 - t0.2.2.2 0) (t9.2.2.2 1 - t0.2.2.2 1) (ca a)) (F0 m 10 ls [.ref y0]) := by
  obtain ⟨hx, hb, hr, hml, hown, hts, hlocks⟩ := id C
  intro t y0 H locs hT hS hK hm ls h hl
  have m9 : mo t t9 := mo_J_J9_grow_p10 h
  unfold J_J9_grow_p10 at h
  cases h
  exact ec_r C (Or.inr ⟨_, rfl⟩) hT hS rfl dJ9_grow_10
theorem bJ9_grow {p : Program} {l : Launch} {e : Env} {s : State} {m : MethodId} {args : Array Value} {below : List Frame} {meth : Method} {c : Code} {D : va_G} {dA : Nat → ClassId} {a : Nat} {k : KP a} {t0 : CS} {r : Nat} {t9 : CS} (C : cx p s m args meth c cJ9_grow RJ9 1 (some (.array (.object "java/lang/Object")))) : ∀ (t : CS) (x0 : Nat) (H : Heap) (locs : List Loc) (hT : cW D dA a k t H) (hS : cS a s.heap H locs t0.2.2.2 2 t) (hK : kC D dA a k t.2.2.2 s) (hm : mo t0 t) (ls : Array Slot), J_J9_grow t x0 = some (r, t9) → lv_has ls 1 [(0, .ref x0)] → W p l e (rmJ9_grow t0 t9) s m args below meth c H locs (t.2.2.2 0 - t0.2.2.2 0) (t.2.2.2 1 - t0.2.2.2 1) (MQ below (cQ D dA a k 2 t0 t9 (some (.ref r))) args s (t9.2.2.2 0 - t0.2.2.2 0) (t9.2.2.2 1 - t0.2.2.2 1) (ca a)) (F0 m 0 ls []) := by
  obtain ⟨hx, hb, hr, hml, hown, hts, hlocks⟩ := id C
  intro t x0 H locs hT hS hK hm ls h hl
  have m9 : mo t t9 := mo_J_J9_grow h
  unfold J_J9_grow at h
  refine lv_aload_n hx hb dJ9_grow_0 rfl (lv_at hl 0 rfl) ?_
  refine lv_aload_n hx hb dJ9_grow_1 rfl (lv_at hl 0 rfl) ?_
  obtain ⟨v1, hv1, h⟩ := bd1_some h
  refine d_get (ci := 15) in_J9 rfl C hK hT 2 (by decide) q567 rfl (gI_some hv1) dJ9_grow_2 ?_
  refine lv_iconst (v := 1) hx hb dJ9_grow_5 (by decide) ?_
  refine lv_iadd hx hb dJ9_grow_6 ?_
  obtain ⟨hc2, h⟩ := ckC_some h
  obtain ⟨v4, t3, ht3, h⟩ := bd2_some h
  have mm : mo t t3 := mo_J_J9_grow_2 ht3
  have m9 : mo t3 t9 := mo_J_J9_grow_p10 h
  refine wa_ref hS hK (run_c (As := [.int (v1 + (1 : Int32))]) (rest := []) C hK hT hS.2.1 (rv_D (ci := 15) rfl hK hT hc2) (mJ9_grow_2 ht3) q880 q882 qs20 q175 q883 ⟨rfl, rfl⟩ hdJ9_grow_2 ⟨Nat.le_of_ble_eq_true rfl, Nat.le_of_ble_eq_true rfl⟩ (mo_c hm mm m9) rfl hl.1 rfl (Nat.le_of_ble_eq_true rfl) dJ9_grow_7) (fun H locs hT hS hK => ?_)
  refine W.widen (mo_c hm mm mo.rf).1 (mo_c hm mm mo.rf).2 ?_
  replace hm := hm.tr mm
  exact bJ9_grow_p10 C t3 v4 H locs hT hS hK hm ls h (lv_sub hl [] rfl)
theorem mJ9_grow {l : Launch} {D : va_G} {dA : Nat → ClassId} {a : Nat} {k : KP a} {t : CS} {x0 : Nat} {r : Nat} {t9 : CS} (h : J_J9_grow t x0 = some (r, t9)) : Met l yJ9_grow (ws_ yJ9_grow cJ9_grow 1 (some (.array (.object "java/lang/Object")))) (rmJ9_grow t t9) (cPc D dA a k t [.ref x0]) (cQ D dA a k 2 t t9 (some (.ref r))) (t9.2.2.2 0 - t.2.2.2 0) (t9.2.2.2 1 - t.2.2.2 1) (ca a) := en_C (by decide +kernel) rfl (Nat.le_of_ble_eq_true rfl) (fun p e s m below meth c ls C hK hT hl => sub0 (bJ9_grow C t x0 _ [] hT cS.rf hK mo.rf ls h hl))
set_option maxRecDepth 20000 in
abbrev rmJ9_add_2 (t t9 : CS) : Room := { frames := 5, cells := t9.2.2.2 0 - t.2.2.2 0, slots := t9.2.2.2 1 - t.2.2.2 1, locals := 127 }
theorem hdJ9_add_2 : yJ9_add_2.cls = RJ9 ∧ yJ9_add_2.cls ≠ "java/lang/invoke/MethodHandle" ∧ yJ9_add_2.cls ≠ "java/lang/invoke/VarHandle" ∧ (parseMethodDescriptor yJ9_add_2.desc).map (fun d => d.parameters.length) = some 3 := by decide +kernel
theorem bJ9_add_2_p11 {p : Program} {l : Launch} {e : Env} {s : State} {m : MethodId} {args : Array Value} {below : List Frame} {meth : Method} {c : Code} {D : va_G} {dA : Nat → ClassId} {a : Nat} {k : KP a} {t0 : CS} {t9 : CS} (C : cx p s m args meth c cJ9_add_2 RJ9 4 none) : ∀ (t : CS) (x0 : Nat) (x1 : Nat) (x2 : Nat) (x3 : Int32) (H : Heap) (locs : List Loc) (hT : cW D dA a k t H) (hS : cS a s.heap H locs t0.2.2.2 2 t) (hK : kC D dA a k t.2.2.2 s) (hm : mo t0 t) (ls : Array Slot), J_J9_add_2_p11 t x0 x1 x2 x3 = some t9 → lv_has ls 4 [(0, .ref x0), (1, .ref x1), (2, .ref x2), (3, .int x3)] → W p l e (rmJ9_add_2 t0 t9) s m args below meth c H locs (t.2.2.2 0 - t0.2.2.2 0) (t.2.2.2 1 - t0.2.2.2 1) (MQ below (cQ D dA a k 2 t0 t9 none) args s (t9.2.2.2 0 - t0.2.2.2 0) (t9.2.2.2 1 - t0.2.2.2 1) (ca a)) (F0 m 11 ls []) := by
  obtain ⟨hx, hb, hr, hml, hown, hts, hlocks⟩ := id C
  intro t x0 x1 x2 x3 H locs hT hS hK hm ls h hl
  have m9 : mo t t9 := mo_J_J9_add_2_p11 h
  unfold J_J9_add_2_p11 at h
  refine lv_aload_n hx hb dJ9_add_2_11 rfl (lv_at hl 2 rfl) ?_
  refine lv_iload_n hx hb dJ9_add_2_12 rfl (lv_at hl 3 rfl) ?_
  refine lv_aload_n hx hb dJ9_add_2_13 rfl (lv_at hl 1 rfl) ?_
  obtain ⟨t1, ht1, h⟩ := bd1_some h
  refine d_astO C hK hT hS ht1 dJ9_add_2_14 (fun H locs hT hS hK => ?_)
  have mm : mo t t1 := mo.nn (dao_N ht1)
  replace hm := hm.tr mm
  replace m9 : mo t1 t9 := mo.bk (dao_N ht1) m9
  refine W.widen (mo_s mm).1 (mo_s mm).2 ?_
  refine lv_aload_n hx hb dJ9_add_2_15 rfl (lv_at hl 0 rfl) ?_
  refine lv_iload_n hx hb dJ9_add_2_16 rfl (lv_at hl 3 rfl) ?_
  refine lv_iconst (v := 1) hx hb dJ9_add_2_17 (by decide) ?_
  refine lv_iadd hx hb dJ9_add_2_18 ?_
  obtain ⟨t2, ht2, h⟩ := bd1_some h
  refine d_put (ci := 15) in_J9 tyJ9 tyJ9_ok nmJ9 rfl C hK hT hS 2 (by decide) q567 rfl (Or.inl rfl) ht2 (tyJ9_ok 2 (by decide)) rfl rfl dJ9_add_2_19 (fun H locs hT hS hK => ?_)
  have mm : mo t1 t2 := mo.nn (dpf_N ht2)
  replace hm := hm.tr mm
  replace m9 : mo t2 t9 := mo.bk (dpf_N ht2) m9
  refine W.widen (mo_s mm).1 (mo_s mm).2 ?_
  cases h
  exact ec_v C hT hS rfl dJ9_add_2_22
theorem bJ9_add_2_p10 {p : Program} {l : Launch} {e : Env} {s : State} {m : MethodId} {args : Array Value} {below : List Frame} {meth : Method} {c : Code} {D : va_G} {dA : Nat → ClassId} {a : Nat} {k : KP a} {t0 : CS} {t9 : CS} (C : cx p s m args meth c cJ9_add_2 RJ9 4 none) : ∀ (t : CS) (x0 : Nat) (x1 : Nat) (x3 : Int32) (y0 : Nat) (H : Heap) (locs : List Loc) (hT : cW D dA a k t H) (hS : cS a s.heap H locs t0.2.2.2 2 t) (hK : kC D dA a k t.2.2.2 s) (hm : mo t0 t) (ls : Array Slot), J_J9_add_2_p10 t x0 x1 x3 y0 = some t9 → lv_has ls 4 [(0, .ref x0), (1, .ref x1), (3, .int x3)] → W p l e (rmJ9_add_2 t0 t9) s m args below meth c H locs (t.2.2.2 0 - t0.2.2.2 0) (t.2.2.2 1 - t0.2.2.2 1) (MQ below (cQ D dA a k 2 t0 t9 none) args s (t9.2.2.2 0 - t0.2.2.2 0) (t9.2.2.2 1 - t0.2.2.2 1) (ca a)) (F0 m 10 ls [.ref y0]) := by
  obtain ⟨hx, hb, hr, hml, hown, hts, hlocks⟩ := id C
  intro t x0 x1 x3 y0 H locs hT hS hK hm ls h hl
  have m9 : mo t t9 := mo_J_J9_add_2_p10 h
  unfold J_J9_add_2_p10 at h
  refine lv_astore_n (lv' := [(2, .ref y0), (0, .ref x0), (1, .ref x1), (3, .int x3)]) hx hb dJ9_add_2_10 rfl hl (by decide) rfl (fun ls hl => ?_)
  exact bJ9_add_2_p11 C t x0 x1 y0 x3 H locs hT hS hK hm ls h (lv_sub hl [1, 2, 0, 3] rfl)
theorem bJ9_add_2 {p : Program} {l : Launch} {e : Env} {s : State} {m : MethodId} {args : Array Value} {below : List Frame} {meth : Method} {c : Code} {D : va_G} {dA : Nat → ClassId} {a : Nat} {k : KP a} {t0 : CS} {t9 : CS} (C : cx p s m args meth c cJ9_add_2 RJ9 4 none) : ∀ (t : CS) (x0 : Nat) (x1 : Nat) (x2 : Nat) (x3 : Int32) (H : Heap) (locs : List Loc) (hT : cW D dA a k t H) (hS : cS a s.heap H locs t0.2.2.2 2 t) (hK : kC D dA a k t.2.2.2 s) (hm : mo t0 t) (ls : Array Slot), J_J9_add_2 t x0 x1 x2 x3 = some t9 → lv_has ls 4 [(0, .ref x0), (1, .ref x1), (2, .ref x2), (3, .int x3)] → W p l e (rmJ9_add_2 t0 t9) s m args below meth c H locs (t.2.2.2 0 - t0.2.2.2 0) (t.2.2.2 1 - t0.2.2.2 1) (MQ below (cQ D dA a k 2 t0 t9 none) args s (t9.2.2.2 0 - t0.2.2.2 0) (t9.2.2.2 1 - t0.2.2.2 1) (ca a)) (F0 m 0 ls []) := by
  obtain ⟨hx, hb, hr, hml, hown, hts, hlocks⟩ := id C
  intro t x0 x1 x2 x3 H locs hT hS hK hm ls h hl
  have m9 : mo t t9 := mo_J_J9_add_2 h
  unfold J_J9_add_2 at h
  refine lv_iload_n hx hb dJ9_add_2_0 rfl (lv_at hl 3 rfl) ?_
  refine lv_aload_n hx hb dJ9_add_2_1 rfl (lv_at hl 2 rfl) ?_
  obtain ⟨v1, hv1, h⟩ := bd1_some h
  refine e_aln C hK hT hS.va hv1 dJ9_add_2_2 ?_
  refine lv_icmp_ne (tgt := 11) hx hb dJ9_add_2_3 (by decide) (fun c => ?_) (fun c => ?_)
  · replace h := if_f c h
    exact bJ9_add_2_p11 C t x0 x1 x2 x3 H locs hT hS hK hm ls h (lv_sub hl [0, 1, 2, 3] rfl)
  · replace h := if_t c h
    refine lv_aload_n hx hb dJ9_add_2_6 rfl (lv_at hl 0 rfl) ?_
    obtain ⟨hc2, h⟩ := ckC_some h
    obtain ⟨v4, t3, ht3, h⟩ := bd2_some h
    have mm : mo t t3 := mo_J_J9_grow ht3
    have m9 : mo t3 t9 := mo_J_J9_add_2_p10 h
    refine wa_ref hS hK (run_c (As := []) (rest := []) C hK hT hS.2.1 (rv_D (ci := 15) rfl hK hT hc2) (mJ9_grow ht3) q876 q878 qs19 q175 q879 ⟨rfl, rfl⟩ hdJ9_grow ⟨Nat.le_of_ble_eq_true rfl, Nat.le_of_ble_eq_true rfl⟩ (mo_c hm mm m9) rfl hl.1 rfl (Nat.le_of_ble_eq_true rfl) dJ9_add_2_7) (fun H locs hT hS hK => ?_)
    refine W.widen (mo_c hm mm mo.rf).1 (mo_c hm mm mo.rf).2 ?_
    replace hm := hm.tr mm
    exact bJ9_add_2_p10 C t3 x0 x1 x3 v4 H locs hT hS hK hm ls h (lv_sub hl [0, 1, 3] rfl)
theorem mJ9_add_2 {l : Launch} {D : va_G} {dA : Nat → ClassId} {a : Nat} {k : KP a} {t : CS} {x0 : Nat} {x1 : Nat} {x2 : Nat} {x3 : Int32} {t9 : CS} (h : J_J9_add_2 t x0 x1 x2 x3 = some t9) : Met l yJ9_add_2 (ws_ yJ9_add_2 cJ9_add_2 4 none) (rmJ9_add_2 t t9) (cPc D dA a k t [.ref x0, .ref x1, .ref x2, .int x3]) (cQ D dA a k 2 t t9 none) (t9.2.2.2 0 - t.2.2.2 0) (t9.2.2.2 1 - t.2.2.2 1) (ca a) := en_C (by decide +kernel) rfl (Nat.le_of_ble_eq_true rfl) (fun p e s m below meth c ls C hK hT hl => sub0 (bJ9_add_2 C t x0 x1 x2 x3 _ [] hT cS.rf hK mo.rf ls h hl))
set_option maxRecDepth 20000 in
abbrev rmJ9_add (t t9 : CS) : Room := { frames := 6, cells := t9.2.2.2 0 - t.2.2.2 0, slots := t9.2.2.2 1 - t.2.2.2 1, locals := 150 }
theorem hdJ9_add : yJ9_add.cls = RJ9 ∧ yJ9_add.cls ≠ "java/lang/invoke/MethodHandle" ∧ yJ9_add.cls ≠ "java/lang/invoke/VarHandle" ∧ (parseMethodDescriptor yJ9_add.desc).map (fun d => d.parameters.length) = some 1 := by decide +kernel
theorem bJ9_add_p23 {p : Program} {l : Launch} {e : Env} {s : State} {m : MethodId} {args : Array Value} {below : List Frame} {meth : Method} {c : Code} {D : va_G} {dA : Nat → ClassId} {a : Nat} {k : KP a} {t0 : CS} {r : Int32} {t9 : CS} (C : cx p s m args meth c cJ9_add RJ9 2 (some .boolean)) : ∀ (t : CS) (H : Heap) (locs : List Loc) (hT : cW D dA a k t H) (hS : cS a s.heap H locs t0.2.2.2 2 t) (hK : kC D dA a k t.2.2.2 s) (hm : mo t0 t) (ls : Array Slot), J_J9_add_p23 t = some (r, t9) → lv_has ls 2 [] → W p l e (rmJ9_add t0 t9) s m args below meth c H locs (t.2.2.2 0 - t0.2.2.2 0) (t.2.2.2 1 - t0.2.2.2 1) (MQ below (cQ D dA a k 2 t0 t9 (some (.int r))) args s (t9.2.2.2 0 - t0.2.2.2 0) (t9.2.2.2 1 - t0.2.2.2 1) (ca a)) (F0 m 23 ls []) := by
  obtain ⟨hx, hb, hr, hml, hown, hts, hlocks⟩ := id C
  intro t H locs hT hS hK hm ls h hl
  have m9 : mo t t9 := mo_J_J9_add_p23 h
  unfold J_J9_add_p23 at h
  refine lv_iconst (v := 1) hx hb dJ9_add_23 (by decide) ?_
  cases h
  exact ec_z C hT hS (Or.inr rfl) rfl dJ9_add_24
theorem bJ9_add {p : Program} {l : Launch} {e : Env} {s : State} {m : MethodId} {args : Array Value} {below : List Frame} {meth : Method} {c : Code} {D : va_G} {dA : Nat → ClassId} {a : Nat} {k : KP a} {t0 : CS} {r : Int32} {t9 : CS} (C : cx p s m args meth c cJ9_add RJ9 2 (some .boolean)) : ∀ (t : CS) (x0 : Nat) (x1 : Nat) (H : Heap) (locs : List Loc) (hT : cW D dA a k t H) (hS : cS a s.heap H locs t0.2.2.2 2 t) (hK : kC D dA a k t.2.2.2 s) (hm : mo t0 t) (ls : Array Slot), J_J9_add t x0 x1 = some (r, t9) → lv_has ls 2 [(0, .ref x0), (1, .ref x1)] → W p l e (rmJ9_add t0 t9) s m args below meth c H locs (t.2.2.2 0 - t0.2.2.2 0) (t.2.2.2 1 - t0.2.2.2 1) (MQ below (cQ D dA a k 2 t0 t9 (some (.int r))) args s (t9.2.2.2 0 - t0.2.2.2 0) (t9.2.2.2 1 - t0.2.2.2 1) (ca a)) (F0 m 0 ls []) := by
  obtain ⟨hx, hb, hr, hml, hown, hts, hlocks⟩ := id C
  intro t x0 x1 H locs hT hS hK hm ls h hl
  have m9 : mo t t9 := mo_J_J9_add h
  unfold J_J9_add at h
  refine lv_aload_n hx hb dJ9_add_0 rfl (lv_at hl 0 rfl) ?_
  refine lv_dup hx hb dJ9_add_1 rfl ?_
  obtain ⟨v1, hv1, h⟩ := bd1_some h
  refine d_getU (rf := "java/util/ArrayList") (ci := 15) in_J9 rfl C hK hT 0 (by decide) q569 (sf_via (hts _ q570)) (gI_some hv1) dJ9_add_2 ?_
  refine lv_iconst (v := 1) hx hb dJ9_add_5 (by decide) ?_
  refine lv_iadd hx hb dJ9_add_6 ?_
  obtain ⟨t2, ht2, h⟩ := bd1_some h
  refine d_putU (rf := "java/util/ArrayList") (ci := 15) in_J9 tyJ9 tyJ9_ok nmJ9 rfl C hK hT hS 0 (by decide) q569 (sf_via (hts _ q570)) rfl ht2 (tyJ9_ok 0 (by decide)) rfl rfl dJ9_add_7 (fun H locs hT hS hK => ?_)
  have mm : mo t t2 := mo.nn (dpf_N ht2)
  replace hm := hm.tr mm
  replace m9 : mo t2 t9 := mo.bk (dpf_N ht2) m9
  refine W.widen (mo_s mm).1 (mo_s mm).2 ?_
  refine lv_aload_n hx hb dJ9_add_10 rfl (lv_at hl 0 rfl) ?_
  refine lv_aload_n hx hb dJ9_add_11 rfl (lv_at hl 1 rfl) ?_
  refine lv_aload_n hx hb dJ9_add_12 rfl (lv_at hl 0 rfl) ?_
  obtain ⟨v3, hv3, h⟩ := bd1_some h
  refine d_get (ci := 15) in_J9 rfl C hK hT 1 (by decide) q566 rfl (gR_some hv3) dJ9_add_13 ?_
  refine lv_aload_n hx hb dJ9_add_16 rfl (lv_at hl 0 rfl) ?_
  obtain ⟨v4, hv4, h⟩ := bd1_some h
  refine d_get (ci := 15) in_J9 rfl C hK hT 2 (by decide) q567 rfl (gI_some hv4) dJ9_add_17 ?_
  obtain ⟨hc5, h⟩ := ckC_some h
  obtain ⟨t6, ht6, h⟩ := bd1_some h
  have mm : mo t2 t6 := mo_J_J9_add_2 ht6
  have m9 : mo t6 t9 := mo_J_J9_add_p23 h
  refine wa_void hS hK (run_c (As := [.ref x1, .ref v3, .int v4]) (rest := []) C hK hT hS.2.1 (rv_D (ci := 15) rfl hK hT hc5) (mJ9_add_2 ht6) q872 q874 qs18 q175 q875 ⟨rfl, rfl⟩ hdJ9_add_2 ⟨Nat.le_of_ble_eq_true rfl, Nat.le_of_ble_eq_true rfl⟩ (mo_c hm mm m9) rfl hl.1 rfl (Nat.le_of_ble_eq_true rfl) dJ9_add_20) (fun H locs hT hS hK => ?_)
  refine W.widen (mo_c hm mm mo.rf).1 (mo_c hm mm mo.rf).2 ?_
  replace hm := hm.tr mm
  exact bJ9_add_p23 C t6 H locs hT hS hK hm ls h (lv_sub hl [] rfl)
theorem mJ9_add {l : Launch} {D : va_G} {dA : Nat → ClassId} {a : Nat} {k : KP a} {t : CS} {x0 : Nat} {x1 : Nat} {r : Int32} {t9 : CS} (h : J_J9_add t x0 x1 = some (r, t9)) : Met l yJ9_add (ws_ yJ9_add cJ9_add 2 (some .boolean)) (rmJ9_add t t9) (cPc D dA a k t [.ref x0, .ref x1]) (cQ D dA a k 2 t t9 (some (.int r))) (t9.2.2.2 0 - t.2.2.2 0) (t9.2.2.2 1 - t.2.2.2 1) (ca a) := en_C (by decide +kernel) rfl (Nat.le_of_ble_eq_true rfl) (fun p e s m below meth c ls C hK hT hl => sub0 (bJ9_add C t x0 x1 _ [] hT cS.rf hK mo.rf ls h hl))
set_option maxRecDepth 20000 in
abbrev rmX8_add (t t9 : CS) : Room := { frames := 7, cells := t9.2.2.2 0 - t.2.2.2 0, slots := t9.2.2.2 1 - t.2.2.2 1, locals := 171 }
theorem hdX8_add : yX8_add.cls = RX8 ∧ yX8_add.cls ≠ "java/lang/invoke/MethodHandle" ∧ yX8_add.cls ≠ "java/lang/invoke/VarHandle" ∧ (parseMethodDescriptor yX8_add.desc).map (fun d => d.parameters.length) = some 2 := by decide +kernel
theorem bX8_add_p20 {p : Program} {l : Launch} {e : Env} {s : State} {m : MethodId} {args : Array Value} {below : List Frame} {meth : Method} {c : Code} {D : va_G} {dA : Nat → ClassId} {a : Nat} {k : KP a} {t0 : CS} {t9 : CS} (C : cx p s m args meth c cX8_add RX8 3 none) : ∀ (t : CS) (y0 : Int32) (H : Heap) (locs : List Loc) (hT : cW D dA a k t H) (hS : cS a s.heap H locs t0.2.2.2 2 t) (hK : kC D dA a k t.2.2.2 s) (hm : mo t0 t) (ls : Array Slot), C_X8_add_p20 t y0 = some t9 → lv_has ls 3 [] → W p l e (rmX8_add t0 t9) s m args below meth c H locs (t.2.2.2 0 - t0.2.2.2 0) (t.2.2.2 1 - t0.2.2.2 1) (MQ below (cQ D dA a k 2 t0 t9 none) args s (t9.2.2.2 0 - t0.2.2.2 0) (t9.2.2.2 1 - t0.2.2.2 1) (ca a)) (F0 m 20 ls [.int y0]) := by
  obtain ⟨hx, hb, hr, hml, hown, hts, hlocks⟩ := id C
  intro t y0 H locs hT hS hK hm ls h hl
  have m9 : mo t t9 := mo_C_X8_add_p20 h
  unfold C_X8_add_p20 at h
  refine lv_pop hx hb dX8_add_20 rfl ?_
  cases h
  exact ec_v C hT hS rfl dX8_add_21
theorem bX8_add_p11 {p : Program} {l : Launch} {e : Env} {s : State} {m : MethodId} {args : Array Value} {below : List Frame} {meth : Method} {c : Code} {D : va_G} {dA : Nat → ClassId} {a : Nat} {k : KP a} {t0 : CS} {t9 : CS} (C : cx p s m args meth c cX8_add RX8 3 none) : ∀ (t : CS) (x0 : Nat) (x2 : Nat) (y0 : Int32) (H : Heap) (locs : List Loc) (hT : cW D dA a k t H) (hS : cS a s.heap H locs t0.2.2.2 2 t) (hK : kC D dA a k t.2.2.2 s) (hm : mo t0 t) (ls : Array Slot), C_X8_add_p11 t x0 x2 y0 = some t9 → lv_has ls 3 [(0, .ref x0), (2, .ref x2)] → W p l e (rmX8_add t0 t9) s m args below meth c H locs (t.2.2.2 0 - t0.2.2.2 0) (t.2.2.2 1 - t0.2.2.2 1) (MQ below (cQ D dA a k 2 t0 t9 none) args s (t9.2.2.2 0 - t0.2.2.2 0) (t9.2.2.2 1 - t0.2.2.2 1) (ca a)) (F0 m 11 ls [.int y0]) := by
  obtain ⟨hx, hb, hr, hml, hown, hts, hlocks⟩ := id C
  intro t x0 x2 y0 H locs hT hS hK hm ls h hl
  have m9 : mo t t9 := mo_C_X8_add_p11 h
  unfold C_X8_add_p11 at h
  refine lv_pop hx hb dX8_add_11 rfl ?_
  refine lv_aload_n hx hb dX8_add_12 rfl (lv_at hl 0 rfl) ?_
  obtain ⟨v1, hv1, h⟩ := bd1_some h
  refine d_get (ci := 8) in_X8 rfl C hK hT 1 (by decide) q835 rfl (gR_some hv1) dX8_add_13 ?_
  refine lv_aload_n hx hb dX8_add_16 rfl (lv_at hl 1 rfl) ?_
  obtain ⟨hc2, h⟩ := ckC_some h
  obtain ⟨v4, t3, ht3, h⟩ := bd2_some h
  have mm : mo t t3 := mo_J_J9_add ht3
  have m9 : mo t3 t9 := mo_C_X8_add_p20 h
  refine wa_int hS hK (run_c (As := [.ref x2]) (rest := []) C hK hT hS.2.1 (rv_D (ci := 15) rfl hK hT hc2) (mJ9_add ht3) q868 q869 q870 q175 q871 ⟨rfl, rfl⟩ hdJ9_add ⟨Nat.le_of_ble_eq_true rfl, Nat.le_of_ble_eq_true rfl⟩ (mo_c hm mm m9) rfl hl.1 rfl (Nat.le_of_ble_eq_true rfl) dX8_add_17) (fun H locs hT hS hK => ?_)
  refine W.widen (mo_c hm mm mo.rf).1 (mo_c hm mm mo.rf).2 ?_
  replace hm := hm.tr mm
  exact bX8_add_p20 C t3 v4 H locs hT hS hK hm ls h (lv_sub hl [] rfl)
theorem bX8_add {p : Program} {l : Launch} {e : Env} {s : State} {m : MethodId} {args : Array Value} {below : List Frame} {meth : Method} {c : Code} {D : va_G} {dA : Nat → ClassId} {a : Nat} {k : KP a} {t0 : CS} {t9 : CS} (C : cx p s m args meth c cX8_add RX8 3 none) : ∀ (t : CS) (x0 : Nat) (x1 : Int32) (x2 : Nat) (H : Heap) (locs : List Loc) (hT : cW D dA a k t H) (hS : cS a s.heap H locs t0.2.2.2 2 t) (hK : kC D dA a k t.2.2.2 s) (hm : mo t0 t) (ls : Array Slot), C_X8_add t x0 x1 x2 = some t9 → lv_has ls 3 [(0, .ref x0), (1, .int x1), (2, .ref x2)] → W p l e (rmX8_add t0 t9) s m args below meth c H locs (t.2.2.2 0 - t0.2.2.2 0) (t.2.2.2 1 - t0.2.2.2 1) (MQ below (cQ D dA a k 2 t0 t9 none) args s (t9.2.2.2 0 - t0.2.2.2 0) (t9.2.2.2 1 - t0.2.2.2 1) (ca a)) (F0 m 0 ls []) := by
  obtain ⟨hx, hb, hr, hml, hown, hts, hlocks⟩ := id C
  intro t x0 x1 x2 H locs hT hS hK hm ls h hl
  have m9 : mo t t9 := mo_C_X8_add h
  unfold C_X8_add at h
  refine lv_aload_n hx hb dX8_add_0 rfl (lv_at hl 0 rfl) ?_
  obtain ⟨v1, hv1, h⟩ := bd1_some h
  refine d_get (ci := 8) in_X8 rfl C hK hT 2 (by decide) q836 rfl (gR_some hv1) dX8_add_1 ?_
  refine lv_iload_n hx hb dX8_add_4 rfl (lv_at hl 1 rfl) ?_
  obtain ⟨v2, hv2, h⟩ := bd1_some h
  refine r_ref1 (run_cs (As := [.int x1]) (rest := [.ref v1]) C hK hT hS.2.1 (mJ5_valueOf hv2) q848 q849 q168 q850 ⟨rfl, rfl⟩ hdJ5_valueOf ⟨Nat.le_of_ble_eq_true rfl, Nat.le_of_ble_eq_true rfl⟩ (mo_z m9) rfl hl.1 rfl (Nat.le_of_ble_eq_true rfl) dX8_add_5) ?_
  obtain ⟨hc3, h⟩ := ckC_some h
  obtain ⟨v5, t4, ht4, h⟩ := bd2_some h
  have mm : mo t t4 := mo_J_J9_add ht4
  have m9 : mo t4 t9 := mo_C_X8_add_p11 h
  refine wa_int hS hK (run_c (As := [.ref v2]) (rest := []) C hK hT hS.2.1 (rv_D (ci := 15) rfl hK hT hc3) (mJ9_add ht4) q868 q869 q870 q175 q871 ⟨rfl, rfl⟩ hdJ9_add ⟨Nat.le_of_ble_eq_true rfl, Nat.le_of_ble_eq_true rfl⟩ (mo_c hm mm m9) rfl hl.1 rfl (Nat.le_of_ble_eq_true rfl) dX8_add_8) (fun H locs hT hS hK => ?_)
  refine W.widen (mo_c hm mm mo.rf).1 (mo_c hm mm mo.rf).2 ?_
  replace hm := hm.tr mm
  exact bX8_add_p11 C t4 x0 x2 v5 H locs hT hS hK hm ls h (lv_sub hl [0, 2] rfl)
theorem mX8_add {l : Launch} {D : va_G} {dA : Nat → ClassId} {a : Nat} {k : KP a} {t : CS} {x0 : Nat} {x1 : Int32} {x2 : Nat} {t9 : CS} (h : C_X8_add t x0 x1 x2 = some t9) : Met l yX8_add (ws_ yX8_add cX8_add 3 none) (rmX8_add t t9) (cPc D dA a k t [.ref x0, .int x1, .ref x2]) (cQ D dA a k 2 t t9 none) (t9.2.2.2 0 - t.2.2.2 0) (t9.2.2.2 1 - t.2.2.2 1) (ca a) := en_C (by decide +kernel) rfl (Nat.le_of_ble_eq_true rfl) (fun p e s m below meth c ls C hK hT hl => sub0 (bX8_add C t x0 x1 x2 _ [] hT cS.rf hK mo.rf ls h hl))
set_option maxRecDepth 20000 in
abbrev rmX4_one (N : Nat) (t t9 : CS) : Room := { frames := 22 + 3 * N, cells := t9.2.2.2 0 - t.2.2.2 0, slots := t9.2.2.2 1 - t.2.2.2 1, locals := 244 + 66 * N }
theorem hdX4_one : yX4_one.cls = RX4 ∧ yX4_one.cls ≠ "java/lang/invoke/MethodHandle" ∧ yX4_one.cls ≠ "java/lang/invoke/VarHandle" ∧ (parseMethodDescriptor yX4_one.desc).map (fun d => d.parameters.length) = some 0 := by decide +kernel
abbrev rmX4_sum (N : Nat) (t t9 : CS) : Room := { frames := 24 + 3 * N, cells := t9.2.2.2 0 - t.2.2.2 0, slots := t9.2.2.2 1 - t.2.2.2 1, locals := 288 + 66 * N }
theorem hdX4_sum : yX4_sum.cls = RX4 ∧ yX4_sum.cls ≠ "java/lang/invoke/MethodHandle" ∧ yX4_sum.cls ≠ "java/lang/invoke/VarHandle" ∧ (parseMethodDescriptor yX4_sum.desc).map (fun d => d.parameters.length) = some 0 := by decide +kernel
abbrev rmX4_product (N : Nat) (t t9 : CS) : Room := { frames := 23 + 3 * N, cells := t9.2.2.2 0 - t.2.2.2 0, slots := t9.2.2.2 1 - t.2.2.2 1, locals := 266 + 66 * N }
theorem hdX4_product : yX4_product.cls = RX4 ∧ yX4_product.cls ≠ "java/lang/invoke/MethodHandle" ∧ yX4_product.cls ≠ "java/lang/invoke/VarHandle" ∧ (parseMethodDescriptor yX4_product.desc).map (fun d => d.parameters.length) = some 0 := by decide +kernel
theorem bX4_product_p48 {p : Program} {l : Launch} {e : Env} {s : State} {m : MethodId} {args : Array Value} {below : List Frame} {meth : Method} {c : Code} {D : va_G} {dA : Nat → ClassId} {a : Nat} {k : KP a} {t0 : CS} {r : Except Nat Nat} {t9 : CS} (C : cx p s m args meth c cX4_product RX4 3 (some (.object "LettersOnStrike$Sum"))) (hxt : ∀ x ∈ c.exceptionTable.toList, False) (hkl : k.1 ≠ a ∧ l.stackTraces = false) {N : Nat} {rec : CS → Option (Except Nat Nat × CS)} (hrec : ∀ (t : CS) (r : Except Nat Nat) (t9 : CS), rec t = some (r, t9) → vx_Met l yX4_one (ws_ yX4_one cX4_one 2 (some (.object "LettersOnStrike$Sum"))) (rmX4_one N t t9) (cPc D dA a k t [.ref k.1]) (xQ D dA a k t t9 fR r) (xX D dA a k t t9 r) (t9.2.2.2 0 - t.2.2.2 0) (t9.2.2.2 1 - t.2.2.2 1) (ca a)) (mrec : ∀ (t : CS)  (r : Except Nat Nat) (t9 : CS), rec t  = some (r, t9) → mo t t9) {k12 : CS → Nat → Option (Except Nat Nat × CS)} (hk12 : ∀ (t : CS) (x1 : Nat) (H : Heap) (locs : List Loc) (hT : cW D dA a k t H) (hS : cS a s.heap H locs t0.2.2.2 2 t) (hK : kC D dA a k t.2.2.2 s) (hm : mo t0 t) (ls : Array Slot), k12 t x1 = some (r, t9) → lv_has ls 3 [(0, .ref k.1), (1, .ref x1)] → W p l e (rmX4_product N t0 t9) s m args below meth c H locs (t.2.2.2 0 - t0.2.2.2 0) (t.2.2.2 1 - t0.2.2.2 1) (vx_MQ below (xQ D dA a k t0 t9 fR r) (xX D dA a k t0 t9 r) args s (t9.2.2.2 0 - t0.2.2.2 0) (t9.2.2.2 1 - t0.2.2.2 1) (ca a)) (F0 m 12 ls [])) (mk12 : ∀ (t : CS) (x1 : Nat) (r : Except Nat Nat) (t9 : CS), k12 t x1 = some (r, t9) → mo t t9) : ∀ (t : CS) (x1 : Nat) (H : Heap) (locs : List Loc) (hT : cW D dA a k t H) (hS : cS a s.heap H locs t0.2.2.2 2 t) (hK : kC D dA a k t.2.2.2 s) (hm : mo t0 t) (ls : Array Slot), C_X4_product_p48 rec k12 t x1 = some (r, t9) → lv_has ls 3 [(0, .ref k.1), (1, .ref x1)] → W p l e (rmX4_product N t0 t9) s m args below meth c H locs (t.2.2.2 0 - t0.2.2.2 0) (t.2.2.2 1 - t0.2.2.2 1) (vx_MQ below (xQ D dA a k t0 t9 fR r) (xX D dA a k t0 t9 r) args s (t9.2.2.2 0 - t0.2.2.2 0) (t9.2.2.2 1 - t0.2.2.2 1) (ca a)) (F0 m 48 ls []) := by
  obtain ⟨hx, hb, hr, hml, hown, hts, hlocks⟩ := id C
  intro t x1 H locs hT hS hK hm ls h hl
  have m9 : mo t t9 := mo_C_X4_product_p48 mrec mk12 h
  unfold C_X4_product_p48 at h
  refine lv_goto (tgt := 12) hx hb dX4_product_48 (by decide) ?_
  exact hk12 t x1 H locs hT hS hK hm ls h (lv_sub hl [0, 1] rfl)
theorem bX4_product_p45 {p : Program} {l : Launch} {e : Env} {s : State} {m : MethodId} {args : Array Value} {below : List Frame} {meth : Method} {c : Code} {D : va_G} {dA : Nat → ClassId} {a : Nat} {k : KP a} {t0 : CS} {r : Except Nat Nat} {t9 : CS} (C : cx p s m args meth c cX4_product RX4 3 (some (.object "LettersOnStrike$Sum"))) (hxt : ∀ x ∈ c.exceptionTable.toList, False) (hkl : k.1 ≠ a ∧ l.stackTraces = false) {N : Nat} {rec : CS → Option (Except Nat Nat × CS)} (hrec : ∀ (t : CS) (r : Except Nat Nat) (t9 : CS), rec t = some (r, t9) → vx_Met l yX4_one (ws_ yX4_one cX4_one 2 (some (.object "LettersOnStrike$Sum"))) (rmX4_one N t t9) (cPc D dA a k t [.ref k.1]) (xQ D dA a k t t9 fR r) (xX D dA a k t t9 r) (t9.2.2.2 0 - t.2.2.2 0) (t9.2.2.2 1 - t.2.2.2 1) (ca a)) (mrec : ∀ (t : CS)  (r : Except Nat Nat) (t9 : CS), rec t  = some (r, t9) → mo t t9) {k12 : CS → Nat → Option (Except Nat Nat × CS)} (hk12 : ∀ (t : CS) (x1 : Nat) (H : Heap) (locs : List Loc) (hT : cW D dA a k t H) (hS : cS a s.heap H locs t0.2.2.2 2 t) (hK : kC D dA a k t.2.2.2 s) (hm : mo t0 t) (ls : Array Slot), k12 t x1 = some (r, t9) → lv_has ls 3 [(0, .ref k.1), (1, .ref x1)] → W p l e (rmX4_product N t0 t9) s m args below meth c H locs (t.2.2.2 0 - t0.2.2.2 0) (t.2.2.2 1 - t0.2.2.2 1) (vx_MQ below (xQ D dA a k t0 t9 fR r) (xX D dA a k t0 t9 r) args s (t9.2.2.2 0 - t0.2.2.2 0) (t9.2.2.2 1 - t0.2.2.2 1) (ca a)) (F0 m 12 ls [])) (mk12 : ∀ (t : CS) (x1 : Nat) (r : Except Nat Nat) (t9 : CS), k12 t x1 = some (r, t9) → mo t t9) : ∀ (t : CS) (x1 : Nat) (y0 : Nat) (y1 : Int32) (y2 : Nat) (H : Heap) (locs : List Loc) (hT : cW D dA a k t H) (hS : cS a s.heap H locs t0.2.2.2 2 t) (hK : kC D dA a k t.2.2.2 s) (hm : mo t0 t) (ls : Array Slot), C_X4_product_p45 rec k12 t x1 y0 y1 y2 = some (r, t9) → lv_has ls 3 [(0, .ref k.1), (1, .ref x1)] → W p l e (rmX4_product N t0 t9) s m args below meth c H locs (t.2.2.2 0 - t0.2.2.2 0) (t.2.2.2 1 - t0.2.2.2 1) (vx_MQ below (xQ D dA a k t0 t9 fR r) (xX D dA a k t0 t9 r) args s (t9.2.2.2 0 - t0.2.2.2 0) (t9.2.2.2 1 - t0.2.2.2 1) (ca a)) (F0 m 45 ls [.ref y2, .int y1, .ref y0]) := by
  obtain ⟨hx, hb, hr, hml, hown, hts, hlocks⟩ := id C
  intro t x1 y0 y1 y2 H locs hT hS hK hm ls h hl
  have m9 : mo t t9 := mo_C_X4_product_p45 mrec mk12 h
  unfold C_X4_product_p45 at h
  obtain ⟨hc1, h⟩ := ckC_some h
  obtain ⟨t2, ht2, h⟩ := bd1_some h
  have mm : mo t t2 := mo_C_X8_add ht2
  have m9 : mo t2 t9 := mo_C_X4_product_p48 mrec mk12 h
  refine wa_void hS hK (run_c (As := [.int y1, .ref y2]) (rest := []) C hK hT hS.2.1 (rv_D (ci := 8) rfl hK hT hc1) (mX8_add ht2) q844 q845 q846 q185 q847 ⟨rfl, rfl⟩ hdX8_add ⟨show 7 + 1 ≤ 23 + 3 * N from by omega, show 8 + (3 + 11) + (171) ≤ 266 + 66 * N from by omega⟩ (mo_c hm mm m9) rfl hl.1 rfl (Nat.le_of_ble_eq_true rfl) dX4_product_45) (fun H locs hT hS hK => ?_)
  refine W.widen (mo_c hm mm mo.rf).1 (mo_c hm mm mo.rf).2 ?_
  replace hm := hm.tr mm
  exact bX4_product_p48 C hxt hkl hrec mrec hk12 mk12 t2 x1 H locs hT hS hK hm ls h (lv_sub hl [0, 1] rfl)
theorem bX4_product_p30 {p : Program} {l : Launch} {e : Env} {s : State} {m : MethodId} {args : Array Value} {below : List Frame} {meth : Method} {c : Code} {D : va_G} {dA : Nat → ClassId} {a : Nat} {k : KP a} {t0 : CS} {r : Except Nat Nat} {t9 : CS} (C : cx p s m args meth c cX4_product RX4 3 (some (.object "LettersOnStrike$Sum"))) (hxt : ∀ x ∈ c.exceptionTable.toList, False) (hkl : k.1 ≠ a ∧ l.stackTraces = false) {N : Nat} {rec : CS → Option (Except Nat Nat × CS)} (hrec : ∀ (t : CS) (r : Except Nat Nat) (t9 : CS), rec t = some (r, t9) → vx_Met l yX4_one (ws_ yX4_one cX4_one 2 (some (.object "LettersOnStrike$Sum"))) (rmX4_one N t t9) (cPc D dA a k t [.ref k.1]) (xQ D dA a k t t9 fR r) (xX D dA a k t t9 r) (t9.2.2.2 0 - t.2.2.2 0) (t9.2.2.2 1 - t.2.2.2 1) (ca a)) (mrec : ∀ (t : CS)  (r : Except Nat Nat) (t9 : CS), rec t  = some (r, t9) → mo t t9) {k12 : CS → Nat → Option (Except Nat Nat × CS)} (hk12 : ∀ (t : CS) (x1 : Nat) (H : Heap) (locs : List Loc) (hT : cW D dA a k t H) (hS : cS a s.heap H locs t0.2.2.2 2 t) (hK : kC D dA a k t.2.2.2 s) (hm : mo t0 t) (ls : Array Slot), k12 t x1 = some (r, t9) → lv_has ls 3 [(0, .ref k.1), (1, .ref x1)] → W p l e (rmX4_product N t0 t9) s m args below meth c H locs (t.2.2.2 0 - t0.2.2.2 0) (t.2.2.2 1 - t0.2.2.2 1) (vx_MQ below (xQ D dA a k t0 t9 fR r) (xX D dA a k t0 t9 r) args s (t9.2.2.2 0 - t0.2.2.2 0) (t9.2.2.2 1 - t0.2.2.2 1) (ca a)) (F0 m 12 ls [])) (mk12 : ∀ (t : CS) (x1 : Nat) (r : Except Nat Nat) (t9 : CS), k12 t x1 = some (r, t9) → mo t t9) : ∀ (t : CS) (x1 : Nat) (H : Heap) (locs : List Loc) (hT : cW D dA a k t H) (hS : cS a s.heap H locs t0.2.2.2 2 t) (hK : kC D dA a k t.2.2.2 s) (hm : mo t0 t) (ls : Array Slot), C_X4_product_p30 rec k12 t x1 = some (r, t9) → lv_has ls 3 [(0, .ref k.1), (1, .ref x1)] → W p l e (rmX4_product N t0 t9) s m args below meth c H locs (t.2.2.2 0 - t0.2.2.2 0) (t.2.2.2 1 - t0.2.2.2 1) (vx_MQ below (xQ D dA a k t0 t9 fR r) (xX D dA a k t0 t9 r) args s (t9.2.2.2 0 - t0.2.2.2 0) (t9.2.2.2 1 - t0.2.2.2 1) (ca a)) (F0 m 30 ls []) := by
  obtain ⟨hx, hb, hr, hml, hown, hts, hlocks⟩ := id C
  intro t x1 H locs hT hS hK hm ls h hl
  have m9 : mo t t9 := mo_C_X4_product_p30 mrec mk12 h
  unfold C_X4_product_p30 at h
  refine lv_aload_n hx hb dX4_product_30 rfl (lv_at hl 0 rfl) ?_
  refine c_getT C hK hT hkl.1 4 (by decide) q521 rfl (v := .int (t.1 200 4)) rfl dX4_product_31 ?_
  refine lv_topi (fun v1 ev1 => ?_)
  replace h := lt1_sub ev1 h
  refine lv_istore_n (lv' := [(2, .int v1), (0, .ref k.1), (1, .ref x1)]) hx hb dX4_product_34 rfl hl (by decide) rfl (fun ls hl => ?_)
  refine lv_aload_n hx hb dX4_product_35 rfl (lv_at hl 1 rfl) ?_
  obtain ⟨t2, ht2, h⟩ := bd1_some h
  refine wc_void hS hK (run_c (As := []) (rest := []) C hK hT hS.2.1 (rv_T hK hT hkl.1) (mX4_next hkl ht2) q603 q605 qs3 q171 q606 ⟨rfl, rfl⟩ hdX4_next ⟨show 5 + 1 ≤ 23 + 3 * N from by omega, show 8 + (3 + 11) + (107) ≤ 266 + 66 * N from by omega⟩ (mo_z m9) rfl hl.1 rfl (Nat.le_of_ble_eq_true rfl) dX4_product_36) (fun H locs hT hS hK hNt2 => ?_)
  have mm : mo t t2 := mo.ni hNt2
  replace hm := hm.tr mm
  replace m9 : mo t2 t9 := mo.bk (funext fun i => hNt2 i (Nat.zero_le _)) m9
  refine W.widen (mo_s mm).1 (mo_s mm).2 ?_
  refine lv_aload_n hx hb dX4_product_39 rfl (lv_at hl 2 rfl) ?_
  refine lv_iload_n hx hb dX4_product_40 rfl (lv_at hl 0 rfl) ?_
  refine lv_aload_n hx hb dX4_product_41 rfl (lv_at hl 1 rfl) ?_
  rcases bdx_some h with ⟨q5, ht3, hr_⟩ | ⟨v4, t3, ht3, h⟩
  · subst hr_
    have mm : mo t2 t9 := mrec _ _ _ ht3
    exact ex_err C hxt hS (run_x (As := []) (rest := [.int v1, .ref x1]) C hK hT hS.2.1 (rv_T hK hT hkl.1) (hrec _ _ _ ht3) q782 q784 qs14 q171 q785 ⟨rfl, rfl⟩ hdX4_one ⟨show 22 + 3 * N + 1 ≤ 23 + 3 * N from by omega, show 8 + (2 + 11) + (244 + 66 * N) ≤ 266 + 66 * N from by omega⟩ (mo_c hm mm mo.rf) rfl hl.1 rfl (Nat.le_of_ble_eq_true rfl) dX4_product_42) (mo_c hm mm mo.rf)
  · have mm : mo t2 t3 := mrec _ _ _ ht3
    have m9 : mo t3 t9 := mo_C_X4_product_p45 mrec mk12 h
    refine ex_okR hS hK (run_x (As := []) (rest := [.int v1, .ref x1]) C hK hT hS.2.1 (rv_T hK hT hkl.1) (hrec _ _ _ ht3) q782 q784 qs14 q171 q785 ⟨rfl, rfl⟩ hdX4_one ⟨show 22 + 3 * N + 1 ≤ 23 + 3 * N from by omega, show 8 + (2 + 11) + (244 + 66 * N) ≤ 266 + 66 * N from by omega⟩ (mo_c hm mm m9) rfl hl.1 rfl (Nat.le_of_ble_eq_true rfl) dX4_product_42) (fun H locs hT hS hK => ?_)
    refine W.widen (mo_c hm mm mo.rf).1 (mo_c hm mm mo.rf).2 ?_
    replace hm := hm.tr mm
    exact bX4_product_p45 C hxt hkl hrec mrec hk12 mk12 t3 x1 x1 v1 v4 H locs hT hS hK hm ls h (lv_sub hl [1, 2] rfl)
theorem bX4_product_p12 {p : Program} {l : Launch} {e : Env} {s : State} {m : MethodId} {args : Array Value} {below : List Frame} {meth : Method} {c : Code} {D : va_G} {dA : Nat → ClassId} {a : Nat} {k : KP a} {t0 : CS} {r : Except Nat Nat} {t9 : CS} (C : cx p s m args meth c cX4_product RX4 3 (some (.object "LettersOnStrike$Sum"))) (hxt : ∀ x ∈ c.exceptionTable.toList, False) (hkl : k.1 ≠ a ∧ l.stackTraces = false) {N : Nat} {rec : CS → Option (Except Nat Nat × CS)} (hrec : ∀ (t : CS) (r : Except Nat Nat) (t9 : CS), rec t = some (r, t9) → vx_Met l yX4_one (ws_ yX4_one cX4_one 2 (some (.object "LettersOnStrike$Sum"))) (rmX4_one N t t9) (cPc D dA a k t [.ref k.1]) (xQ D dA a k t t9 fR r) (xX D dA a k t t9 r) (t9.2.2.2 0 - t.2.2.2 0) (t9.2.2.2 1 - t.2.2.2 1) (ca a)) (mrec : ∀ (t : CS)  (r : Except Nat Nat) (t9 : CS), rec t  = some (r, t9) → mo t t9) : ∀ (n : Nat), ∀ (t : CS) (x1 : Nat) (H : Heap) (locs : List Loc) (hT : cW D dA a k t H) (hS : cS a s.heap H locs t0.2.2.2 2 t) (hK : kC D dA a k t.2.2.2 s) (hm : mo t0 t) (ls : Array Slot), C_X4_product_p12 rec n t x1 = some (r, t9) → lv_has ls 3 [(0, .ref k.1), (1, .ref x1)] → W p l e (rmX4_product N t0 t9) s m args below meth c H locs (t.2.2.2 0 - t0.2.2.2 0) (t.2.2.2 1 - t0.2.2.2 1) (vx_MQ below (xQ D dA a k t0 t9 fR r) (xX D dA a k t0 t9 r) args s (t9.2.2.2 0 - t0.2.2.2 0) (t9.2.2.2 1 - t0.2.2.2 1) (ca a)) (F0 m 12 ls []) := by
  obtain ⟨hx, hb, hr, hml, hown, hts, hlocks⟩ := id C
  intro n
  induction n with
  | zero =>
    intro t x1 H locs hT hS hK hm ls h hl
    have h : none = some _ := h
    cases h
  | succ n ih =>
    intro t x1 H locs hT hS hK hm ls h hl
    have m9 : mo t t9 := mo_C_X4_product_p12 mrec (n + 1) _ _ _ _ h
    rw [C_X4_product_p12] at h
    refine lv_aload_n hx hb dX4_product_12 rfl (lv_at hl 0 rfl) ?_
    refine c_getT C hK hT hkl.1 4 (by decide) q521 rfl (v := .int (t.1 200 4)) rfl dX4_product_13 ?_
    refine lv_bipush (v := 42) hx hb dX4_product_16 (by decide) ?_
    refine lv_icmp_eq (tgt := 30) hx hb dX4_product_18 (by decide) (fun c => ?_) (fun c => ?_)
    · replace h := if_t c h
      exact bX4_product_p30 C hxt hkl hrec mrec ih (mo_C_X4_product_p12 mrec n) t x1 H locs hT hS hK hm ls h (lv_sub hl [0, 1] rfl)
    · replace h := if_f c h
      refine lv_aload_n hx hb dX4_product_21 rfl (lv_at hl 0 rfl) ?_
      refine c_getT C hK hT hkl.1 4 (by decide) q521 rfl (v := .int (t.1 200 4)) rfl dX4_product_22 ?_
      refine lv_bipush (v := 47) hx hb dX4_product_25 (by decide) ?_
      refine lv_icmp_ne (tgt := 51) hx hb dX4_product_27 (by decide) (fun c => ?_) (fun c => ?_)
      · replace h := if_f c h
        refine lv_aload_n hx hb dX4_product_51 rfl (lv_at hl 1 rfl) ?_
        obtain ⟨hc1, h⟩ := ckC_some h
        obtain ⟨v2, hv2, h⟩ := bd1_some h
        refine r_ref1 (run_c (As := []) (rest := []) C hK hT hS.2.1 (rv_D (ci := 8) rfl hK hT hc1) (mX8_itself hv2) q929 q930 q931 q185 q932 ⟨rfl, rfl⟩ hdX8_itself ⟨show 1 + 1 ≤ 23 + 3 * N from by omega, show 8 + (1 + 11) + (20) ≤ 266 + 66 * N from by omega⟩ (mo_z m9) rfl hl.1 rfl (Nat.le_of_ble_eq_true rfl) dX4_product_52) ?_
        cases h
        exact toX (ec_r C (Or.inl ⟨_, rfl⟩) hT hS rfl dX4_product_55)
      · replace h := if_t c h
        exact bX4_product_p30 C hxt hkl hrec mrec ih (mo_C_X4_product_p12 mrec n) t x1 H locs hT hS hK hm ls h (lv_sub hl [0, 1] rfl)
theorem bX4_product_p11 {p : Program} {l : Launch} {e : Env} {s : State} {m : MethodId} {args : Array Value} {below : List Frame} {meth : Method} {c : Code} {D : va_G} {dA : Nat → ClassId} {a : Nat} {k : KP a} {t0 : CS} {r : Except Nat Nat} {t9 : CS} (C : cx p s m args meth c cX4_product RX4 3 (some (.object "LettersOnStrike$Sum"))) (hxt : ∀ x ∈ c.exceptionTable.toList, False) (hkl : k.1 ≠ a ∧ l.stackTraces = false) {N : Nat} {rec : CS → Option (Except Nat Nat × CS)} (hrec : ∀ (t : CS) (r : Except Nat Nat) (t9 : CS), rec t = some (r, t9) → vx_Met l yX4_one (ws_ yX4_one cX4_one 2 (some (.object "LettersOnStrike$Sum"))) (rmX4_one N t t9) (cPc D dA a k t [.ref k.1]) (xQ D dA a k t t9 fR r) (xX D dA a k t t9 r) (t9.2.2.2 0 - t.2.2.2 0) (t9.2.2.2 1 - t.2.2.2 1) (ca a)) (mrec : ∀ (t : CS)  (r : Except Nat Nat) (t9 : CS), rec t  = some (r, t9) → mo t t9) : ∀ (t : CS) (y0 : Nat) (H : Heap) (locs : List Loc) (hT : cW D dA a k t H) (hS : cS a s.heap H locs t0.2.2.2 2 t) (hK : kC D dA a k t.2.2.2 s) (hm : mo t0 t) (ls : Array Slot), C_X4_product_p11 rec t y0 = some (r, t9) → lv_has ls 3 [(0, .ref k.1)] → W p l e (rmX4_product N t0 t9) s m args below meth c H locs (t.2.2.2 0 - t0.2.2.2 0) (t.2.2.2 1 - t0.2.2.2 1) (vx_MQ below (xQ D dA a k t0 t9 fR r) (xX D dA a k t0 t9 r) args s (t9.2.2.2 0 - t0.2.2.2 0) (t9.2.2.2 1 - t0.2.2.2 1) (ca a)) (F0 m 11 ls [.ref y0]) := by
  obtain ⟨hx, hb, hr, hml, hown, hts, hlocks⟩ := id C
  intro t y0 H locs hT hS hK hm ls h hl
  have m9 : mo t t9 := mo_C_X4_product_p11 mrec h
  unfold C_X4_product_p11 at h
  refine lv_astore_n (lv' := [(1, .ref y0), (0, .ref k.1)]) hx hb dX4_product_11 rfl hl (by decide) rfl (fun ls hl => ?_)
  exact bX4_product_p12 C hxt hkl hrec mrec fu t y0 H locs hT hS hK hm ls h (lv_sub hl [1, 0] rfl)
theorem bX4_product_p8 {p : Program} {l : Launch} {e : Env} {s : State} {m : MethodId} {args : Array Value} {below : List Frame} {meth : Method} {c : Code} {D : va_G} {dA : Nat → ClassId} {a : Nat} {k : KP a} {t0 : CS} {r : Except Nat Nat} {t9 : CS} (C : cx p s m args meth c cX4_product RX4 3 (some (.object "LettersOnStrike$Sum"))) (hxt : ∀ x ∈ c.exceptionTable.toList, False) (hkl : k.1 ≠ a ∧ l.stackTraces = false) {N : Nat} {rec : CS → Option (Except Nat Nat × CS)} (hrec : ∀ (t : CS) (r : Except Nat Nat) (t9 : CS), rec t = some (r, t9) → vx_Met l yX4_one (ws_ yX4_one cX4_one 2 (some (.object "LettersOnStrike$Sum"))) (rmX4_one N t t9) (cPc D dA a k t [.ref k.1]) (xQ D dA a k t t9 fR r) (xX D dA a k t t9 r) (t9.2.2.2 0 - t.2.2.2 0) (t9.2.2.2 1 - t.2.2.2 1) (ca a)) (mrec : ∀ (t : CS)  (r : Except Nat Nat) (t9 : CS), rec t  = some (r, t9) → mo t t9) : ∀ (t : CS) (y0 : Nat) (y1 : Nat) (y2 : Nat) (H : Heap) (locs : List Loc) (hT : cW D dA a k t H) (hS : cS a s.heap H locs t0.2.2.2 2 t) (hK : kC D dA a k t.2.2.2 s) (hm : mo t0 t) (ls : Array Slot), C_X4_product_p8 rec t y0 y1 y2 = some (r, t9) → lv_has ls 3 [(0, .ref k.1)] → W p l e (rmX4_product N t0 t9) s m args below meth c H locs (t.2.2.2 0 - t0.2.2.2 0) (t.2.2.2 1 - t0.2.2.2 1) (vx_MQ below (xQ D dA a k t0 t9 fR r) (xX D dA a k t0 t9 r) args s (t9.2.2.2 0 - t0.2.2.2 0) (t9.2.2.2 1 - t0.2.2.2 1) (ca a)) (F0 m 8 ls [.ref y2, .ref y1, .ref y0]) := by
  obtain ⟨hx, hb, hr, hml, hown, hts, hlocks⟩ := id C
  intro t y0 y1 y2 H locs hT hS hK hm ls h hl
  have m9 : mo t t9 := mo_C_X4_product_p8 mrec h
  unfold C_X4_product_p8 at h
  obtain ⟨t1, ht1, h⟩ := bd1_some h
  have mm : mo t t1 := mo_C_X8_init ht1
  have m9 : mo t1 t9 := mo_C_X4_product_p11 mrec h
  refine wa_void hS hK (run_i (As := [.ref y2]) (rest := [.ref y0]) C hK hT hS.2.1 (mX8_init ht1) q828 q829 q185 q830 ⟨rfl, rfl⟩ hdX8_init ⟨show 4 + 1 ≤ 23 + 3 * N from by omega, show 8 + (2 + 11) + (90) ≤ 266 + 66 * N from by omega⟩ (mo_c hm mm m9) rfl hl.1 rfl (Nat.le_of_ble_eq_true rfl) dX4_product_8) (fun H locs hT hS hK => ?_)
  refine W.widen (mo_c hm mm mo.rf).1 (mo_c hm mm mo.rf).2 ?_
  replace hm := hm.tr mm
  exact bX4_product_p11 C hxt hkl hrec mrec t1 y0 H locs hT hS hK hm ls h (lv_sub hl [0] rfl)
theorem bX4_product_p3 {p : Program} {l : Launch} {e : Env} {s : State} {m : MethodId} {args : Array Value} {below : List Frame} {meth : Method} {c : Code} {D : va_G} {dA : Nat → ClassId} {a : Nat} {k : KP a} {t0 : CS} {r : Except Nat Nat} {t9 : CS} (C : cx p s m args meth c cX4_product RX4 3 (some (.object "LettersOnStrike$Sum"))) (hxt : ∀ x ∈ c.exceptionTable.toList, False) (hkl : k.1 ≠ a ∧ l.stackTraces = false) {N : Nat} {rec : CS → Option (Except Nat Nat × CS)} (hrec : ∀ (t : CS) (r : Except Nat Nat) (t9 : CS), rec t = some (r, t9) → vx_Met l yX4_one (ws_ yX4_one cX4_one 2 (some (.object "LettersOnStrike$Sum"))) (rmX4_one N t t9) (cPc D dA a k t [.ref k.1]) (xQ D dA a k t t9 fR r) (xX D dA a k t t9 r) (t9.2.2.2 0 - t.2.2.2 0) (t9.2.2.2 1 - t.2.2.2 1) (ca a)) (mrec : ∀ (t : CS)  (r : Except Nat Nat) (t9 : CS), rec t  = some (r, t9) → mo t t9) : ∀ (t : CS) (y0 : Nat) (H : Heap) (locs : List Loc) (hT : cW D dA a k t H) (hS : cS a s.heap H locs t0.2.2.2 2 t) (hK : kC D dA a k t.2.2.2 s) (hm : mo t0 t) (ls : Array Slot), C_X4_product_p3 rec t y0 = some (r, t9) → lv_has ls 3 [(0, .ref k.1)] → W p l e (rmX4_product N t0 t9) s m args below meth c H locs (t.2.2.2 0 - t0.2.2.2 0) (t.2.2.2 1 - t0.2.2.2 1) (vx_MQ below (xQ D dA a k t0 t9 fR r) (xX D dA a k t0 t9 r) args s (t9.2.2.2 0 - t0.2.2.2 0) (t9.2.2.2 1 - t0.2.2.2 1) (ca a)) (F0 m 3 ls [.ref y0]) := by
  obtain ⟨hx, hb, hr, hml, hown, hts, hlocks⟩ := id C
  intro t y0 H locs hT hS hK hm ls h hl
  have m9 : mo t t9 := mo_C_X4_product_p3 mrec h
  unfold C_X4_product_p3 at h
  refine lv_dup hx hb dX4_product_3 rfl ?_
  refine lv_aload_n hx hb dX4_product_4 rfl (lv_at hl 0 rfl) ?_
  rcases bdx_some h with ⟨q3, ht1, hr_⟩ | ⟨v2, t1, ht1, h⟩
  · subst hr_
    have mm : mo t t9 := mrec _ _ _ ht1
    exact ex_err C hxt hS (run_x (As := []) (rest := [.ref y0, .ref y0]) C hK hT hS.2.1 (rv_T hK hT hkl.1) (hrec _ _ _ ht1) q782 q784 qs14 q171 q785 ⟨rfl, rfl⟩ hdX4_one ⟨show 22 + 3 * N + 1 ≤ 23 + 3 * N from by omega, show 8 + (2 + 11) + (244 + 66 * N) ≤ 266 + 66 * N from by omega⟩ (mo_c hm mm mo.rf) rfl hl.1 rfl (Nat.le_of_ble_eq_true rfl) dX4_product_5) (mo_c hm mm mo.rf)
  · have mm : mo t t1 := mrec _ _ _ ht1
    have m9 : mo t1 t9 := mo_C_X4_product_p8 mrec h
    refine ex_okR hS hK (run_x (As := []) (rest := [.ref y0, .ref y0]) C hK hT hS.2.1 (rv_T hK hT hkl.1) (hrec _ _ _ ht1) q782 q784 qs14 q171 q785 ⟨rfl, rfl⟩ hdX4_one ⟨show 22 + 3 * N + 1 ≤ 23 + 3 * N from by omega, show 8 + (2 + 11) + (244 + 66 * N) ≤ 266 + 66 * N from by omega⟩ (mo_c hm mm m9) rfl hl.1 rfl (Nat.le_of_ble_eq_true rfl) dX4_product_5) (fun H locs hT hS hK => ?_)
    refine W.widen (mo_c hm mm mo.rf).1 (mo_c hm mm mo.rf).2 ?_
    replace hm := hm.tr mm
    exact bX4_product_p8 C hxt hkl hrec mrec t1 y0 y0 v2 H locs hT hS hK hm ls h (lv_sub hl [0] rfl)
theorem bX4_product {p : Program} {l : Launch} {e : Env} {s : State} {m : MethodId} {args : Array Value} {below : List Frame} {meth : Method} {c : Code} {D : va_G} {dA : Nat → ClassId} {a : Nat} {k : KP a} {t0 : CS} {r : Except Nat Nat} {t9 : CS} (C : cx p s m args meth c cX4_product RX4 3 (some (.object "LettersOnStrike$Sum"))) (hxt : ∀ x ∈ c.exceptionTable.toList, False) (hkl : k.1 ≠ a ∧ l.stackTraces = false) {N : Nat} {rec : CS → Option (Except Nat Nat × CS)} (hrec : ∀ (t : CS) (r : Except Nat Nat) (t9 : CS), rec t = some (r, t9) → vx_Met l yX4_one (ws_ yX4_one cX4_one 2 (some (.object "LettersOnStrike$Sum"))) (rmX4_one N t t9) (cPc D dA a k t [.ref k.1]) (xQ D dA a k t t9 fR r) (xX D dA a k t t9 r) (t9.2.2.2 0 - t.2.2.2 0) (t9.2.2.2 1 - t.2.2.2 1) (ca a)) (mrec : ∀ (t : CS)  (r : Except Nat Nat) (t9 : CS), rec t  = some (r, t9) → mo t t9) : ∀ (t : CS) (H : Heap) (locs : List Loc) (hT : cW D dA a k t H) (hS : cS a s.heap H locs t0.2.2.2 2 t) (hK : kC D dA a k t.2.2.2 s) (hm : mo t0 t) (ls : Array Slot), C_X4_product rec t = some (r, t9) → lv_has ls 3 [(0, .ref k.1)] → W p l e (rmX4_product N t0 t9) s m args below meth c H locs (t.2.2.2 0 - t0.2.2.2 0) (t.2.2.2 1 - t0.2.2.2 1) (vx_MQ below (xQ D dA a k t0 t9 fR r) (xX D dA a k t0 t9 r) args s (t9.2.2.2 0 - t0.2.2.2 0) (t9.2.2.2 1 - t0.2.2.2 1) (ca a)) (F0 m 0 ls []) := by
  obtain ⟨hx, hb, hr, hml, hown, hts, hlocks⟩ := id C
  intro t H locs hT hS hK hm ls h hl
  have m9 : mo t t9 := mo_C_X4_product mrec h
  unfold C_X4_product at h
  obtain ⟨t1, et1, h⟩ := lt1_ex h
  have m9 : mo t1 t9 := mo_C_X4_product_p3 mrec h
  refine n_new (ci := 8) (fs := [.null, .null, .null]) in_X8 tyX8 tyX8_ok rfl C hK hT hS q776 q777 q185 (fun j hj => by rcases (show j = 0 ∨ j = 1 ∨ j = 2 by omega) with rfl | rfl | rfl <;> rfl) (mo_n hm et1 m9) dX4_product_0 (fun t_ H et_ hT hS hK => ?_)
  obtain rfl := et1.trans et_.symm
  refine W.widen (mo_n1 hm et1).1 (mo_n1 hm et1).2 ?_
  replace hm := hm.tr (mo.new et1)
  exact bX4_product_p3 C hxt hkl hrec mrec t1 (t.2.2.2 0) H locs hT hS hK hm ls h (lv_sub hl [0] rfl)
theorem mX4_product {l : Launch} {D : va_G} {dA : Nat → ClassId} {a : Nat} {k : KP a} {r : Except Nat Nat} {t9 : CS} {N : Nat} {rec : CS → Option (Except Nat Nat × CS)} (hrec : ∀ (t : CS) (r : Except Nat Nat) (t9 : CS), rec t = some (r, t9) → vx_Met l yX4_one (ws_ yX4_one cX4_one 2 (some (.object "LettersOnStrike$Sum"))) (rmX4_one N t t9) (cPc D dA a k t [.ref k.1]) (xQ D dA a k t t9 fR r) (xX D dA a k t t9 r) (t9.2.2.2 0 - t.2.2.2 0) (t9.2.2.2 1 - t.2.2.2 1) (ca a)) (mrec : ∀ (t : CS)  (r : Except Nat Nat) (t9 : CS), rec t  = some (r, t9) → mo t t9) {t : CS} (hkl : k.1 ≠ a ∧ l.stackTraces = false) (h : C_X4_product rec t = some (r, t9)) : vx_Met l yX4_product (ws_ yX4_product cX4_product 3 (some (.object "LettersOnStrike$Sum"))) (rmX4_product N t t9) (cPc D dA a k t [.ref k.1]) (xQ D dA a k t t9 fR r) (xX D dA a k t t9 r) (t9.2.2.2 0 - t.2.2.2 0) (t9.2.2.2 1 - t.2.2.2 1) (ca a) := en_X (by decide +kernel) rfl (Nat.le_of_ble_eq_true rfl) (fun p e s m below meth c ls C hxt hK hT hl => sub0 (bX4_product C hxt hkl hrec mrec t _ [] hT cS.rf hK mo.rf ls h hl))
