/-! the reference's walks, 3 (written by gen/gen_twin.py) -/
set_option maxRecDepth 20000
set_option maxRecDepth 20000 in
abbrev rmX2_sensesOf : Room := { frames := 0, cells := 0, slots := 0, locals := 0 }
theorem hdX2_sensesOf : yX2_sensesOf.cls = RX2 ∧ yX2_sensesOf.cls ≠ "java/lang/invoke/MethodHandle" ∧ yX2_sensesOf.cls ≠ "java/lang/invoke/VarHandle" ∧ (parseMethodDescriptor yX2_sensesOf.desc).map (fun d => d.parameters.length) = some 1 := by decide +kernel
theorem bX2_sensesOf {p : Program} {l : Launch} {e : Env} {s : State} {m : MethodId} {args : Array Value} {below : List Frame} {meth : Method} {c : Code} {D : va_G} {dA : Nat → ClassId} {b : Nat} {t : TS} {r : Int32} (C : cx p s m args meth c cX2_sensesOf RX2 2 (some .int)) (hK : kk D dA s) (hT : wd D (tw dA b t) s.heap) : ∀ (x1 : Int32) (ls : Array Slot), T_sensesOf t x1 = some r → lv_has ls 2 [(0, .ref b), (1, .int x1)] → W p l e rmX2_sensesOf s m args below meth c s.heap [] 0 0 (MQ below (rQi r) args s 0 0 nof) (F0 m 0 ls []) := by
  obtain ⟨hx, hb, hr, hml, hown, hts, hlocks⟩ := id C
  intro x1 ls h hl
  unfold T_sensesOf at h
  refine lv_aload_n hx hb dX2_sensesOf_0 rfl (lv_at hl 0 rfl) ?_
  refine tg0 C hK hT dX2_sensesOf_1 ?_
  refine lv_sipush (v := 356) hx hb dX2_sensesOf_4 (by decide) ?_
  refine lv_bipush (v := 9) hx hb dX2_sensesOf_7 (by decide) ?_
  refine lv_iload_n hx hb dX2_sensesOf_9 rfl (lv_at hl 1 rfl) ?_
  refine lv_imul hx hb dX2_sensesOf_10 ?_
  refine lv_iadd hx hb dX2_sensesOf_11 ?_
  obtain ⟨hi, h⟩ := ck_some h
  refine tl0 C hK hT hi dX2_sensesOf_12 ?_
  exact e_ri C h dX2_sensesOf_13
theorem mX2_sensesOf {l : Launch} {D : va_G} {dA : Nat → ClassId} {b : Nat} {t : TS} {x1 : Int32} {r : Int32} (h : T_sensesOf t x1 = some r) : Met l yX2_sensesOf (ws_ yX2_sensesOf cX2_sensesOf 2 (some .int)) rmX2_sensesOf (tPc D dA b t [.ref b, .int x1]) (rQi r) 0 0 nof := en_R (by decide +kernel) rfl (Nat.le_of_ble_eq_true rfl) (fun p e s m below meth c ls C hK hT hl => bX2_sensesOf C hK hT x1 ls h hl)
set_option maxRecDepth 20000 in
abbrev rmX2_isWritten : Room := { frames := 2, cells := 0, slots := 0, locals := 42 }
theorem hdX2_isWritten : yX2_isWritten.cls = RX2 ∧ yX2_isWritten.cls ≠ "java/lang/invoke/MethodHandle" ∧ yX2_isWritten.cls ≠ "java/lang/invoke/VarHandle" ∧ (parseMethodDescriptor yX2_isWritten.desc).map (fun d => d.parameters.length) = some 1 := by decide +kernel
theorem bX2_isWritten_43 {p : Program} {l : Launch} {e : Env} {s : State} {m : MethodId} {args : Array Value} {below : List Frame} {meth : Method} {c : Code} {D : va_G} {dA : Nat → ClassId} {b : Nat} {t : TS} {r : Int32} (C : cx p s m args meth c cX2_isWritten RX2 3 (some .boolean)) (hK : kk D dA s) (hT : wd D (tw dA b t) s.heap) {k2 : Int32 → Int32 → Option Int32} (hk2 : ∀ (x1 : Int32) (x2 : Int32) (ls : Array Slot), k2 x1 x2 = some r → lv_has ls 3 [(0, .ref b), (1, .int x1), (2, .int x2)] → W p l e rmX2_isWritten s m args below meth c s.heap [] 0 0 (MQ below (rQi r) args s 0 0 nof) (F0 m 2 ls [])) : ∀ (x1 : Int32) (x2 : Int32) (ls : Array Slot), T_isWritten_43 k2 t x1 x2 = some r → lv_has ls 3 [(0, .ref b), (1, .int x1), (2, .int x2)] → W p l e rmX2_isWritten s m args below meth c s.heap [] 0 0 (MQ below (rQi r) args s 0 0 nof) (F0 m 43 ls []) := by
  obtain ⟨hx, hb, hr, hml, hown, hts, hlocks⟩ := id C
  intro x1 x2 ls h hl
  unfold T_isWritten_43 at h
  obtain ⟨v1, ev1⟩ : ∃ y : Int32, y = x2 + (1 : Int32) := ⟨_, rfl⟩
  replace h := lt1_sub ev1 h
  refine lv_iinc (v := v1) (lv' := [(2, .int v1), (0, .ref b), (1, .int x1)]) hx hb dX2_isWritten_43 hl (k := 2) rfl (by rw [ev1]; rfl) (by decide) rfl (fun ls hl => ?_)
  refine lv_goto (tgt := 2) hx hb dX2_isWritten_46 (by decide) ?_
  exact hk2 x1 v1 ls h (lv_sub hl [1, 2, 0] rfl)
theorem bX2_isWritten_2 {p : Program} {l : Launch} {e : Env} {s : State} {m : MethodId} {args : Array Value} {below : List Frame} {meth : Method} {c : Code} {D : va_G} {dA : Nat → ClassId} {b : Nat} {t : TS} {r : Int32} (C : cx p s m args meth c cX2_isWritten RX2 3 (some .boolean)) (hK : kk D dA s) (hT : wd D (tw dA b t) s.heap) : ∀ (n : Nat), ∀ (x1 : Int32) (x2 : Int32) (ls : Array Slot), T_isWritten_2 t n x1 x2 = some r → lv_has ls 3 [(0, .ref b), (1, .int x1), (2, .int x2)] → W p l e rmX2_isWritten s m args below meth c s.heap [] 0 0 (MQ below (rQi r) args s 0 0 nof) (F0 m 2 ls []) := by
  obtain ⟨hx, hb, hr, hml, hown, hts, hlocks⟩ := id C
  intro n
  induction n with
  | zero =>
    intro x1 x2 ls h hl
    have h : none = some _ := h
    cases h
  | succ n ih =>
    intro x1 x2 ls h hl
    rw [T_isWritten_2] at h
    refine lv_iload_n hx hb dX2_isWritten_2 rfl (lv_at hl 2 rfl) ?_
    refine lv_aload_n hx hb dX2_isWritten_3 rfl (lv_at hl 0 rfl) ?_
    refine lv_iload_n hx hb dX2_isWritten_4 rfl (lv_at hl 1 rfl) ?_
    obtain ⟨v1, hv1, h⟩ := bd1_some h
    refine r_int (run_t (As := [.int x1]) (rest := [.int x2]) C hK hT (mX2_lengthOf hv1) q1678 q1680 qs71 q162 q1681 ⟨rfl, rfl⟩ hdX2_lengthOf ⟨Nat.le_of_ble_eq_true rfl, Nat.le_of_ble_eq_true rfl⟩ ⟨Nat.zero_le _, Nat.zero_le _⟩ rfl hl.1 rfl (Nat.le_of_ble_eq_true rfl) dX2_isWritten_5) ?_
    refine lv_icmp_ge (tgt := 49) hx hb dX2_isWritten_8 (by decide) (fun c => ?_) (fun c => ?_)
    · replace h := if_t c h
      refine lv_iconst (v := 1) hx hb dX2_isWritten_49 (by decide) ?_
      exact e_rz C (Or.inr rfl) h dX2_isWritten_50
    · replace h := if_f c h
      refine lv_aload_n hx hb dX2_isWritten_11 rfl (lv_at hl 0 rfl) ?_
      refine lv_aload_n hx hb dX2_isWritten_12 rfl (lv_at hl 0 rfl) ?_
      refine lv_iload_n hx hb dX2_isWritten_13 rfl (lv_at hl 1 rfl) ?_
      refine lv_iload_n hx hb dX2_isWritten_14 rfl (lv_at hl 2 rfl) ?_
      obtain ⟨v2, hv2, h⟩ := bd1_some h
      refine r_int (run_t (As := [.int x1, .int x2]) (rest := [.ref b]) C hK hT (mX2_letterOf hv2) q1682 q1684 qs72 q162 q1685 ⟨rfl, rfl⟩ hdX2_letterOf ⟨Nat.le_of_ble_eq_true rfl, Nat.le_of_ble_eq_true rfl⟩ ⟨Nat.zero_le _, Nat.zero_le _⟩ rfl hl.1 rfl (Nat.le_of_ble_eq_true rfl) dX2_isWritten_15) ?_
      obtain ⟨v3, hv3, h⟩ := bd1_some h
      refine r_int (run_t (As := [.int v2]) (rest := []) C hK hT (mX2_isOut hv3) q1894 q1896 qs111 q162 q1897 ⟨rfl, rfl⟩ hdX2_isOut ⟨Nat.le_of_ble_eq_true rfl, Nat.le_of_ble_eq_true rfl⟩ ⟨Nat.zero_le _, Nat.zero_le _⟩ rfl hl.1 rfl (Nat.le_of_ble_eq_true rfl) dX2_isWritten_18) ?_
      refine lv_if_eq (tgt := 43) hx hb dX2_isWritten_21 (by decide) (fun c => ?_) (fun c => ?_)
      · replace h := if_t c h
        exact bX2_isWritten_43 C hK hT ih x1 x2 ls h (lv_sub hl [0, 1, 2] rfl)
      · replace h := if_f c h
        refine lv_aload_n hx hb dX2_isWritten_24 rfl (lv_at hl 0 rfl) ?_
        refine tg0 C hK hT dX2_isWritten_25 ?_
        refine lv_bipush (v := 64) hx hb dX2_isWritten_28 (by decide) ?_
        refine lv_aload_n hx hb dX2_isWritten_30 rfl (lv_at hl 0 rfl) ?_
        refine lv_iload_n hx hb dX2_isWritten_31 rfl (lv_at hl 1 rfl) ?_
        refine lv_iload_n hx hb dX2_isWritten_32 rfl (lv_at hl 2 rfl) ?_
        obtain ⟨v4, hv4, h⟩ := bd1_some h
        refine r_int (run_t (As := [.int x1, .int x2]) (rest := [.int (64 : Int32), .ref (b + 1)]) C hK hT (mX2_letterOf hv4) q1682 q1684 qs72 q162 q1685 ⟨rfl, rfl⟩ hdX2_letterOf ⟨Nat.le_of_ble_eq_true rfl, Nat.le_of_ble_eq_true rfl⟩ ⟨Nat.zero_le _, Nat.zero_le _⟩ rfl hl.1 rfl (Nat.le_of_ble_eq_true rfl) dX2_isWritten_33) ?_
        refine lv_iadd hx hb dX2_isWritten_36 ?_
        obtain ⟨hi, h⟩ := ck_some h
        refine tl0 C hK hT hi dX2_isWritten_37 ?_
        refine lv_if_ge (tgt := 43) hx hb dX2_isWritten_38 (by decide) (fun c => ?_) (fun c => ?_)
        · replace h := if_t c h
          exact bX2_isWritten_43 C hK hT ih x1 x2 ls h (lv_sub hl [0, 1, 2] rfl)
        · replace h := if_f c h
          refine lv_iconst (v := 0) hx hb dX2_isWritten_41 (by decide) ?_
          exact e_rz C (Or.inl rfl) h dX2_isWritten_42
theorem bX2_isWritten {p : Program} {l : Launch} {e : Env} {s : State} {m : MethodId} {args : Array Value} {below : List Frame} {meth : Method} {c : Code} {D : va_G} {dA : Nat → ClassId} {b : Nat} {t : TS} {r : Int32} (C : cx p s m args meth c cX2_isWritten RX2 3 (some .boolean)) (hK : kk D dA s) (hT : wd D (tw dA b t) s.heap) : ∀ (x1 : Int32) (ls : Array Slot), T_isWritten t x1 = some r → lv_has ls 3 [(0, .ref b), (1, .int x1)] → W p l e rmX2_isWritten s m args below meth c s.heap [] 0 0 (MQ below (rQi r) args s 0 0 nof) (F0 m 0 ls []) := by
  obtain ⟨hx, hb, hr, hml, hown, hts, hlocks⟩ := id C
  intro x1 ls h hl
  unfold T_isWritten at h
  refine lv_iconst (v := 0) hx hb dX2_isWritten_0 (by decide) ?_
  refine lv_istore_n (lv' := [(2, .int (0 : Int32)), (0, .ref b), (1, .int x1)]) hx hb dX2_isWritten_1 rfl hl (by decide) rfl (fun ls hl => ?_)
  exact bX2_isWritten_2 C hK hT fu x1 (0 : Int32) ls h (lv_sub hl [1, 2, 0] rfl)
theorem mX2_isWritten {l : Launch} {D : va_G} {dA : Nat → ClassId} {b : Nat} {t : TS} {x1 : Int32} {r : Int32} (h : T_isWritten t x1 = some r) : Met l yX2_isWritten (ws_ yX2_isWritten cX2_isWritten 3 (some .boolean)) rmX2_isWritten (tPc D dA b t [.ref b, .int x1]) (rQi r) 0 0 nof := en_R (by decide +kernel) rfl (Nat.le_of_ble_eq_true rfl) (fun p e s m below meth c ls C hK hT hl => bX2_isWritten C hK hT x1 ls h hl)
set_option maxRecDepth 20000 in
abbrev rmX2_senseOf : Room := { frames := 0, cells := 0, slots := 0, locals := 0 }
theorem hdX2_senseOf : yX2_senseOf.cls = RX2 ∧ yX2_senseOf.cls ≠ "java/lang/invoke/MethodHandle" ∧ yX2_senseOf.cls ≠ "java/lang/invoke/VarHandle" ∧ (parseMethodDescriptor yX2_senseOf.desc).map (fun d => d.parameters.length) = some 1 := by decide +kernel
theorem bX2_senseOf {p : Program} {l : Launch} {e : Env} {s : State} {m : MethodId} {args : Array Value} {below : List Frame} {meth : Method} {c : Code} {D : va_G} {dA : Nat → ClassId} {b : Nat} {t : TS} {r : Int32} (C : cx p s m args meth c cX2_senseOf RX2 2 (some .int)) (hK : kk D dA s) (hT : wd D (tw dA b t) s.heap) : ∀ (x1 : Int32) (ls : Array Slot), T_senseOf t x1 = some r → lv_has ls 2 [(0, .ref b), (1, .int x1)] → W p l e rmX2_senseOf s m args below meth c s.heap [] 0 0 (MQ below (rQi r) args s 0 0 nof) (F0 m 0 ls []) := by
  obtain ⟨hx, hb, hr, hml, hown, hts, hlocks⟩ := id C
  intro x1 ls h hl
  unfold T_senseOf at h
  refine lv_aload_n hx hb dX2_senseOf_0 rfl (lv_at hl 0 rfl) ?_
  refine tg0 C hK hT dX2_senseOf_1 ?_
  refine lv_bipush (v := 116) hx hb dX2_senseOf_4 (by decide) ?_
  refine lv_bipush (v := 10) hx hb dX2_senseOf_6 (by decide) ?_
  refine lv_iload_n hx hb dX2_senseOf_8 rfl (lv_at hl 1 rfl) ?_
  refine lv_imul hx hb dX2_senseOf_9 ?_
  refine lv_iadd hx hb dX2_senseOf_10 ?_
  refine lv_bipush (v := 9) hx hb dX2_senseOf_11 (by decide) ?_
  refine lv_iadd hx hb dX2_senseOf_13 ?_
  obtain ⟨hi, h⟩ := ck_some h
  refine tl0 C hK hT hi dX2_senseOf_14 ?_
  exact e_ri C h dX2_senseOf_15
theorem mX2_senseOf {l : Launch} {D : va_G} {dA : Nat → ClassId} {b : Nat} {t : TS} {x1 : Int32} {r : Int32} (h : T_senseOf t x1 = some r) : Met l yX2_senseOf (ws_ yX2_senseOf cX2_senseOf 2 (some .int)) rmX2_senseOf (tPc D dA b t [.ref b, .int x1]) (rQi r) 0 0 nof := en_R (by decide +kernel) rfl (Nat.le_of_ble_eq_true rfl) (fun p e s m below meth c ls C hK hT hl => bX2_senseOf C hK hT x1 ls h hl)
set_option maxRecDepth 20000 in
abbrev rmX2_wordFor : Room := { frames := 3, cells := 0, slots := 0, locals := 64 }
theorem hdX2_wordFor : yX2_wordFor.cls = RX2 ∧ yX2_wordFor.cls ≠ "java/lang/invoke/MethodHandle" ∧ yX2_wordFor.cls ≠ "java/lang/invoke/VarHandle" ∧ (parseMethodDescriptor yX2_wordFor.desc).map (fun d => d.parameters.length) = some 3 := by decide +kernel
theorem bX2_wordFor_90 {p : Program} {l : Launch} {e : Env} {s : State} {m : MethodId} {args : Array Value} {below : List Frame} {meth : Method} {c : Code} {D : va_G} {dA : Nat → ClassId} {b : Nat} {t : TS} {r : Int32} (C : cx p s m args meth c cX2_wordFor RX2 7 (some .int)) (hK : kk D dA s) (hT : wd D (tw dA b t) s.heap) {k6 : Int32 → Int32 → Int32 → Int32 → Int32 → Option Int32} (hk6 : ∀ (x1 : Int32) (x2 : Int32) (x3 : Int32) (x4 : Int32) (x5 : Int32) (ls : Array Slot), k6 x1 x2 x3 x4 x5 = some r → lv_has ls 7 [(0, .ref b), (1, .int x1), (2, .int x2), (3, .int x3), (4, .int x4), (5, .int x5)] → W p l e rmX2_wordFor s m args below meth c s.heap [] 0 0 (MQ below (rQi r) args s 0 0 nof) (F0 m 6 ls [])) : ∀ (x1 : Int32) (x2 : Int32) (x3 : Int32) (x4 : Int32) (x5 : Int32) (ls : Array Slot), T_wordFor_90 k6 t x1 x2 x3 x4 x5 = some r → lv_has ls 7 [(0, .ref b), (1, .int x1), (2, .int x2), (3, .int x3), (4, .int x4), (5, .int x5)] → W p l e rmX2_wordFor s m args below meth c s.heap [] 0 0 (MQ below (rQi r) args s 0 0 nof) (F0 m 90 ls []) := by
  obtain ⟨hx, hb, hr, hml, hown, hts, hlocks⟩ := id C
  intro x1 x2 x3 x4 x5 ls h hl
  unfold T_wordFor_90 at h
  obtain ⟨v1, ev1⟩ : ∃ y : Int32, y = x5 + (1 : Int32) := ⟨_, rfl⟩
  replace h := lt1_sub ev1 h
  refine lv_iinc (v := v1) (lv' := [(5, .int v1), (0, .ref b), (1, .int x1), (2, .int x2), (3, .int x3), (4, .int x4)]) hx hb dX2_wordFor_90 hl (k := 5) rfl (by rw [ev1]; rfl) (by decide) rfl (fun ls hl => ?_)
  refine lv_goto (tgt := 6) hx hb dX2_wordFor_93 (by decide) ?_
  exact hk6 x1 x2 x3 x4 v1 ls h (lv_sub hl [1, 2, 3, 4, 5, 0] rfl)
theorem bX2_wordFor_86 {p : Program} {l : Launch} {e : Env} {s : State} {m : MethodId} {args : Array Value} {below : List Frame} {meth : Method} {c : Code} {D : va_G} {dA : Nat → ClassId} {b : Nat} {t : TS} {r : Int32} (C : cx p s m args meth c cX2_wordFor RX2 7 (some .int)) (hK : kk D dA s) (hT : wd D (tw dA b t) s.heap) {k6 : Int32 → Int32 → Int32 → Int32 → Int32 → Option Int32} (hk6 : ∀ (x1 : Int32) (x2 : Int32) (x3 : Int32) (x4 : Int32) (x5 : Int32) (ls : Array Slot), k6 x1 x2 x3 x4 x5 = some r → lv_has ls 7 [(0, .ref b), (1, .int x1), (2, .int x2), (3, .int x3), (4, .int x4), (5, .int x5)] → W p l e rmX2_wordFor s m args below meth c s.heap [] 0 0 (MQ below (rQi r) args s 0 0 nof) (F0 m 6 ls [])) : ∀ (x1 : Int32) (x2 : Int32) (x3 : Int32) (x5 : Int32) (ls : Array Slot), T_wordFor_86 k6 t x1 x2 x3 x5 = some r → lv_has ls 7 [(0, .ref b), (1, .int x1), (2, .int x2), (3, .int x3), (5, .int x5)] → W p l e rmX2_wordFor s m args below meth c s.heap [] 0 0 (MQ below (rQi r) args s 0 0 nof) (F0 m 86 ls []) := by
  obtain ⟨hx, hb, hr, hml, hown, hts, hlocks⟩ := id C
  intro x1 x2 x3 x5 ls h hl
  unfold T_wordFor_86 at h
  refine lv_iload hx hb dX2_wordFor_86 (lv_at hl 4 rfl) ?_
  refine lv_istore (lv' := [(4, .int x5), (0, .ref b), (1, .int x1), (2, .int x2), (3, .int x3), (5, .int x5)]) hx hb dX2_wordFor_88 hl (by decide) rfl (fun ls hl => ?_)
  exact bX2_wordFor_90 C hK hT hk6 x1 x2 x3 x5 x5 ls h (lv_sub hl [1, 2, 3, 4, 0, 5] rfl)
theorem bX2_wordFor_59 {p : Program} {l : Launch} {e : Env} {s : State} {m : MethodId} {args : Array Value} {below : List Frame} {meth : Method} {c : Code} {D : va_G} {dA : Nat → ClassId} {b : Nat} {t : TS} {r : Int32} (C : cx p s m args meth c cX2_wordFor RX2 7 (some .int)) (hK : kk D dA s) (hT : wd D (tw dA b t) s.heap) {k6 : Int32 → Int32 → Int32 → Int32 → Int32 → Option Int32} (hk6 : ∀ (x1 : Int32) (x2 : Int32) (x3 : Int32) (x4 : Int32) (x5 : Int32) (ls : Array Slot), k6 x1 x2 x3 x4 x5 = some r → lv_has ls 7 [(0, .ref b), (1, .int x1), (2, .int x2), (3, .int x3), (4, .int x4), (5, .int x5)] → W p l e rmX2_wordFor s m args below meth c s.heap [] 0 0 (MQ below (rQi r) args s 0 0 nof) (F0 m 6 ls [])) : ∀ (x1 : Int32) (x2 : Int32) (x3 : Int32) (x4 : Int32) (x5 : Int32) (y0 : Int32) (ls : Array Slot), T_wordFor_59 k6 t x1 x2 x3 x4 x5 y0 = some r → lv_has ls 7 [(0, .ref b), (1, .int x1), (2, .int x2), (3, .int x3), (4, .int x4), (5, .int x5)] → W p l e rmX2_wordFor s m args below meth c s.heap [] 0 0 (MQ below (rQi r) args s 0 0 nof) (F0 m 59 ls [.int y0]) := by
  obtain ⟨hx, hb, hr, hml, hown, hts, hlocks⟩ := id C
  intro x1 x2 x3 x4 x5 y0 ls h hl
  unfold T_wordFor_59 at h
  refine lv_istore (lv' := [(6, .int y0), (0, .ref b), (1, .int x1), (2, .int x2), (3, .int x3), (4, .int x4), (5, .int x5)]) hx hb dX2_wordFor_59 hl (by decide) rfl (fun ls hl => ?_)
  refine lv_iload hx hb dX2_wordFor_61 (lv_at hl 0 rfl) ?_
  refine lv_if_eq (tgt := 90) hx hb dX2_wordFor_63 (by decide) (fun c => ?_) (fun c => ?_)
  · replace h := if_t c h
    exact bX2_wordFor_90 C hK hT hk6 x1 x2 x3 x4 x5 ls h (lv_sub hl [1, 2, 3, 4, 5, 6] rfl)
  · replace h := if_f c h
    refine lv_iload hx hb dX2_wordFor_66 (lv_at hl 5 rfl) ?_
    refine lv_if_lt (tgt := 86) hx hb dX2_wordFor_68 (by decide) (fun c => ?_) (fun c => ?_)
    · replace h := if_t c h
      exact bX2_wordFor_86 C hK hT hk6 x1 x2 x3 x5 ls h (lv_sub hl [1, 2, 3, 4, 6] rfl)
    · replace h := if_f c h
      refine lv_aload_n hx hb dX2_wordFor_71 rfl (lv_at hl 1 rfl) ?_
      refine lv_iload hx hb dX2_wordFor_72 (lv_at hl 6 rfl) ?_
      obtain ⟨v1, hv1, h⟩ := bd1_some h
      refine r_int (run_t (As := [.int x5]) (rest := []) C hK hT (mX2_lengthOf hv1) q1678 q1680 qs71 q162 q1681 ⟨rfl, rfl⟩ hdX2_lengthOf ⟨Nat.le_of_ble_eq_true rfl, Nat.le_of_ble_eq_true rfl⟩ ⟨Nat.zero_le _, Nat.zero_le _⟩ rfl hl.1 rfl (Nat.le_of_ble_eq_true rfl) dX2_wordFor_74) ?_
      refine lv_aload_n hx hb dX2_wordFor_77 rfl (lv_at hl 1 rfl) ?_
      refine lv_iload hx hb dX2_wordFor_78 (lv_at hl 5 rfl) ?_
      obtain ⟨v2, hv2, h⟩ := bd1_some h
      refine r_int (run_t (As := [.int x4]) (rest := [.int v1]) C hK hT (mX2_lengthOf hv2) q1678 q1680 qs71 q162 q1681 ⟨rfl, rfl⟩ hdX2_lengthOf ⟨Nat.le_of_ble_eq_true rfl, Nat.le_of_ble_eq_true rfl⟩ ⟨Nat.zero_le _, Nat.zero_le _⟩ rfl hl.1 rfl (Nat.le_of_ble_eq_true rfl) dX2_wordFor_80) ?_
      refine lv_icmp_ge (tgt := 90) hx hb dX2_wordFor_83 (by decide) (fun c => ?_) (fun c => ?_)
      · replace h := if_t c h
        exact bX2_wordFor_90 C hK hT hk6 x1 x2 x3 x4 x5 ls h (lv_sub hl [1, 2, 3, 4, 5, 6] rfl)
      · replace h := if_f c h
        exact bX2_wordFor_86 C hK hT hk6 x1 x2 x3 x5 ls h (lv_sub hl [1, 2, 3, 4, 6] rfl)
theorem bX2_wordFor_6 {p : Program} {l : Launch} {e : Env} {s : State} {m : MethodId} {args : Array Value} {below : List Frame} {meth : Method} {c : Code} {D : va_G} {dA : Nat → ClassId} {b : Nat} {t : TS} {r : Int32} (C : cx p s m args meth c cX2_wordFor RX2 7 (some .int)) (hK : kk D dA s) (hT : wd D (tw dA b t) s.heap) : ∀ (n : Nat), ∀ (x1 : Int32) (x2 : Int32) (x3 : Int32) (x4 : Int32) (x5 : Int32) (ls : Array Slot), T_wordFor_6 t n x1 x2 x3 x4 x5 = some r → lv_has ls 7 [(0, .ref b), (1, .int x1), (2, .int x2), (3, .int x3), (4, .int x4), (5, .int x5)] → W p l e rmX2_wordFor s m args below meth c s.heap [] 0 0 (MQ below (rQi r) args s 0 0 nof) (F0 m 6 ls []) := by
  obtain ⟨hx, hb, hr, hml, hown, hts, hlocks⟩ := id C
  intro n
  induction n with
  | zero =>
    intro x1 x2 x3 x4 x5 ls h hl
    have h : none = some _ := h
    cases h
  | succ n ih =>
    intro x1 x2 x3 x4 x5 ls h hl
    rw [T_wordFor_6] at h
    refine lv_iload hx hb dX2_wordFor_6 (lv_at hl 5 rfl) ?_
    refine lv_aload_n hx hb dX2_wordFor_8 rfl (lv_at hl 0 rfl) ?_
    refine tg0 C hK hT dX2_wordFor_9 ?_
    refine lv_iconst (v := 0) hx hb dX2_wordFor_12 (by decide) ?_
    obtain ⟨hi, h⟩ := ck_some h
    refine tl0 C hK hT hi dX2_wordFor_13 ?_
    refine lv_icmp_ge (tgt := 96) hx hb dX2_wordFor_14 (by decide) (fun c => ?_) (fun c => ?_)
    · replace h := if_t c h
      refine lv_iload hx hb dX2_wordFor_96 (lv_at hl 4 rfl) ?_
      exact e_ri C h dX2_wordFor_98
    · replace h := if_f c h
      refine lv_aload_n hx hb dX2_wordFor_17 rfl (lv_at hl 0 rfl) ?_
      refine lv_iload hx hb dX2_wordFor_18 (lv_at hl 5 rfl) ?_
      obtain ⟨v1, hv1, h⟩ := bd1_some h
      refine r_int (run_t (As := [.int x5]) (rest := []) C hK hT (mX2_senseOf hv1) q1979 q1981 qs122 q162 q1982 ⟨rfl, rfl⟩ hdX2_senseOf ⟨Nat.le_of_ble_eq_true rfl, Nat.le_of_ble_eq_true rfl⟩ ⟨Nat.zero_le _, Nat.zero_le _⟩ rfl hl.1 rfl (Nat.le_of_ble_eq_true rfl) dX2_wordFor_20) ?_
      refine lv_iload_n hx hb dX2_wordFor_23 rfl (lv_at hl 1 rfl) ?_
      refine lv_icmp_eq (tgt := 30) hx hb dX2_wordFor_24 (by decide) (fun c => ?_) (fun c => ?_)
      · replace h := if_t c h
        refine lv_iload_n hx hb dX2_wordFor_30 rfl (lv_at hl 3 rfl) ?_
        refine lv_if_eq (tgt := 43) hx hb dX2_wordFor_31 (by decide) (fun c => ?_) (fun c => ?_)
        · replace h := if_t c h
          refine lv_aload_n hx hb dX2_wordFor_43 rfl (lv_at hl 0 rfl) ?_
          refine lv_iload hx hb dX2_wordFor_44 (lv_at hl 5 rfl) ?_
          obtain ⟨v2, hv2, h⟩ := bd1_some h
          refine r_int (run_t (As := [.int x5]) (rest := []) C hK hT (mX2_setOf hv2) q1912 q1914 qs114 q162 q1915 ⟨rfl, rfl⟩ hdX2_setOf ⟨Nat.le_of_ble_eq_true rfl, Nat.le_of_ble_eq_true rfl⟩ ⟨Nat.zero_le _, Nat.zero_le _⟩ rfl hl.1 rfl (Nat.le_of_ble_eq_true rfl) dX2_wordFor_46) ?_
          refine lv_iload_n hx hb dX2_wordFor_49 rfl (lv_at hl 2 rfl) ?_
          refine lv_iand hx hb dX2_wordFor_50 ?_
          refine lv_if_ne (tgt := 58) hx hb dX2_wordFor_51 (by decide) (fun c => ?_) (fun c => ?_)
          · replace h := if_f c h
            refine lv_iconst (v := 0) hx hb dX2_wordFor_58 (by decide) ?_
            exact bX2_wordFor_59 C hK hT ih x1 x2 x3 x4 x5 (0 : Int32) ls h (lv_sub hl [0, 1, 2, 3, 4, 5] rfl)
          · replace h := if_t c h
            refine lv_iconst (v := 1) hx hb dX2_wordFor_54 (by decide) ?_
            refine lv_goto (tgt := 59) hx hb dX2_wordFor_55 (by decide) ?_
            exact bX2_wordFor_59 C hK hT ih x1 x2 x3 x4 x5 (1 : Int32) ls h (lv_sub hl [0, 1, 2, 3, 4, 5] rfl)
        · replace h := if_f c h
          refine lv_aload_n hx hb dX2_wordFor_34 rfl (lv_at hl 0 rfl) ?_
          refine lv_iload hx hb dX2_wordFor_35 (lv_at hl 5 rfl) ?_
          obtain ⟨v3, hv3, h⟩ := bd1_some h
          refine r_int (run_t (As := [.int x5]) (rest := []) C hK hT (mX2_isWritten hv3) q1983 q1985 qs123 q162 q1986 ⟨rfl, rfl⟩ hdX2_isWritten ⟨Nat.le_of_ble_eq_true rfl, Nat.le_of_ble_eq_true rfl⟩ ⟨Nat.zero_le _, Nat.zero_le _⟩ rfl hl.1 rfl (Nat.le_of_ble_eq_true rfl) dX2_wordFor_37) ?_
          refine lv_goto (tgt := 59) hx hb dX2_wordFor_40 (by decide) ?_
          exact bX2_wordFor_59 C hK hT ih x1 x2 x3 x4 x5 v3 ls h (lv_sub hl [0, 1, 2, 3, 4, 5] rfl)
      · replace h := if_f c h
        refine lv_goto (tgt := 90) hx hb dX2_wordFor_27 (by decide) ?_
        exact bX2_wordFor_90 C hK hT ih x1 x2 x3 x4 x5 ls h (lv_sub hl [0, 1, 2, 3, 4, 5] rfl)
theorem bX2_wordFor {p : Program} {l : Launch} {e : Env} {s : State} {m : MethodId} {args : Array Value} {below : List Frame} {meth : Method} {c : Code} {D : va_G} {dA : Nat → ClassId} {b : Nat} {t : TS} {r : Int32} (C : cx p s m args meth c cX2_wordFor RX2 7 (some .int)) (hK : kk D dA s) (hT : wd D (tw dA b t) s.heap) : ∀ (x1 : Int32) (x2 : Int32) (x3 : Int32) (ls : Array Slot), T_wordFor t x1 x2 x3 = some r → lv_has ls 7 [(0, .ref b), (1, .int x1), (2, .int x2), (3, .int x3)] → W p l e rmX2_wordFor s m args below meth c s.heap [] 0 0 (MQ below (rQi r) args s 0 0 nof) (F0 m 0 ls []) := by
  obtain ⟨hx, hb, hr, hml, hown, hts, hlocks⟩ := id C
  intro x1 x2 x3 ls h hl
  unfold T_wordFor at h
  refine lv_iconst (v := -1) hx hb dX2_wordFor_0 (by decide) ?_
  refine lv_istore (lv' := [(4, .int (-1 : Int32)), (0, .ref b), (1, .int x1), (2, .int x2), (3, .int x3)]) hx hb dX2_wordFor_1 hl (by decide) rfl (fun ls hl => ?_)
  refine lv_iconst (v := 0) hx hb dX2_wordFor_3 (by decide) ?_
  refine lv_istore (lv' := [(5, .int (0 : Int32)), (4, .int (-1 : Int32)), (0, .ref b), (1, .int x1), (2, .int x2), (3, .int x3)]) hx hb dX2_wordFor_4 hl (by decide) rfl (fun ls hl => ?_)
  exact bX2_wordFor_6 C hK hT fu x1 x2 x3 (-1 : Int32) (0 : Int32) ls h (lv_sub hl [2, 3, 4, 5, 1, 0] rfl)
theorem mX2_wordFor {l : Launch} {D : va_G} {dA : Nat → ClassId} {b : Nat} {t : TS} {x1 : Int32} {x2 : Int32} {x3 : Int32} {r : Int32} (h : T_wordFor t x1 x2 x3 = some r) : Met l yX2_wordFor (ws_ yX2_wordFor cX2_wordFor 7 (some .int)) rmX2_wordFor (tPc D dA b t [.ref b, .int x1, .int x2, .int x3]) (rQi r) 0 0 nof := en_R (by decide +kernel) rfl (Nat.le_of_ble_eq_true rfl) (fun p e s m below meth c ls C hK hT hl => bX2_wordFor C hK hT x1 x2 x3 ls h hl)
set_option maxRecDepth 20000 in
abbrev rmX2_canSay : Room := { frames := 4, cells := 0, slots := 0, locals := 90 }
theorem hdX2_canSay : yX2_canSay.cls = RX2 ∧ yX2_canSay.cls ≠ "java/lang/invoke/MethodHandle" ∧ yX2_canSay.cls ≠ "java/lang/invoke/VarHandle" ∧ (parseMethodDescriptor yX2_canSay.desc).map (fun d => d.parameters.length) = some 3 := by decide +kernel
theorem bX2_canSay_3 {p : Program} {l : Launch} {e : Env} {s : State} {m : MethodId} {args : Array Value} {below : List Frame} {meth : Method} {c : Code} {D : va_G} {dA : Nat → ClassId} {b : Nat} {t : TS} {r : Int32} (C : cx p s m args meth c cX2_canSay RX2 5 (some .boolean)) (hK : kk D dA s) (hT : wd D (tw dA b t) s.heap) : ∀ (n : Nat), ∀ (x1 : Int32) (x2 : Int32) (x3 : Int32) (x4 : Int32) (ls : Array Slot), T_canSay_3 t n x1 x2 x3 x4 = some r → lv_has ls 5 [(0, .ref b), (1, .int x1), (2, .int x2), (3, .int x3), (4, .int x4)] → W p l e rmX2_canSay s m args below meth c s.heap [] 0 0 (MQ below (rQi r) args s 0 0 nof) (F0 m 3 ls []) := by
  obtain ⟨hx, hb, hr, hml, hown, hts, hlocks⟩ := id C
  intro n
  induction n with
  | zero =>
    intro x1 x2 x3 x4 ls h hl
    have h : none = some _ := h
    cases h
  | succ n ih =>
    intro x1 x2 x3 x4 ls h hl
    rw [T_canSay_3] at h
    refine lv_iload hx hb dX2_canSay_3 (lv_at hl 4 rfl) ?_
    refine lv_aload_n hx hb dX2_canSay_5 rfl (lv_at hl 0 rfl) ?_
    refine lv_iload_n hx hb dX2_canSay_6 rfl (lv_at hl 1 rfl) ?_
    obtain ⟨v1, hv1, h⟩ := bd1_some h
    refine r_int (run_t (As := [.int x1]) (rest := [.int x4]) C hK hT (mX2_sensesOf hv1) q1967 q1969 qs119 q162 q1970 ⟨rfl, rfl⟩ hdX2_sensesOf ⟨Nat.le_of_ble_eq_true rfl, Nat.le_of_ble_eq_true rfl⟩ ⟨Nat.zero_le _, Nat.zero_le _⟩ rfl hl.1 rfl (Nat.le_of_ble_eq_true rfl) dX2_canSay_7) ?_
    refine lv_icmp_ge (tgt := 37) hx hb dX2_canSay_10 (by decide) (fun c => ?_) (fun c => ?_)
    · replace h := if_t c h
      refine lv_iconst (v := 1) hx hb dX2_canSay_37 (by decide) ?_
      exact e_rz C (Or.inr rfl) h dX2_canSay_38
    · replace h := if_f c h
      refine lv_aload_n hx hb dX2_canSay_13 rfl (lv_at hl 0 rfl) ?_
      refine lv_aload_n hx hb dX2_canSay_14 rfl (lv_at hl 0 rfl) ?_
      refine lv_iload_n hx hb dX2_canSay_15 rfl (lv_at hl 1 rfl) ?_
      refine lv_iload hx hb dX2_canSay_16 (lv_at hl 4 rfl) ?_
      obtain ⟨v2, hv2, h⟩ := bd1_some h
      refine r_int (run_t (As := [.int x1, .int x4]) (rest := [.ref b]) C hK hT (mX2_senseAt hv2) q1971 q1973 qs120 q162 q1974 ⟨rfl, rfl⟩ hdX2_senseAt ⟨Nat.le_of_ble_eq_true rfl, Nat.le_of_ble_eq_true rfl⟩ ⟨Nat.zero_le _, Nat.zero_le _⟩ rfl hl.1 rfl (Nat.le_of_ble_eq_true rfl) dX2_canSay_18) ?_
      refine lv_iload_n hx hb dX2_canSay_21 rfl (lv_at hl 2 rfl) ?_
      refine lv_iload_n hx hb dX2_canSay_22 rfl (lv_at hl 3 rfl) ?_
      obtain ⟨v3, hv3, h⟩ := bd1_some h
      refine r_int (run_t (As := [.int v2, .int x2, .int x3]) (rest := []) C hK hT (mX2_wordFor hv3) q1975 q1977 qs121 q162 q1978 ⟨rfl, rfl⟩ hdX2_wordFor ⟨Nat.le_of_ble_eq_true rfl, Nat.le_of_ble_eq_true rfl⟩ ⟨Nat.zero_le _, Nat.zero_le _⟩ rfl hl.1 rfl (Nat.le_of_ble_eq_true rfl) dX2_canSay_23) ?_
      refine lv_if_ge (tgt := 31) hx hb dX2_canSay_26 (by decide) (fun c => ?_) (fun c => ?_)
      · replace h := if_t c h
        obtain ⟨v4, ev4⟩ : ∃ y : Int32, y = x4 + (1 : Int32) := ⟨_, rfl⟩
        replace h := lt1_sub ev4 h
        refine lv_iinc (v := v4) (lv' := [(4, .int v4), (0, .ref b), (1, .int x1), (2, .int x2), (3, .int x3)]) hx hb dX2_canSay_31 hl (k := 4) rfl (by rw [ev4]; rfl) (by decide) rfl (fun ls hl => ?_)
        refine lv_goto (tgt := 3) hx hb dX2_canSay_34 (by decide) ?_
        exact ih x1 x2 x3 v4 ls h (lv_sub hl [1, 2, 3, 4, 0] rfl)
      · replace h := if_f c h
        refine lv_iconst (v := 0) hx hb dX2_canSay_29 (by decide) ?_
        exact e_rz C (Or.inl rfl) h dX2_canSay_30
theorem bX2_canSay {p : Program} {l : Launch} {e : Env} {s : State} {m : MethodId} {args : Array Value} {below : List Frame} {meth : Method} {c : Code} {D : va_G} {dA : Nat → ClassId} {b : Nat} {t : TS} {r : Int32} (C : cx p s m args meth c cX2_canSay RX2 5 (some .boolean)) (hK : kk D dA s) (hT : wd D (tw dA b t) s.heap) : ∀ (x1 : Int32) (x2 : Int32) (x3 : Int32) (ls : Array Slot), T_canSay t x1 x2 x3 = some r → lv_has ls 5 [(0, .ref b), (1, .int x1), (2, .int x2), (3, .int x3)] → W p l e rmX2_canSay s m args below meth c s.heap [] 0 0 (MQ below (rQi r) args s 0 0 nof) (F0 m 0 ls []) := by
  obtain ⟨hx, hb, hr, hml, hown, hts, hlocks⟩ := id C
  intro x1 x2 x3 ls h hl
  unfold T_canSay at h
  refine lv_iconst (v := 0) hx hb dX2_canSay_0 (by decide) ?_
  refine lv_istore (lv' := [(4, .int (0 : Int32)), (0, .ref b), (1, .int x1), (2, .int x2), (3, .int x3)]) hx hb dX2_canSay_1 hl (by decide) rfl (fun ls hl => ?_)
  exact bX2_canSay_3 C hK hT fu x1 x2 x3 (0 : Int32) ls h (lv_sub hl [1, 2, 3, 4, 0] rfl)
theorem mX2_canSay {l : Launch} {D : va_G} {dA : Nat → ClassId} {b : Nat} {t : TS} {x1 : Int32} {x2 : Int32} {x3 : Int32} {r : Int32} (h : T_canSay t x1 x2 x3 = some r) : Met l yX2_canSay (ws_ yX2_canSay cX2_canSay 5 (some .boolean)) rmX2_canSay (tPc D dA b t [.ref b, .int x1, .int x2, .int x3]) (rQi r) 0 0 nof := en_R (by decide +kernel) rfl (Nat.le_of_ble_eq_true rfl) (fun p e s m below meth c ls C hK hT hl => bX2_canSay C hK hT x1 x2 x3 ls h hl)
set_option maxRecDepth 20000 in
abbrev rmX2_isSaying : Room := { frames := 1, cells := 0, slots := 0, locals := 22 }
theorem hdX2_isSaying : yX2_isSaying.cls = RX2 ∧ yX2_isSaying.cls ≠ "java/lang/invoke/MethodHandle" ∧ yX2_isSaying.cls ≠ "java/lang/invoke/VarHandle" ∧ (parseMethodDescriptor yX2_isSaying.desc).map (fun d => d.parameters.length) = some 1 := by decide +kernel
theorem bX2_isSaying {p : Program} {l : Launch} {e : Env} {s : State} {m : MethodId} {args : Array Value} {below : List Frame} {meth : Method} {c : Code} {D : va_G} {dA : Nat → ClassId} {b : Nat} {t : TS} {r : Int32} (C : cx p s m args meth c cX2_isSaying RX2 2 (some .boolean)) (hK : kk D dA s) (hT : wd D (tw dA b t) s.heap) : ∀ (x1 : Int32) (ls : Array Slot), T_isSaying t x1 = some r → lv_has ls 2 [(0, .ref b), (1, .int x1)] → W p l e rmX2_isSaying s m args below meth c s.heap [] 0 0 (MQ below (rQi r) args s 0 0 nof) (F0 m 0 ls []) := by
  obtain ⟨hx, hb, hr, hml, hown, hts, hlocks⟩ := id C
  intro x1 ls h hl
  unfold T_isSaying at h
  refine lv_iload_n hx hb dX2_isSaying_0 rfl (lv_at hl 1 rfl) ?_
  refine lv_iconst (v := 0) hx hb dX2_isSaying_1 (by decide) ?_
  refine lv_aload_n hx hb dX2_isSaying_2 rfl (lv_at hl 0 rfl) ?_
  refine tg0 C hK hT dX2_isSaying_3 ?_
  refine lv_iconst (v := 1) hx hb dX2_isSaying_6 (by decide) ?_
  obtain ⟨hi, h⟩ := ck_some h
  refine tl0 C hK hT hi dX2_isSaying_7 ?_
  refine lv_iconst (v := 1) hx hb dX2_isSaying_8 (by decide) ?_
  refine lv_isub hx hb dX2_isSaying_9 ?_
  obtain ⟨v1, hv1, h⟩ := bd1_some h
  refine r_int (run_s (As := [.int x1, .int (0 : Int32), .int ((t.1 0 (1 : Int32).toNatClampNeg) - (1 : Int32))]) (rest := []) C (mX2_isIn hv1) q1656 q1657 q162 q1658 ⟨rfl, rfl⟩ hdX2_isIn ⟨Nat.le_of_ble_eq_true rfl, Nat.le_of_ble_eq_true rfl⟩ ⟨Nat.zero_le _, Nat.zero_le _⟩ rfl hl.1 rfl (Nat.le_of_ble_eq_true rfl) dX2_isSaying_10) ?_
  obtain ⟨hz, h⟩ := zr_some h
  exact e_rz C hz h dX2_isSaying_13
theorem mX2_isSaying {l : Launch} {D : va_G} {dA : Nat → ClassId} {b : Nat} {t : TS} {x1 : Int32} {r : Int32} (h : T_isSaying t x1 = some r) : Met l yX2_isSaying (ws_ yX2_isSaying cX2_isSaying 2 (some .boolean)) rmX2_isSaying (tPc D dA b t [.ref b, .int x1]) (rQi r) 0 0 nof := en_R (by decide +kernel) rfl (Nat.le_of_ble_eq_true rfl) (fun p e s m below meth c ls C hK hT hl => bX2_isSaying C hK hT x1 ls h hl)
set_option maxRecDepth 20000 in
abbrev rmX2_contract : Room := { frames := 5, cells := 0, slots := 0, locals := 114 }
theorem hdX2_contract : yX2_contract.cls = RX2 ∧ yX2_contract.cls ≠ "java/lang/invoke/MethodHandle" ∧ yX2_contract.cls ≠ "java/lang/invoke/VarHandle" ∧ (parseMethodDescriptor yX2_contract.desc).map (fun d => d.parameters.length) = some 1 := by decide +kernel
theorem bX2_contract_87 {p : Program} {l : Launch} {e : Env} {s : State} {m : MethodId} {args : Array Value} {below : List Frame} {meth : Method} {c : Code} {D : va_G} {dA : Nat → ClassId} {b : Nat} {r : Int32} {t9 : TS} (C : cx p s m args meth c cX2_contract RX2 4 (some .int)) (hK : kk D dA s) : ∀ (n : Nat), ∀ (t : TS) (x1 : Int32) (x2 : Int32) (x3 : Int32) (H : Heap) (locs : List Loc) (hT : wd D (tw dA b t) H) (hS : tS b s.heap H locs) (ls : Array Slot), T_contract_87 n t x1 x2 x3 = some (r, t9) → lv_has ls 4 [(0, .ref b), (1, .int x1), (2, .int x2), (3, .int x3)] → W p l e rmX2_contract s m args below meth c H locs 0 0 (MQ below (tQ D dA b t9 (some (.int r))) args s 0 0 (ta b)) (F0 m 87 ls []) := by
  obtain ⟨hx, hb, hr, hml, hown, hts, hlocks⟩ := id C
  intro n
  induction n with
  | zero =>
    intro t x1 x2 x3 H locs hT hS ls h hl
    have h : none = some _ := h
    cases h
  | succ n ih =>
    intro t x1 x2 x3 H locs hT hS ls h hl
    rw [T_contract_87] at h
    refine lv_iload_n hx hb dX2_contract_87 rfl (lv_at hl 3 rfl) ?_
    refine lv_aload_n hx hb dX2_contract_88 rfl (lv_at hl 0 rfl) ?_
    refine lv_iload_n hx hb dX2_contract_89 rfl (lv_at hl 1 rfl) ?_
    obtain ⟨v1, hv1, h⟩ := bd1_some h
    refine r_int (run_t (As := [.int x1]) (rest := [.int x3]) C hK hT (mX2_sensesOf hv1) q1967 q1969 qs119 q162 q1970 ⟨rfl, rfl⟩ hdX2_sensesOf ⟨Nat.le_of_ble_eq_true rfl, Nat.le_of_ble_eq_true rfl⟩ ⟨Nat.zero_le _, Nat.zero_le _⟩ rfl hl.1 rfl (Nat.le_of_ble_eq_true rfl) dX2_contract_90) ?_
    refine lv_icmp_ge (tgt := 124) hx hb dX2_contract_93 (by decide) (fun c => ?_) (fun c => ?_)
    · replace h := if_t c h
      refine lv_aload_n hx hb dX2_contract_124 rfl (lv_at hl 0 rfl) ?_
      refine tg0 C hK hT dX2_contract_125 ?_
      refine lv_bipush (v := 10) hx hb dX2_contract_128 (by decide) ?_
      refine lv_dup2_11 hx hb dX2_contract_130 rfl rfl ?_
      obtain ⟨hi, h⟩ := ck_some h
      refine tl0 C hK hT hi dX2_contract_131 ?_
      refine lv_iconst (v := 1) hx hb dX2_contract_132 (by decide) ?_
      refine lv_iadd hx hb dX2_contract_133 ?_
      obtain ⟨hi, h⟩ := ck_some h
      refine ts0 C hK hT hS hi dX2_contract_134 (fun t2 H locs et2 hT hS => ?_)
      replace h := lt1_sub et2 h
      refine lv_aload_n hx hb dX2_contract_135 rfl (lv_at hl 0 rfl) ?_
      refine tg0 C hK hT dX2_contract_136 ?_
      refine lv_bipush (v := 10) hx hb dX2_contract_139 (by decide) ?_
      obtain ⟨hi, h⟩ := ck_some h
      refine tl0 C hK hT hi dX2_contract_141 ?_
      refine lv_iconst (v := 1) hx hb dX2_contract_142 (by decide) ?_
      refine lv_isub hx hb dX2_contract_143 ?_
      exact e_wi C hT hS h dX2_contract_144
    · replace h := if_f c h
      refine lv_aload_n hx hb dX2_contract_96 rfl (lv_at hl 0 rfl) ?_
      refine tg0 C hK hT dX2_contract_97 ?_
      refine lv_iload_n hx hb dX2_contract_100 rfl (lv_at hl 2 rfl) ?_
      refine lv_iconst (v := 3) hx hb dX2_contract_101 (by decide) ?_
      refine lv_iadd hx hb dX2_contract_102 ?_
      refine lv_iload_n hx hb dX2_contract_103 rfl (lv_at hl 3 rfl) ?_
      refine lv_iadd hx hb dX2_contract_104 ?_
      refine lv_aload_n hx hb dX2_contract_105 rfl (lv_at hl 0 rfl) ?_
      refine lv_aload_n hx hb dX2_contract_106 rfl (lv_at hl 0 rfl) ?_
      refine lv_iload_n hx hb dX2_contract_107 rfl (lv_at hl 1 rfl) ?_
      refine lv_iload_n hx hb dX2_contract_108 rfl (lv_at hl 3 rfl) ?_
      obtain ⟨v3, hv3, h⟩ := bd1_some h
      refine r_int (run_t (As := [.int x1, .int x3]) (rest := [.ref b, .int ((x2 + (3 : Int32)) + x3), .ref (b + 1)]) C hK hT (mX2_senseAt hv3) q1971 q1973 qs120 q162 q1974 ⟨rfl, rfl⟩ hdX2_senseAt ⟨Nat.le_of_ble_eq_true rfl, Nat.le_of_ble_eq_true rfl⟩ ⟨Nat.zero_le _, Nat.zero_le _⟩ rfl hl.1 rfl (Nat.le_of_ble_eq_true rfl) dX2_contract_109) ?_
      refine lv_iconst (v := 0) hx hb dX2_contract_112 (by decide) ?_
      refine lv_iconst (v := 1) hx hb dX2_contract_113 (by decide) ?_
      obtain ⟨v4, hv4, h⟩ := bd1_some h
      refine r_int (run_t (As := [.int v3, .int (0 : Int32), .int (1 : Int32)]) (rest := [.int ((x2 + (3 : Int32)) + x3), .ref (b + 1)]) C hK hT (mX2_wordFor hv4) q1975 q1977 qs121 q162 q1978 ⟨rfl, rfl⟩ hdX2_wordFor ⟨Nat.le_of_ble_eq_true rfl, Nat.le_of_ble_eq_true rfl⟩ ⟨Nat.zero_le _, Nat.zero_le _⟩ rfl hl.1 rfl (Nat.le_of_ble_eq_true rfl) dX2_contract_114) ?_
      obtain ⟨hi, h⟩ := ck_some h
      refine ts0 C hK hT hS hi dX2_contract_117 (fun t5 H locs et5 hT hS => ?_)
      replace h := lt1_sub et5 h
      obtain ⟨v6, ev6⟩ : ∃ y : Int32, y = x3 + (1 : Int32) := ⟨_, rfl⟩
      replace h := lt1_sub ev6 h
      refine lv_iinc (v := v6) (lv' := [(3, .int v6), (0, .ref b), (1, .int x1), (2, .int x2)]) hx hb dX2_contract_118 hl (k := 3) rfl (by rw [ev6]; rfl) (by decide) rfl (fun ls hl => ?_)
      refine lv_goto (tgt := 87) hx hb dX2_contract_121 (by decide) ?_
      exact ih t5 x1 x2 v6 H locs hT hS ls h (lv_sub hl [1, 2, 3, 0] rfl)
theorem bX2_contract {p : Program} {l : Launch} {e : Env} {s : State} {m : MethodId} {args : Array Value} {below : List Frame} {meth : Method} {c : Code} {D : va_G} {dA : Nat → ClassId} {b : Nat} {r : Int32} {t9 : TS} (C : cx p s m args meth c cX2_contract RX2 4 (some .int)) (hK : kk D dA s) : ∀ (t : TS) (x1 : Int32) (H : Heap) (locs : List Loc) (hT : wd D (tw dA b t) H) (hS : tS b s.heap H locs) (ls : Array Slot), T_contract t x1 = some (r, t9) → lv_has ls 4 [(0, .ref b), (1, .int x1)] → W p l e rmX2_contract s m args below meth c H locs 0 0 (MQ below (tQ D dA b t9 (some (.int r))) args s 0 0 (ta b)) (F0 m 0 ls []) := by
  obtain ⟨hx, hb, hr, hml, hown, hts, hlocks⟩ := id C
  intro t x1 H locs hT hS ls h hl
  unfold T_contract at h
  refine lv_aload_n hx hb dX2_contract_0 rfl (lv_at hl 0 rfl) ?_
  refine lv_iload_n hx hb dX2_contract_1 rfl (lv_at hl 1 rfl) ?_
  obtain ⟨v1, hv1, h⟩ := bd1_some h
  refine r_int (run_t (As := [.int x1]) (rest := []) C hK hT (mX2_isSaying hv1) q1959 q1961 qs117 q162 q1962 ⟨rfl, rfl⟩ hdX2_isSaying ⟨Nat.le_of_ble_eq_true rfl, Nat.le_of_ble_eq_true rfl⟩ ⟨Nat.zero_le _, Nat.zero_le _⟩ rfl hl.1 rfl (Nat.le_of_ble_eq_true rfl) dX2_contract_2) ?_
  refine lv_if_eq (tgt := 30) hx hb dX2_contract_5 (by decide) (fun c => ?_) (fun c => ?_)
  · replace h := if_t c h
    refine lv_iconst (v := -1) hx hb dX2_contract_30 (by decide) ?_
    exact e_wi C hT hS h dX2_contract_31
  · replace h := if_f c h
    refine lv_aload_n hx hb dX2_contract_8 rfl (lv_at hl 0 rfl) ?_
    refine tg0 C hK hT dX2_contract_9 ?_
    refine lv_bipush (v := 10) hx hb dX2_contract_12 (by decide) ?_
    obtain ⟨hi, h⟩ := ck_some h
    refine tl0 C hK hT hi dX2_contract_14 ?_
    refine lv_bipush (v := 10) hx hb dX2_contract_15 (by decide) ?_
    refine lv_icmp_eq (tgt := 30) hx hb dX2_contract_17 (by decide) (fun c => ?_) (fun c => ?_)
    · replace h := if_t c h
      refine lv_iconst (v := -1) hx hb dX2_contract_30 (by decide) ?_
      exact e_wi C hT hS h dX2_contract_31
    · replace h := if_f c h
      refine lv_aload_n hx hb dX2_contract_20 rfl (lv_at hl 0 rfl) ?_
      refine lv_iload_n hx hb dX2_contract_21 rfl (lv_at hl 1 rfl) ?_
      refine lv_iconst (v := 0) hx hb dX2_contract_22 (by decide) ?_
      refine lv_iconst (v := 1) hx hb dX2_contract_23 (by decide) ?_
      obtain ⟨v2, hv2, h⟩ := bd1_some h
      refine r_int (run_t (As := [.int x1, .int (0 : Int32), .int (1 : Int32)]) (rest := []) C hK hT (mX2_canSay hv2) q1963 q1965 qs118 q162 q1966 ⟨rfl, rfl⟩ hdX2_canSay ⟨Nat.le_of_ble_eq_true rfl, Nat.le_of_ble_eq_true rfl⟩ ⟨Nat.zero_le _, Nat.zero_le _⟩ rfl hl.1 rfl (Nat.le_of_ble_eq_true rfl) dX2_contract_24) ?_
      refine lv_if_ne (tgt := 32) hx hb dX2_contract_27 (by decide) (fun c => ?_) (fun c => ?_)
      · replace h := if_f c h
        refine lv_aload_n hx hb dX2_contract_32 rfl (lv_at hl 0 rfl) ?_
        obtain ⟨t3, ht3, h⟩ := bd1_some h
        refine w_void hS (run_t (As := []) (rest := []) C hK hT (mX2_keep ht3) q1882 q1884 qs108 q162 q1885 ⟨rfl, rfl⟩ hdX2_keep ⟨Nat.le_of_ble_eq_true rfl, Nat.le_of_ble_eq_true rfl⟩ ⟨Nat.zero_le _, Nat.zero_le _⟩ rfl hl.1 rfl (Nat.le_of_ble_eq_true rfl) dX2_contract_33) (fun H locs hT hS => ?_)
        refine lv_sipush (v := 428) hx hb dX2_contract_36 (by decide) ?_
        refine lv_bipush (v := 11) hx hb dX2_contract_39 (by decide) ?_
        refine lv_aload_n hx hb dX2_contract_41 rfl (lv_at hl 0 rfl) ?_
        refine tg0 C hK hT dX2_contract_42 ?_
        refine lv_bipush (v := 10) hx hb dX2_contract_45 (by decide) ?_
        obtain ⟨hi, h⟩ := ck_some h
        refine tl0 C hK hT hi dX2_contract_47 ?_
        refine lv_imul hx hb dX2_contract_48 ?_
        refine lv_iadd hx hb dX2_contract_49 ?_
        refine lv_topi (fun v4 ev4 => ?_)
        replace h := lt1_sub ev4 h
        refine lv_istore_n (lv' := [(2, .int v4), (0, .ref b), (1, .int x1)]) hx hb dX2_contract_50 rfl hl (by decide) rfl (fun ls hl => ?_)
        refine lv_aload_n hx hb dX2_contract_51 rfl (lv_at hl 1 rfl) ?_
        refine tg0 C hK hT dX2_contract_52 ?_
        refine lv_iload_n hx hb dX2_contract_55 rfl (lv_at hl 0 rfl) ?_
        refine lv_iload_n hx hb dX2_contract_56 rfl (lv_at hl 2 rfl) ?_
        obtain ⟨hi, h⟩ := ck_some h
        refine ts0 C hK hT hS hi dX2_contract_57 (fun t5 H locs et5 hT hS => ?_)
        replace h := lt1_sub et5 h
        refine lv_aload_n hx hb dX2_contract_58 rfl (lv_at hl 1 rfl) ?_
        refine tg0 C hK hT dX2_contract_59 ?_
        refine lv_iload_n hx hb dX2_contract_62 rfl (lv_at hl 0 rfl) ?_
        refine lv_iconst (v := 1) hx hb dX2_contract_63 (by decide) ?_
        refine lv_iadd hx hb dX2_contract_64 ?_
        refine lv_aload_n hx hb dX2_contract_65 rfl (lv_at hl 1 rfl) ?_
        refine tg0 C hK hT dX2_contract_66 ?_
        refine lv_iconst (v := 2) hx hb dX2_contract_69 (by decide) ?_
        obtain ⟨hi, h⟩ := ck_some h
        refine tl0 C hK hT hi dX2_contract_70 ?_
        obtain ⟨hi, h⟩ := ck_some h
        refine ts0 C hK hT hS hi dX2_contract_71 (fun t6 H locs et6 hT hS => ?_)
        replace h := lt1_sub et6 h
        refine lv_aload_n hx hb dX2_contract_72 rfl (lv_at hl 1 rfl) ?_
        refine tg0 C hK hT dX2_contract_73 ?_
        refine lv_iload_n hx hb dX2_contract_76 rfl (lv_at hl 0 rfl) ?_
        refine lv_iconst (v := 2) hx hb dX2_contract_77 (by decide) ?_
        refine lv_iadd hx hb dX2_contract_78 ?_
        refine lv_aload_n hx hb dX2_contract_79 rfl (lv_at hl 1 rfl) ?_
        refine lv_iload_n hx hb dX2_contract_80 rfl (lv_at hl 2 rfl) ?_
        obtain ⟨v7, hv7, h⟩ := bd1_some h
        refine r_int (run_t (As := [.int x1]) (rest := [.int (v4 + (2 : Int32)), .ref (b + 1)]) C hK hT (mX2_sensesOf hv7) q1967 q1969 qs119 q162 q1970 ⟨rfl, rfl⟩ hdX2_sensesOf ⟨Nat.le_of_ble_eq_true rfl, Nat.le_of_ble_eq_true rfl⟩ ⟨Nat.zero_le _, Nat.zero_le _⟩ rfl hl.1 rfl (Nat.le_of_ble_eq_true rfl) dX2_contract_81) ?_
        obtain ⟨hi, h⟩ := ck_some h
        refine ts0 C hK hT hS hi dX2_contract_84 (fun t8 H locs et8 hT hS => ?_)
        replace h := lt1_sub et8 h
        refine lv_iconst (v := 0) hx hb dX2_contract_85 (by decide) ?_
        refine lv_istore_n (lv' := [(3, .int (0 : Int32)), (2, .int v4), (0, .ref b), (1, .int x1)]) hx hb dX2_contract_86 rfl hl (by decide) rfl (fun ls hl => ?_)
        exact bX2_contract_87 C hK fu t8 x1 v4 (0 : Int32) H locs hT hS ls h (lv_sub hl [2, 3, 1, 0] rfl)
      · replace h := if_t c h
        refine lv_iconst (v := -1) hx hb dX2_contract_30 (by decide) ?_
        exact e_wi C hT hS h dX2_contract_31
theorem mX2_contract {l : Launch} {D : va_G} {dA : Nat → ClassId} {b : Nat} {t : TS} {x1 : Int32} {r : Int32} {t9 : TS} (h : T_contract t x1 = some (r, t9)) : Met l yX2_contract (ws_ yX2_contract cX2_contract 4 (some .int)) rmX2_contract (tPc D dA b t [.ref b, .int x1]) (tQ D dA b t9 (some (.int r))) 0 0 (ta b) := en_R (by decide +kernel) rfl (Nat.le_of_ble_eq_true rfl) (fun p e s m below meth c ls C hK hT hl => bX2_contract C hK t x1 _ [] hT tS.rf ls h hl)
set_option maxRecDepth 20000 in
abbrev rmX2_areMornings : Room := { frames := 6, cells := 0, slots := 0, locals := 139 }
theorem hdX2_areMornings : yX2_areMornings.cls = RX2 ∧ yX2_areMornings.cls ≠ "java/lang/invoke/MethodHandle" ∧ yX2_areMornings.cls ≠ "java/lang/invoke/VarHandle" ∧ (parseMethodDescriptor yX2_areMornings.desc).map (fun d => d.parameters.length) = some 1 := by decide +kernel
theorem bX2_areMornings_2 {p : Program} {l : Launch} {e : Env} {s : State} {m : MethodId} {args : Array Value} {below : List Frame} {meth : Method} {c : Code} {D : va_G} {dA : Nat → ClassId} {b : Nat} {r : Int32} {t9 : TS} (C : cx p s m args meth c cX2_areMornings RX2 3 (some .boolean)) (hK : kk D dA s) : ∀ (n : Nat), ∀ (t : TS) (x1 : Int32) (x2 : Int32) (H : Heap) (locs : List Loc) (hT : wd D (tw dA b t) H) (hS : tS b s.heap H locs) (ls : Array Slot), T_areMornings_2 n t x1 x2 = some (r, t9) → lv_has ls 3 [(0, .ref b), (1, .int x1), (2, .int x2)] → W p l e rmX2_areMornings s m args below meth c H locs 0 0 (MQ below (tQ D dA b t9 (some (.int r))) args s 0 0 (ta b)) (F0 m 2 ls []) := by
  obtain ⟨hx, hb, hr, hml, hown, hts, hlocks⟩ := id C
  intro n
  induction n with
  | zero =>
    intro t x1 x2 H locs hT hS ls h hl
    have h : none = some _ := h
    cases h
  | succ n ih =>
    intro t x1 x2 H locs hT hS ls h hl
    rw [T_areMornings_2] at h
    refine lv_iload_n hx hb dX2_areMornings_2 rfl (lv_at hl 2 rfl) ?_
    refine lv_iload_n hx hb dX2_areMornings_3 rfl (lv_at hl 1 rfl) ?_
    refine lv_icmp_ge (tgt := 22) hx hb dX2_areMornings_4 (by decide) (fun c => ?_) (fun c => ?_)
    · replace h := if_t c h
      refine lv_iconst (v := 1) hx hb dX2_areMornings_22 (by decide) ?_
      exact e_wz C hT hS (Or.inr rfl) h dX2_areMornings_23
    · replace h := if_f c h
      refine lv_aload_n hx hb dX2_areMornings_7 rfl (lv_at hl 0 rfl) ?_
      obtain ⟨v1, t2, ht2, h⟩ := bd2_some h
      refine w_int hS (run_t (As := []) (rest := []) C hK hT (mX2_isMorning ht2) q1878 q1880 qs107 q162 q1881 ⟨rfl, rfl⟩ hdX2_isMorning ⟨Nat.le_of_ble_eq_true rfl, Nat.le_of_ble_eq_true rfl⟩ ⟨Nat.zero_le _, Nat.zero_le _⟩ rfl hl.1 rfl (Nat.le_of_ble_eq_true rfl) dX2_areMornings_8) (fun H locs hT hS => ?_)
      refine lv_if_ne (tgt := 16) hx hb dX2_areMornings_11 (by decide) (fun c => ?_) (fun c => ?_)
      · replace h := if_f c h
        obtain ⟨v3, ev3⟩ : ∃ y : Int32, y = x2 + (1 : Int32) := ⟨_, rfl⟩
        replace h := lt1_sub ev3 h
        refine lv_iinc (v := v3) (lv' := [(2, .int v3), (0, .ref b), (1, .int x1)]) hx hb dX2_areMornings_16 hl (k := 2) rfl (by rw [ev3]; rfl) (by decide) rfl (fun ls hl => ?_)
        refine lv_goto (tgt := 2) hx hb dX2_areMornings_19 (by decide) ?_
        exact ih t2 x1 v3 H locs hT hS ls h (lv_sub hl [1, 2, 0] rfl)
      · replace h := if_t c h
        refine lv_iconst (v := 0) hx hb dX2_areMornings_14 (by decide) ?_
        exact e_wz C hT hS (Or.inl rfl) h dX2_areMornings_15
theorem bX2_areMornings {p : Program} {l : Launch} {e : Env} {s : State} {m : MethodId} {args : Array Value} {below : List Frame} {meth : Method} {c : Code} {D : va_G} {dA : Nat → ClassId} {b : Nat} {r : Int32} {t9 : TS} (C : cx p s m args meth c cX2_areMornings RX2 3 (some .boolean)) (hK : kk D dA s) : ∀ (t : TS) (x1 : Int32) (H : Heap) (locs : List Loc) (hT : wd D (tw dA b t) H) (hS : tS b s.heap H locs) (ls : Array Slot), T_areMornings t x1 = some (r, t9) → lv_has ls 3 [(0, .ref b), (1, .int x1)] → W p l e rmX2_areMornings s m args below meth c H locs 0 0 (MQ below (tQ D dA b t9 (some (.int r))) args s 0 0 (ta b)) (F0 m 0 ls []) := by
  obtain ⟨hx, hb, hr, hml, hown, hts, hlocks⟩ := id C
  intro t x1 H locs hT hS ls h hl
  unfold T_areMornings at h
  refine lv_iconst (v := 0) hx hb dX2_areMornings_0 (by decide) ?_
  refine lv_istore_n (lv' := [(2, .int (0 : Int32)), (0, .ref b), (1, .int x1)]) hx hb dX2_areMornings_1 rfl hl (by decide) rfl (fun ls hl => ?_)
  exact bX2_areMornings_2 C hK fu t x1 (0 : Int32) H locs hT hS ls h (lv_sub hl [1, 2, 0] rfl)
theorem mX2_areMornings {l : Launch} {D : va_G} {dA : Nat → ClassId} {b : Nat} {t : TS} {x1 : Int32} {r : Int32} {t9 : TS} (h : T_areMornings t x1 = some (r, t9)) : Met l yX2_areMornings (ws_ yX2_areMornings cX2_areMornings 3 (some .boolean)) rmX2_areMornings (tPc D dA b t [.ref b, .int x1]) (tQ D dA b t9 (some (.int r))) 0 0 (ta b) := en_R (by decide +kernel) rfl (Nat.le_of_ble_eq_true rfl) (fun p e s m below meth c ls C hK hT hl => bX2_areMornings C hK t x1 _ [] hT tS.rf ls h hl)
set_option maxRecDepth 20000 in
abbrev rmX2_areRaised : Room := { frames := 3, cells := 0, slots := 0, locals := 64 }
theorem hdX2_areRaised : yX2_areRaised.cls = RX2 ∧ yX2_areRaised.cls ≠ "java/lang/invoke/MethodHandle" ∧ yX2_areRaised.cls ≠ "java/lang/invoke/VarHandle" ∧ (parseMethodDescriptor yX2_areRaised.desc).map (fun d => d.parameters.length) = some 2 := by decide +kernel
theorem bX2_areRaised_66 {p : Program} {l : Launch} {e : Env} {s : State} {m : MethodId} {args : Array Value} {below : List Frame} {meth : Method} {c : Code} {D : va_G} {dA : Nat → ClassId} {b : Nat} {r : Int32} {t9 : TS} (C : cx p s m args meth c cX2_areRaised RX2 5 (some .boolean)) (hK : kk D dA s) {k5 : TS → Int32 → Int32 → Int32 → Int32 → Option (Int32 × TS)} (hk5 : ∀ (t : TS) (x1 : Int32) (x2 : Int32) (x3 : Int32) (x4 : Int32) (H : Heap) (locs : List Loc) (hT : wd D (tw dA b t) H) (hS : tS b s.heap H locs) (ls : Array Slot), k5 t x1 x2 x3 x4 = some (r, t9) → lv_has ls 5 [(0, .ref b), (1, .int x1), (2, .int x2), (3, .int x3), (4, .int x4)] → W p l e rmX2_areRaised s m args below meth c H locs 0 0 (MQ below (tQ D dA b t9 (some (.int r))) args s 0 0 (ta b)) (F0 m 5 ls [])) : ∀ (t : TS) (x1 : Int32) (x2 : Int32) (x3 : Int32) (x4 : Int32) (H : Heap) (locs : List Loc) (hT : wd D (tw dA b t) H) (hS : tS b s.heap H locs) (ls : Array Slot), T_areRaised_66 k5 t x1 x2 x3 x4 = some (r, t9) → lv_has ls 5 [(0, .ref b), (1, .int x1), (2, .int x2), (3, .int x3), (4, .int x4)] → W p l e rmX2_areRaised s m args below meth c H locs 0 0 (MQ below (tQ D dA b t9 (some (.int r))) args s 0 0 (ta b)) (F0 m 66 ls []) := by
  obtain ⟨hx, hb, hr, hml, hown, hts, hlocks⟩ := id C
  intro t x1 x2 x3 x4 H locs hT hS ls h hl
  unfold T_areRaised_66 at h
  obtain ⟨v1, ev1⟩ : ∃ y : Int32, y = x4 + (1 : Int32) := ⟨_, rfl⟩
  replace h := lt1_sub ev1 h
  refine lv_iinc (v := v1) (lv' := [(4, .int v1), (0, .ref b), (1, .int x1), (2, .int x2), (3, .int x3)]) hx hb dX2_areRaised_66 hl (k := 4) rfl (by rw [ev1]; rfl) (by decide) rfl (fun ls hl => ?_)
  refine lv_goto (tgt := 5) hx hb dX2_areRaised_69 (by decide) ?_
  exact hk5 t x1 x2 x3 v1 H locs hT hS ls h (lv_sub hl [1, 2, 3, 4, 0] rfl)
theorem bX2_areRaised_58 {p : Program} {l : Launch} {e : Env} {s : State} {m : MethodId} {args : Array Value} {below : List Frame} {meth : Method} {c : Code} {D : va_G} {dA : Nat → ClassId} {b : Nat} {r : Int32} {t9 : TS} (C : cx p s m args meth c cX2_areRaised RX2 5 (some .boolean)) (hK : kk D dA s) {k5 : TS → Int32 → Int32 → Int32 → Int32 → Option (Int32 × TS)} (hk5 : ∀ (t : TS) (x1 : Int32) (x2 : Int32) (x3 : Int32) (x4 : Int32) (H : Heap) (locs : List Loc) (hT : wd D (tw dA b t) H) (hS : tS b s.heap H locs) (ls : Array Slot), k5 t x1 x2 x3 x4 = some (r, t9) → lv_has ls 5 [(0, .ref b), (1, .int x1), (2, .int x2), (3, .int x3), (4, .int x4)] → W p l e rmX2_areRaised s m args below meth c H locs 0 0 (MQ below (tQ D dA b t9 (some (.int r))) args s 0 0 (ta b)) (F0 m 5 ls [])) : ∀ (t : TS) (x1 : Int32) (x2 : Int32) (x3 : Int32) (x4 : Int32) (y1 : Int32) (y2 : Int32) (H : Heap) (locs : List Loc) (hT : wd D (tw dA b t) H) (hS : tS b s.heap H locs) (ls : Array Slot), T_areRaised_58 k5 t x1 x2 x3 x4 y1 y2 = some (r, t9) → lv_has ls 5 [(0, .ref b), (1, .int x1), (2, .int x2), (3, .int x3), (4, .int x4)] → W p l e rmX2_areRaised s m args below meth c H locs 0 0 (MQ below (tQ D dA b t9 (some (.int r))) args s 0 0 (ta b)) (F0 m 58 ls [.int y2, .int y1, .ref b]) := by
  obtain ⟨hx, hb, hr, hml, hown, hts, hlocks⟩ := id C
  intro t x1 x2 x3 x4 y1 y2 H locs hT hS ls h hl
  unfold T_areRaised_58 at h
  obtain ⟨v1, t2, ht2, h⟩ := bd2_some h
  refine w_int hS (run_t (As := [.int y1, .int y2]) (rest := []) C hK hT (mX2_raise ht2) q2014 q1948 q1949 q162 q1950 ⟨rfl, rfl⟩ hdX2_raise ⟨Nat.le_of_ble_eq_true rfl, Nat.le_of_ble_eq_true rfl⟩ ⟨Nat.zero_le _, Nat.zero_le _⟩ rfl hl.1 rfl (Nat.le_of_ble_eq_true rfl) dX2_areRaised_58) (fun H locs hT hS => ?_)
  refine lv_if_eq (tgt := 66) hx hb dX2_areRaised_61 (by decide) (fun c => ?_) (fun c => ?_)
  · replace h := if_t c h
    exact bX2_areRaised_66 C hK hk5 t2 x1 x2 x3 x4 H locs hT hS ls h (lv_sub hl [0, 1, 2, 3, 4] rfl)
  · replace h := if_f c h
    refine lv_iconst (v := 1) hx hb dX2_areRaised_64 (by decide) ?_
    refine lv_istore_n (lv' := [(3, .int (1 : Int32)), (0, .ref b), (1, .int x1), (2, .int x2), (4, .int x4)]) hx hb dX2_areRaised_65 rfl hl (by decide) rfl (fun ls hl => ?_)
    exact bX2_areRaised_66 C hK hk5 t2 x1 x2 (1 : Int32) x4 H locs hT hS ls h (lv_sub hl [1, 2, 3, 0, 4] rfl)
theorem bX2_areRaised_5 {p : Program} {l : Launch} {e : Env} {s : State} {m : MethodId} {args : Array Value} {below : List Frame} {meth : Method} {c : Code} {D : va_G} {dA : Nat → ClassId} {b : Nat} {r : Int32} {t9 : TS} (C : cx p s m args meth c cX2_areRaised RX2 5 (some .boolean)) (hK : kk D dA s) : ∀ (n : Nat), ∀ (t : TS) (x1 : Int32) (x2 : Int32) (x3 : Int32) (x4 : Int32) (H : Heap) (locs : List Loc) (hT : wd D (tw dA b t) H) (hS : tS b s.heap H locs) (ls : Array Slot), T_areRaised_5 n t x1 x2 x3 x4 = some (r, t9) → lv_has ls 5 [(0, .ref b), (1, .int x1), (2, .int x2), (3, .int x3), (4, .int x4)] → W p l e rmX2_areRaised s m args below meth c H locs 0 0 (MQ below (tQ D dA b t9 (some (.int r))) args s 0 0 (ta b)) (F0 m 5 ls []) := by
  obtain ⟨hx, hb, hr, hml, hown, hts, hlocks⟩ := id C
  intro n
  induction n with
  | zero =>
    intro t x1 x2 x3 x4 H locs hT hS ls h hl
    have h : none = some _ := h
    cases h
  | succ n ih =>
    intro t x1 x2 x3 x4 H locs hT hS ls h hl
    rw [T_areRaised_5] at h
    refine lv_iload hx hb dX2_areRaised_5 (lv_at hl 4 rfl) ?_
    refine lv_bipush (v := 26) hx hb dX2_areRaised_7 (by decide) ?_
    refine lv_icmp_ge (tgt := 72) hx hb dX2_areRaised_9 (by decide) (fun c => ?_) (fun c => ?_)
    · replace h := if_t c h
      refine lv_iload_n hx hb dX2_areRaised_72 rfl (lv_at hl 3 rfl) ?_
      obtain ⟨hz, h⟩ := zr_some h
      exact e_wz C hT hS hz h dX2_areRaised_73
    · replace h := if_f c h
      refine lv_iload_n hx hb dX2_areRaised_12 rfl (lv_at hl 1 rfl) ?_
      refine lv_iload hx hb dX2_areRaised_13 (lv_at hl 4 rfl) ?_
      obtain ⟨v1, hv1, h⟩ := bd1_some h
      refine r_int (run_s (As := [.int x1, .int x4]) (rest := []) C (mX2_has hv1) q1659 q1660 q162 q1661 ⟨rfl, rfl⟩ hdX2_has ⟨Nat.le_of_ble_eq_true rfl, Nat.le_of_ble_eq_true rfl⟩ ⟨Nat.zero_le _, Nat.zero_le _⟩ rfl hl.1 rfl (Nat.le_of_ble_eq_true rfl) dX2_areRaised_15) ?_
      refine lv_if_eq (tgt := 66) hx hb dX2_areRaised_18 (by decide) (fun c => ?_) (fun c => ?_)
      · replace h := if_t c h
        exact bX2_areRaised_66 C hK ih t x1 x2 x3 x4 H locs hT hS ls h (lv_sub hl [0, 1, 2, 3, 4] rfl)
      · replace h := if_f c h
        refine lv_aload_n hx hb dX2_areRaised_21 rfl (lv_at hl 0 rfl) ?_
        refine lv_iload hx hb dX2_areRaised_22 (lv_at hl 4 rfl) ?_
        refine lv_aload_n hx hb dX2_areRaised_24 rfl (lv_at hl 0 rfl) ?_
        refine tg0 C hK hT dX2_areRaised_25 ?_
        refine lv_bipush (v := 12) hx hb dX2_areRaised_28 (by decide) ?_
        refine lv_iload hx hb dX2_areRaised_30 (lv_at hl 4 rfl) ?_
        refine lv_iadd hx hb dX2_areRaised_32 ?_
        obtain ⟨hi, h⟩ := ck_some h
        refine tl0 C hK hT hi dX2_areRaised_33 ?_
        refine lv_iload_n hx hb dX2_areRaised_34 rfl (lv_at hl 2 rfl) ?_
        refine lv_iadd hx hb dX2_areRaised_35 ?_
        refine lv_bipush (v := 99) hx hb dX2_areRaised_36 (by decide) ?_
        refine lv_icmp_le (tgt := 46) hx hb dX2_areRaised_38 (by decide) (fun c => ?_) (fun c => ?_)
        · replace h := if_t c h
          refine lv_aload_n hx hb dX2_areRaised_46 rfl (lv_at hl 0 rfl) ?_
          refine tg0 C hK hT dX2_areRaised_47 ?_
          refine lv_bipush (v := 12) hx hb dX2_areRaised_50 (by decide) ?_
          refine lv_iload hx hb dX2_areRaised_52 (lv_at hl 4 rfl) ?_
          refine lv_iadd hx hb dX2_areRaised_54 ?_
          obtain ⟨hi, h⟩ := ck_some h
          refine tl0 C hK hT hi dX2_areRaised_55 ?_
          refine lv_iload_n hx hb dX2_areRaised_56 rfl (lv_at hl 2 rfl) ?_
          refine lv_iadd hx hb dX2_areRaised_57 ?_
          exact bX2_areRaised_58 C hK ih t x1 x2 x3 x4 x4 ((t.1 0 ((12 : Int32) + x4).toNatClampNeg) + x2) H locs hT hS ls h (lv_sub hl [0, 1, 2, 3, 4] rfl)
        · replace h := if_f c h
          refine lv_bipush (v := 99) hx hb dX2_areRaised_41 (by decide) ?_
          refine lv_goto (tgt := 58) hx hb dX2_areRaised_43 (by decide) ?_
          exact bX2_areRaised_58 C hK ih t x1 x2 x3 x4 x4 (99 : Int32) H locs hT hS ls h (lv_sub hl [0, 1, 2, 3, 4] rfl)
theorem bX2_areRaised {p : Program} {l : Launch} {e : Env} {s : State} {m : MethodId} {args : Array Value} {below : List Frame} {meth : Method} {c : Code} {D : va_G} {dA : Nat → ClassId} {b : Nat} {r : Int32} {t9 : TS} (C : cx p s m args meth c cX2_areRaised RX2 5 (some .boolean)) (hK : kk D dA s) : ∀ (t : TS) (x1 : Int32) (x2 : Int32) (H : Heap) (locs : List Loc) (hT : wd D (tw dA b t) H) (hS : tS b s.heap H locs) (ls : Array Slot), T_areRaised t x1 x2 = some (r, t9) → lv_has ls 5 [(0, .ref b), (1, .int x1), (2, .int x2)] → W p l e rmX2_areRaised s m args below meth c H locs 0 0 (MQ below (tQ D dA b t9 (some (.int r))) args s 0 0 (ta b)) (F0 m 0 ls []) := by
  obtain ⟨hx, hb, hr, hml, hown, hts, hlocks⟩ := id C
  intro t x1 x2 H locs hT hS ls h hl
  unfold T_areRaised at h
  refine lv_iconst (v := 0) hx hb dX2_areRaised_0 (by decide) ?_
  refine lv_istore_n (lv' := [(3, .int (0 : Int32)), (0, .ref b), (1, .int x1), (2, .int x2)]) hx hb dX2_areRaised_1 rfl hl (by decide) rfl (fun ls hl => ?_)
  refine lv_iconst (v := 0) hx hb dX2_areRaised_2 (by decide) ?_
  refine lv_istore (lv' := [(4, .int (0 : Int32)), (3, .int (0 : Int32)), (0, .ref b), (1, .int x1), (2, .int x2)]) hx hb dX2_areRaised_3 hl (by decide) rfl (fun ls hl => ?_)
  exact bX2_areRaised_5 C hK fu t x1 x2 (0 : Int32) (0 : Int32) H locs hT hS ls h (lv_sub hl [2, 3, 4, 1, 0] rfl)
theorem mX2_areRaised {l : Launch} {D : va_G} {dA : Nat → ClassId} {b : Nat} {t : TS} {x1 : Int32} {x2 : Int32} {r : Int32} {t9 : TS} (h : T_areRaised t x1 x2 = some (r, t9)) : Met l yX2_areRaised (ws_ yX2_areRaised cX2_areRaised 5 (some .boolean)) rmX2_areRaised (tPc D dA b t [.ref b, .int x1, .int x2]) (tQ D dA b t9 (some (.int r))) 0 0 (ta b) := en_R (by decide +kernel) rfl (Nat.le_of_ble_eq_true rfl) (fun p e s m below meth c ls C hK hT hl => bX2_areRaised C hK t x1 x2 _ [] hT tS.rf ls h hl)
set_option maxRecDepth 20000 in
abbrev rmX2_areSigned : Room := { frames := 3, cells := 0, slots := 0, locals := 64 }
theorem hdX2_areSigned : yX2_areSigned.cls = RX2 ∧ yX2_areSigned.cls ≠ "java/lang/invoke/MethodHandle" ∧ yX2_areSigned.cls ≠ "java/lang/invoke/VarHandle" ∧ (parseMethodDescriptor yX2_areSigned.desc).map (fun d => d.parameters.length) = some 2 := by decide +kernel
theorem bX2_areSigned_33 {p : Program} {l : Launch} {e : Env} {s : State} {m : MethodId} {args : Array Value} {below : List Frame} {meth : Method} {c : Code} {D : va_G} {dA : Nat → ClassId} {b : Nat} {r : Int32} {t9 : TS} (C : cx p s m args meth c cX2_areSigned RX2 5 (some .boolean)) (hK : kk D dA s) {k5 : TS → Int32 → Int32 → Int32 → Int32 → Option (Int32 × TS)} (hk5 : ∀ (t : TS) (x1 : Int32) (x2 : Int32) (x3 : Int32) (x4 : Int32) (H : Heap) (locs : List Loc) (hT : wd D (tw dA b t) H) (hS : tS b s.heap H locs) (ls : Array Slot), k5 t x1 x2 x3 x4 = some (r, t9) → lv_has ls 5 [(0, .ref b), (1, .int x1), (2, .int x2), (3, .int x3), (4, .int x4)] → W p l e rmX2_areSigned s m args below meth c H locs 0 0 (MQ below (tQ D dA b t9 (some (.int r))) args s 0 0 (ta b)) (F0 m 5 ls [])) : ∀ (t : TS) (x1 : Int32) (x2 : Int32) (x3 : Int32) (x4 : Int32) (H : Heap) (locs : List Loc) (hT : wd D (tw dA b t) H) (hS : tS b s.heap H locs) (ls : Array Slot), T_areSigned_33 k5 t x1 x2 x3 x4 = some (r, t9) → lv_has ls 5 [(0, .ref b), (1, .int x1), (2, .int x2), (3, .int x3), (4, .int x4)] → W p l e rmX2_areSigned s m args below meth c H locs 0 0 (MQ below (tQ D dA b t9 (some (.int r))) args s 0 0 (ta b)) (F0 m 33 ls []) := by
  obtain ⟨hx, hb, hr, hml, hown, hts, hlocks⟩ := id C
  intro t x1 x2 x3 x4 H locs hT hS ls h hl
  unfold T_areSigned_33 at h
  obtain ⟨v1, ev1⟩ : ∃ y : Int32, y = x4 + (1 : Int32) := ⟨_, rfl⟩
  replace h := lt1_sub ev1 h
  refine lv_iinc (v := v1) (lv' := [(4, .int v1), (0, .ref b), (1, .int x1), (2, .int x2), (3, .int x3)]) hx hb dX2_areSigned_33 hl (k := 4) rfl (by rw [ev1]; rfl) (by decide) rfl (fun ls hl => ?_)
  refine lv_goto (tgt := 5) hx hb dX2_areSigned_36 (by decide) ?_
  exact hk5 t x1 x2 x3 v1 H locs hT hS ls h (lv_sub hl [1, 2, 3, 4, 0] rfl)
theorem bX2_areSigned_5 {p : Program} {l : Launch} {e : Env} {s : State} {m : MethodId} {args : Array Value} {below : List Frame} {meth : Method} {c : Code} {D : va_G} {dA : Nat → ClassId} {b : Nat} {r : Int32} {t9 : TS} (C : cx p s m args meth c cX2_areSigned RX2 5 (some .boolean)) (hK : kk D dA s) : ∀ (n : Nat), ∀ (t : TS) (x1 : Int32) (x2 : Int32) (x3 : Int32) (x4 : Int32) (H : Heap) (locs : List Loc) (hT : wd D (tw dA b t) H) (hS : tS b s.heap H locs) (ls : Array Slot), T_areSigned_5 n t x1 x2 x3 x4 = some (r, t9) → lv_has ls 5 [(0, .ref b), (1, .int x1), (2, .int x2), (3, .int x3), (4, .int x4)] → W p l e rmX2_areSigned s m args below meth c H locs 0 0 (MQ below (tQ D dA b t9 (some (.int r))) args s 0 0 (ta b)) (F0 m 5 ls []) := by
  obtain ⟨hx, hb, hr, hml, hown, hts, hlocks⟩ := id C
  intro n
  induction n with
  | zero =>
    intro t x1 x2 x3 x4 H locs hT hS ls h hl
    have h : none = some _ := h
    cases h
  | succ n ih =>
    intro t x1 x2 x3 x4 H locs hT hS ls h hl
    rw [T_areSigned_5] at h
    refine lv_iload hx hb dX2_areSigned_5 (lv_at hl 4 rfl) ?_
    refine lv_bipush (v := 26) hx hb dX2_areSigned_7 (by decide) ?_
    refine lv_icmp_ge (tgt := 39) hx hb dX2_areSigned_9 (by decide) (fun c => ?_) (fun c => ?_)
    · replace h := if_t c h
      refine lv_iload_n hx hb dX2_areSigned_39 rfl (lv_at hl 3 rfl) ?_
      obtain ⟨hz, h⟩ := zr_some h
      exact e_wz C hT hS hz h dX2_areSigned_40
    · replace h := if_f c h
      refine lv_iload_n hx hb dX2_areSigned_12 rfl (lv_at hl 1 rfl) ?_
      refine lv_iload hx hb dX2_areSigned_13 (lv_at hl 4 rfl) ?_
      obtain ⟨v1, hv1, h⟩ := bd1_some h
      refine r_int (run_s (As := [.int x1, .int x4]) (rest := []) C (mX2_has hv1) q1659 q1660 q162 q1661 ⟨rfl, rfl⟩ hdX2_has ⟨Nat.le_of_ble_eq_true rfl, Nat.le_of_ble_eq_true rfl⟩ ⟨Nat.zero_le _, Nat.zero_le _⟩ rfl hl.1 rfl (Nat.le_of_ble_eq_true rfl) dX2_areSigned_15) ?_
      refine lv_if_eq (tgt := 33) hx hb dX2_areSigned_18 (by decide) (fun c => ?_) (fun c => ?_)
      · replace h := if_t c h
        exact bX2_areSigned_33 C hK ih t x1 x2 x3 x4 H locs hT hS ls h (lv_sub hl [0, 1, 2, 3, 4] rfl)
      · replace h := if_f c h
        refine lv_aload_n hx hb dX2_areSigned_21 rfl (lv_at hl 0 rfl) ?_
        refine lv_iload hx hb dX2_areSigned_22 (lv_at hl 4 rfl) ?_
        refine lv_iload_n hx hb dX2_areSigned_24 rfl (lv_at hl 2 rfl) ?_
        obtain ⟨v2, t3, ht3, h⟩ := bd2_some h
        refine w_int hS (run_t (As := [.int x4, .int x2]) (rest := []) C hK hT (mX2_sign ht3) q2019 q1952 q1953 q162 q1954 ⟨rfl, rfl⟩ hdX2_sign ⟨Nat.le_of_ble_eq_true rfl, Nat.le_of_ble_eq_true rfl⟩ ⟨Nat.zero_le _, Nat.zero_le _⟩ rfl hl.1 rfl (Nat.le_of_ble_eq_true rfl) dX2_areSigned_25) (fun H locs hT hS => ?_)
        refine lv_if_eq (tgt := 33) hx hb dX2_areSigned_28 (by decide) (fun c => ?_) (fun c => ?_)
        · replace h := if_t c h
          exact bX2_areSigned_33 C hK ih t3 x1 x2 x3 x4 H locs hT hS ls h (lv_sub hl [0, 1, 2, 3, 4] rfl)
        · replace h := if_f c h
          refine lv_iconst (v := 1) hx hb dX2_areSigned_31 (by decide) ?_
          refine lv_istore_n (lv' := [(3, .int (1 : Int32)), (0, .ref b), (1, .int x1), (2, .int x2), (4, .int x4)]) hx hb dX2_areSigned_32 rfl hl (by decide) rfl (fun ls hl => ?_)
          exact bX2_areSigned_33 C hK ih t3 x1 x2 (1 : Int32) x4 H locs hT hS ls h (lv_sub hl [1, 2, 3, 0, 4] rfl)
theorem bX2_areSigned {p : Program} {l : Launch} {e : Env} {s : State} {m : MethodId} {args : Array Value} {below : List Frame} {meth : Method} {c : Code} {D : va_G} {dA : Nat → ClassId} {b : Nat} {r : Int32} {t9 : TS} (C : cx p s m args meth c cX2_areSigned RX2 5 (some .boolean)) (hK : kk D dA s) : ∀ (t : TS) (x1 : Int32) (x2 : Int32) (H : Heap) (locs : List Loc) (hT : wd D (tw dA b t) H) (hS : tS b s.heap H locs) (ls : Array Slot), T_areSigned t x1 x2 = some (r, t9) → lv_has ls 5 [(0, .ref b), (1, .int x1), (2, .int x2)] → W p l e rmX2_areSigned s m args below meth c H locs 0 0 (MQ below (tQ D dA b t9 (some (.int r))) args s 0 0 (ta b)) (F0 m 0 ls []) := by
  obtain ⟨hx, hb, hr, hml, hown, hts, hlocks⟩ := id C
  intro t x1 x2 H locs hT hS ls h hl
  unfold T_areSigned at h
  refine lv_iconst (v := 0) hx hb dX2_areSigned_0 (by decide) ?_
  refine lv_istore_n (lv' := [(3, .int (0 : Int32)), (0, .ref b), (1, .int x1), (2, .int x2)]) hx hb dX2_areSigned_1 rfl hl (by decide) rfl (fun ls hl => ?_)
  refine lv_iconst (v := 0) hx hb dX2_areSigned_2 (by decide) ?_
  refine lv_istore (lv' := [(4, .int (0 : Int32)), (3, .int (0 : Int32)), (0, .ref b), (1, .int x1), (2, .int x2)]) hx hb dX2_areSigned_3 hl (by decide) rfl (fun ls hl => ?_)
  exact bX2_areSigned_5 C hK fu t x1 x2 (0 : Int32) (0 : Int32) H locs hT hS ls h (lv_sub hl [2, 3, 4, 1, 0] rfl)
theorem mX2_areSigned {l : Launch} {D : va_G} {dA : Nat → ClassId} {b : Nat} {t : TS} {x1 : Int32} {x2 : Int32} {r : Int32} {t9 : TS} (h : T_areSigned t x1 x2 = some (r, t9)) : Met l yX2_areSigned (ws_ yX2_areSigned cX2_areSigned 5 (some .boolean)) rmX2_areSigned (tPc D dA b t [.ref b, .int x1, .int x2]) (tQ D dA b t9 (some (.int r))) 0 0 (ta b) := en_R (by decide +kernel) rfl (Nat.le_of_ble_eq_true rfl) (fun p e s m below meth c ls C hK hT hl => bX2_areSigned C hK t x1 x2 _ [] hT tS.rf ls h hl)
set_option maxRecDepth 20000 in
abbrev rmX2_areTied : Room := { frames := 3, cells := 0, slots := 0, locals := 64 }
theorem hdX2_areTied : yX2_areTied.cls = RX2 ∧ yX2_areTied.cls ≠ "java/lang/invoke/MethodHandle" ∧ yX2_areTied.cls ≠ "java/lang/invoke/VarHandle" ∧ (parseMethodDescriptor yX2_areTied.desc).map (fun d => d.parameters.length) = some 2 := by decide +kernel
theorem bX2_areTied_53 {p : Program} {l : Launch} {e : Env} {s : State} {m : MethodId} {args : Array Value} {below : List Frame} {meth : Method} {c : Code} {D : va_G} {dA : Nat → ClassId} {b : Nat} {r : Int32} {t9 : TS} (C : cx p s m args meth c cX2_areTied RX2 6 (some .boolean)) (hK : kk D dA s) {k15 : TS → Int32 → Int32 → Int32 → Int32 → Int32 → Option (Int32 × TS)} (hk15 : ∀ (t : TS) (x1 : Int32) (x2 : Int32) (x3 : Int32) (x4 : Int32) (x5 : Int32) (H : Heap) (locs : List Loc) (hT : wd D (tw dA b t) H) (hS : tS b s.heap H locs) (ls : Array Slot), k15 t x1 x2 x3 x4 x5 = some (r, t9) → lv_has ls 6 [(0, .ref b), (1, .int x1), (2, .int x2), (3, .int x3), (4, .int x4), (5, .int x5)] → W p l e rmX2_areTied s m args below meth c H locs 0 0 (MQ below (tQ D dA b t9 (some (.int r))) args s 0 0 (ta b)) (F0 m 15 ls [])) : ∀ (t : TS) (x1 : Int32) (x2 : Int32) (x3 : Int32) (x4 : Int32) (x5 : Int32) (H : Heap) (locs : List Loc) (hT : wd D (tw dA b t) H) (hS : tS b s.heap H locs) (ls : Array Slot), T_areTied_53 k15 t x1 x2 x3 x4 x5 = some (r, t9) → lv_has ls 6 [(0, .ref b), (1, .int x1), (2, .int x2), (3, .int x3), (4, .int x4), (5, .int x5)] → W p l e rmX2_areTied s m args below meth c H locs 0 0 (MQ below (tQ D dA b t9 (some (.int r))) args s 0 0 (ta b)) (F0 m 53 ls []) := by
  obtain ⟨hx, hb, hr, hml, hown, hts, hlocks⟩ := id C
  intro t x1 x2 x3 x4 x5 H locs hT hS ls h hl
  unfold T_areTied_53 at h
  obtain ⟨v1, ev1⟩ : ∃ y : Int32, y = x5 + (1 : Int32) := ⟨_, rfl⟩
  replace h := lt1_sub ev1 h
  refine lv_iinc (v := v1) (lv' := [(5, .int v1), (0, .ref b), (1, .int x1), (2, .int x2), (3, .int x3), (4, .int x4)]) hx hb dX2_areTied_53 hl (k := 5) rfl (by rw [ev1]; rfl) (by decide) rfl (fun ls hl => ?_)
  refine lv_goto (tgt := 15) hx hb dX2_areTied_56 (by decide) ?_
  exact hk15 t x1 x2 x3 x4 v1 H locs hT hS ls h (lv_sub hl [1, 2, 3, 4, 5, 0] rfl)
theorem bX2_areTied_15 {p : Program} {l : Launch} {e : Env} {s : State} {m : MethodId} {args : Array Value} {below : List Frame} {meth : Method} {c : Code} {D : va_G} {dA : Nat → ClassId} {b : Nat} {r : Int32} {t9 : TS} (C : cx p s m args meth c cX2_areTied RX2 6 (some .boolean)) (hK : kk D dA s) {k5 : TS → Int32 → Int32 → Int32 → Int32 → Option (Int32 × TS)} (hk5 : ∀ (t : TS) (x1 : Int32) (x2 : Int32) (x3 : Int32) (x4 : Int32) (H : Heap) (locs : List Loc) (hT : wd D (tw dA b t) H) (hS : tS b s.heap H locs) (ls : Array Slot), k5 t x1 x2 x3 x4 = some (r, t9) → lv_has ls 6 [(0, .ref b), (1, .int x1), (2, .int x2), (3, .int x3), (4, .int x4)] → W p l e rmX2_areTied s m args below meth c H locs 0 0 (MQ below (tQ D dA b t9 (some (.int r))) args s 0 0 (ta b)) (F0 m 5 ls [])) : ∀ (n : Nat), ∀ (t : TS) (x1 : Int32) (x2 : Int32) (x3 : Int32) (x4 : Int32) (x5 : Int32) (H : Heap) (locs : List Loc) (hT : wd D (tw dA b t) H) (hS : tS b s.heap H locs) (ls : Array Slot), T_areTied_15 k5 n t x1 x2 x3 x4 x5 = some (r, t9) → lv_has ls 6 [(0, .ref b), (1, .int x1), (2, .int x2), (3, .int x3), (4, .int x4), (5, .int x5)] → W p l e rmX2_areTied s m args below meth c H locs 0 0 (MQ below (tQ D dA b t9 (some (.int r))) args s 0 0 (ta b)) (F0 m 15 ls []) := by
  obtain ⟨hx, hb, hr, hml, hown, hts, hlocks⟩ := id C
  intro n
  induction n with
  | zero =>
    intro t x1 x2 x3 x4 x5 H locs hT hS ls h hl
    have h : none = some _ := h
    cases h
  | succ n ih =>
    intro t x1 x2 x3 x4 x5 H locs hT hS ls h hl
    rw [T_areTied_15] at h
    refine lv_iload hx hb dX2_areTied_15 (lv_at hl 5 rfl) ?_
    refine lv_bipush (v := 26) hx hb dX2_areTied_17 (by decide) ?_
    refine lv_icmp_ge (tgt := 59) hx hb dX2_areTied_19 (by decide) (fun c => ?_) (fun c => ?_)
    · replace h := if_t c h
      obtain ⟨v1, ev1⟩ : ∃ y : Int32, y = x4 + (1 : Int32) := ⟨_, rfl⟩
      replace h := lt1_sub ev1 h
      refine lv_iinc (v := v1) (lv' := [(4, .int v1), (0, .ref b), (1, .int x1), (2, .int x2), (3, .int x3), (5, .int x5)]) hx hb dX2_areTied_59 hl (k := 4) rfl (by rw [ev1]; rfl) (by decide) rfl (fun ls hl => ?_)
      refine lv_goto (tgt := 5) hx hb dX2_areTied_62 (by decide) ?_
      exact hk5 t x1 x2 x3 v1 H locs hT hS ls h (lv_sub hl [1, 2, 3, 4, 0] rfl)
    · replace h := if_f c h
      refine lv_iload_n hx hb dX2_areTied_22 rfl (lv_at hl 1 rfl) ?_
      refine lv_iload hx hb dX2_areTied_23 (lv_at hl 4 rfl) ?_
      obtain ⟨v2, hv2, h⟩ := bd1_some h
      refine r_int (run_s (As := [.int x1, .int x4]) (rest := []) C (mX2_has hv2) q1659 q1660 q162 q1661 ⟨rfl, rfl⟩ hdX2_has ⟨Nat.le_of_ble_eq_true rfl, Nat.le_of_ble_eq_true rfl⟩ ⟨Nat.zero_le _, Nat.zero_le _⟩ rfl hl.1 rfl (Nat.le_of_ble_eq_true rfl) dX2_areTied_25) ?_
      refine lv_if_eq (tgt := 53) hx hb dX2_areTied_28 (by decide) (fun c => ?_) (fun c => ?_)
      · replace h := if_t c h
        exact bX2_areTied_53 C hK ih t x1 x2 x3 x4 x5 H locs hT hS ls h (lv_sub hl [0, 1, 2, 3, 4, 5] rfl)
      · replace h := if_f c h
        refine lv_iload_n hx hb dX2_areTied_31 rfl (lv_at hl 2 rfl) ?_
        refine lv_iload hx hb dX2_areTied_32 (lv_at hl 5 rfl) ?_
        obtain ⟨v3, hv3, h⟩ := bd1_some h
        refine r_int (run_s (As := [.int x2, .int x5]) (rest := []) C (mX2_has hv3) q1659 q1660 q162 q1661 ⟨rfl, rfl⟩ hdX2_has ⟨Nat.le_of_ble_eq_true rfl, Nat.le_of_ble_eq_true rfl⟩ ⟨Nat.zero_le _, Nat.zero_le _⟩ rfl hl.1 rfl (Nat.le_of_ble_eq_true rfl) dX2_areTied_34) ?_
        refine lv_if_eq (tgt := 53) hx hb dX2_areTied_37 (by decide) (fun c => ?_) (fun c => ?_)
        · replace h := if_t c h
          exact bX2_areTied_53 C hK ih t x1 x2 x3 x4 x5 H locs hT hS ls h (lv_sub hl [0, 1, 2, 3, 4, 5] rfl)
        · replace h := if_f c h
          refine lv_aload_n hx hb dX2_areTied_40 rfl (lv_at hl 0 rfl) ?_
          refine lv_iload hx hb dX2_areTied_41 (lv_at hl 4 rfl) ?_
          refine lv_iload hx hb dX2_areTied_43 (lv_at hl 5 rfl) ?_
          obtain ⟨v4, t5, ht5, h⟩ := bd2_some h
          refine w_int hS (run_t (As := [.int x4, .int x5]) (rest := []) C hK hT (mX2_tie ht5) q2007 q1650 q1651 q162 q1652 ⟨rfl, rfl⟩ hdX2_tie ⟨Nat.le_of_ble_eq_true rfl, Nat.le_of_ble_eq_true rfl⟩ ⟨Nat.zero_le _, Nat.zero_le _⟩ rfl hl.1 rfl (Nat.le_of_ble_eq_true rfl) dX2_areTied_45) (fun H locs hT hS => ?_)
          refine lv_if_eq (tgt := 53) hx hb dX2_areTied_48 (by decide) (fun c => ?_) (fun c => ?_)
          · replace h := if_t c h
            exact bX2_areTied_53 C hK ih t5 x1 x2 x3 x4 x5 H locs hT hS ls h (lv_sub hl [0, 1, 2, 3, 4, 5] rfl)
          · replace h := if_f c h
            refine lv_iconst (v := 1) hx hb dX2_areTied_51 (by decide) ?_
            refine lv_istore_n (lv' := [(3, .int (1 : Int32)), (0, .ref b), (1, .int x1), (2, .int x2), (4, .int x4), (5, .int x5)]) hx hb dX2_areTied_52 rfl hl (by decide) rfl (fun ls hl => ?_)
            exact bX2_areTied_53 C hK ih t5 x1 x2 (1 : Int32) x4 x5 H locs hT hS ls h (lv_sub hl [1, 2, 3, 0, 4, 5] rfl)
theorem bX2_areTied_5 {p : Program} {l : Launch} {e : Env} {s : State} {m : MethodId} {args : Array Value} {below : List Frame} {meth : Method} {c : Code} {D : va_G} {dA : Nat → ClassId} {b : Nat} {r : Int32} {t9 : TS} (C : cx p s m args meth c cX2_areTied RX2 6 (some .boolean)) (hK : kk D dA s) : ∀ (n : Nat), ∀ (t : TS) (x1 : Int32) (x2 : Int32) (x3 : Int32) (x4 : Int32) (H : Heap) (locs : List Loc) (hT : wd D (tw dA b t) H) (hS : tS b s.heap H locs) (ls : Array Slot), T_areTied_5 n t x1 x2 x3 x4 = some (r, t9) → lv_has ls 6 [(0, .ref b), (1, .int x1), (2, .int x2), (3, .int x3), (4, .int x4)] → W p l e rmX2_areTied s m args below meth c H locs 0 0 (MQ below (tQ D dA b t9 (some (.int r))) args s 0 0 (ta b)) (F0 m 5 ls []) := by
  obtain ⟨hx, hb, hr, hml, hown, hts, hlocks⟩ := id C
  intro n
  induction n with
  | zero =>
    intro t x1 x2 x3 x4 H locs hT hS ls h hl
    have h : none = some _ := h
    cases h
  | succ n ih =>
    intro t x1 x2 x3 x4 H locs hT hS ls h hl
    rw [T_areTied_5] at h
    refine lv_iload hx hb dX2_areTied_5 (lv_at hl 4 rfl) ?_
    refine lv_bipush (v := 26) hx hb dX2_areTied_7 (by decide) ?_
    refine lv_icmp_ge (tgt := 65) hx hb dX2_areTied_9 (by decide) (fun c => ?_) (fun c => ?_)
    · replace h := if_t c h
      refine lv_iload_n hx hb dX2_areTied_65 rfl (lv_at hl 3 rfl) ?_
      obtain ⟨hz, h⟩ := zr_some h
      exact e_wz C hT hS hz h dX2_areTied_66
    · replace h := if_f c h
      refine lv_iconst (v := 0) hx hb dX2_areTied_12 (by decide) ?_
      refine lv_istore (lv' := [(5, .int (0 : Int32)), (0, .ref b), (1, .int x1), (2, .int x2), (3, .int x3), (4, .int x4)]) hx hb dX2_areTied_13 hl (by decide) rfl (fun ls hl => ?_)
      exact bX2_areTied_15 C hK ih fu t x1 x2 x3 x4 (0 : Int32) H locs hT hS ls h (lv_sub hl [1, 2, 3, 4, 5, 0] rfl)
theorem bX2_areTied {p : Program} {l : Launch} {e : Env} {s : State} {m : MethodId} {args : Array Value} {below : List Frame} {meth : Method} {c : Code} {D : va_G} {dA : Nat → ClassId} {b : Nat} {r : Int32} {t9 : TS} (C : cx p s m args meth c cX2_areTied RX2 6 (some .boolean)) (hK : kk D dA s) : ∀ (t : TS) (x1 : Int32) (x2 : Int32) (H : Heap) (locs : List Loc) (hT : wd D (tw dA b t) H) (hS : tS b s.heap H locs) (ls : Array Slot), T_areTied t x1 x2 = some (r, t9) → lv_has ls 6 [(0, .ref b), (1, .int x1), (2, .int x2)] → W p l e rmX2_areTied s m args below meth c H locs 0 0 (MQ below (tQ D dA b t9 (some (.int r))) args s 0 0 (ta b)) (F0 m 0 ls []) := by
  obtain ⟨hx, hb, hr, hml, hown, hts, hlocks⟩ := id C
  intro t x1 x2 H locs hT hS ls h hl
  unfold T_areTied at h
  refine lv_iconst (v := 0) hx hb dX2_areTied_0 (by decide) ?_
  refine lv_istore_n (lv' := [(3, .int (0 : Int32)), (0, .ref b), (1, .int x1), (2, .int x2)]) hx hb dX2_areTied_1 rfl hl (by decide) rfl (fun ls hl => ?_)
  refine lv_iconst (v := 0) hx hb dX2_areTied_2 (by decide) ?_
  refine lv_istore (lv' := [(4, .int (0 : Int32)), (3, .int (0 : Int32)), (0, .ref b), (1, .int x1), (2, .int x2)]) hx hb dX2_areTied_3 hl (by decide) rfl (fun ls hl => ?_)
  exact bX2_areTied_5 C hK fu t x1 x2 (0 : Int32) (0 : Int32) H locs hT hS ls h (lv_sub hl [2, 3, 4, 1, 0] rfl)
theorem mX2_areTied {l : Launch} {D : va_G} {dA : Nat → ClassId} {b : Nat} {t : TS} {x1 : Int32} {x2 : Int32} {r : Int32} {t9 : TS} (h : T_areTied t x1 x2 = some (r, t9)) : Met l yX2_areTied (ws_ yX2_areTied cX2_areTied 6 (some .boolean)) rmX2_areTied (tPc D dA b t [.ref b, .int x1, .int x2]) (tQ D dA b t9 (some (.int r))) 0 0 (ta b) := en_R (by decide +kernel) rfl (Nat.le_of_ble_eq_true rfl) (fun p e s m below meth c ls C hK hT hl => bX2_areTied C hK t x1 x2 _ [] hT tS.rf ls h hl)
set_option maxRecDepth 20000 in
abbrev rmX2_isSpoken : Room := { frames := 1, cells := 0, slots := 0, locals := 22 }
theorem hdX2_isSpoken : yX2_isSpoken.cls = RX2 ∧ yX2_isSpoken.cls ≠ "java/lang/invoke/MethodHandle" ∧ yX2_isSpoken.cls ≠ "java/lang/invoke/VarHandle" ∧ (parseMethodDescriptor yX2_isSpoken.desc).map (fun d => d.parameters.length) = some 1 := by decide +kernel
theorem bX2_isSpoken_14 {p : Program} {l : Launch} {e : Env} {s : State} {m : MethodId} {args : Array Value} {below : List Frame} {meth : Method} {c : Code} {D : va_G} {dA : Nat → ClassId} {b : Nat} {r : Int32} {t9 : TS} (C : cx p s m args meth c cX2_isSpoken RX2 3 (some .boolean)) (hK : kk D dA s) : ∀ (n : Nat), ∀ (t : TS) (x1 : Int32) (x2 : Int32) (H : Heap) (locs : List Loc) (hT : wd D (tw dA b t) H) (hS : tS b s.heap H locs) (ls : Array Slot), T_isSpoken_14 n t x1 x2 = some (r, t9) → lv_has ls 3 [(0, .ref b), (1, .int x1), (2, .int x2)] → W p l e rmX2_isSpoken s m args below meth c H locs 0 0 (MQ below (tQ D dA b t9 (some (.int r))) args s 0 0 (ta b)) (F0 m 14 ls []) := by
  obtain ⟨hx, hb, hr, hml, hown, hts, hlocks⟩ := id C
  intro n
  induction n with
  | zero =>
    intro t x1 x2 H locs hT hS ls h hl
    have h : none = some _ := h
    cases h
  | succ n ih =>
    intro t x1 x2 H locs hT hS ls h hl
    rw [T_isSpoken_14] at h
    refine lv_iload_n hx hb dX2_isSpoken_14 rfl (lv_at hl 2 rfl) ?_
    refine lv_aload_n hx hb dX2_isSpoken_15 rfl (lv_at hl 0 rfl) ?_
    refine tg6 C hK hT dX2_isSpoken_16 ?_
    refine lv_icmp_ge (tgt := 44) hx hb dX2_isSpoken_19 (by decide) (fun c => ?_) (fun c => ?_)
    · replace h := if_t c h
      refine lv_aload_n hx hb dX2_isSpoken_44 rfl (lv_at hl 0 rfl) ?_
      obtain ⟨v1, t2, ht2, h⟩ := bd2_some h
      refine w_int hS (run_t (As := []) (rest := []) C hK hT (mX2_sayNow ht2) q1691 q1693 qs73 q162 q1694 ⟨rfl, rfl⟩ hdX2_sayNow ⟨Nat.le_of_ble_eq_true rfl, Nat.le_of_ble_eq_true rfl⟩ ⟨Nat.zero_le _, Nat.zero_le _⟩ rfl hl.1 rfl (Nat.le_of_ble_eq_true rfl) dX2_isSpoken_45) (fun H locs hT hS => ?_)
      refine lv_if_lt (tgt := 55) hx hb dX2_isSpoken_48 (by decide) (fun c => ?_) (fun c => ?_)
      · replace h := if_t c h
        refine lv_iconst (v := 0) hx hb dX2_isSpoken_55 (by decide) ?_
        exact e_wz C hT hS (Or.inl rfl) h dX2_isSpoken_56
      · replace h := if_f c h
        refine lv_iconst (v := 1) hx hb dX2_isSpoken_51 (by decide) ?_
        refine lv_goto (tgt := 56) hx hb dX2_isSpoken_52 (by decide) ?_
        exact e_wz C hT hS (Or.inr rfl) h dX2_isSpoken_56
    · replace h := if_f c h
      refine lv_aload_n hx hb dX2_isSpoken_22 rfl (lv_at hl 0 rfl) ?_
      refine tg5 C hK hT dX2_isSpoken_23 ?_
      refine lv_iload_n hx hb dX2_isSpoken_26 rfl (lv_at hl 2 rfl) ?_
      refine lv_aload_n hx hb dX2_isSpoken_27 rfl (lv_at hl 0 rfl) ?_
      refine tg2 C hK hT dX2_isSpoken_28 ?_
      refine lv_iload_n hx hb dX2_isSpoken_31 rfl (lv_at hl 1 rfl) ?_
      refine lv_iconst (v := 2) hx hb dX2_isSpoken_32 (by decide) ?_
      refine lv_iadd hx hb dX2_isSpoken_33 ?_
      refine lv_iload_n hx hb dX2_isSpoken_34 rfl (lv_at hl 2 rfl) ?_
      refine lv_iadd hx hb dX2_isSpoken_35 ?_
      obtain ⟨hi, h⟩ := ck_some h
      refine tl2 C hK hT hi dX2_isSpoken_36 ?_
      obtain ⟨hi, h⟩ := ck_some h
      refine ts5 C hK hT hS hi dX2_isSpoken_37 (fun t3 H locs et3 hT hS => ?_)
      replace h := lt1_sub et3 h
      obtain ⟨v4, ev4⟩ : ∃ y : Int32, y = x2 + (1 : Int32) := ⟨_, rfl⟩
      replace h := lt1_sub ev4 h
      refine lv_iinc (v := v4) (lv' := [(2, .int v4), (0, .ref b), (1, .int x1)]) hx hb dX2_isSpoken_38 hl (k := 2) rfl (by rw [ev4]; rfl) (by decide) rfl (fun ls hl => ?_)
      refine lv_goto (tgt := 14) hx hb dX2_isSpoken_41 (by decide) ?_
      exact ih t3 x1 v4 H locs hT hS ls h (lv_sub hl [1, 2, 0] rfl)
theorem bX2_isSpoken {p : Program} {l : Launch} {e : Env} {s : State} {m : MethodId} {args : Array Value} {below : List Frame} {meth : Method} {c : Code} {D : va_G} {dA : Nat → ClassId} {b : Nat} {r : Int32} {t9 : TS} (C : cx p s m args meth c cX2_isSpoken RX2 3 (some .boolean)) (hK : kk D dA s) : ∀ (t : TS) (x1 : Int32) (H : Heap) (locs : List Loc) (hT : wd D (tw dA b t) H) (hS : tS b s.heap H locs) (ls : Array Slot), T_isSpoken t x1 = some (r, t9) → lv_has ls 3 [(0, .ref b), (1, .int x1)] → W p l e rmX2_isSpoken s m args below meth c H locs 0 0 (MQ below (tQ D dA b t9 (some (.int r))) args s 0 0 (ta b)) (F0 m 0 ls []) := by
  obtain ⟨hx, hb, hr, hml, hown, hts, hlocks⟩ := id C
  intro t x1 H locs hT hS ls h hl
  unfold T_isSpoken at h
  refine lv_aload_n hx hb dX2_isSpoken_0 rfl (lv_at hl 0 rfl) ?_
  refine lv_aload_n hx hb dX2_isSpoken_1 rfl (lv_at hl 0 rfl) ?_
  refine tg2 C hK hT dX2_isSpoken_2 ?_
  refine lv_iload_n hx hb dX2_isSpoken_5 rfl (lv_at hl 1 rfl) ?_
  refine lv_iconst (v := 1) hx hb dX2_isSpoken_6 (by decide) ?_
  refine lv_iadd hx hb dX2_isSpoken_7 ?_
  obtain ⟨hi, h⟩ := ck_some h
  refine tl2 C hK hT hi dX2_isSpoken_8 ?_
  refine tp6 C hK hT hS dX2_isSpoken_9 (fun t1 H locs et1 hT hS => ?_)
  replace h := lt1_sub et1 h
  refine lv_iconst (v := 0) hx hb dX2_isSpoken_12 (by decide) ?_
  refine lv_istore_n (lv' := [(2, .int (0 : Int32)), (0, .ref b), (1, .int x1)]) hx hb dX2_isSpoken_13 rfl hl (by decide) rfl (fun ls hl => ?_)
  exact bX2_isSpoken_14 C hK fu t1 x1 (0 : Int32) H locs hT hS ls h (lv_sub hl [1, 2, 0] rfl)
theorem mX2_isSpoken {l : Launch} {D : va_G} {dA : Nat → ClassId} {b : Nat} {t : TS} {x1 : Int32} {r : Int32} {t9 : TS} (h : T_isSpoken t x1 = some (r, t9)) : Met l yX2_isSpoken (ws_ yX2_isSpoken cX2_isSpoken 3 (some .boolean)) rmX2_isSpoken (tPc D dA b t [.ref b, .int x1]) (tQ D dA b t9 (some (.int r))) 0 0 (ta b) := en_R (by decide +kernel) rfl (Nat.le_of_ble_eq_true rfl) (fun p e s m below meth c ls C hK hT hl => bX2_isSpoken C hK t x1 _ [] hT tS.rf ls h hl)
set_option maxRecDepth 20000 in
abbrev rmX2_isTaught : Room := { frames := 3, cells := 0, slots := 0, locals := 68 }
theorem hdX2_isTaught : yX2_isTaught.cls = RX2 ∧ yX2_isTaught.cls ≠ "java/lang/invoke/MethodHandle" ∧ yX2_isTaught.cls ≠ "java/lang/invoke/VarHandle" ∧ (parseMethodDescriptor yX2_isTaught.desc).map (fun d => d.parameters.length) = some 1 := by decide +kernel
theorem bX2_isTaught_65 {p : Program} {l : Launch} {e : Env} {s : State} {m : MethodId} {args : Array Value} {below : List Frame} {meth : Method} {c : Code} {D : va_G} {dA : Nat → ClassId} {b : Nat} {r : Int32} {t9 : TS} (C : cx p s m args meth c cX2_isTaught RX2 2 (some .boolean)) (hK : kk D dA s) : ∀ (t : TS) (x1 : Int32) (H : Heap) (locs : List Loc) (hT : wd D (tw dA b t) H) (hS : tS b s.heap H locs) (ls : Array Slot), T_isTaught_65 t x1 = some (r, t9) → lv_has ls 2 [(0, .ref b), (1, .int x1)] → W p l e rmX2_isTaught s m args below meth c H locs 0 0 (MQ below (tQ D dA b t9 (some (.int r))) args s 0 0 (ta b)) (F0 m 65 ls []) := by
  obtain ⟨hx, hb, hr, hml, hown, hts, hlocks⟩ := id C
  intro t x1 H locs hT hS ls h hl
  unfold T_isTaught_65 at h
  refine lv_aload_n hx hb dX2_isTaught_65 rfl (lv_at hl 0 rfl) ?_
  refine lv_aload_n hx hb dX2_isTaught_66 rfl (lv_at hl 0 rfl) ?_
  refine tg2 C hK hT dX2_isTaught_67 ?_
  refine lv_iload_n hx hb dX2_isTaught_70 rfl (lv_at hl 1 rfl) ?_
  refine lv_iconst (v := 2) hx hb dX2_isTaught_71 (by decide) ?_
  refine lv_iadd hx hb dX2_isTaught_72 ?_
  obtain ⟨hi, h⟩ := ck_some h
  refine tl2 C hK hT hi dX2_isTaught_73 ?_
  obtain ⟨v1, t2, ht2, h⟩ := bd2_some h
  refine w_int hS (run_t (As := [.int (t.1 2 (x1 + (2 : Int32)).toNatClampNeg)]) (rest := []) C hK hT (mX2_wordNow ht2) q1670 q1672 qs69 q162 q1673 ⟨rfl, rfl⟩ hdX2_wordNow ⟨Nat.le_of_ble_eq_true rfl, Nat.le_of_ble_eq_true rfl⟩ ⟨Nat.zero_le _, Nat.zero_le _⟩ rfl hl.1 rfl (Nat.le_of_ble_eq_true rfl) dX2_isTaught_74) (fun H locs hT hS => ?_)
  refine lv_if_lt (tgt := 84) hx hb dX2_isTaught_77 (by decide) (fun c => ?_) (fun c => ?_)
  · replace h := if_t c h
    refine lv_iconst (v := 0) hx hb dX2_isTaught_84 (by decide) ?_
    exact e_wz C hT hS (Or.inl rfl) h dX2_isTaught_85
  · replace h := if_f c h
    refine lv_iconst (v := 1) hx hb dX2_isTaught_80 (by decide) ?_
    refine lv_goto (tgt := 85) hx hb dX2_isTaught_81 (by decide) ?_
    exact e_wz C hT hS (Or.inr rfl) h dX2_isTaught_85
theorem bX2_isTaught_5 {p : Program} {l : Launch} {e : Env} {s : State} {m : MethodId} {args : Array Value} {below : List Frame} {meth : Method} {c : Code} {D : va_G} {dA : Nat → ClassId} {b : Nat} {r : Int32} {t9 : TS} (C : cx p s m args meth c cX2_isTaught RX2 2 (some .boolean)) (hK : kk D dA s) : ∀ (n : Nat), ∀ (t : TS) (x1 : Int32) (H : Heap) (locs : List Loc) (hT : wd D (tw dA b t) H) (hS : tS b s.heap H locs) (ls : Array Slot), T_isTaught_5 n t x1 = some (r, t9) → lv_has ls 2 [(0, .ref b), (1, .int x1)] → W p l e rmX2_isTaught s m args below meth c H locs 0 0 (MQ below (tQ D dA b t9 (some (.int r))) args s 0 0 (ta b)) (F0 m 5 ls []) := by
  obtain ⟨hx, hb, hr, hml, hown, hts, hlocks⟩ := id C
  intro n
  induction n with
  | zero =>
    intro t x1 H locs hT hS ls h hl
    have h : none = some _ := h
    cases h
  | succ n ih =>
    intro t x1 H locs hT hS ls h hl
    rw [T_isTaught_5] at h
    refine lv_aload_n hx hb dX2_isTaught_5 rfl (lv_at hl 0 rfl) ?_
    refine tg4 C hK hT dX2_isTaught_6 ?_
    refine lv_bipush (v := 8) hx hb dX2_isTaught_9 (by decide) ?_
    refine lv_icmp_ge (tgt := 65) hx hb dX2_isTaught_11 (by decide) (fun c => ?_) (fun c => ?_)
    · replace h := if_t c h
      exact bX2_isTaught_65 C hK t x1 H locs hT hS ls h (lv_sub hl [0, 1] rfl)
    · replace h := if_f c h
      refine lv_aload_n hx hb dX2_isTaught_14 rfl (lv_at hl 0 rfl) ?_
      refine tg2 C hK hT dX2_isTaught_15 ?_
      refine lv_iload_n hx hb dX2_isTaught_18 rfl (lv_at hl 1 rfl) ?_
      refine lv_iconst (v := 3) hx hb dX2_isTaught_19 (by decide) ?_
      refine lv_iadd hx hb dX2_isTaught_20 ?_
      refine lv_aload_n hx hb dX2_isTaught_21 rfl (lv_at hl 0 rfl) ?_
      refine tg4 C hK hT dX2_isTaught_22 ?_
      refine lv_iadd hx hb dX2_isTaught_25 ?_
      obtain ⟨hi, h⟩ := ck_some h
      refine tl2 C hK hT hi dX2_isTaught_26 ?_
      refine lv_if_lt (tgt := 65) hx hb dX2_isTaught_27 (by decide) (fun c => ?_) (fun c => ?_)
      · replace h := if_t c h
        exact bX2_isTaught_65 C hK t x1 H locs hT hS ls h (lv_sub hl [0, 1] rfl)
      · replace h := if_f c h
        refine lv_aload_n hx hb dX2_isTaught_30 rfl (lv_at hl 0 rfl) ?_
        refine tg3 C hK hT dX2_isTaught_31 ?_
        refine lv_aload_n hx hb dX2_isTaught_34 rfl (lv_at hl 0 rfl) ?_
        refine tg4 C hK hT dX2_isTaught_35 ?_
        refine lv_aload_n hx hb dX2_isTaught_38 rfl (lv_at hl 0 rfl) ?_
        refine tg2 C hK hT dX2_isTaught_39 ?_
        refine lv_iload_n hx hb dX2_isTaught_42 rfl (lv_at hl 1 rfl) ?_
        refine lv_iconst (v := 3) hx hb dX2_isTaught_43 (by decide) ?_
        refine lv_iadd hx hb dX2_isTaught_44 ?_
        refine lv_aload_n hx hb dX2_isTaught_45 rfl (lv_at hl 0 rfl) ?_
        refine tg4 C hK hT dX2_isTaught_46 ?_
        refine lv_iadd hx hb dX2_isTaught_49 ?_
        obtain ⟨hi, h⟩ := ck_some h
        refine tl2 C hK hT hi dX2_isTaught_50 ?_
        obtain ⟨hi, h⟩ := ck_some h
        refine ts3 C hK hT hS hi dX2_isTaught_51 (fun t1 H locs et1 hT hS => ?_)
        replace h := lt1_sub et1 h
        refine lv_aload_n hx hb dX2_isTaught_52 rfl (lv_at hl 0 rfl) ?_
        refine lv_dup hx hb dX2_isTaught_53 rfl ?_
        refine tg4 C hK hT dX2_isTaught_54 ?_
        refine lv_iconst (v := 1) hx hb dX2_isTaught_57 (by decide) ?_
        refine lv_iadd hx hb dX2_isTaught_58 ?_
        refine tp4 C hK hT hS dX2_isTaught_59 (fun t2 H locs et2 hT hS => ?_)
        replace h := lt1_sub et2 h
        refine lv_goto (tgt := 5) hx hb dX2_isTaught_62 (by decide) ?_
        exact ih t2 x1 H locs hT hS ls h (lv_sub hl [0, 1] rfl)
theorem bX2_isTaught {p : Program} {l : Launch} {e : Env} {s : State} {m : MethodId} {args : Array Value} {below : List Frame} {meth : Method} {c : Code} {D : va_G} {dA : Nat → ClassId} {b : Nat} {r : Int32} {t9 : TS} (C : cx p s m args meth c cX2_isTaught RX2 2 (some .boolean)) (hK : kk D dA s) : ∀ (t : TS) (x1 : Int32) (H : Heap) (locs : List Loc) (hT : wd D (tw dA b t) H) (hS : tS b s.heap H locs) (ls : Array Slot), T_isTaught t x1 = some (r, t9) → lv_has ls 2 [(0, .ref b), (1, .int x1)] → W p l e rmX2_isTaught s m args below meth c H locs 0 0 (MQ below (tQ D dA b t9 (some (.int r))) args s 0 0 (ta b)) (F0 m 0 ls []) := by
  obtain ⟨hx, hb, hr, hml, hown, hts, hlocks⟩ := id C
  intro t x1 H locs hT hS ls h hl
  unfold T_isTaught at h
  refine lv_aload_n hx hb dX2_isTaught_0 rfl (lv_at hl 0 rfl) ?_
  refine lv_iconst (v := 0) hx hb dX2_isTaught_1 (by decide) ?_
  refine tp4 C hK hT hS dX2_isTaught_2 (fun t1 H locs et1 hT hS => ?_)
  replace h := lt1_sub et1 h
  exact bX2_isTaught_5 C hK fu t1 x1 H locs hT hS ls h (lv_sub hl [0, 1] rfl)
theorem mX2_isTaught {l : Launch} {D : va_G} {dA : Nat → ClassId} {b : Nat} {t : TS} {x1 : Int32} {r : Int32} {t9 : TS} (h : T_isTaught t x1 = some (r, t9)) : Met l yX2_isTaught (ws_ yX2_isTaught cX2_isTaught 2 (some .boolean)) rmX2_isTaught (tPc D dA b t [.ref b, .int x1]) (tQ D dA b t9 (some (.int r))) 0 0 (ta b) := en_R (by decide +kernel) rfl (Nat.le_of_ble_eq_true rfl) (fun p e s m below meth c ls C hK hT hl => bX2_isTaught C hK t x1 _ [] hT tS.rf ls h hl)
set_option maxRecDepth 20000 in
abbrev rmX2_isPlayed : Room := { frames := 7, cells := 0, slots := 0, locals := 161 }
theorem hdX2_isPlayed : yX2_isPlayed.cls = RX2 ∧ yX2_isPlayed.cls ≠ "java/lang/invoke/MethodHandle" ∧ yX2_isPlayed.cls ≠ "java/lang/invoke/VarHandle" ∧ (parseMethodDescriptor yX2_isPlayed.desc).map (fun d => d.parameters.length) = some 1 := by decide +kernel
theorem bX2_isPlayed {p : Program} {l : Launch} {e : Env} {s : State} {m : MethodId} {args : Array Value} {below : List Frame} {meth : Method} {c : Code} {D : va_G} {dA : Nat → ClassId} {b : Nat} {r : Int32} {t9 : TS} (C : cx p s m args meth c cX2_isPlayed RX2 4 (some .boolean)) (hK : kk D dA s) : ∀ (t : TS) (x1 : Int32) (H : Heap) (locs : List Loc) (hT : wd D (tw dA b t) H) (hS : tS b s.heap H locs) (ls : Array Slot), T_isPlayed t x1 = some (r, t9) → lv_has ls 4 [(0, .ref b), (1, .int x1)] → W p l e rmX2_isPlayed s m args below meth c H locs 0 0 (MQ below (tQ D dA b t9 (some (.int r))) args s 0 0 (ta b)) (F0 m 0 ls []) := by
  obtain ⟨hx, hb, hr, hml, hown, hts, hlocks⟩ := id C
  intro t x1 H locs hT hS ls h hl
  unfold T_isPlayed at h
  refine lv_aload_n hx hb dX2_isPlayed_0 rfl (lv_at hl 0 rfl) ?_
  refine tg2 C hK hT dX2_isPlayed_1 ?_
  refine lv_iload_n hx hb dX2_isPlayed_4 rfl (lv_at hl 1 rfl) ?_
  refine lv_iconst (v := 1) hx hb dX2_isPlayed_5 (by decide) ?_
  refine lv_iadd hx hb dX2_isPlayed_6 ?_
  obtain ⟨hi, h⟩ := ck_some h
  refine tl2 C hK hT hi dX2_isPlayed_7 ?_
  refine lv_topi (fun v1 ev1 => ?_)
  replace h := lt1_sub ev1 h
  refine lv_istore_n (lv' := [(2, .int v1), (0, .ref b), (1, .int x1)]) hx hb dX2_isPlayed_8 rfl hl (by decide) rfl (fun ls hl => ?_)
  refine lv_aload_n hx hb dX2_isPlayed_9 rfl (lv_at hl 1 rfl) ?_
  refine tg2 C hK hT dX2_isPlayed_10 ?_
  refine lv_iload_n hx hb dX2_isPlayed_13 rfl (lv_at hl 2 rfl) ?_
  refine lv_iconst (v := 2) hx hb dX2_isPlayed_14 (by decide) ?_
  refine lv_iadd hx hb dX2_isPlayed_15 ?_
  obtain ⟨hi, h⟩ := ck_some h
  refine tl2 C hK hT hi dX2_isPlayed_16 ?_
  refine lv_topi (fun v2 ev2 => ?_)
  replace h := lt1_sub ev2 h
  refine lv_istore_n (lv' := [(3, .int v2), (2, .int v1), (0, .ref b), (1, .int x1)]) hx hb dX2_isPlayed_17 rfl hl (by decide) rfl (fun ls hl => ?_)
  refine lv_aload_n hx hb dX2_isPlayed_18 rfl (lv_at hl 2 rfl) ?_
  refine tg2 C hK hT dX2_isPlayed_19 ?_
  refine lv_iload_n hx hb dX2_isPlayed_22 rfl (lv_at hl 3 rfl) ?_
  obtain ⟨hi, h⟩ := ck_some h
  refine tl2 C hK hT hi dX2_isPlayed_23 ?_
  refine lv_topi (fun v3 ev3 => ?_)
  replace h := lt1_sub ev3 h
  by_cases c : v3 = (4 : Int32)
  · replace h := if_t c h
    rw [c]
    refine lv_tableIn (off := 52) (tgt := 76) hx hb dX2_isPlayed_24 (by decide) (by decide) rfl (by decide) ?_
    refine lv_aload_n hx hb dX2_isPlayed_76 rfl (lv_at hl 2 rfl) ?_
    refine lv_iload_n hx hb dX2_isPlayed_77 rfl (lv_at hl 3 rfl) ?_
    obtain ⟨v4, t5, ht5, h⟩ := bd2_some h
    refine w_int hS (run_t (As := [.int x1]) (rest := []) C hK hT (mX2_isTaught ht5) q1995 q1997 qs125 q162 q1998 ⟨rfl, rfl⟩ hdX2_isTaught ⟨Nat.le_of_ble_eq_true rfl, Nat.le_of_ble_eq_true rfl⟩ ⟨Nat.zero_le _, Nat.zero_le _⟩ rfl hl.1 rfl (Nat.le_of_ble_eq_true rfl) dX2_isPlayed_78) (fun H locs hT hS => ?_)
    obtain ⟨hz, h⟩ := zr_some h
    exact e_wz C hT hS hz h dX2_isPlayed_81
  replace h := if_f c h
  have g0 := tI_ne (k := 4) (by decide) c
  by_cases c : v3 = (5 : Int32)
  · replace h := if_t c h
    rw [c]
    refine lv_tableIn (off := 58) (tgt := 82) hx hb dX2_isPlayed_24 (by decide) (by decide) rfl (by decide) ?_
    refine lv_aload_n hx hb dX2_isPlayed_82 rfl (lv_at hl 2 rfl) ?_
    refine lv_iload_n hx hb dX2_isPlayed_83 rfl (lv_at hl 3 rfl) ?_
    obtain ⟨v6, t7, ht7, h⟩ := bd2_some h
    refine w_int hS (run_t (As := [.int x1]) (rest := []) C hK hT (mX2_isSpoken ht7) q1999 q2001 qs126 q162 q2002 ⟨rfl, rfl⟩ hdX2_isSpoken ⟨Nat.le_of_ble_eq_true rfl, Nat.le_of_ble_eq_true rfl⟩ ⟨Nat.zero_le _, Nat.zero_le _⟩ rfl hl.1 rfl (Nat.le_of_ble_eq_true rfl) dX2_isPlayed_84) (fun H locs hT hS => ?_)
    obtain ⟨hz, h⟩ := zr_some h
    exact e_wz C hT hS hz h dX2_isPlayed_87
  replace h := if_f c h
  have g1 := tI_ne (k := 5) (by decide) c
  by_cases c : v3 = (6 : Int32)
  · replace h := if_t c h
    rw [c]
    refine lv_tableIn (off := 64) (tgt := 88) hx hb dX2_isPlayed_24 (by decide) (by decide) rfl (by decide) ?_
    refine lv_aload_n hx hb dX2_isPlayed_88 rfl (lv_at hl 2 rfl) ?_
    refine lv_iload_n hx hb dX2_isPlayed_89 rfl (lv_at hl 1 rfl) ?_
    refine lv_iload_n hx hb dX2_isPlayed_90 rfl (lv_at hl 0 rfl) ?_
    obtain ⟨v8, t9, ht9, h⟩ := bd2_some h
    refine w_int hS (run_t (As := [.int v1, .int v2]) (rest := []) C hK hT (mX2_areTied ht9) q2003 q2005 qs127 q162 q2006 ⟨rfl, rfl⟩ hdX2_areTied ⟨Nat.le_of_ble_eq_true rfl, Nat.le_of_ble_eq_true rfl⟩ ⟨Nat.zero_le _, Nat.zero_le _⟩ rfl hl.1 rfl (Nat.le_of_ble_eq_true rfl) dX2_isPlayed_91) (fun H locs hT hS => ?_)
    obtain ⟨hz, h⟩ := zr_some h
    exact e_wz C hT hS hz h dX2_isPlayed_94
  replace h := if_f c h
  have g2 := tI_ne (k := 6) (by decide) c
  by_cases c : v3 = (7 : Int32)
  · replace h := if_t c h
    rw [c]
    refine lv_tableIn (off := 71) (tgt := 95) hx hb dX2_isPlayed_24 (by decide) (by decide) rfl (by decide) ?_
    refine lv_aload_n hx hb dX2_isPlayed_95 rfl (lv_at hl 2 rfl) ?_
    refine lv_iload_n hx hb dX2_isPlayed_96 rfl (lv_at hl 1 rfl) ?_
    obtain ⟨v10, t11, ht11, h⟩ := bd2_some h
    refine w_int hS (run_t (As := [.int v1]) (rest := []) C hK hT (mX2_strike ht11) q2008 q1932 q1933 q162 q1934 ⟨rfl, rfl⟩ hdX2_strike ⟨Nat.le_of_ble_eq_true rfl, Nat.le_of_ble_eq_true rfl⟩ ⟨Nat.zero_le _, Nat.zero_le _⟩ rfl hl.1 rfl (Nat.le_of_ble_eq_true rfl) dX2_isPlayed_97) (fun H locs hT hS => ?_)
    refine lv_if_lt (tgt := 107) hx hb dX2_isPlayed_100 (by decide) (fun c => ?_) (fun c => ?_)
    · replace h := if_t c h
      refine lv_iconst (v := 0) hx hb dX2_isPlayed_107 (by decide) ?_
      exact e_wz C hT hS (Or.inl rfl) h dX2_isPlayed_108
    · replace h := if_f c h
      refine lv_iconst (v := 1) hx hb dX2_isPlayed_103 (by decide) ?_
      refine lv_goto (tgt := 108) hx hb dX2_isPlayed_104 (by decide) ?_
      exact e_wz C hT hS (Or.inr rfl) h dX2_isPlayed_108
  replace h := if_f c h
  have g3 := tI_ne (k := 7) (by decide) c
  by_cases c : v3 = (8 : Int32)
  · replace h := if_t c h
    rw [c]
    refine lv_tableIn (off := 85) (tgt := 109) hx hb dX2_isPlayed_24 (by decide) (by decide) rfl (by decide) ?_
    refine lv_aload_n hx hb dX2_isPlayed_109 rfl (lv_at hl 2 rfl) ?_
    refine lv_iload_n hx hb dX2_isPlayed_110 rfl (lv_at hl 1 rfl) ?_
    obtain ⟨v12, t13, ht13, h⟩ := bd2_some h
    refine w_int hS (run_t (As := [.int v1]) (rest := []) C hK hT (mX2_comeBack ht13) q2009 q1944 q1945 q162 q1946 ⟨rfl, rfl⟩ hdX2_comeBack ⟨Nat.le_of_ble_eq_true rfl, Nat.le_of_ble_eq_true rfl⟩ ⟨Nat.zero_le _, Nat.zero_le _⟩ rfl hl.1 rfl (Nat.le_of_ble_eq_true rfl) dX2_isPlayed_111) (fun H locs hT hS => ?_)
    refine lv_if_lt (tgt := 121) hx hb dX2_isPlayed_114 (by decide) (fun c => ?_) (fun c => ?_)
    · replace h := if_t c h
      refine lv_iconst (v := 0) hx hb dX2_isPlayed_121 (by decide) ?_
      exact e_wz C hT hS (Or.inl rfl) h dX2_isPlayed_122
    · replace h := if_f c h
      refine lv_iconst (v := 1) hx hb dX2_isPlayed_117 (by decide) ?_
      refine lv_goto (tgt := 122) hx hb dX2_isPlayed_118 (by decide) ?_
      exact e_wz C hT hS (Or.inr rfl) h dX2_isPlayed_122
  replace h := if_f c h
  have g4 := tI_ne (k := 8) (by decide) c
  by_cases c : v3 = (9 : Int32)
  · replace h := if_t c h
    rw [c]
    refine lv_tableIn (off := 99) (tgt := 123) hx hb dX2_isPlayed_24 (by decide) (by decide) rfl (by decide) ?_
    refine lv_aload_n hx hb dX2_isPlayed_123 rfl (lv_at hl 2 rfl) ?_
    refine lv_iload_n hx hb dX2_isPlayed_124 rfl (lv_at hl 1 rfl) ?_
    refine lv_iload_n hx hb dX2_isPlayed_125 rfl (lv_at hl 0 rfl) ?_
    obtain ⟨v14, t15, ht15, h⟩ := bd2_some h
    refine w_int hS (run_t (As := [.int v1, .int v2]) (rest := []) C hK hT (mX2_areRaised ht15) q2010 q2012 qs128 q162 q2013 ⟨rfl, rfl⟩ hdX2_areRaised ⟨Nat.le_of_ble_eq_true rfl, Nat.le_of_ble_eq_true rfl⟩ ⟨Nat.zero_le _, Nat.zero_le _⟩ rfl hl.1 rfl (Nat.le_of_ble_eq_true rfl) dX2_isPlayed_126) (fun H locs hT hS => ?_)
    obtain ⟨hz, h⟩ := zr_some h
    exact e_wz C hT hS hz h dX2_isPlayed_129
  replace h := if_f c h
  have g5 := tI_ne (k := 9) (by decide) c
  by_cases c : v3 = (10 : Int32)
  · replace h := if_t c h
    rw [c]
    refine lv_tableIn (off := 106) (tgt := 130) hx hb dX2_isPlayed_24 (by decide) (by decide) rfl (by decide) ?_
    refine lv_aload_n hx hb dX2_isPlayed_130 rfl (lv_at hl 2 rfl) ?_
    refine lv_iload_n hx hb dX2_isPlayed_131 rfl (lv_at hl 1 rfl) ?_
    refine lv_iload_n hx hb dX2_isPlayed_132 rfl (lv_at hl 0 rfl) ?_
    obtain ⟨v16, t17, ht17, h⟩ := bd2_some h
    refine w_int hS (run_t (As := [.int v1, .int v2]) (rest := []) C hK hT (mX2_areSigned ht17) q2015 q2017 qs129 q162 q2018 ⟨rfl, rfl⟩ hdX2_areSigned ⟨Nat.le_of_ble_eq_true rfl, Nat.le_of_ble_eq_true rfl⟩ ⟨Nat.zero_le _, Nat.zero_le _⟩ rfl hl.1 rfl (Nat.le_of_ble_eq_true rfl) dX2_isPlayed_133) (fun H locs hT hS => ?_)
    obtain ⟨hz, h⟩ := zr_some h
    exact e_wz C hT hS hz h dX2_isPlayed_136
  replace h := if_f c h
  have g6 := tI_ne (k := 10) (by decide) c
  by_cases c : v3 = (11 : Int32)
  · replace h := if_t c h
    rw [c]
    refine lv_tableIn (off := 113) (tgt := 137) hx hb dX2_isPlayed_24 (by decide) (by decide) rfl (by decide) ?_
    refine lv_aload_n hx hb dX2_isPlayed_137 rfl (lv_at hl 2 rfl) ?_
    refine lv_iload_n hx hb dX2_isPlayed_138 rfl (lv_at hl 1 rfl) ?_
    obtain ⟨v18, t19, ht19, h⟩ := bd2_some h
    refine w_int hS (run_t (As := [.int v1]) (rest := []) C hK hT (mX2_contract ht19) q2020 q1956 q1957 q162 q1958 ⟨rfl, rfl⟩ hdX2_contract ⟨Nat.le_of_ble_eq_true rfl, Nat.le_of_ble_eq_true rfl⟩ ⟨Nat.zero_le _, Nat.zero_le _⟩ rfl hl.1 rfl (Nat.le_of_ble_eq_true rfl) dX2_isPlayed_139) (fun H locs hT hS => ?_)
    refine lv_if_lt (tgt := 149) hx hb dX2_isPlayed_142 (by decide) (fun c => ?_) (fun c => ?_)
    · replace h := if_t c h
      refine lv_iconst (v := 0) hx hb dX2_isPlayed_149 (by decide) ?_
      exact e_wz C hT hS (Or.inl rfl) h dX2_isPlayed_150
    · replace h := if_f c h
      refine lv_iconst (v := 1) hx hb dX2_isPlayed_145 (by decide) ?_
      refine lv_goto (tgt := 150) hx hb dX2_isPlayed_146 (by decide) ?_
      exact e_wz C hT hS (Or.inr rfl) h dX2_isPlayed_150
  replace h := if_f c h
  have g7 := tI_ne (k := 11) (by decide) c
  by_cases c : v3 = (12 : Int32)
  · replace h := if_t c h
    rw [c]
    refine lv_tableIn (off := 127) (tgt := 151) hx hb dX2_isPlayed_24 (by decide) (by decide) rfl (by decide) ?_
    refine lv_aload_n hx hb dX2_isPlayed_151 rfl (lv_at hl 2 rfl) ?_
    refine lv_iload_n hx hb dX2_isPlayed_152 rfl (lv_at hl 1 rfl) ?_
    obtain ⟨v20, t21, ht21, h⟩ := bd2_some h
    refine w_int hS (run_t (As := [.int v1]) (rest := []) C hK hT (mX2_areMornings ht21) q2021 q2023 qs130 q162 q2024 ⟨rfl, rfl⟩ hdX2_areMornings ⟨Nat.le_of_ble_eq_true rfl, Nat.le_of_ble_eq_true rfl⟩ ⟨Nat.zero_le _, Nat.zero_le _⟩ rfl hl.1 rfl (Nat.le_of_ble_eq_true rfl) dX2_isPlayed_153) (fun H locs hT hS => ?_)
    obtain ⟨hz, h⟩ := zr_some h
    exact e_wz C hT hS hz h dX2_isPlayed_156
  replace h := if_f c h
  have g8 := tI_ne (k := 12) (by decide) c
  refine lv_tableOut (tgt := 157) hx hb dX2_isPlayed_24 (by omega) (by decide) ?_
  refine lv_iconst (v := 1) hx hb dX2_isPlayed_157 (by decide) ?_
  exact e_wz C hT hS (Or.inr rfl) h dX2_isPlayed_158
theorem mX2_isPlayed {l : Launch} {D : va_G} {dA : Nat → ClassId} {b : Nat} {t : TS} {x1 : Int32} {r : Int32} {t9 : TS} (h : T_isPlayed t x1 = some (r, t9)) : Met l yX2_isPlayed (ws_ yX2_isPlayed cX2_isPlayed 4 (some .boolean)) rmX2_isPlayed (tPc D dA b t [.ref b, .int x1]) (tQ D dA b t9 (some (.int r))) 0 0 (ta b) := en_R (by decide +kernel) rfl (Nat.le_of_ble_eq_true rfl) (fun p e s m below meth c ls C hK hT hl => bX2_isPlayed C hK t x1 _ [] hT tS.rf ls h hl)
set_option maxRecDepth 20000 in
abbrev rmX2_played : Room := { frames := 8, cells := 0, slots := 0, locals := 184 }
theorem hdX2_played : yX2_played.cls = RX2 ∧ yX2_played.cls ≠ "java/lang/invoke/MethodHandle" ∧ yX2_played.cls ≠ "java/lang/invoke/VarHandle" ∧ (parseMethodDescriptor yX2_played.desc).map (fun d => d.parameters.length) = some 1 := by decide +kernel
theorem bX2_played_21 {p : Program} {l : Launch} {e : Env} {s : State} {m : MethodId} {args : Array Value} {below : List Frame} {meth : Method} {c : Code} {D : va_G} {dA : Nat → ClassId} {b : Nat} {r : Int32} {t9 : TS} (C : cx p s m args meth c cX2_played RX2 3 (some .int)) (hK : kk D dA s) : ∀ (n : Nat), ∀ (t : TS) (x1 : Int32) (x2 : Int32) (H : Heap) (locs : List Loc) (hT : wd D (tw dA b t) H) (hS : tS b s.heap H locs) (ls : Array Slot), T_played_21 n t x1 x2 = some (r, t9) → lv_has ls 3 [(0, .ref b), (1, .int x1), (2, .int x2)] → W p l e rmX2_played s m args below meth c H locs 0 0 (MQ below (tQ D dA b t9 (some (.int r))) args s 0 0 (ta b)) (F0 m 21 ls []) := by
  obtain ⟨hx, hb, hr, hml, hown, hts, hlocks⟩ := id C
  intro n
  induction n with
  | zero =>
    intro t x1 x2 H locs hT hS ls h hl
    have h : none = some _ := h
    cases h
  | succ n ih =>
    intro t x1 x2 H locs hT hS ls h hl
    rw [T_played_21] at h
    refine lv_iload_n hx hb dX2_played_21 rfl (lv_at hl 2 rfl) ?_
    refine lv_aload_n hx hb dX2_played_22 rfl (lv_at hl 0 rfl) ?_
    refine tg2 C hK hT dX2_played_23 ?_
    refine lv_sipush (v := 873) hx hb dX2_played_26 (by decide) ?_
    refine lv_iload_n hx hb dX2_played_29 rfl (lv_at hl 1 rfl) ?_
    refine lv_imul hx hb dX2_played_30 ?_
    obtain ⟨hi, h⟩ := ck_some h
    refine tl2 C hK hT hi dX2_played_31 ?_
    refine lv_icmp_ge (tgt := 62) hx hb dX2_played_32 (by decide) (fun c => ?_) (fun c => ?_)
    · replace h := if_t c h
      refine lv_iconst (v := -1) hx hb dX2_played_62 (by decide) ?_
      exact e_wi C hT hS h dX2_played_63
    · replace h := if_f c h
      refine lv_aload_n hx hb dX2_played_35 rfl (lv_at hl 0 rfl) ?_
      refine lv_sipush (v := 873) hx hb dX2_played_36 (by decide) ?_
      refine lv_iload_n hx hb dX2_played_39 rfl (lv_at hl 1 rfl) ?_
      refine lv_imul hx hb dX2_played_40 ?_
      refine lv_iconst (v := 1) hx hb dX2_played_41 (by decide) ?_
      refine lv_iadd hx hb dX2_played_42 ?_
      refine lv_bipush (v := 11) hx hb dX2_played_43 (by decide) ?_
      refine lv_iload_n hx hb dX2_played_45 rfl (lv_at hl 2 rfl) ?_
      refine lv_imul hx hb dX2_played_46 ?_
      refine lv_iadd hx hb dX2_played_47 ?_
      obtain ⟨v1, t2, ht2, h⟩ := bd2_some h
      refine w_int hS (run_t (As := [.int ((((873 : Int32) * x1) + (1 : Int32)) + ((11 : Int32) * x2))]) (rest := []) C hK hT (mX2_isPlayed ht2) q1991 q1993 qs124 q162 q1994 ⟨rfl, rfl⟩ hdX2_isPlayed ⟨Nat.le_of_ble_eq_true rfl, Nat.le_of_ble_eq_true rfl⟩ ⟨Nat.zero_le _, Nat.zero_le _⟩ rfl hl.1 rfl (Nat.le_of_ble_eq_true rfl) dX2_played_48) (fun H locs hT hS => ?_)
      refine lv_if_ne (tgt := 56) hx hb dX2_played_51 (by decide) (fun c => ?_) (fun c => ?_)
      · replace h := if_f c h
        obtain ⟨v3, ev3⟩ : ∃ y : Int32, y = x2 + (1 : Int32) := ⟨_, rfl⟩
        replace h := lt1_sub ev3 h
        refine lv_iinc (v := v3) (lv' := [(2, .int v3), (0, .ref b), (1, .int x1)]) hx hb dX2_played_56 hl (k := 2) rfl (by rw [ev3]; rfl) (by decide) rfl (fun ls hl => ?_)
        refine lv_goto (tgt := 21) hx hb dX2_played_59 (by decide) ?_
        exact ih t2 x1 v3 H locs hT hS ls h (lv_sub hl [1, 2, 0] rfl)
      · replace h := if_t c h
        refine lv_iload_n hx hb dX2_played_54 rfl (lv_at hl 2 rfl) ?_
        exact e_wi C hT hS h dX2_played_55
theorem bX2_played {p : Program} {l : Launch} {e : Env} {s : State} {m : MethodId} {args : Array Value} {below : List Frame} {meth : Method} {c : Code} {D : va_G} {dA : Nat → ClassId} {b : Nat} {r : Int32} {t9 : TS} (C : cx p s m args meth c cX2_played RX2 3 (some .int)) (hK : kk D dA s) : ∀ (t : TS) (x1 : Int32) (H : Heap) (locs : List Loc) (hT : wd D (tw dA b t) H) (hS : tS b s.heap H locs) (ls : Array Slot), T_played t x1 = some (r, t9) → lv_has ls 3 [(0, .ref b), (1, .int x1)] → W p l e rmX2_played s m args below meth c H locs 0 0 (MQ below (tQ D dA b t9 (some (.int r))) args s 0 0 (ta b)) (F0 m 0 ls []) := by
  obtain ⟨hx, hb, hr, hml, hown, hts, hlocks⟩ := id C
  intro t x1 H locs hT hS ls h hl
  unfold T_played at h
  refine lv_iload_n hx hb dX2_played_0 rfl (lv_at hl 1 rfl) ?_
  refine lv_iconst (v := 0) hx hb dX2_played_1 (by decide) ?_
  refine lv_aload_n hx hb dX2_played_2 rfl (lv_at hl 0 rfl) ?_
  refine tg0 C hK hT dX2_played_3 ?_
  refine lv_iconst (v := 4) hx hb dX2_played_6 (by decide) ?_
  obtain ⟨hi, h⟩ := ck_some h
  refine tl0 C hK hT hi dX2_played_7 ?_
  refine lv_iconst (v := 1) hx hb dX2_played_8 (by decide) ?_
  refine lv_isub hx hb dX2_played_9 ?_
  obtain ⟨v1, hv1, h⟩ := bd1_some h
  refine r_int (run_s (As := [.int x1, .int (0 : Int32), .int ((t.1 0 (4 : Int32).toNatClampNeg) - (1 : Int32))]) (rest := []) C (mX2_isIn hv1) q1656 q1657 q162 q1658 ⟨rfl, rfl⟩ hdX2_isIn ⟨Nat.le_of_ble_eq_true rfl, Nat.le_of_ble_eq_true rfl⟩ ⟨Nat.zero_le _, Nat.zero_le _⟩ rfl hl.1 rfl (Nat.le_of_ble_eq_true rfl) dX2_played_10) ?_
  refine lv_if_ne (tgt := 19) hx hb dX2_played_13 (by decide) (fun c => ?_) (fun c => ?_)
  · replace h := if_f c h
    refine lv_iconst (v := 0) hx hb dX2_played_19 (by decide) ?_
    refine lv_istore_n (lv' := [(2, .int (0 : Int32)), (0, .ref b), (1, .int x1)]) hx hb dX2_played_20 rfl hl (by decide) rfl (fun ls hl => ?_)
    exact bX2_played_21 C hK fu t x1 (0 : Int32) H locs hT hS ls h (lv_sub hl [1, 2, 0] rfl)
  · replace h := if_t c h
    refine lv_bipush (v := -2) hx hb dX2_played_16 (by decide) ?_
    exact e_wi C hT hS h dX2_played_18
theorem mX2_played {l : Launch} {D : va_G} {dA : Nat → ClassId} {b : Nat} {t : TS} {x1 : Int32} {r : Int32} {t9 : TS} (h : T_played t x1 = some (r, t9)) : Met l yX2_played (ws_ yX2_played cX2_played 3 (some .int)) rmX2_played (tPc D dA b t [.ref b, .int x1]) (tQ D dA b t9 (some (.int r))) 0 0 (ta b) := en_R (by decide +kernel) rfl (Nat.le_of_ble_eq_true rfl) (fun p e s m below meth c ls C hK hT hl => bX2_played C hK t x1 _ [] hT tS.rf ls h hl)
set_option maxRecDepth 20000 in
abbrev rmX2_anew : Room := { frames := 0, cells := 0, slots := 0, locals := 0 }
theorem hdX2_anew : yX2_anew.cls ≠ "java/lang/invoke/MethodHandle" ∧ yX2_anew.cls ≠ "java/lang/invoke/VarHandle" ∧ (parseMethodDescriptor yX2_anew.desc).map (fun d => d.parameters.length) = some 1 := by decide +kernel
theorem bX2_anew {p : Program} {l : Launch} {e : Env} {s : State} {m : MethodId} {args : Array Value} {below : List Frame} {meth : Method} {c : Code} {r : Int32} (C : cx p s m args meth c cX2_anew RX2 1 (some .int)) : ∀ (x0 : Int32) (ls : Array Slot), T_anew x0 = some r → lv_has ls 1 [(0, .int x0)] → W p l e rmX2_anew s m args below meth c s.heap [] 0 0 (MQ below (rQi r) args s 0 0 nof) (F0 m 0 ls []) := by
  obtain ⟨hx, hb, hr, hml, hown, hts, hlocks⟩ := id C
  intro x0 ls h hl
  unfold T_anew at h
  refine lv_iload_n hx hb dX2_anew_0 rfl (lv_at hl 0 rfl) ?_
  refine lv_sipush (v := 211) hx hb dX2_anew_1 (by decide) ?_
  refine lv_imul hx hb dX2_anew_4 ?_
  refine lv_bipush (v := 97) hx hb dX2_anew_5 (by decide) ?_
  refine lv_iadd hx hb dX2_anew_7 ?_
  refine lv_sipush (v := 30139) hx hb dX2_anew_8 (by decide) ?_
  refine lv_irem hx hb dX2_anew_11 (by decide) ?_
  exact e_ri C h dX2_anew_12
theorem mX2_anew {l : Launch} {x0 : Int32} {r : Int32} (h : T_anew x0 = some r) : Met l yX2_anew (ws_ yX2_anew cX2_anew 1 (some .int)) rmX2_anew (sPc [.int x0]) (rQi r) 0 0 nof := en_S (by decide +kernel) rfl (Nat.le_of_ble_eq_true rfl) (fun p e s m below meth c ls C hl => bX2_anew C x0 ls h hl)
set_option maxRecDepth 20000 in
abbrev rmX2_happens : Room := { frames := 5, cells := 0, slots := 0, locals := 119 }
theorem hdX2_happens : yX2_happens.cls = RX2 ∧ yX2_happens.cls ≠ "java/lang/invoke/MethodHandle" ∧ yX2_happens.cls ≠ "java/lang/invoke/VarHandle" ∧ (parseMethodDescriptor yX2_happens.desc).map (fun d => d.parameters.length) = some 2 := by decide +kernel
theorem bX2_happens {p : Program} {l : Launch} {e : Env} {s : State} {m : MethodId} {args : Array Value} {below : List Frame} {meth : Method} {c : Code} {D : va_G} {dA : Nat → ClassId} {b : Nat} {t9 : TS} (C : cx p s m args meth c cX2_happens RX2 3 none) (hK : kk D dA s) : ∀ (t : TS) (x1 : Int32) (x2 : Int32) (H : Heap) (locs : List Loc) (hT : wd D (tw dA b t) H) (hS : tS b s.heap H locs) (ls : Array Slot), T_happens t x1 x2 = some t9 → lv_has ls 3 [(0, .ref b), (1, .int x1), (2, .int x2)] → W p l e rmX2_happens s m args below meth c H locs 0 0 (MQ below (tQ D dA b t9 none) args s 0 0 (ta b)) (F0 m 0 ls []) := by
  obtain ⟨hx, hb, hr, hml, hown, hts, hlocks⟩ := id C
  intro t x1 x2 H locs hT hS ls h hl
  unfold T_happens at h
  refine lv_iload_n hx hb dX2_happens_0 rfl (lv_at hl 2 rfl) ?_
  refine lv_iconst (v := 4) hx hb dX2_happens_1 (by decide) ?_
  refine lv_irem hx hb dX2_happens_2 (by decide) ?_
  refine lv_topi (fun v1 ev1 => ?_)
  replace h := lt1_sub ev1 h
  by_cases c : v1 = (0 : Int32)
  · replace h := if_t c h
    rw [c]
    refine lv_tableIn (off := 25) (tgt := 28) hx hb dX2_happens_3 (by decide) (by decide) rfl (by decide) ?_
    refine lv_aload_n hx hb dX2_happens_28 rfl (lv_at hl 0 rfl) ?_
    refine tg0 C hK hT dX2_happens_29 ?_
    refine lv_bipush (v := 12) hx hb dX2_happens_32 (by decide) ?_
    refine lv_iload_n hx hb dX2_happens_34 rfl (lv_at hl 1 rfl) ?_
    refine lv_iadd hx hb dX2_happens_35 ?_
    obtain ⟨hi, h⟩ := ck_some h
    refine tl0 C hK hT hi dX2_happens_36 ?_
    refine lv_bipush (v := 99) hx hb dX2_happens_37 (by decide) ?_
    refine lv_icmp_ge (tgt := 118) hx hb dX2_happens_39 (by decide) (fun c => ?_) (fun c => ?_)
    · replace h := if_t c h
      exact e_wv C hT hS h dX2_happens_118
    · replace h := if_f c h
      refine lv_aload_n hx hb dX2_happens_42 rfl (lv_at hl 0 rfl) ?_
      refine tg0 C hK hT dX2_happens_43 ?_
      refine lv_bipush (v := 12) hx hb dX2_happens_46 (by decide) ?_
      refine lv_iload_n hx hb dX2_happens_48 rfl (lv_at hl 1 rfl) ?_
      refine lv_iadd hx hb dX2_happens_49 ?_
      refine lv_topi (fun v2 ev2 => ?_)
      replace h := lt1_sub ev2 h
      refine lv_dup2_11 hx hb dX2_happens_50 rfl rfl ?_
      obtain ⟨hi, h⟩ := ck_some h
      refine tl0 C hK hT hi dX2_happens_51 ?_
      refine lv_iconst (v := 1) hx hb dX2_happens_52 (by decide) ?_
      refine lv_iadd hx hb dX2_happens_53 ?_
      obtain ⟨hi, h⟩ := ck_some h
      refine ts0 C hK hT hS hi dX2_happens_54 (fun t3 H locs et3 hT hS => ?_)
      replace h := lt1_sub et3 h
      refine lv_goto (tgt := 118) hx hb dX2_happens_55 (by decide) ?_
      exact e_wv C hT hS h dX2_happens_118
  replace h := if_f c h
  have g0 := tI_ne (k := 0) (by decide) c
  by_cases c : v1 = (1 : Int32)
  · replace h := if_t c h
    rw [c]
    refine lv_tableIn (off := 55) (tgt := 58) hx hb dX2_happens_3 (by decide) (by decide) rfl (by decide) ?_
    refine lv_aload_n hx hb dX2_happens_58 rfl (lv_at hl 0 rfl) ?_
    refine tg0 C hK hT dX2_happens_59 ?_
    refine lv_bipush (v := 7) hx hb dX2_happens_62 (by decide) ?_
    refine lv_dup2_11 hx hb dX2_happens_64 rfl rfl ?_
    obtain ⟨hi, h⟩ := ck_some h
    refine tl0 C hK hT hi dX2_happens_65 ?_
    refine lv_iconst (v := 1) hx hb dX2_happens_66 (by decide) ?_
    refine lv_iload_n hx hb dX2_happens_67 rfl (lv_at hl 1 rfl) ?_
    refine lv_ishl hx hb dX2_happens_68 ?_
    refine lv_ixor hx hb dX2_happens_69 ?_
    obtain ⟨hi, h⟩ := ck_some h
    refine ts0 C hK hT hS hi dX2_happens_70 (fun t4 H locs et4 hT hS => ?_)
    replace h := lt1_sub et4 h
    refine lv_aload_n hx hb dX2_happens_71 rfl (lv_at hl 0 rfl) ?_
    refine tg0 C hK hT dX2_happens_72 ?_
    refine lv_bipush (v := 38) hx hb dX2_happens_75 (by decide) ?_
    refine lv_iload_n hx hb dX2_happens_77 rfl (lv_at hl 1 rfl) ?_
    refine lv_iadd hx hb dX2_happens_78 ?_
    refine lv_iconst (v := 0) hx hb dX2_happens_79 (by decide) ?_
    obtain ⟨hi, h⟩ := ck_some h
    refine ts0 C hK hT hS hi dX2_happens_80 (fun t5 H locs et5 hT hS => ?_)
    replace h := lt1_sub et5 h
    refine lv_goto (tgt := 118) hx hb dX2_happens_81 (by decide) ?_
    exact e_wv C hT hS h dX2_happens_118
  replace h := if_f c h
  have g1 := tI_ne (k := 1) (by decide) c
  by_cases c : v1 = (2 : Int32)
  · replace h := if_t c h
    rw [c]
    refine lv_tableIn (off := 81) (tgt := 84) hx hb dX2_happens_3 (by decide) (by decide) rfl (by decide) ?_
    refine lv_aload_n hx hb dX2_happens_84 rfl (lv_at hl 0 rfl) ?_
    refine tg0 C hK hT dX2_happens_85 ?_
    refine lv_bipush (v := 64) hx hb dX2_happens_88 (by decide) ?_
    refine lv_iload_n hx hb dX2_happens_90 rfl (lv_at hl 1 rfl) ?_
    refine lv_iadd hx hb dX2_happens_91 ?_
    refine lv_iload_n hx hb dX2_happens_92 rfl (lv_at hl 2 rfl) ?_
    refine lv_bipush (v := 11) hx hb dX2_happens_93 (by decide) ?_
    refine lv_irem hx hb dX2_happens_95 (by decide) ?_
    refine lv_iconst (v := 1) hx hb dX2_happens_96 (by decide) ?_
    refine lv_isub hx hb dX2_happens_97 ?_
    obtain ⟨hi, h⟩ := ck_some h
    refine ts0 C hK hT hS hi dX2_happens_98 (fun t6 H locs et6 hT hS => ?_)
    replace h := lt1_sub et6 h
    refine lv_goto (tgt := 118) hx hb dX2_happens_99 (by decide) ?_
    exact e_wv C hT hS h dX2_happens_118
  replace h := if_f c h
  have g2 := tI_ne (k := 2) (by decide) c
  refine lv_tableOut (tgt := 102) hx hb dX2_happens_3 (by omega) (by decide) ?_
  refine lv_aload_n hx hb dX2_happens_102 rfl (lv_at hl 0 rfl) ?_
  refine tg0 C hK hT dX2_happens_103 ?_
  refine lv_iconst (v := 2) hx hb dX2_happens_106 (by decide) ?_
  obtain ⟨hi, h⟩ := ck_some h
  refine tl0 C hK hT hi dX2_happens_107 ?_
  refine lv_sipush (v := 999) hx hb dX2_happens_108 (by decide) ?_
  refine lv_icmp_ge (tgt := 118) hx hb dX2_happens_111 (by decide) (fun c => ?_) (fun c => ?_)
  · replace h := if_t c h
    exact e_wv C hT hS h dX2_happens_118
  · replace h := if_f c h
    refine lv_aload_n hx hb dX2_happens_114 rfl (lv_at hl 0 rfl) ?_
    obtain ⟨t7, ht7, h⟩ := bd1_some h
    refine w_void hS (run_t (As := []) (rest := []) C hK hT (mX2_dawn ht7) q1886 q1888 qs109 q162 q1889 ⟨rfl, rfl⟩ hdX2_dawn ⟨Nat.le_of_ble_eq_true rfl, Nat.le_of_ble_eq_true rfl⟩ ⟨Nat.zero_le _, Nat.zero_le _⟩ rfl hl.1 rfl (Nat.le_of_ble_eq_true rfl) dX2_happens_115) (fun H locs hT hS => ?_)
    exact e_wv C hT hS h dX2_happens_118
theorem mX2_happens {l : Launch} {D : va_G} {dA : Nat → ClassId} {b : Nat} {t : TS} {x1 : Int32} {x2 : Int32} {t9 : TS} (h : T_happens t x1 x2 = some t9) : Met l yX2_happens (ws_ yX2_happens cX2_happens 3 none) rmX2_happens (tPc D dA b t [.ref b, .int x1, .int x2]) (tQ D dA b t9 none) 0 0 (ta b) := en_R (by decide +kernel) rfl (Nat.le_of_ble_eq_true rfl) (fun p e s m below meth c ls C hK hT hl => bX2_happens C hK t x1 x2 _ [] hT tS.rf ls h hl)
set_option maxRecDepth 20000 in
abbrev rmX2_year : Room := { frames := 6, cells := 0, slots := 0, locals := 141 }
theorem hdX2_year : yX2_year.cls = RX2 ∧ yX2_year.cls ≠ "java/lang/invoke/MethodHandle" ∧ yX2_year.cls ≠ "java/lang/invoke/VarHandle" ∧ (parseMethodDescriptor yX2_year.desc).map (fun d => d.parameters.length) = some 2 := by decide +kernel
theorem bX2_year_37 {p : Program} {l : Launch} {e : Env} {s : State} {m : MethodId} {args : Array Value} {below : List Frame} {meth : Method} {c : Code} {D : va_G} {dA : Nat → ClassId} {b : Nat} {r : Int32} {t9 : TS} (C : cx p s m args meth c cX2_year RX2 6 (some .int)) (hK : kk D dA s) : ∀ (n : Nat), ∀ (t : TS) (x2 : Int32) (x3 : Int32) (x4 : Int32) (H : Heap) (locs : List Loc) (hT : wd D (tw dA b t) H) (hS : tS b s.heap H locs) (ls : Array Slot), T_year_37 n t x2 x3 x4 = some (r, t9) → lv_has ls 6 [(0, .ref b), (2, .int x2), (3, .int x3), (4, .int x4)] → W p l e rmX2_year s m args below meth c H locs 0 0 (MQ below (tQ D dA b t9 (some (.int r))) args s 0 0 (ta b)) (F0 m 37 ls []) := by
  obtain ⟨hx, hb, hr, hml, hown, hts, hlocks⟩ := id C
  intro n
  induction n with
  | zero =>
    intro t x2 x3 x4 H locs hT hS ls h hl
    have h : none = some _ := h
    cases h
  | succ n ih =>
    intro t x2 x3 x4 H locs hT hS ls h hl
    rw [T_year_37] at h
    refine lv_iload hx hb dX2_year_37 (lv_at hl 3 rfl) ?_
    refine lv_iload_n hx hb dX2_year_39 rfl (lv_at hl 1 rfl) ?_
    refine lv_icmp_ge (tgt := 72) hx hb dX2_year_40 (by decide) (fun c => ?_) (fun c => ?_)
    · replace h := if_t c h
      refine lv_aload_n hx hb dX2_year_72 rfl (lv_at hl 0 rfl) ?_
      refine tg0 C hK hT dX2_year_73 ?_
      refine lv_iconst (v := 3) hx hb dX2_year_76 (by decide) ?_
      refine lv_iload_n hx hb dX2_year_77 rfl (lv_at hl 2 rfl) ?_
      obtain ⟨hi, h⟩ := ck_some h
      refine ts0 C hK hT hS hi dX2_year_78 (fun t1 H locs et1 hT hS => ?_)
      replace h := lt1_sub et1 h
      refine lv_aload_n hx hb dX2_year_79 rfl (lv_at hl 0 rfl) ?_
      refine tg0 C hK hT dX2_year_80 ?_
      refine lv_bipush (v := 7) hx hb dX2_year_83 (by decide) ?_
      obtain ⟨hi, h⟩ := ck_some h
      refine tl0 C hK hT hi dX2_year_85 ?_
      obtain ⟨v2, hv2, h⟩ := bd1_some h
      refine r_int (run_s (As := [.int (t1.1 0 (7 : Int32).toNatClampNeg)]) (rest := []) C (mX2_bits hv2) q1902 q1903 q162 q1904 ⟨rfl, rfl⟩ hdX2_bits ⟨Nat.le_of_ble_eq_true rfl, Nat.le_of_ble_eq_true rfl⟩ ⟨Nat.zero_le _, Nat.zero_le _⟩ rfl hl.1 rfl (Nat.le_of_ble_eq_true rfl) dX2_year_86) ?_
      exact e_wi C hT hS h dX2_year_89
    · replace h := if_f c h
      refine lv_iload_n hx hb dX2_year_43 rfl (lv_at hl 2 rfl) ?_
      refine lv_bipush (v := 26) hx hb dX2_year_44 (by decide) ?_
      refine lv_irem hx hb dX2_year_46 (by decide) ?_
      refine lv_topi (fun v3 ev3 => ?_)
      replace h := lt1_sub ev3 h
      refine lv_istore (lv' := [(5, .int v3), (0, .ref b), (2, .int x2), (3, .int x3), (4, .int x4)]) hx hb dX2_year_47 hl (by decide) rfl (fun ls hl => ?_)
      refine lv_iload_n hx hb dX2_year_49 rfl (lv_at hl 3 rfl) ?_
      obtain ⟨v4, hv4, h⟩ := bd1_some h
      refine r_int (run_s (As := [.int x3]) (rest := []) C (mX2_anew hv4) q2029 q2030 q162 q2031 ⟨rfl, rfl⟩ hdX2_anew ⟨Nat.le_of_ble_eq_true rfl, Nat.le_of_ble_eq_true rfl⟩ ⟨Nat.zero_le _, Nat.zero_le _⟩ rfl hl.1 rfl (Nat.le_of_ble_eq_true rfl) dX2_year_50) ?_
      refine lv_istore_n (lv' := [(3, .int v4), (5, .int v3), (0, .ref b), (2, .int x2), (4, .int x4)]) hx hb dX2_year_53 rfl hl (by decide) rfl (fun ls hl => ?_)
      refine lv_aload_n hx hb dX2_year_54 rfl (lv_at hl 2 rfl) ?_
      refine lv_iload hx hb dX2_year_55 (lv_at hl 1 rfl) ?_
      refine lv_iload_n hx hb dX2_year_57 rfl (lv_at hl 0 rfl) ?_
      obtain ⟨t5, ht5, h⟩ := bd1_some h
      refine w_void hS (run_t (As := [.int v3, .int v4]) (rest := []) C hK hT (mX2_happens ht5) q2032 q2034 qs131 q162 q2035 ⟨rfl, rfl⟩ hdX2_happens ⟨Nat.le_of_ble_eq_true rfl, Nat.le_of_ble_eq_true rfl⟩ ⟨Nat.zero_le _, Nat.zero_le _⟩ rfl hl.1 rfl (Nat.le_of_ble_eq_true rfl) dX2_year_58) (fun H locs hT hS => ?_)
      refine lv_iload_n hx hb dX2_year_61 rfl (lv_at hl 0 rfl) ?_
      obtain ⟨v6, hv6, h⟩ := bd1_some h
      refine r_int (run_s (As := [.int v4]) (rest := []) C (mX2_anew hv6) q2029 q2030 q162 q2031 ⟨rfl, rfl⟩ hdX2_anew ⟨Nat.le_of_ble_eq_true rfl, Nat.le_of_ble_eq_true rfl⟩ ⟨Nat.zero_le _, Nat.zero_le _⟩ rfl hl.1 rfl (Nat.le_of_ble_eq_true rfl) dX2_year_62) ?_
      refine lv_istore_n (lv' := [(3, .int v6), (5, .int v3), (0, .ref b), (2, .int x2), (4, .int x4)]) hx hb dX2_year_65 rfl hl (by decide) rfl (fun ls hl => ?_)
      obtain ⟨v7, ev7⟩ : ∃ y : Int32, y = x4 + (1 : Int32) := ⟨_, rfl⟩
      replace h := lt1_sub ev7 h
      refine lv_iinc (v := v7) (lv' := [(4, .int v7), (3, .int v6), (5, .int v3), (0, .ref b), (2, .int x2)]) hx hb dX2_year_66 hl (k := 4) rfl (by rw [ev7]; rfl) (by decide) rfl (fun ls hl => ?_)
      refine lv_goto (tgt := 37) hx hb dX2_year_69 (by decide) ?_
      exact ih t5 x2 v6 v7 H locs hT hS ls h (lv_sub hl [3, 4, 1, 0] rfl)
theorem bX2_year {p : Program} {l : Launch} {e : Env} {s : State} {m : MethodId} {args : Array Value} {below : List Frame} {meth : Method} {c : Code} {D : va_G} {dA : Nat → ClassId} {b : Nat} {r : Int32} {t9 : TS} (C : cx p s m args meth c cX2_year RX2 6 (some .int)) (hK : kk D dA s) : ∀ (t : TS) (x1 : Int32) (x2 : Int32) (H : Heap) (locs : List Loc) (hT : wd D (tw dA b t) H) (hS : tS b s.heap H locs) (ls : Array Slot), T_year t x1 x2 = some (r, t9) → lv_has ls 6 [(0, .ref b), (1, .int x1), (2, .int x2)] → W p l e rmX2_year s m args below meth c H locs 0 0 (MQ below (tQ D dA b t9 (some (.int r))) args s 0 0 (ta b)) (F0 m 0 ls []) := by
  obtain ⟨hx, hb, hr, hml, hown, hts, hlocks⟩ := id C
  intro t x1 x2 H locs hT hS ls h hl
  unfold T_year at h
  refine lv_iload_n hx hb dX2_year_0 rfl (lv_at hl 1 rfl) ?_
  refine lv_iconst (v := 0) hx hb dX2_year_1 (by decide) ?_
  refine lv_sipush (v := 9999) hx hb dX2_year_2 (by decide) ?_
  obtain ⟨v1, hv1, h⟩ := bd1_some h
  refine r_int (run_s (As := [.int x1, .int (0 : Int32), .int (9999 : Int32)]) (rest := []) C (mX2_isIn hv1) q1656 q1657 q162 q1658 ⟨rfl, rfl⟩ hdX2_isIn ⟨Nat.le_of_ble_eq_true rfl, Nat.le_of_ble_eq_true rfl⟩ ⟨Nat.zero_le _, Nat.zero_le _⟩ rfl hl.1 rfl (Nat.le_of_ble_eq_true rfl) dX2_year_5) ?_
  refine lv_if_eq (tgt := 21) hx hb dX2_year_8 (by decide) (fun c => ?_) (fun c => ?_)
  · replace h := if_t c h
    refine lv_iconst (v := -1) hx hb dX2_year_21 (by decide) ?_
    exact e_wi C hT hS h dX2_year_22
  · replace h := if_f c h
    refine lv_iload_n hx hb dX2_year_11 rfl (lv_at hl 2 rfl) ?_
    refine lv_iconst (v := 1) hx hb dX2_year_12 (by decide) ?_
    refine lv_bipush (v := 40) hx hb dX2_year_13 (by decide) ?_
    obtain ⟨v2, hv2, h⟩ := bd1_some h
    refine r_int (run_s (As := [.int x2, .int (1 : Int32), .int (40 : Int32)]) (rest := []) C (mX2_isIn hv2) q1656 q1657 q162 q1658 ⟨rfl, rfl⟩ hdX2_isIn ⟨Nat.le_of_ble_eq_true rfl, Nat.le_of_ble_eq_true rfl⟩ ⟨Nat.zero_le _, Nat.zero_le _⟩ rfl hl.1 rfl (Nat.le_of_ble_eq_true rfl) dX2_year_15) ?_
    refine lv_if_ne (tgt := 23) hx hb dX2_year_18 (by decide) (fun c => ?_) (fun c => ?_)
    · replace h := if_f c h
      refine lv_aload_n hx hb dX2_year_23 rfl (lv_at hl 0 rfl) ?_
      obtain ⟨t3, ht3, h⟩ := bd1_some h
      refine w_void hS (run_t (As := []) (rest := []) C hK hT (mX2_keep ht3) q1882 q1884 qs108 q162 q1885 ⟨rfl, rfl⟩ hdX2_keep ⟨Nat.le_of_ble_eq_true rfl, Nat.le_of_ble_eq_true rfl⟩ ⟨Nat.zero_le _, Nat.zero_le _⟩ rfl hl.1 rfl (Nat.le_of_ble_eq_true rfl) dX2_year_24) (fun H locs hT hS => ?_)
      refine lv_iload_n hx hb dX2_year_27 rfl (lv_at hl 1 rfl) ?_
      refine lv_iconst (v := 5) hx hb dX2_year_28 (by decide) ?_
      refine lv_imul hx hb dX2_year_29 ?_
      refine lv_bipush (v := 17) hx hb dX2_year_30 (by decide) ?_
      refine lv_iadd hx hb dX2_year_32 ?_
      refine lv_topi (fun v4 ev4 => ?_)
      replace h := lt1_sub ev4 h
      refine lv_istore_n (lv' := [(3, .int v4), (0, .ref b), (1, .int x1), (2, .int x2)]) hx hb dX2_year_33 rfl hl (by decide) rfl (fun ls hl => ?_)
      refine lv_iconst (v := 0) hx hb dX2_year_34 (by decide) ?_
      refine lv_istore (lv' := [(4, .int (0 : Int32)), (3, .int v4), (0, .ref b), (1, .int x1), (2, .int x2)]) hx hb dX2_year_35 hl (by decide) rfl (fun ls hl => ?_)
      exact bX2_year_37 C hK fu t3 x2 v4 (0 : Int32) H locs hT hS ls h (lv_sub hl [2, 4, 1, 0] rfl)
    · replace h := if_t c h
      refine lv_iconst (v := -1) hx hb dX2_year_21 (by decide) ?_
      exact e_wi C hT hS h dX2_year_22
theorem mX2_year {l : Launch} {D : va_G} {dA : Nat → ClassId} {b : Nat} {t : TS} {x1 : Int32} {x2 : Int32} {r : Int32} {t9 : TS} (h : T_year t x1 x2 = some (r, t9)) : Met l yX2_year (ws_ yX2_year cX2_year 6 (some .int)) rmX2_year (tPc D dA b t [.ref b, .int x1, .int x2]) (tQ D dA b t9 (some (.int r))) 0 0 (ta b) := en_R (by decide +kernel) rfl (Nat.le_of_ble_eq_true rfl) (fun p e s m below meth c ls C hK hT hl => bX2_year C hK t x1 x2 _ [] hT tS.rf ls h hl)
set_option maxRecDepth 20000 in
abbrev rmX2_of : Room := { frames := 4, cells := 0, slots := 0, locals := 97 }
theorem hdX2_of : yX2_of.cls = RX2 ∧ yX2_of.cls ≠ "java/lang/invoke/MethodHandle" ∧ yX2_of.cls ≠ "java/lang/invoke/VarHandle" ∧ (parseMethodDescriptor yX2_of.desc).map (fun d => d.parameters.length) = some 2 := by decide +kernel
theorem bX2_of {p : Program} {l : Launch} {e : Env} {s : State} {m : MethodId} {args : Array Value} {below : List Frame} {meth : Method} {c : Code} {D : va_G} {dA : Nat → ClassId} {b : Nat} {r : Int32} {t9 : TS} (C : cx p s m args meth c cX2_of RX2 3 (some .int)) (hK : kk D dA s) : ∀ (t : TS) (x1 : Int32) (x2 : Int32) (H : Heap) (locs : List Loc) (hT : wd D (tw dA b t) H) (hS : tS b s.heap H locs) (ls : Array Slot), T_of t x1 x2 = some (r, t9) → lv_has ls 3 [(0, .ref b), (1, .int x1), (2, .int x2)] → W p l e rmX2_of s m args below meth c H locs 0 0 (MQ below (tQ D dA b t9 (some (.int r))) args s 0 0 (ta b)) (F0 m 0 ls []) := by
  obtain ⟨hx, hb, hr, hml, hown, hts, hlocks⟩ := id C
  intro t x1 x2 H locs hT hS ls h hl
  unfold T_of at h
  refine lv_iload_n hx hb dX2_of_0 rfl (lv_at hl 1 rfl) ?_
  obtain ⟨v1, hv1, h⟩ := bd1_some h
  refine r_int (run_s (As := [.int x1]) (rest := []) C (mX2_isLetter0 hv1) q1653 q1654 q162 q1655 ⟨rfl, rfl⟩ hdX2_isLetter0 ⟨Nat.le_of_ble_eq_true rfl, Nat.le_of_ble_eq_true rfl⟩ ⟨Nat.zero_le _, Nat.zero_le _⟩ rfl hl.1 rfl (Nat.le_of_ble_eq_true rfl) dX2_of_1) ?_
  refine lv_if_ne (tgt := 10) hx hb dX2_of_4 (by decide) (fun c => ?_) (fun c => ?_)
  · replace h := if_f c h
    refine lv_iload_n hx hb dX2_of_10 rfl (lv_at hl 2 rfl) ?_
    by_cases c : x2 = (0 : Int32)
    · replace h := if_t c h
      rw [c]
      refine lv_tableIn (off := 41) (tgt := 52) hx hb dX2_of_11 (by decide) (by decide) rfl (by decide) ?_
      refine lv_aload_n hx hb dX2_of_52 rfl (lv_at hl 0 rfl) ?_
      refine tg0 C hK hT dX2_of_53 ?_
      refine lv_bipush (v := 12) hx hb dX2_of_56 (by decide) ?_
      refine lv_iload_n hx hb dX2_of_58 rfl (lv_at hl 1 rfl) ?_
      refine lv_iadd hx hb dX2_of_59 ?_
      obtain ⟨hi, h⟩ := ck_some h
      refine tl0 C hK hT hi dX2_of_60 ?_
      exact e_wi C hT hS h dX2_of_61
    replace h := if_f c h
    have g0 := tI_ne (k := 0) (by decide) c
    by_cases c : x2 = (1 : Int32)
    · replace h := if_t c h
      rw [c]
      refine lv_tableIn (off := 51) (tgt := 62) hx hb dX2_of_11 (by decide) (by decide) rfl (by decide) ?_
      refine lv_aload_n hx hb dX2_of_62 rfl (lv_at hl 0 rfl) ?_
      refine tg0 C hK hT dX2_of_63 ?_
      refine lv_bipush (v := 38) hx hb dX2_of_66 (by decide) ?_
      refine lv_iload_n hx hb dX2_of_68 rfl (lv_at hl 1 rfl) ?_
      refine lv_iadd hx hb dX2_of_69 ?_
      obtain ⟨hi, h⟩ := ck_some h
      refine tl0 C hK hT hi dX2_of_70 ?_
      exact e_wi C hT hS h dX2_of_71
    replace h := if_f c h
    have g1 := tI_ne (k := 1) (by decide) c
    by_cases c : x2 = (2 : Int32)
    · replace h := if_t c h
      rw [c]
      refine lv_tableIn (off := 61) (tgt := 72) hx hb dX2_of_11 (by decide) (by decide) rfl (by decide) ?_
      refine lv_aload_n hx hb dX2_of_72 rfl (lv_at hl 0 rfl) ?_
      refine lv_iload_n hx hb dX2_of_73 rfl (lv_at hl 1 rfl) ?_
      obtain ⟨v2, hv2, h⟩ := bd1_some h
      refine r_int (run_t (As := [.int x1]) (rest := []) C hK hT (mX2_isOut hv2) q1894 q1896 qs111 q162 q1897 ⟨rfl, rfl⟩ hdX2_isOut ⟨Nat.le_of_ble_eq_true rfl, Nat.le_of_ble_eq_true rfl⟩ ⟨Nat.zero_le _, Nat.zero_le _⟩ rfl hl.1 rfl (Nat.le_of_ble_eq_true rfl) dX2_of_74) ?_
      refine lv_if_eq (tgt := 84) hx hb dX2_of_77 (by decide) (fun c => ?_) (fun c => ?_)
      · replace h := if_t c h
        refine lv_iconst (v := 0) hx hb dX2_of_84 (by decide) ?_
        exact e_wi C hT hS h dX2_of_85
      · replace h := if_f c h
        refine lv_iconst (v := 1) hx hb dX2_of_80 (by decide) ?_
        refine lv_goto (tgt := 85) hx hb dX2_of_81 (by decide) ?_
        exact e_wi C hT hS h dX2_of_85
    replace h := if_f c h
    have g2 := tI_ne (k := 2) (by decide) c
    by_cases c : x2 = (3 : Int32)
    · replace h := if_t c h
      rw [c]
      refine lv_tableIn (off := 75) (tgt := 86) hx hb dX2_of_11 (by decide) (by decide) rfl (by decide) ?_
      refine lv_aload_n hx hb dX2_of_86 rfl (lv_at hl 0 rfl) ?_
      refine tg0 C hK hT dX2_of_87 ?_
      refine lv_bipush (v := 64) hx hb dX2_of_90 (by decide) ?_
      refine lv_iload_n hx hb dX2_of_92 rfl (lv_at hl 1 rfl) ?_
      refine lv_iadd hx hb dX2_of_93 ?_
      obtain ⟨hi, h⟩ := ck_some h
      refine tl0 C hK hT hi dX2_of_94 ?_
      exact e_wi C hT hS h dX2_of_95
    replace h := if_f c h
    have g3 := tI_ne (k := 3) (by decide) c
    by_cases c : x2 = (4 : Int32)
    · replace h := if_t c h
      rw [c]
      refine lv_tableIn (off := 85) (tgt := 96) hx hb dX2_of_11 (by decide) (by decide) rfl (by decide) ?_
      refine lv_aload_n hx hb dX2_of_96 rfl (lv_at hl 0 rfl) ?_
      refine tg0 C hK hT dX2_of_97 ?_
      refine lv_bipush (v := 90) hx hb dX2_of_100 (by decide) ?_
      refine lv_iload_n hx hb dX2_of_102 rfl (lv_at hl 1 rfl) ?_
      refine lv_iadd hx hb dX2_of_103 ?_
      obtain ⟨hi, h⟩ := ck_some h
      refine tl0 C hK hT hi dX2_of_104 ?_
      exact e_wi C hT hS h dX2_of_105
    replace h := if_f c h
    have g4 := tI_ne (k := 4) (by decide) c
    by_cases c : x2 = (5 : Int32)
    · replace h := if_t c h
      rw [c]
      refine lv_tableIn (off := 95) (tgt := 106) hx hb dX2_of_11 (by decide) (by decide) rfl (by decide) ?_
      refine lv_aload_n hx hb dX2_of_106 rfl (lv_at hl 0 rfl) ?_
      refine lv_iload_n hx hb dX2_of_107 rfl (lv_at hl 1 rfl) ?_
      obtain ⟨v3, hv3, h⟩ := bd1_some h
      refine r_int (run_t (As := [.int x1]) (rest := []) C hK hT (mX2_usesOf hv3) q1908 q1910 qs113 q162 q1911 ⟨rfl, rfl⟩ hdX2_usesOf ⟨Nat.le_of_ble_eq_true rfl, Nat.le_of_ble_eq_true rfl⟩ ⟨Nat.zero_le _, Nat.zero_le _⟩ rfl hl.1 rfl (Nat.le_of_ble_eq_true rfl) dX2_of_108) ?_
      exact e_wi C hT hS h dX2_of_111
    replace h := if_f c h
    have g5 := tI_ne (k := 5) (by decide) c
    by_cases c : x2 = (6 : Int32)
    · replace h := if_t c h
      rw [c]
      refine lv_tableIn (off := 101) (tgt := 112) hx hb dX2_of_11 (by decide) (by decide) rfl (by decide) ?_
      refine lv_aload_n hx hb dX2_of_112 rfl (lv_at hl 0 rfl) ?_
      refine lv_iload_n hx hb dX2_of_113 rfl (lv_at hl 1 rfl) ?_
      obtain ⟨v4, t5, ht5, h⟩ := bd2_some h
      refine w_int hS (run_t (As := [.int x1]) (rest := []) C hK hT (mX2_wouldChange ht5) q1890 q1892 qs110 q162 q1893 ⟨rfl, rfl⟩ hdX2_wouldChange ⟨Nat.le_of_ble_eq_true rfl, Nat.le_of_ble_eq_true rfl⟩ ⟨Nat.zero_le _, Nat.zero_le _⟩ rfl hl.1 rfl (Nat.le_of_ble_eq_true rfl) dX2_of_114) (fun H locs hT hS => ?_)
      refine lv_if_eq (tgt := 124) hx hb dX2_of_117 (by decide) (fun c => ?_) (fun c => ?_)
      · replace h := if_t c h
        refine lv_iconst (v := 0) hx hb dX2_of_124 (by decide) ?_
        exact e_wi C hT hS h dX2_of_125
      · replace h := if_f c h
        refine lv_iconst (v := 1) hx hb dX2_of_120 (by decide) ?_
        refine lv_goto (tgt := 125) hx hb dX2_of_121 (by decide) ?_
        exact e_wi C hT hS h dX2_of_125
    replace h := if_f c h
    have g6 := tI_ne (k := 6) (by decide) c
    refine lv_tableOut (tgt := 126) hx hb dX2_of_11 (by omega) (by decide) ?_
    refine lv_bipush (v := -2) hx hb dX2_of_126 (by decide) ?_
    exact e_wi C hT hS h dX2_of_128
  · replace h := if_t c h
    refine lv_bipush (v := -2) hx hb dX2_of_7 (by decide) ?_
    exact e_wi C hT hS h dX2_of_9
theorem mX2_of {l : Launch} {D : va_G} {dA : Nat → ClassId} {b : Nat} {t : TS} {x1 : Int32} {x2 : Int32} {r : Int32} {t9 : TS} (h : T_of t x1 x2 = some (r, t9)) : Met l yX2_of (ws_ yX2_of cX2_of 3 (some .int)) rmX2_of (tPc D dA b t [.ref b, .int x1, .int x2]) (tQ D dA b t9 (some (.int r))) 0 0 (ta b) := en_R (by decide +kernel) rfl (Nat.le_of_ble_eq_true rfl) (fun p e s m below meth c ls C hK hT hl => bX2_of C hK t x1 x2 _ [] hT tS.rf ls h hl)
set_option maxRecDepth 20000 in
abbrev rmX2_isWord0 : Room := { frames := 1, cells := 0, slots := 0, locals := 22 }
theorem hdX2_isWord0 : yX2_isWord0.cls = RX2 ∧ yX2_isWord0.cls ≠ "java/lang/invoke/MethodHandle" ∧ yX2_isWord0.cls ≠ "java/lang/invoke/VarHandle" ∧ (parseMethodDescriptor yX2_isWord0.desc).map (fun d => d.parameters.length) = some 1 := by decide +kernel
theorem bX2_isWord0 {p : Program} {l : Launch} {e : Env} {s : State} {m : MethodId} {args : Array Value} {below : List Frame} {meth : Method} {c : Code} {D : va_G} {dA : Nat → ClassId} {b : Nat} {t : TS} {r : Int32} (C : cx p s m args meth c cX2_isWord0 RX2 2 (some .boolean)) (hK : kk D dA s) (hT : wd D (tw dA b t) s.heap) : ∀ (x1 : Int32) (ls : Array Slot), T_isWord0 t x1 = some r → lv_has ls 2 [(0, .ref b), (1, .int x1)] → W p l e rmX2_isWord0 s m args below meth c s.heap [] 0 0 (MQ below (rQi r) args s 0 0 nof) (F0 m 0 ls []) := by
  obtain ⟨hx, hb, hr, hml, hown, hts, hlocks⟩ := id C
  intro x1 ls h hl
  unfold T_isWord0 at h
  refine lv_iload_n hx hb dX2_isWord0_0 rfl (lv_at hl 1 rfl) ?_
  refine lv_iconst (v := 0) hx hb dX2_isWord0_1 (by decide) ?_
  refine lv_aload_n hx hb dX2_isWord0_2 rfl (lv_at hl 0 rfl) ?_
  refine tg0 C hK hT dX2_isWord0_3 ?_
  refine lv_iconst (v := 0) hx hb dX2_isWord0_6 (by decide) ?_
  obtain ⟨hi, h⟩ := ck_some h
  refine tl0 C hK hT hi dX2_isWord0_7 ?_
  refine lv_iconst (v := 1) hx hb dX2_isWord0_8 (by decide) ?_
  refine lv_isub hx hb dX2_isWord0_9 ?_
  obtain ⟨v1, hv1, h⟩ := bd1_some h
  refine r_int (run_s (As := [.int x1, .int (0 : Int32), .int ((t.1 0 (0 : Int32).toNatClampNeg) - (1 : Int32))]) (rest := []) C (mX2_isIn hv1) q1656 q1657 q162 q1658 ⟨rfl, rfl⟩ hdX2_isIn ⟨Nat.le_of_ble_eq_true rfl, Nat.le_of_ble_eq_true rfl⟩ ⟨Nat.zero_le _, Nat.zero_le _⟩ rfl hl.1 rfl (Nat.le_of_ble_eq_true rfl) dX2_isWord0_10) ?_
  obtain ⟨hz, h⟩ := zr_some h
  exact e_rz C hz h dX2_isWord0_13
theorem mX2_isWord0 {l : Launch} {D : va_G} {dA : Nat → ClassId} {b : Nat} {t : TS} {x1 : Int32} {r : Int32} (h : T_isWord0 t x1 = some r) : Met l yX2_isWord0 (ws_ yX2_isWord0 cX2_isWord0 2 (some .boolean)) rmX2_isWord0 (tPc D dA b t [.ref b, .int x1]) (rQi r) 0 0 nof := en_R (by decide +kernel) rfl (Nat.le_of_ble_eq_true rfl) (fun p e s m below meth c ls C hK hT hl => bX2_isWord0 C hK hT x1 ls h hl)
set_option maxRecDepth 20000 in
abbrev rmX2_ofWord : Room := { frames := 3, cells := 0, slots := 0, locals := 64 }
theorem hdX2_ofWord : yX2_ofWord.cls = RX2 ∧ yX2_ofWord.cls ≠ "java/lang/invoke/MethodHandle" ∧ yX2_ofWord.cls ≠ "java/lang/invoke/VarHandle" ∧ (parseMethodDescriptor yX2_ofWord.desc).map (fun d => d.parameters.length) = some 2 := by decide +kernel
theorem bX2_ofWord {p : Program} {l : Launch} {e : Env} {s : State} {m : MethodId} {args : Array Value} {below : List Frame} {meth : Method} {c : Code} {D : va_G} {dA : Nat → ClassId} {b : Nat} {t : TS} {r : Int32} (C : cx p s m args meth c cX2_ofWord RX2 3 (some .int)) (hK : kk D dA s) (hT : wd D (tw dA b t) s.heap) : ∀ (x1 : Int32) (x2 : Int32) (ls : Array Slot), T_ofWord t x1 x2 = some r → lv_has ls 3 [(0, .ref b), (1, .int x1), (2, .int x2)] → W p l e rmX2_ofWord s m args below meth c s.heap [] 0 0 (MQ below (rQi r) args s 0 0 nof) (F0 m 0 ls []) := by
  obtain ⟨hx, hb, hr, hml, hown, hts, hlocks⟩ := id C
  intro x1 x2 ls h hl
  unfold T_ofWord at h
  refine lv_aload_n hx hb dX2_ofWord_0 rfl (lv_at hl 0 rfl) ?_
  refine lv_iload_n hx hb dX2_ofWord_1 rfl (lv_at hl 1 rfl) ?_
  obtain ⟨v1, hv1, h⟩ := bd1_some h
  refine r_int (run_t (As := [.int x1]) (rest := []) C hK hT (mX2_isWord0 hv1) q2044 q2046 qs132 q162 q2047 ⟨rfl, rfl⟩ hdX2_isWord0 ⟨Nat.le_of_ble_eq_true rfl, Nat.le_of_ble_eq_true rfl⟩ ⟨Nat.zero_le _, Nat.zero_le _⟩ rfl hl.1 rfl (Nat.le_of_ble_eq_true rfl) dX2_ofWord_2) ?_
  refine lv_if_ne (tgt := 10) hx hb dX2_ofWord_5 (by decide) (fun c => ?_) (fun c => ?_)
  · replace h := if_f c h
    refine lv_iload_n hx hb dX2_ofWord_10 rfl (lv_at hl 2 rfl) ?_
    refine lv_bipush (v := 10) hx hb dX2_ofWord_11 (by decide) ?_
    refine lv_bipush (v := 9) hx hb dX2_ofWord_13 (by decide) ?_
    refine lv_aload_n hx hb dX2_ofWord_15 rfl (lv_at hl 0 rfl) ?_
    refine lv_iload_n hx hb dX2_ofWord_16 rfl (lv_at hl 1 rfl) ?_
    obtain ⟨v2, hv2, h⟩ := bd1_some h
    refine r_int (run_t (As := [.int x1]) (rest := [.int (9 : Int32), .int (10 : Int32), .int x2]) C hK hT (mX2_lengthOf hv2) q1678 q1680 qs71 q162 q1681 ⟨rfl, rfl⟩ hdX2_lengthOf ⟨Nat.le_of_ble_eq_true rfl, Nat.le_of_ble_eq_true rfl⟩ ⟨Nat.zero_le _, Nat.zero_le _⟩ rfl hl.1 rfl (Nat.le_of_ble_eq_true rfl) dX2_ofWord_17) ?_
    refine lv_iadd hx hb dX2_ofWord_20 ?_
    obtain ⟨v3, hv3, h⟩ := bd1_some h
    refine r_int (run_s (As := [.int x2, .int (10 : Int32), .int ((9 : Int32) + v2)]) (rest := []) C (mX2_isIn hv3) q1656 q1657 q162 q1658 ⟨rfl, rfl⟩ hdX2_isIn ⟨Nat.le_of_ble_eq_true rfl, Nat.le_of_ble_eq_true rfl⟩ ⟨Nat.zero_le _, Nat.zero_le _⟩ rfl hl.1 rfl (Nat.le_of_ble_eq_true rfl) dX2_ofWord_21) ?_
    refine lv_if_eq (tgt := 37) hx hb dX2_ofWord_24 (by decide) (fun c => ?_) (fun c => ?_)
    · replace h := if_t c h
      refine lv_iload_n hx hb dX2_ofWord_37 rfl (lv_at hl 2 rfl) ?_
      by_cases c : x2 = (0 : Int32)
      · replace h := if_t c h
        rw [c]
        refine lv_tableIn (off := 30) (tgt := 68) hx hb dX2_ofWord_38 (by decide) (by decide) rfl (by decide) ?_
        refine lv_aload_n hx hb dX2_ofWord_68 rfl (lv_at hl 0 rfl) ?_
        refine lv_iload_n hx hb dX2_ofWord_69 rfl (lv_at hl 1 rfl) ?_
        obtain ⟨v4, hv4, h⟩ := bd1_some h
        refine r_int (run_t (As := [.int x1]) (rest := []) C hK hT (mX2_lengthOf hv4) q1678 q1680 qs71 q162 q1681 ⟨rfl, rfl⟩ hdX2_lengthOf ⟨Nat.le_of_ble_eq_true rfl, Nat.le_of_ble_eq_true rfl⟩ ⟨Nat.zero_le _, Nat.zero_le _⟩ rfl hl.1 rfl (Nat.le_of_ble_eq_true rfl) dX2_ofWord_70) ?_
        exact e_ri C h dX2_ofWord_73
      replace h := if_f c h
      have g0 := tI_ne (k := 0) (by decide) c
      by_cases c : x2 = (1 : Int32)
      · replace h := if_t c h
        rw [c]
        refine lv_tableIn (off := 36) (tgt := 74) hx hb dX2_ofWord_38 (by decide) (by decide) rfl (by decide) ?_
        refine lv_aload_n hx hb dX2_ofWord_74 rfl (lv_at hl 0 rfl) ?_
        refine lv_iload_n hx hb dX2_ofWord_75 rfl (lv_at hl 1 rfl) ?_
        obtain ⟨v5, hv5, h⟩ := bd1_some h
        refine r_int (run_t (As := [.int x1]) (rest := []) C hK hT (mX2_senseOf hv5) q1979 q1981 qs122 q162 q1982 ⟨rfl, rfl⟩ hdX2_senseOf ⟨Nat.le_of_ble_eq_true rfl, Nat.le_of_ble_eq_true rfl⟩ ⟨Nat.zero_le _, Nat.zero_le _⟩ rfl hl.1 rfl (Nat.le_of_ble_eq_true rfl) dX2_ofWord_76) ?_
        exact e_ri C h dX2_ofWord_79
      replace h := if_f c h
      have g1 := tI_ne (k := 1) (by decide) c
      by_cases c : x2 = (2 : Int32)
      · replace h := if_t c h
        rw [c]
        refine lv_tableIn (off := 42) (tgt := 80) hx hb dX2_ofWord_38 (by decide) (by decide) rfl (by decide) ?_
        refine lv_aload_n hx hb dX2_ofWord_80 rfl (lv_at hl 0 rfl) ?_
        refine lv_iload_n hx hb dX2_ofWord_81 rfl (lv_at hl 1 rfl) ?_
        obtain ⟨v6, hv6, h⟩ := bd1_some h
        refine r_int (run_t (As := [.int x1]) (rest := []) C hK hT (mX2_setOf hv6) q1912 q1914 qs114 q162 q1915 ⟨rfl, rfl⟩ hdX2_setOf ⟨Nat.le_of_ble_eq_true rfl, Nat.le_of_ble_eq_true rfl⟩ ⟨Nat.zero_le _, Nat.zero_le _⟩ rfl hl.1 rfl (Nat.le_of_ble_eq_true rfl) dX2_ofWord_82) ?_
        exact e_ri C h dX2_ofWord_85
      replace h := if_f c h
      have g2 := tI_ne (k := 2) (by decide) c
      by_cases c : x2 = (3 : Int32)
      · replace h := if_t c h
        rw [c]
        refine lv_tableIn (off := 48) (tgt := 86) hx hb dX2_ofWord_38 (by decide) (by decide) rfl (by decide) ?_
        refine lv_aload_n hx hb dX2_ofWord_86 rfl (lv_at hl 0 rfl) ?_
        refine lv_iload_n hx hb dX2_ofWord_87 rfl (lv_at hl 1 rfl) ?_
        obtain ⟨v7, hv7, h⟩ := bd1_some h
        refine r_int (run_t (As := [.int x1]) (rest := []) C hK hT (mX2_isWritten hv7) q1983 q1985 qs123 q162 q1986 ⟨rfl, rfl⟩ hdX2_isWritten ⟨Nat.le_of_ble_eq_true rfl, Nat.le_of_ble_eq_true rfl⟩ ⟨Nat.zero_le _, Nat.zero_le _⟩ rfl hl.1 rfl (Nat.le_of_ble_eq_true rfl) dX2_ofWord_88) ?_
        refine lv_if_eq (tgt := 98) hx hb dX2_ofWord_91 (by decide) (fun c => ?_) (fun c => ?_)
        · replace h := if_t c h
          refine lv_iconst (v := 0) hx hb dX2_ofWord_98 (by decide) ?_
          exact e_ri C h dX2_ofWord_99
        · replace h := if_f c h
          refine lv_iconst (v := 1) hx hb dX2_ofWord_94 (by decide) ?_
          refine lv_goto (tgt := 99) hx hb dX2_ofWord_95 (by decide) ?_
          exact e_ri C h dX2_ofWord_99
      replace h := if_f c h
      have g3 := tI_ne (k := 3) (by decide) c
      refine lv_tableOut (tgt := 100) hx hb dX2_ofWord_38 (by omega) (by decide) ?_
      refine lv_iconst (v := -1) hx hb dX2_ofWord_100 (by decide) ?_
      exact e_ri C h dX2_ofWord_101
    · replace h := if_f c h
      refine lv_aload_n hx hb dX2_ofWord_27 rfl (lv_at hl 0 rfl) ?_
      refine lv_iload_n hx hb dX2_ofWord_28 rfl (lv_at hl 1 rfl) ?_
      refine lv_iload_n hx hb dX2_ofWord_29 rfl (lv_at hl 2 rfl) ?_
      refine lv_bipush (v := 10) hx hb dX2_ofWord_30 (by decide) ?_
      refine lv_isub hx hb dX2_ofWord_32 ?_
      obtain ⟨v8, hv8, h⟩ := bd1_some h
      refine r_int (run_t (As := [.int x1, .int (x2 - (10 : Int32))]) (rest := []) C hK hT (mX2_letterOf hv8) q1682 q1684 qs72 q162 q1685 ⟨rfl, rfl⟩ hdX2_letterOf ⟨Nat.le_of_ble_eq_true rfl, Nat.le_of_ble_eq_true rfl⟩ ⟨Nat.zero_le _, Nat.zero_le _⟩ rfl hl.1 rfl (Nat.le_of_ble_eq_true rfl) dX2_ofWord_33) ?_
      exact e_ri C h dX2_ofWord_36
  · replace h := if_t c h
    refine lv_iconst (v := -1) hx hb dX2_ofWord_8 (by decide) ?_
    exact e_ri C h dX2_ofWord_9
theorem mX2_ofWord {l : Launch} {D : va_G} {dA : Nat → ClassId} {b : Nat} {t : TS} {x1 : Int32} {x2 : Int32} {r : Int32} (h : T_ofWord t x1 x2 = some r) : Met l yX2_ofWord (ws_ yX2_ofWord cX2_ofWord 3 (some .int)) rmX2_ofWord (tPc D dA b t [.ref b, .int x1, .int x2]) (rQi r) 0 0 nof := en_R (by decide +kernel) rfl (Nat.le_of_ble_eq_true rfl) (fun p e s m below meth c ls C hK hT hl => bX2_ofWord C hK hT x1 x2 ls h hl)
set_option maxRecDepth 20000 in
abbrev rmX2_ofSaying : Room := { frames := 2, cells := 0, slots := 0, locals := 43 }
theorem hdX2_ofSaying : yX2_ofSaying.cls = RX2 ∧ yX2_ofSaying.cls ≠ "java/lang/invoke/MethodHandle" ∧ yX2_ofSaying.cls ≠ "java/lang/invoke/VarHandle" ∧ (parseMethodDescriptor yX2_ofSaying.desc).map (fun d => d.parameters.length) = some 2 := by decide +kernel
theorem bX2_ofSaying {p : Program} {l : Launch} {e : Env} {s : State} {m : MethodId} {args : Array Value} {below : List Frame} {meth : Method} {c : Code} {D : va_G} {dA : Nat → ClassId} {b : Nat} {t : TS} {r : Int32} (C : cx p s m args meth c cX2_ofSaying RX2 3 (some .int)) (hK : kk D dA s) (hT : wd D (tw dA b t) s.heap) : ∀ (x1 : Int32) (x2 : Int32) (ls : Array Slot), T_ofSaying t x1 x2 = some r → lv_has ls 3 [(0, .ref b), (1, .int x1), (2, .int x2)] → W p l e rmX2_ofSaying s m args below meth c s.heap [] 0 0 (MQ below (rQi r) args s 0 0 nof) (F0 m 0 ls []) := by
  obtain ⟨hx, hb, hr, hml, hown, hts, hlocks⟩ := id C
  intro x1 x2 ls h hl
  unfold T_ofSaying at h
  refine lv_aload_n hx hb dX2_ofSaying_0 rfl (lv_at hl 0 rfl) ?_
  refine lv_iload_n hx hb dX2_ofSaying_1 rfl (lv_at hl 1 rfl) ?_
  obtain ⟨v1, hv1, h⟩ := bd1_some h
  refine r_int (run_t (As := [.int x1]) (rest := []) C hK hT (mX2_isSaying hv1) q1959 q1961 qs117 q162 q1962 ⟨rfl, rfl⟩ hdX2_isSaying ⟨Nat.le_of_ble_eq_true rfl, Nat.le_of_ble_eq_true rfl⟩ ⟨Nat.zero_le _, Nat.zero_le _⟩ rfl hl.1 rfl (Nat.le_of_ble_eq_true rfl) dX2_ofSaying_2) ?_
  refine lv_if_ne (tgt := 10) hx hb dX2_ofSaying_5 (by decide) (fun c => ?_) (fun c => ?_)
  · replace h := if_f c h
    refine lv_iload_n hx hb dX2_ofSaying_10 rfl (lv_at hl 2 rfl) ?_
    refine lv_if_ne (tgt := 20) hx hb dX2_ofSaying_11 (by decide) (fun c => ?_) (fun c => ?_)
    · replace h := if_f c h
      refine lv_iload_n hx hb dX2_ofSaying_20 rfl (lv_at hl 2 rfl) ?_
      refine lv_bipush (v := 10) hx hb dX2_ofSaying_21 (by decide) ?_
      refine lv_bipush (v := 9) hx hb dX2_ofSaying_23 (by decide) ?_
      refine lv_aload_n hx hb dX2_ofSaying_25 rfl (lv_at hl 0 rfl) ?_
      refine lv_iload_n hx hb dX2_ofSaying_26 rfl (lv_at hl 1 rfl) ?_
      obtain ⟨v2, hv2, h⟩ := bd1_some h
      refine r_int (run_t (As := [.int x1]) (rest := [.int (9 : Int32), .int (10 : Int32), .int x2]) C hK hT (mX2_sensesOf hv2) q1967 q1969 qs119 q162 q1970 ⟨rfl, rfl⟩ hdX2_sensesOf ⟨Nat.le_of_ble_eq_true rfl, Nat.le_of_ble_eq_true rfl⟩ ⟨Nat.zero_le _, Nat.zero_le _⟩ rfl hl.1 rfl (Nat.le_of_ble_eq_true rfl) dX2_ofSaying_27) ?_
      refine lv_iadd hx hb dX2_ofSaying_30 ?_
      obtain ⟨v3, hv3, h⟩ := bd1_some h
      refine r_int (run_s (As := [.int x2, .int (10 : Int32), .int ((9 : Int32) + v2)]) (rest := []) C (mX2_isIn hv3) q1656 q1657 q162 q1658 ⟨rfl, rfl⟩ hdX2_isIn ⟨Nat.le_of_ble_eq_true rfl, Nat.le_of_ble_eq_true rfl⟩ ⟨Nat.zero_le _, Nat.zero_le _⟩ rfl hl.1 rfl (Nat.le_of_ble_eq_true rfl) dX2_ofSaying_31) ?_
      refine lv_if_eq (tgt := 49) hx hb dX2_ofSaying_34 (by decide) (fun c => ?_) (fun c => ?_)
      · replace h := if_t c h
        refine lv_iconst (v := -1) hx hb dX2_ofSaying_49 (by decide) ?_
        exact e_ri C h dX2_ofSaying_50
      · replace h := if_f c h
        refine lv_aload_n hx hb dX2_ofSaying_37 rfl (lv_at hl 0 rfl) ?_
        refine lv_iload_n hx hb dX2_ofSaying_38 rfl (lv_at hl 1 rfl) ?_
        refine lv_iload_n hx hb dX2_ofSaying_39 rfl (lv_at hl 2 rfl) ?_
        refine lv_bipush (v := 10) hx hb dX2_ofSaying_40 (by decide) ?_
        refine lv_isub hx hb dX2_ofSaying_42 ?_
        obtain ⟨v4, hv4, h⟩ := bd1_some h
        refine r_int (run_t (As := [.int x1, .int (x2 - (10 : Int32))]) (rest := []) C hK hT (mX2_senseAt hv4) q1971 q1973 qs120 q162 q1974 ⟨rfl, rfl⟩ hdX2_senseAt ⟨Nat.le_of_ble_eq_true rfl, Nat.le_of_ble_eq_true rfl⟩ ⟨Nat.zero_le _, Nat.zero_le _⟩ rfl hl.1 rfl (Nat.le_of_ble_eq_true rfl) dX2_ofSaying_43) ?_
        refine lv_goto (tgt := 50) hx hb dX2_ofSaying_46 (by decide) ?_
        exact e_ri C h dX2_ofSaying_50
    · replace h := if_t c h
      refine lv_aload_n hx hb dX2_ofSaying_14 rfl (lv_at hl 0 rfl) ?_
      refine lv_iload_n hx hb dX2_ofSaying_15 rfl (lv_at hl 1 rfl) ?_
      obtain ⟨v5, hv5, h⟩ := bd1_some h
      refine r_int (run_t (As := [.int x1]) (rest := []) C hK hT (mX2_sensesOf hv5) q1967 q1969 qs119 q162 q1970 ⟨rfl, rfl⟩ hdX2_sensesOf ⟨Nat.le_of_ble_eq_true rfl, Nat.le_of_ble_eq_true rfl⟩ ⟨Nat.zero_le _, Nat.zero_le _⟩ rfl hl.1 rfl (Nat.le_of_ble_eq_true rfl) dX2_ofSaying_16) ?_
      exact e_ri C h dX2_ofSaying_19
  · replace h := if_t c h
    refine lv_iconst (v := -1) hx hb dX2_ofSaying_8 (by decide) ?_
    exact e_ri C h dX2_ofSaying_9
theorem mX2_ofSaying {l : Launch} {D : va_G} {dA : Nat → ClassId} {b : Nat} {t : TS} {x1 : Int32} {x2 : Int32} {r : Int32} (h : T_ofSaying t x1 x2 = some r) : Met l yX2_ofSaying (ws_ yX2_ofSaying cX2_ofSaying 3 (some .int)) rmX2_ofSaying (tPc D dA b t [.ref b, .int x1, .int x2]) (rQi r) 0 0 nof := en_R (by decide +kernel) rfl (Nat.le_of_ble_eq_true rfl) (fun p e s m below meth c ls C hK hT hl => bX2_ofSaying C hK hT x1 x2 ls h hl)
set_option maxRecDepth 20000 in
abbrev rmX2_written : Room := { frames := 2, cells := 0, slots := 0, locals := 42 }
theorem hdX2_written : yX2_written.cls = RX2 ∧ yX2_written.cls ≠ "java/lang/invoke/MethodHandle" ∧ yX2_written.cls ≠ "java/lang/invoke/VarHandle" ∧ (parseMethodDescriptor yX2_written.desc).map (fun d => d.parameters.length) = some 1 := by decide +kernel
theorem bX2_written {p : Program} {l : Launch} {e : Env} {s : State} {m : MethodId} {args : Array Value} {below : List Frame} {meth : Method} {c : Code} {D : va_G} {dA : Nat → ClassId} {b : Nat} {t : TS} {r : Int32} (C : cx p s m args meth c cX2_written RX2 2 (some .int)) (hK : kk D dA s) (hT : wd D (tw dA b t) s.heap) : ∀ (x1 : Int32) (ls : Array Slot), T_written t x1 = some r → lv_has ls 2 [(0, .ref b), (1, .int x1)] → W p l e rmX2_written s m args below meth c s.heap [] 0 0 (MQ below (rQi r) args s 0 0 nof) (F0 m 0 ls []) := by
  obtain ⟨hx, hb, hr, hml, hown, hts, hlocks⟩ := id C
  intro x1 ls h hl
  unfold T_written at h
  refine lv_aload_n hx hb dX2_written_0 rfl (lv_at hl 0 rfl) ?_
  refine lv_iload_n hx hb dX2_written_1 rfl (lv_at hl 1 rfl) ?_
  obtain ⟨v1, hv1, h⟩ := bd1_some h
  refine r_int (run_t (As := [.int x1]) (rest := []) C hK hT (mX2_isOut hv1) q1894 q1896 qs111 q162 q1897 ⟨rfl, rfl⟩ hdX2_isOut ⟨Nat.le_of_ble_eq_true rfl, Nat.le_of_ble_eq_true rfl⟩ ⟨Nat.zero_le _, Nat.zero_le _⟩ rfl hl.1 rfl (Nat.le_of_ble_eq_true rfl) dX2_written_2) ?_
  refine lv_if_eq (tgt := 35) hx hb dX2_written_5 (by decide) (fun c => ?_) (fun c => ?_)
  · replace h := if_t c h
    refine lv_iload_n hx hb dX2_written_35 rfl (lv_at hl 1 rfl) ?_
    exact e_ri C h dX2_written_36
  · replace h := if_f c h
    refine lv_aload_n hx hb dX2_written_8 rfl (lv_at hl 0 rfl) ?_
    refine tg0 C hK hT dX2_written_9 ?_
    refine lv_bipush (v := 64) hx hb dX2_written_12 (by decide) ?_
    refine lv_iload_n hx hb dX2_written_14 rfl (lv_at hl 1 rfl) ?_
    refine lv_iadd hx hb dX2_written_15 ?_
    obtain ⟨hi, h⟩ := ck_some h
    refine tl0 C hK hT hi dX2_written_16 ?_
    refine lv_if_lt (tgt := 35) hx hb dX2_written_17 (by decide) (fun c => ?_) (fun c => ?_)
    · replace h := if_t c h
      refine lv_iload_n hx hb dX2_written_35 rfl (lv_at hl 1 rfl) ?_
      exact e_ri C h dX2_written_36
    · replace h := if_f c h
      refine lv_bipush (v := 100) hx hb dX2_written_20 (by decide) ?_
      refine lv_aload_n hx hb dX2_written_22 rfl (lv_at hl 0 rfl) ?_
      refine tg0 C hK hT dX2_written_23 ?_
      refine lv_bipush (v := 64) hx hb dX2_written_26 (by decide) ?_
      refine lv_iload_n hx hb dX2_written_28 rfl (lv_at hl 1 rfl) ?_
      refine lv_iadd hx hb dX2_written_29 ?_
      obtain ⟨hi, h⟩ := ck_some h
      refine tl0 C hK hT hi dX2_written_30 ?_
      refine lv_iadd hx hb dX2_written_31 ?_
      refine lv_goto (tgt := 36) hx hb dX2_written_32 (by decide) ?_
      exact e_ri C h dX2_written_36
theorem mX2_written {l : Launch} {D : va_G} {dA : Nat → ClassId} {b : Nat} {t : TS} {x1 : Int32} {r : Int32} (h : T_written t x1 = some r) : Met l yX2_written (ws_ yX2_written cX2_written 2 (some .int)) rmX2_written (tPc D dA b t [.ref b, .int x1]) (rQi r) 0 0 nof := en_R (by decide +kernel) rfl (Nat.le_of_ble_eq_true rfl) (fun p e s m below meth c ls C hK hT hl => bX2_written C hK hT x1 ls h hl)
set_option maxRecDepth 20000 in
abbrev rmX2_mistaken : Room := { frames := 3, cells := 0, slots := 0, locals := 63 }
theorem hdX2_mistaken : yX2_mistaken.cls = RX2 ∧ yX2_mistaken.cls ≠ "java/lang/invoke/MethodHandle" ∧ yX2_mistaken.cls ≠ "java/lang/invoke/VarHandle" ∧ (parseMethodDescriptor yX2_mistaken.desc).map (fun d => d.parameters.length) = some 2 := by decide +kernel
theorem bX2_mistaken_38 {p : Program} {l : Launch} {e : Env} {s : State} {m : MethodId} {args : Array Value} {below : List Frame} {meth : Method} {c : Code} {D : va_G} {dA : Nat → ClassId} {b : Nat} {t : TS} {r : Int32} (C : cx p s m args meth c cX2_mistaken RX2 4 (some .boolean)) (hK : kk D dA s) (hT : wd D (tw dA b t) s.heap) : ∀ (n : Nat), ∀ (x1 : Int32) (x2 : Int32) (x3 : Int32) (ls : Array Slot), T_mistaken_38 t n x1 x2 x3 = some r → lv_has ls 4 [(0, .ref b), (1, .int x1), (2, .int x2), (3, .int x3)] → W p l e rmX2_mistaken s m args below meth c s.heap [] 0 0 (MQ below (rQi r) args s 0 0 nof) (F0 m 38 ls []) := by
  obtain ⟨hx, hb, hr, hml, hown, hts, hlocks⟩ := id C
  intro n
  induction n with
  | zero =>
    intro x1 x2 x3 ls h hl
    have h : none = some _ := h
    cases h
  | succ n ih =>
    intro x1 x2 x3 ls h hl
    rw [T_mistaken_38] at h
    refine lv_iload_n hx hb dX2_mistaken_38 rfl (lv_at hl 3 rfl) ?_
    refine lv_aload_n hx hb dX2_mistaken_39 rfl (lv_at hl 0 rfl) ?_
    refine lv_iload_n hx hb dX2_mistaken_40 rfl (lv_at hl 1 rfl) ?_
    obtain ⟨v1, hv1, h⟩ := bd1_some h
    refine r_int (run_t (As := [.int x1]) (rest := [.int x3]) C hK hT (mX2_lengthOf hv1) q1678 q1680 qs71 q162 q1681 ⟨rfl, rfl⟩ hdX2_lengthOf ⟨Nat.le_of_ble_eq_true rfl, Nat.le_of_ble_eq_true rfl⟩ ⟨Nat.zero_le _, Nat.zero_le _⟩ rfl hl.1 rfl (Nat.le_of_ble_eq_true rfl) dX2_mistaken_41) ?_
    refine lv_icmp_ge (tgt := 78) hx hb dX2_mistaken_44 (by decide) (fun c => ?_) (fun c => ?_)
    · replace h := if_t c h
      refine lv_iconst (v := 1) hx hb dX2_mistaken_78 (by decide) ?_
      exact e_rz C (Or.inr rfl) h dX2_mistaken_79
    · replace h := if_f c h
      refine lv_aload_n hx hb dX2_mistaken_47 rfl (lv_at hl 0 rfl) ?_
      refine lv_aload_n hx hb dX2_mistaken_48 rfl (lv_at hl 0 rfl) ?_
      refine lv_iload_n hx hb dX2_mistaken_49 rfl (lv_at hl 1 rfl) ?_
      refine lv_iload_n hx hb dX2_mistaken_50 rfl (lv_at hl 3 rfl) ?_
      obtain ⟨v2, hv2, h⟩ := bd1_some h
      refine r_int (run_t (As := [.int x1, .int x3]) (rest := [.ref b]) C hK hT (mX2_letterOf hv2) q1682 q1684 qs72 q162 q1685 ⟨rfl, rfl⟩ hdX2_letterOf ⟨Nat.le_of_ble_eq_true rfl, Nat.le_of_ble_eq_true rfl⟩ ⟨Nat.zero_le _, Nat.zero_le _⟩ rfl hl.1 rfl (Nat.le_of_ble_eq_true rfl) dX2_mistaken_51) ?_
      obtain ⟨v3, hv3, h⟩ := bd1_some h
      refine r_int (run_t (As := [.int v2]) (rest := []) C hK hT (mX2_written hv3) q2056 q2058 qs133 q162 q2059 ⟨rfl, rfl⟩ hdX2_written ⟨Nat.le_of_ble_eq_true rfl, Nat.le_of_ble_eq_true rfl⟩ ⟨Nat.zero_le _, Nat.zero_le _⟩ rfl hl.1 rfl (Nat.le_of_ble_eq_true rfl) dX2_mistaken_54) ?_
      refine lv_aload_n hx hb dX2_mistaken_57 rfl (lv_at hl 0 rfl) ?_
      refine lv_aload_n hx hb dX2_mistaken_58 rfl (lv_at hl 0 rfl) ?_
      refine lv_iload_n hx hb dX2_mistaken_59 rfl (lv_at hl 2 rfl) ?_
      refine lv_iload_n hx hb dX2_mistaken_60 rfl (lv_at hl 3 rfl) ?_
      obtain ⟨v4, hv4, h⟩ := bd1_some h
      refine r_int (run_t (As := [.int x2, .int x3]) (rest := [.ref b, .int v3]) C hK hT (mX2_letterOf hv4) q1682 q1684 qs72 q162 q1685 ⟨rfl, rfl⟩ hdX2_letterOf ⟨Nat.le_of_ble_eq_true rfl, Nat.le_of_ble_eq_true rfl⟩ ⟨Nat.zero_le _, Nat.zero_le _⟩ rfl hl.1 rfl (Nat.le_of_ble_eq_true rfl) dX2_mistaken_61) ?_
      obtain ⟨v5, hv5, h⟩ := bd1_some h
      refine r_int (run_t (As := [.int v4]) (rest := [.int v3]) C hK hT (mX2_written hv5) q2056 q2058 qs133 q162 q2059 ⟨rfl, rfl⟩ hdX2_written ⟨Nat.le_of_ble_eq_true rfl, Nat.le_of_ble_eq_true rfl⟩ ⟨Nat.zero_le _, Nat.zero_le _⟩ rfl hl.1 rfl (Nat.le_of_ble_eq_true rfl) dX2_mistaken_64) ?_
      refine lv_icmp_eq (tgt := 72) hx hb dX2_mistaken_67 (by decide) (fun c => ?_) (fun c => ?_)
      · replace h := if_t c h
        obtain ⟨v6, ev6⟩ : ∃ y : Int32, y = x3 + (1 : Int32) := ⟨_, rfl⟩
        replace h := lt1_sub ev6 h
        refine lv_iinc (v := v6) (lv' := [(3, .int v6), (0, .ref b), (1, .int x1), (2, .int x2)]) hx hb dX2_mistaken_72 hl (k := 3) rfl (by rw [ev6]; rfl) (by decide) rfl (fun ls hl => ?_)
        refine lv_goto (tgt := 38) hx hb dX2_mistaken_75 (by decide) ?_
        exact ih x1 x2 v6 ls h (lv_sub hl [1, 2, 3, 0] rfl)
      · replace h := if_f c h
        refine lv_iconst (v := 0) hx hb dX2_mistaken_70 (by decide) ?_
        exact e_rz C (Or.inl rfl) h dX2_mistaken_71
theorem bX2_mistaken {p : Program} {l : Launch} {e : Env} {s : State} {m : MethodId} {args : Array Value} {below : List Frame} {meth : Method} {c : Code} {D : va_G} {dA : Nat → ClassId} {b : Nat} {t : TS} {r : Int32} (C : cx p s m args meth c cX2_mistaken RX2 4 (some .boolean)) (hK : kk D dA s) (hT : wd D (tw dA b t) s.heap) : ∀ (x1 : Int32) (x2 : Int32) (ls : Array Slot), T_mistaken t x1 x2 = some r → lv_has ls 4 [(0, .ref b), (1, .int x1), (2, .int x2)] → W p l e rmX2_mistaken s m args below meth c s.heap [] 0 0 (MQ below (rQi r) args s 0 0 nof) (F0 m 0 ls []) := by
  obtain ⟨hx, hb, hr, hml, hown, hts, hlocks⟩ := id C
  intro x1 x2 ls h hl
  unfold T_mistaken at h
  refine lv_aload_n hx hb dX2_mistaken_0 rfl (lv_at hl 0 rfl) ?_
  refine lv_iload_n hx hb dX2_mistaken_1 rfl (lv_at hl 1 rfl) ?_
  obtain ⟨v1, hv1, h⟩ := bd1_some h
  refine r_int (run_t (As := [.int x1]) (rest := []) C hK hT (mX2_isWord0 hv1) q2044 q2046 qs132 q162 q2047 ⟨rfl, rfl⟩ hdX2_isWord0 ⟨Nat.le_of_ble_eq_true rfl, Nat.le_of_ble_eq_true rfl⟩ ⟨Nat.zero_le _, Nat.zero_le _⟩ rfl hl.1 rfl (Nat.le_of_ble_eq_true rfl) dX2_mistaken_2) ?_
  refine lv_if_eq (tgt := 34) hx hb dX2_mistaken_5 (by decide) (fun c => ?_) (fun c => ?_)
  · replace h := if_t c h
    refine lv_iconst (v := 0) hx hb dX2_mistaken_34 (by decide) ?_
    exact e_rz C (Or.inl rfl) h dX2_mistaken_35
  · replace h := if_f c h
    refine lv_aload_n hx hb dX2_mistaken_8 rfl (lv_at hl 0 rfl) ?_
    refine lv_iload_n hx hb dX2_mistaken_9 rfl (lv_at hl 2 rfl) ?_
    obtain ⟨v2, hv2, h⟩ := bd1_some h
    refine r_int (run_t (As := [.int x2]) (rest := []) C hK hT (mX2_isWord0 hv2) q2044 q2046 qs132 q162 q2047 ⟨rfl, rfl⟩ hdX2_isWord0 ⟨Nat.le_of_ble_eq_true rfl, Nat.le_of_ble_eq_true rfl⟩ ⟨Nat.zero_le _, Nat.zero_le _⟩ rfl hl.1 rfl (Nat.le_of_ble_eq_true rfl) dX2_mistaken_10) ?_
    refine lv_if_eq (tgt := 34) hx hb dX2_mistaken_13 (by decide) (fun c => ?_) (fun c => ?_)
    · replace h := if_t c h
      refine lv_iconst (v := 0) hx hb dX2_mistaken_34 (by decide) ?_
      exact e_rz C (Or.inl rfl) h dX2_mistaken_35
    · replace h := if_f c h
      refine lv_iload_n hx hb dX2_mistaken_16 rfl (lv_at hl 1 rfl) ?_
      refine lv_iload_n hx hb dX2_mistaken_17 rfl (lv_at hl 2 rfl) ?_
      refine lv_icmp_eq (tgt := 34) hx hb dX2_mistaken_18 (by decide) (fun c => ?_) (fun c => ?_)
      · replace h := if_t c h
        refine lv_iconst (v := 0) hx hb dX2_mistaken_34 (by decide) ?_
        exact e_rz C (Or.inl rfl) h dX2_mistaken_35
      · replace h := if_f c h
        refine lv_aload_n hx hb dX2_mistaken_21 rfl (lv_at hl 0 rfl) ?_
        refine lv_iload_n hx hb dX2_mistaken_22 rfl (lv_at hl 1 rfl) ?_
        obtain ⟨v3, hv3, h⟩ := bd1_some h
        refine r_int (run_t (As := [.int x1]) (rest := []) C hK hT (mX2_lengthOf hv3) q1678 q1680 qs71 q162 q1681 ⟨rfl, rfl⟩ hdX2_lengthOf ⟨Nat.le_of_ble_eq_true rfl, Nat.le_of_ble_eq_true rfl⟩ ⟨Nat.zero_le _, Nat.zero_le _⟩ rfl hl.1 rfl (Nat.le_of_ble_eq_true rfl) dX2_mistaken_23) ?_
        refine lv_aload_n hx hb dX2_mistaken_26 rfl (lv_at hl 0 rfl) ?_
        refine lv_iload_n hx hb dX2_mistaken_27 rfl (lv_at hl 2 rfl) ?_
        obtain ⟨v4, hv4, h⟩ := bd1_some h
        refine r_int (run_t (As := [.int x2]) (rest := [.int v3]) C hK hT (mX2_lengthOf hv4) q1678 q1680 qs71 q162 q1681 ⟨rfl, rfl⟩ hdX2_lengthOf ⟨Nat.le_of_ble_eq_true rfl, Nat.le_of_ble_eq_true rfl⟩ ⟨Nat.zero_le _, Nat.zero_le _⟩ rfl hl.1 rfl (Nat.le_of_ble_eq_true rfl) dX2_mistaken_28) ?_
        refine lv_icmp_eq (tgt := 36) hx hb dX2_mistaken_31 (by decide) (fun c => ?_) (fun c => ?_)
        · replace h := if_t c h
          refine lv_iconst (v := 0) hx hb dX2_mistaken_36 (by decide) ?_
          refine lv_istore_n (lv' := [(3, .int (0 : Int32)), (0, .ref b), (1, .int x1), (2, .int x2)]) hx hb dX2_mistaken_37 rfl hl (by decide) rfl (fun ls hl => ?_)
          exact bX2_mistaken_38 C hK hT fu x1 x2 (0 : Int32) ls h (lv_sub hl [1, 2, 3, 0] rfl)
        · replace h := if_f c h
          refine lv_iconst (v := 0) hx hb dX2_mistaken_34 (by decide) ?_
          exact e_rz C (Or.inl rfl) h dX2_mistaken_35
theorem mX2_mistaken {l : Launch} {D : va_G} {dA : Nat → ClassId} {b : Nat} {t : TS} {x1 : Int32} {x2 : Int32} {r : Int32} (h : T_mistaken t x1 x2 = some r) : Met l yX2_mistaken (ws_ yX2_mistaken cX2_mistaken 4 (some .boolean)) rmX2_mistaken (tPc D dA b t [.ref b, .int x1, .int x2]) (rQi r) 0 0 nof := en_R (by decide +kernel) rfl (Nat.le_of_ble_eq_true rfl) (fun p e s m below meth c ls C hK hT hl => bX2_mistaken C hK hT x1 x2 ls h hl)
set_option maxRecDepth 20000 in
abbrev rmX2_said : Room := { frames := 5, cells := 0, slots := 0, locals := 114 }
theorem hdX2_said : yX2_said.cls = RX2 ∧ yX2_said.cls ≠ "java/lang/invoke/MethodHandle" ∧ yX2_said.cls ≠ "java/lang/invoke/VarHandle" ∧ (parseMethodDescriptor yX2_said.desc).map (fun d => d.parameters.length) = some 3 := by decide +kernel
theorem bX2_said_76 {p : Program} {l : Launch} {e : Env} {s : State} {m : MethodId} {args : Array Value} {below : List Frame} {meth : Method} {c : Code} {D : va_G} {dA : Nat → ClassId} {b : Nat} {t : TS} {r : Int32} (C : cx p s m args meth c cX2_said RX2 6 (some .int)) (hK : kk D dA s) (hT : wd D (tw dA b t) s.heap) : ∀ (y1 : Int32) (y2 : Int32) (y3 : Int32) (ls : Array Slot), T_said_76 t y1 y2 y3 = some r → lv_has ls 6 [] → W p l e rmX2_said s m args below meth c s.heap [] 0 0 (MQ below (rQi r) args s 0 0 nof) (F0 m 76 ls [.int y3, .int y2, .int y1, .ref b]) := by
  obtain ⟨hx, hb, hr, hml, hown, hts, hlocks⟩ := id C
  intro y1 y2 y3 ls h hl
  unfold T_said_76 at h
  obtain ⟨v1, hv1, h⟩ := bd1_some h
  refine r_int (run_t (As := [.int y1, .int y2, .int y3]) (rest := []) C hK hT (mX2_wordFor hv1) q1975 q1977 qs121 q162 q1978 ⟨rfl, rfl⟩ hdX2_wordFor ⟨Nat.le_of_ble_eq_true rfl, Nat.le_of_ble_eq_true rfl⟩ ⟨Nat.zero_le _, Nat.zero_le _⟩ rfl hl.1 rfl (Nat.le_of_ble_eq_true rfl) dX2_said_76) ?_
  exact e_ri C h dX2_said_79
theorem bX2_said_118 {p : Program} {l : Launch} {e : Env} {s : State} {m : MethodId} {args : Array Value} {below : List Frame} {meth : Method} {c : Code} {D : va_G} {dA : Nat → ClassId} {b : Nat} {t : TS} {r : Int32} (C : cx p s m args meth c cX2_said RX2 6 (some .int)) (hK : kk D dA s) (hT : wd D (tw dA b t) s.heap) {k86 : Int32 → Int32 → Int32 → Int32 → Option Int32} (hk86 : ∀ (x1 : Int32) (x2 : Int32) (x4 : Int32) (x5 : Int32) (ls : Array Slot), k86 x1 x2 x4 x5 = some r → lv_has ls 6 [(0, .ref b), (1, .int x1), (2, .int x2), (4, .int x4), (5, .int x5)] → W p l e rmX2_said s m args below meth c s.heap [] 0 0 (MQ below (rQi r) args s 0 0 nof) (F0 m 86 ls [])) : ∀ (x1 : Int32) (x2 : Int32) (x5 : Int32) (y0 : Int32) (y3 : Int32) (y4 : Int32) (y5 : Int32) (ls : Array Slot), T_said_118 k86 t x1 x2 x5 y0 y3 y4 y5 = some r → lv_has ls 6 [(0, .ref b), (1, .int x1), (2, .int x2), (5, .int x5)] → W p l e rmX2_said s m args below meth c s.heap [] 0 0 (MQ below (rQi r) args s 0 0 nof) (F0 m 118 ls [.int y5, .int y4, .int y3, .ref b, .ref b, .int y0]) := by
  obtain ⟨hx, hb, hr, hml, hown, hts, hlocks⟩ := id C
  intro x1 x2 x5 y0 y3 y4 y5 ls h hl
  unfold T_said_118 at h
  obtain ⟨v1, hv1, h⟩ := bd1_some h
  refine r_int (run_t (As := [.int y3, .int y4, .int y5]) (rest := [.ref b, .int y0]) C hK hT (mX2_wordFor hv1) q1975 q1977 qs121 q162 q1978 ⟨rfl, rfl⟩ hdX2_wordFor ⟨Nat.le_of_ble_eq_true rfl, Nat.le_of_ble_eq_true rfl⟩ ⟨Nat.zero_le _, Nat.zero_le _⟩ rfl hl.1 rfl (Nat.le_of_ble_eq_true rfl) dX2_said_118) ?_
  obtain ⟨v2, hv2, h⟩ := bd1_some h
  refine r_int (run_t (As := [.int v1]) (rest := [.int y0]) C hK hT (mX2_lengthOf hv2) q1678 q1680 qs71 q162 q1681 ⟨rfl, rfl⟩ hdX2_lengthOf ⟨Nat.le_of_ble_eq_true rfl, Nat.le_of_ble_eq_true rfl⟩ ⟨Nat.zero_le _, Nat.zero_le _⟩ rfl hl.1 rfl (Nat.le_of_ble_eq_true rfl) dX2_said_121) ?_
  refine lv_iadd hx hb dX2_said_124 ?_
  refine lv_topi (fun v3 ev3 => ?_)
  replace h := lt1_sub ev3 h
  refine lv_istore (lv' := [(4, .int v3), (0, .ref b), (1, .int x1), (2, .int x2), (5, .int x5)]) hx hb dX2_said_125 hl (by decide) rfl (fun ls hl => ?_)
  obtain ⟨v4, ev4⟩ : ∃ y : Int32, y = x5 + (1 : Int32) := ⟨_, rfl⟩
  replace h := lt1_sub ev4 h
  refine lv_iinc (v := v4) (lv' := [(5, .int v4), (4, .int v3), (0, .ref b), (1, .int x1), (2, .int x2)]) hx hb dX2_said_127 hl (k := 4) rfl (by rw [ev4]; rfl) (by decide) rfl (fun ls hl => ?_)
  refine lv_goto (tgt := 86) hx hb dX2_said_130 (by decide) ?_
  exact hk86 x1 x2 v3 v4 ls h (lv_sub hl [2, 3, 4, 1, 0] rfl)
theorem bX2_said_86 {p : Program} {l : Launch} {e : Env} {s : State} {m : MethodId} {args : Array Value} {below : List Frame} {meth : Method} {c : Code} {D : va_G} {dA : Nat → ClassId} {b : Nat} {t : TS} {r : Int32} (C : cx p s m args meth c cX2_said RX2 6 (some .int)) (hK : kk D dA s) (hT : wd D (tw dA b t) s.heap) : ∀ (n : Nat), ∀ (x1 : Int32) (x2 : Int32) (x4 : Int32) (x5 : Int32) (ls : Array Slot), T_said_86 t n x1 x2 x4 x5 = some r → lv_has ls 6 [(0, .ref b), (1, .int x1), (2, .int x2), (4, .int x4), (5, .int x5)] → W p l e rmX2_said s m args below meth c s.heap [] 0 0 (MQ below (rQi r) args s 0 0 nof) (F0 m 86 ls []) := by
  obtain ⟨hx, hb, hr, hml, hown, hts, hlocks⟩ := id C
  intro n
  induction n with
  | zero =>
    intro x1 x2 x4 x5 ls h hl
    have h : none = some _ := h
    cases h
  | succ n ih =>
    intro x1 x2 x4 x5 ls h hl
    rw [T_said_86] at h
    refine lv_iload hx hb dX2_said_86 (lv_at hl 4 rfl) ?_
    refine lv_aload_n hx hb dX2_said_88 rfl (lv_at hl 0 rfl) ?_
    refine lv_iload_n hx hb dX2_said_89 rfl (lv_at hl 1 rfl) ?_
    obtain ⟨v1, hv1, h⟩ := bd1_some h
    refine r_int (run_t (As := [.int x1]) (rest := [.int x5]) C hK hT (mX2_sensesOf hv1) q1967 q1969 qs119 q162 q1970 ⟨rfl, rfl⟩ hdX2_sensesOf ⟨Nat.le_of_ble_eq_true rfl, Nat.le_of_ble_eq_true rfl⟩ ⟨Nat.zero_le _, Nat.zero_le _⟩ rfl hl.1 rfl (Nat.le_of_ble_eq_true rfl) dX2_said_90) ?_
    refine lv_icmp_ge (tgt := 133) hx hb dX2_said_93 (by decide) (fun c => ?_) (fun c => ?_)
    · replace h := if_t c h
      refine lv_iload hx hb dX2_said_133 (lv_at hl 3 rfl) ?_
      exact e_ri C h dX2_said_135
    · replace h := if_f c h
      refine lv_iload hx hb dX2_said_96 (lv_at hl 3 rfl) ?_
      refine lv_aload_n hx hb dX2_said_98 rfl (lv_at hl 0 rfl) ?_
      refine lv_aload_n hx hb dX2_said_99 rfl (lv_at hl 0 rfl) ?_
      refine lv_aload_n hx hb dX2_said_100 rfl (lv_at hl 0 rfl) ?_
      refine lv_iload_n hx hb dX2_said_101 rfl (lv_at hl 1 rfl) ?_
      refine lv_iload hx hb dX2_said_102 (lv_at hl 4 rfl) ?_
      obtain ⟨v2, hv2, h⟩ := bd1_some h
      refine r_int (run_t (As := [.int x1, .int x5]) (rest := [.ref b, .ref b, .int x4]) C hK hT (mX2_senseAt hv2) q1971 q1973 qs120 q162 q1974 ⟨rfl, rfl⟩ hdX2_senseAt ⟨Nat.le_of_ble_eq_true rfl, Nat.le_of_ble_eq_true rfl⟩ ⟨Nat.zero_le _, Nat.zero_le _⟩ rfl hl.1 rfl (Nat.le_of_ble_eq_true rfl) dX2_said_104) ?_
      refine lv_iload_n hx hb dX2_said_107 rfl (lv_at hl 2 rfl) ?_
      refine lv_iload_n hx hb dX2_said_108 rfl (lv_at hl 2 rfl) ?_
      refine lv_iconst (v := -1) hx hb dX2_said_109 (by decide) ?_
      refine lv_icmp_ne (tgt := 117) hx hb dX2_said_110 (by decide) (fun c => ?_) (fun c => ?_)
      · replace h := if_f c h
        refine lv_iconst (v := 0) hx hb dX2_said_117 (by decide) ?_
        exact bX2_said_118 C hK hT ih x1 x2 x5 x4 v2 x2 (0 : Int32) ls h (lv_sub hl [0, 1, 2, 4] rfl)
      · replace h := if_t c h
        refine lv_iconst (v := 1) hx hb dX2_said_113 (by decide) ?_
        refine lv_goto (tgt := 118) hx hb dX2_said_114 (by decide) ?_
        exact bX2_said_118 C hK hT ih x1 x2 x5 x4 v2 x2 (1 : Int32) ls h (lv_sub hl [0, 1, 2, 4] rfl)
theorem bX2_said_46 {p : Program} {l : Launch} {e : Env} {s : State} {m : MethodId} {args : Array Value} {below : List Frame} {meth : Method} {c : Code} {D : va_G} {dA : Nat → ClassId} {b : Nat} {t : TS} {r : Int32} (C : cx p s m args meth c cX2_said RX2 6 (some .int)) (hK : kk D dA s) (hT : wd D (tw dA b t) s.heap) : ∀ (x1 : Int32) (x2 : Int32) (x3 : Int32) (y1 : Int32) (y2 : Int32) (y3 : Int32) (ls : Array Slot), T_said_46 t x1 x2 x3 y1 y2 y3 = some r → lv_has ls 6 [(0, .ref b), (1, .int x1), (2, .int x2), (3, .int x3)] → W p l e rmX2_said s m args below meth c s.heap [] 0 0 (MQ below (rQi r) args s 0 0 nof) (F0 m 46 ls [.int y3, .int y2, .int y1, .ref b]) := by
  obtain ⟨hx, hb, hr, hml, hown, hts, hlocks⟩ := id C
  intro x1 x2 x3 y1 y2 y3 ls h hl
  unfold T_said_46 at h
  obtain ⟨v1, hv1, h⟩ := bd1_some h
  refine r_int (run_t (As := [.int y1, .int y2, .int y3]) (rest := []) C hK hT (mX2_canSay hv1) q1963 q1965 qs118 q162 q1966 ⟨rfl, rfl⟩ hdX2_canSay ⟨Nat.le_of_ble_eq_true rfl, Nat.le_of_ble_eq_true rfl⟩ ⟨Nat.zero_le _, Nat.zero_le _⟩ rfl hl.1 rfl (Nat.le_of_ble_eq_true rfl) dX2_said_46) ?_
  refine lv_if_ne (tgt := 54) hx hb dX2_said_49 (by decide) (fun c => ?_) (fun c => ?_)
  · replace h := if_f c h
    refine lv_iload_n hx hb dX2_said_54 rfl (lv_at hl 3 rfl) ?_
    refine lv_if_lt (tgt := 80) hx hb dX2_said_55 (by decide) (fun c => ?_) (fun c => ?_)
    · replace h := if_t c h
      refine lv_iconst (v := 0) hx hb dX2_said_80 (by decide) ?_
      refine lv_istore (lv' := [(4, .int (0 : Int32)), (0, .ref b), (1, .int x1), (2, .int x2), (3, .int x3)]) hx hb dX2_said_81 hl (by decide) rfl (fun ls hl => ?_)
      refine lv_iconst (v := 0) hx hb dX2_said_83 (by decide) ?_
      refine lv_istore (lv' := [(5, .int (0 : Int32)), (4, .int (0 : Int32)), (0, .ref b), (1, .int x1), (2, .int x2), (3, .int x3)]) hx hb dX2_said_84 hl (by decide) rfl (fun ls hl => ?_)
      exact bX2_said_86 C hK hT fu x1 x2 (0 : Int32) (0 : Int32) ls h (lv_sub hl [2, 3, 4, 1, 0] rfl)
    · replace h := if_f c h
      refine lv_aload_n hx hb dX2_said_58 rfl (lv_at hl 0 rfl) ?_
      refine lv_aload_n hx hb dX2_said_59 rfl (lv_at hl 0 rfl) ?_
      refine lv_iload_n hx hb dX2_said_60 rfl (lv_at hl 1 rfl) ?_
      refine lv_iload_n hx hb dX2_said_61 rfl (lv_at hl 3 rfl) ?_
      obtain ⟨v2, hv2, h⟩ := bd1_some h
      refine r_int (run_t (As := [.int x1, .int x3]) (rest := [.ref b]) C hK hT (mX2_senseAt hv2) q1971 q1973 qs120 q162 q1974 ⟨rfl, rfl⟩ hdX2_senseAt ⟨Nat.le_of_ble_eq_true rfl, Nat.le_of_ble_eq_true rfl⟩ ⟨Nat.zero_le _, Nat.zero_le _⟩ rfl hl.1 rfl (Nat.le_of_ble_eq_true rfl) dX2_said_62) ?_
      refine lv_iload_n hx hb dX2_said_65 rfl (lv_at hl 2 rfl) ?_
      refine lv_iload_n hx hb dX2_said_66 rfl (lv_at hl 2 rfl) ?_
      refine lv_iconst (v := -1) hx hb dX2_said_67 (by decide) ?_
      refine lv_icmp_ne (tgt := 75) hx hb dX2_said_68 (by decide) (fun c => ?_) (fun c => ?_)
      · replace h := if_f c h
        refine lv_iconst (v := 0) hx hb dX2_said_75 (by decide) ?_
        exact bX2_said_76 C hK hT v2 x2 (0 : Int32) ls h (lv_sub hl [] rfl)
      · replace h := if_t c h
        refine lv_iconst (v := 1) hx hb dX2_said_71 (by decide) ?_
        refine lv_goto (tgt := 76) hx hb dX2_said_72 (by decide) ?_
        exact bX2_said_76 C hK hT v2 x2 (1 : Int32) ls h (lv_sub hl [] rfl)
  · replace h := if_t c h
    refine lv_iconst (v := -1) hx hb dX2_said_52 (by decide) ?_
    exact e_ri C h dX2_said_53
theorem bX2_said {p : Program} {l : Launch} {e : Env} {s : State} {m : MethodId} {args : Array Value} {below : List Frame} {meth : Method} {c : Code} {D : va_G} {dA : Nat → ClassId} {b : Nat} {t : TS} {r : Int32} (C : cx p s m args meth c cX2_said RX2 6 (some .int)) (hK : kk D dA s) (hT : wd D (tw dA b t) s.heap) : ∀ (x1 : Int32) (x2 : Int32) (x3 : Int32) (ls : Array Slot), T_said t x1 x2 x3 = some r → lv_has ls 6 [(0, .ref b), (1, .int x1), (2, .int x2), (3, .int x3)] → W p l e rmX2_said s m args below meth c s.heap [] 0 0 (MQ below (rQi r) args s 0 0 nof) (F0 m 0 ls []) := by
  obtain ⟨hx, hb, hr, hml, hown, hts, hlocks⟩ := id C
  intro x1 x2 x3 ls h hl
  unfold T_said at h
  refine lv_aload_n hx hb dX2_said_0 rfl (lv_at hl 0 rfl) ?_
  refine lv_iload_n hx hb dX2_said_1 rfl (lv_at hl 1 rfl) ?_
  obtain ⟨v1, hv1, h⟩ := bd1_some h
  refine r_int (run_t (As := [.int x1]) (rest := []) C hK hT (mX2_isSaying hv1) q1959 q1961 qs117 q162 q1962 ⟨rfl, rfl⟩ hdX2_isSaying ⟨Nat.le_of_ble_eq_true rfl, Nat.le_of_ble_eq_true rfl⟩ ⟨Nat.zero_le _, Nat.zero_le _⟩ rfl hl.1 rfl (Nat.le_of_ble_eq_true rfl) dX2_said_2) ?_
  refine lv_if_eq (tgt := 52) hx hb dX2_said_5 (by decide) (fun c => ?_) (fun c => ?_)
  · replace h := if_t c h
    refine lv_iconst (v := -1) hx hb dX2_said_52 (by decide) ?_
    exact e_ri C h dX2_said_53
  · replace h := if_f c h
    refine lv_iload_n hx hb dX2_said_8 rfl (lv_at hl 2 rfl) ?_
    refine lv_iconst (v := -1) hx hb dX2_said_9 (by decide) ?_
    refine lv_ldc hx hb hown (hts _ q1938) dX2_said_10 ?_
    obtain ⟨v2, hv2, h⟩ := bd1_some h
    refine r_int (run_s (As := [.int x2, .int (-1 : Int32), .int (67108863 : Int32)]) (rest := []) C (mX2_isIn hv2) q1656 q1657 q162 q1658 ⟨rfl, rfl⟩ hdX2_isIn ⟨Nat.le_of_ble_eq_true rfl, Nat.le_of_ble_eq_true rfl⟩ ⟨Nat.zero_le _, Nat.zero_le _⟩ rfl hl.1 rfl (Nat.le_of_ble_eq_true rfl) dX2_said_12) ?_
    refine lv_if_eq (tgt := 52) hx hb dX2_said_15 (by decide) (fun c => ?_) (fun c => ?_)
    · replace h := if_t c h
      refine lv_iconst (v := -1) hx hb dX2_said_52 (by decide) ?_
      exact e_ri C h dX2_said_53
    · replace h := if_f c h
      refine lv_iload_n hx hb dX2_said_18 rfl (lv_at hl 3 rfl) ?_
      refine lv_iconst (v := -1) hx hb dX2_said_19 (by decide) ?_
      refine lv_aload_n hx hb dX2_said_20 rfl (lv_at hl 0 rfl) ?_
      refine lv_iload_n hx hb dX2_said_21 rfl (lv_at hl 1 rfl) ?_
      obtain ⟨v3, hv3, h⟩ := bd1_some h
      refine r_int (run_t (As := [.int x1]) (rest := [.int (-1 : Int32), .int x3]) C hK hT (mX2_sensesOf hv3) q1967 q1969 qs119 q162 q1970 ⟨rfl, rfl⟩ hdX2_sensesOf ⟨Nat.le_of_ble_eq_true rfl, Nat.le_of_ble_eq_true rfl⟩ ⟨Nat.zero_le _, Nat.zero_le _⟩ rfl hl.1 rfl (Nat.le_of_ble_eq_true rfl) dX2_said_22) ?_
      refine lv_iconst (v := 1) hx hb dX2_said_25 (by decide) ?_
      refine lv_isub hx hb dX2_said_26 ?_
      obtain ⟨v4, hv4, h⟩ := bd1_some h
      refine r_int (run_s (As := [.int x3, .int (-1 : Int32), .int (v3 - (1 : Int32))]) (rest := []) C (mX2_isIn hv4) q1656 q1657 q162 q1658 ⟨rfl, rfl⟩ hdX2_isIn ⟨Nat.le_of_ble_eq_true rfl, Nat.le_of_ble_eq_true rfl⟩ ⟨Nat.zero_le _, Nat.zero_le _⟩ rfl hl.1 rfl (Nat.le_of_ble_eq_true rfl) dX2_said_27) ?_
      refine lv_if_eq (tgt := 52) hx hb dX2_said_30 (by decide) (fun c => ?_) (fun c => ?_)
      · replace h := if_t c h
        refine lv_iconst (v := -1) hx hb dX2_said_52 (by decide) ?_
        exact e_ri C h dX2_said_53
      · replace h := if_f c h
        refine lv_aload_n hx hb dX2_said_33 rfl (lv_at hl 0 rfl) ?_
        refine lv_iload_n hx hb dX2_said_34 rfl (lv_at hl 1 rfl) ?_
        refine lv_iload_n hx hb dX2_said_35 rfl (lv_at hl 2 rfl) ?_
        refine lv_iload_n hx hb dX2_said_36 rfl (lv_at hl 2 rfl) ?_
        refine lv_iconst (v := -1) hx hb dX2_said_37 (by decide) ?_
        refine lv_icmp_ne (tgt := 45) hx hb dX2_said_38 (by decide) (fun c => ?_) (fun c => ?_)
        · replace h := if_f c h
          refine lv_iconst (v := 0) hx hb dX2_said_45 (by decide) ?_
          exact bX2_said_46 C hK hT x1 x2 x3 x1 x2 (0 : Int32) ls h (lv_sub hl [0, 1, 2, 3] rfl)
        · replace h := if_t c h
          refine lv_iconst (v := 1) hx hb dX2_said_41 (by decide) ?_
          refine lv_goto (tgt := 46) hx hb dX2_said_42 (by decide) ?_
          exact bX2_said_46 C hK hT x1 x2 x3 x1 x2 (1 : Int32) ls h (lv_sub hl [0, 1, 2, 3] rfl)
theorem mX2_said {l : Launch} {D : va_G} {dA : Nat → ClassId} {b : Nat} {t : TS} {x1 : Int32} {x2 : Int32} {x3 : Int32} {r : Int32} (h : T_said t x1 x2 x3 = some r) : Met l yX2_said (ws_ yX2_said cX2_said 6 (some .int)) rmX2_said (tPc D dA b t [.ref b, .int x1, .int x2, .int x3]) (rQi r) 0 0 nof := en_R (by decide +kernel) rfl (Nat.le_of_ble_eq_true rfl) (fun p e s m below meth c ls C hK hT hl => bX2_said C hK hT x1 x2 x3 ls h hl)
