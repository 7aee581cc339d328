/-! the reference's walks, 5 (written by gen/gen_twin.py) -/
set_option maxRecDepth 20000
set_option maxRecDepth 20000 in
abbrev rmX2_areAlike : Room := { frames := 1, cells := 0, slots := 0, locals := 22 }
theorem hdX2_areAlike : yX2_areAlike.cls = RX2 ∧ yX2_areAlike.cls ≠ "java/lang/invoke/MethodHandle" ∧ yX2_areAlike.cls ≠ "java/lang/invoke/VarHandle" ∧ (parseMethodDescriptor yX2_areAlike.desc).map (fun d => d.parameters.length) = some 2 := by decide +kernel
theorem bX2_areAlike_78 {p : Program} {l : Launch} {e : Env} {s : State} {m : MethodId} {args : Array Value} {below : List Frame} {meth : Method} {c : Code} {D : va_G} {dA : Nat → ClassId} {b : Nat} {t : TS} {r : Int32} (C : cx p s m args meth c cX2_areAlike RX2 6 (some .boolean)) (hK : kk D dA s) (hT : wd D (tw dA b t) s.heap) {k17 : Int32 → Int32 → Int32 → Option Int32} (hk17 : ∀ (x1 : Int32) (x2 : Int32) (x3 : Int32) (ls : Array Slot), k17 x1 x2 x3 = some r → lv_has ls 6 [(0, .ref b), (1, .int x1), (2, .int x2), (3, .int x3)] → W p l e rmX2_areAlike s m args below meth c s.heap [] 0 0 (MQ below (rQi r) args s 0 0 nof) (F0 m 17 ls [])) : ∀ (x1 : Int32) (x2 : Int32) (x3 : Int32) (ls : Array Slot), T_areAlike_78 k17 t x1 x2 x3 = some r → lv_has ls 6 [(0, .ref b), (1, .int x1), (2, .int x2), (3, .int x3)] → W p l e rmX2_areAlike s m args below meth c s.heap [] 0 0 (MQ below (rQi r) args s 0 0 nof) (F0 m 78 ls []) := by
  obtain ⟨hx, hb, hr, hml, hown, hts, hlocks⟩ := id C
  intro x1 x2 x3 ls h hl
  unfold T_areAlike_78 at h
  obtain ⟨v1, ev1⟩ : ∃ y : Int32, y = x3 + (1 : Int32) := ⟨_, rfl⟩
  replace h := lt1_sub ev1 h
  refine lv_iinc (v := v1) (lv' := [(3, .int v1), (0, .ref b), (1, .int x1), (2, .int x2)]) hx hb dX2_areAlike_78 hl (k := 3) rfl (by rw [ev1]; rfl) (by decide) rfl (fun ls hl => ?_)
  refine lv_goto (tgt := 17) hx hb dX2_areAlike_81 (by decide) ?_
  exact hk17 x1 x2 v1 ls h (lv_sub hl [1, 2, 3, 0] rfl)
theorem bX2_areAlike_17 {p : Program} {l : Launch} {e : Env} {s : State} {m : MethodId} {args : Array Value} {below : List Frame} {meth : Method} {c : Code} {D : va_G} {dA : Nat → ClassId} {b : Nat} {t : TS} {r : Int32} (C : cx p s m args meth c cX2_areAlike RX2 6 (some .boolean)) (hK : kk D dA s) (hT : wd D (tw dA b t) s.heap) : ∀ (n : Nat), ∀ (x1 : Int32) (x2 : Int32) (x3 : Int32) (ls : Array Slot), T_areAlike_17 t n x1 x2 x3 = some r → lv_has ls 6 [(0, .ref b), (1, .int x1), (2, .int x2), (3, .int x3)] → W p l e rmX2_areAlike s m args below meth c s.heap [] 0 0 (MQ below (rQi r) args s 0 0 nof) (F0 m 17 ls []) := by
  obtain ⟨hx, hb, hr, hml, hown, hts, hlocks⟩ := id C
  intro n
  induction n with
  | zero =>
    intro x1 x2 x3 ls h hl
    have h : none = some _ := h
    cases h
  | succ n ih =>
    intro x1 x2 x3 ls h hl
    rw [T_areAlike_17] at h
    refine lv_iload_n hx hb dX2_areAlike_17 rfl (lv_at hl 3 rfl) ?_
    refine lv_aload_n hx hb dX2_areAlike_18 rfl (lv_at hl 0 rfl) ?_
    refine lv_iload_n hx hb dX2_areAlike_19 rfl (lv_at hl 1 rfl) ?_
    obtain ⟨v1, hv1, h⟩ := bd1_some h
    refine r_int (run_t (As := [.int x1]) (rest := [.int x3]) C hK hT (mX2_lengthOf hv1) q1678 q1680 qs71 q162 q1681 ⟨rfl, rfl⟩ hdX2_lengthOf ⟨Nat.le_of_ble_eq_true rfl, Nat.le_of_ble_eq_true rfl⟩ ⟨Nat.zero_le _, Nat.zero_le _⟩ rfl hl.1 rfl (Nat.le_of_ble_eq_true rfl) dX2_areAlike_20) ?_
    refine lv_icmp_ge (tgt := 84) hx hb dX2_areAlike_23 (by decide) (fun c => ?_) (fun c => ?_)
    · replace h := if_t c h
      refine lv_iconst (v := 1) hx hb dX2_areAlike_84 (by decide) ?_
      exact e_rz C (Or.inr rfl) h dX2_areAlike_85
    · replace h := if_f c h
      refine lv_aload_n hx hb dX2_areAlike_26 rfl (lv_at hl 0 rfl) ?_
      refine lv_iload_n hx hb dX2_areAlike_27 rfl (lv_at hl 1 rfl) ?_
      refine lv_iload_n hx hb dX2_areAlike_28 rfl (lv_at hl 3 rfl) ?_
      obtain ⟨v2, hv2, h⟩ := bd1_some h
      refine r_int (run_t (As := [.int x1, .int x3]) (rest := []) C hK hT (mX2_letterOf hv2) q1682 q1684 qs72 q162 q1685 ⟨rfl, rfl⟩ hdX2_letterOf ⟨Nat.le_of_ble_eq_true rfl, Nat.le_of_ble_eq_true rfl⟩ ⟨Nat.zero_le _, Nat.zero_le _⟩ rfl hl.1 rfl (Nat.le_of_ble_eq_true rfl) dX2_areAlike_29) ?_
      refine lv_istore (lv' := [(4, .int v2), (0, .ref b), (1, .int x1), (2, .int x2), (3, .int x3)]) hx hb dX2_areAlike_32 hl (by decide) rfl (fun ls hl => ?_)
      refine lv_aload_n hx hb dX2_areAlike_34 rfl (lv_at hl 1 rfl) ?_
      refine lv_iload_n hx hb dX2_areAlike_35 rfl (lv_at hl 3 rfl) ?_
      refine lv_iload_n hx hb dX2_areAlike_36 rfl (lv_at hl 4 rfl) ?_
      obtain ⟨v3, hv3, h⟩ := bd1_some h
      refine r_int (run_t (As := [.int x2, .int x3]) (rest := []) C hK hT (mX2_letterOf hv3) q1682 q1684 qs72 q162 q1685 ⟨rfl, rfl⟩ hdX2_letterOf ⟨Nat.le_of_ble_eq_true rfl, Nat.le_of_ble_eq_true rfl⟩ ⟨Nat.zero_le _, Nat.zero_le _⟩ rfl hl.1 rfl (Nat.le_of_ble_eq_true rfl) dX2_areAlike_37) ?_
      refine lv_istore (lv' := [(5, .int v3), (4, .int v2), (0, .ref b), (1, .int x1), (2, .int x2), (3, .int x3)]) hx hb dX2_areAlike_40 hl (by decide) rfl (fun ls hl => ?_)
      refine lv_iload hx hb dX2_areAlike_42 (lv_at hl 1 rfl) ?_
      refine lv_iload hx hb dX2_areAlike_44 (lv_at hl 0 rfl) ?_
      refine lv_icmp_eq (tgt := 78) hx hb dX2_areAlike_46 (by decide) (fun c => ?_) (fun c => ?_)
      · replace h := if_t c h
        exact bX2_areAlike_78 C hK hT ih x1 x2 x3 ls h (lv_sub hl [2, 3, 4, 5] rfl)
      · replace h := if_f c h
        refine lv_aload_n hx hb dX2_areAlike_49 rfl (lv_at hl 2 rfl) ?_
        refine tg36 C hK hT dX2_areAlike_50 ?_
        refine lv_iload hx hb dX2_areAlike_53 (lv_at hl 1 rfl) ?_
        obtain ⟨hi, h⟩ := ck_some h
        refine tl36 C hK hT hi dX2_areAlike_55 ?_
        refine lv_if_lt (tgt := 76) hx hb dX2_areAlike_56 (by decide) (fun c => ?_) (fun c => ?_)
        · replace h := if_t c h
          refine lv_iconst (v := 0) hx hb dX2_areAlike_76 (by decide) ?_
          exact e_rz C (Or.inl rfl) h dX2_areAlike_77
        · replace h := if_f c h
          refine lv_aload_n hx hb dX2_areAlike_59 rfl (lv_at hl 2 rfl) ?_
          refine tg36 C hK hT dX2_areAlike_60 ?_
          refine lv_iload hx hb dX2_areAlike_63 (lv_at hl 1 rfl) ?_
          obtain ⟨hi, h⟩ := ck_some h
          refine tl36 C hK hT hi dX2_areAlike_65 ?_
          refine lv_aload_n hx hb dX2_areAlike_66 rfl (lv_at hl 2 rfl) ?_
          refine tg36 C hK hT dX2_areAlike_67 ?_
          refine lv_iload hx hb dX2_areAlike_70 (lv_at hl 0 rfl) ?_
          obtain ⟨hi, h⟩ := ck_some h
          refine tl36 C hK hT hi dX2_areAlike_72 ?_
          refine lv_icmp_eq (tgt := 78) hx hb dX2_areAlike_73 (by decide) (fun c => ?_) (fun c => ?_)
          · replace h := if_t c h
            exact bX2_areAlike_78 C hK hT ih x1 x2 x3 ls h (lv_sub hl [2, 3, 4, 5] rfl)
          · replace h := if_f c h
            refine lv_iconst (v := 0) hx hb dX2_areAlike_76 (by decide) ?_
            exact e_rz C (Or.inl rfl) h dX2_areAlike_77
theorem bX2_areAlike {p : Program} {l : Launch} {e : Env} {s : State} {m : MethodId} {args : Array Value} {below : List Frame} {meth : Method} {c : Code} {D : va_G} {dA : Nat → ClassId} {b : Nat} {t : TS} {r : Int32} (C : cx p s m args meth c cX2_areAlike RX2 6 (some .boolean)) (hK : kk D dA s) (hT : wd D (tw dA b t) s.heap) : ∀ (x1 : Int32) (x2 : Int32) (ls : Array Slot), T_areAlike t x1 x2 = some r → lv_has ls 6 [(0, .ref b), (1, .int x1), (2, .int x2)] → W p l e rmX2_areAlike s m args below meth c s.heap [] 0 0 (MQ below (rQi r) args s 0 0 nof) (F0 m 0 ls []) := by
  obtain ⟨hx, hb, hr, hml, hown, hts, hlocks⟩ := id C
  intro x1 x2 ls h hl
  unfold T_areAlike at h
  refine lv_aload_n hx hb dX2_areAlike_0 rfl (lv_at hl 0 rfl) ?_
  refine lv_iload_n hx hb dX2_areAlike_1 rfl (lv_at hl 1 rfl) ?_
  obtain ⟨v1, hv1, h⟩ := bd1_some h
  refine r_int (run_t (As := [.int x1]) (rest := []) C hK hT (mX2_lengthOf hv1) q1678 q1680 qs71 q162 q1681 ⟨rfl, rfl⟩ hdX2_lengthOf ⟨Nat.le_of_ble_eq_true rfl, Nat.le_of_ble_eq_true rfl⟩ ⟨Nat.zero_le _, Nat.zero_le _⟩ rfl hl.1 rfl (Nat.le_of_ble_eq_true rfl) dX2_areAlike_2) ?_
  refine lv_aload_n hx hb dX2_areAlike_5 rfl (lv_at hl 0 rfl) ?_
  refine lv_iload_n hx hb dX2_areAlike_6 rfl (lv_at hl 2 rfl) ?_
  obtain ⟨v2, hv2, h⟩ := bd1_some h
  refine r_int (run_t (As := [.int x2]) (rest := [.int v1]) C hK hT (mX2_lengthOf hv2) q1678 q1680 qs71 q162 q1681 ⟨rfl, rfl⟩ hdX2_lengthOf ⟨Nat.le_of_ble_eq_true rfl, Nat.le_of_ble_eq_true rfl⟩ ⟨Nat.zero_le _, Nat.zero_le _⟩ rfl hl.1 rfl (Nat.le_of_ble_eq_true rfl) dX2_areAlike_7) ?_
  refine lv_icmp_eq (tgt := 15) hx hb dX2_areAlike_10 (by decide) (fun c => ?_) (fun c => ?_)
  · replace h := if_t c h
    refine lv_iconst (v := 0) hx hb dX2_areAlike_15 (by decide) ?_
    refine lv_istore_n (lv' := [(3, .int (0 : Int32)), (0, .ref b), (1, .int x1), (2, .int x2)]) hx hb dX2_areAlike_16 rfl hl (by decide) rfl (fun ls hl => ?_)
    exact bX2_areAlike_17 C hK hT fu x1 x2 (0 : Int32) ls h (lv_sub hl [1, 2, 3, 0] rfl)
  · replace h := if_f c h
    refine lv_iconst (v := 0) hx hb dX2_areAlike_13 (by decide) ?_
    exact e_rz C (Or.inl rfl) h dX2_areAlike_14
theorem mX2_areAlike {l : Launch} {D : va_G} {dA : Nat → ClassId} {b : Nat} {t : TS} {x1 : Int32} {x2 : Int32} {r : Int32} (h : T_areAlike t x1 x2 = some r) : Met l yX2_areAlike (ws_ yX2_areAlike cX2_areAlike 6 (some .boolean)) rmX2_areAlike (tPc D dA b t [.ref b, .int x1, .int x2]) (rQi r) 0 0 nof := en_R (by decide +kernel) rfl (Nat.le_of_ble_eq_true rfl) (fun p e s m below meth c ls C hK hT hl => bX2_areAlike C hK hT x1 x2 ls h hl)
set_option maxRecDepth 20000 in
abbrev rmX2_isClear : Room := { frames := 2, cells := 0, slots := 0, locals := 47 }
theorem hdX2_isClear : yX2_isClear.cls = RX2 ∧ yX2_isClear.cls ≠ "java/lang/invoke/MethodHandle" ∧ yX2_isClear.cls ≠ "java/lang/invoke/VarHandle" ∧ (parseMethodDescriptor yX2_isClear.desc).map (fun d => d.parameters.length) = some 0 := by decide +kernel
theorem bX2_isClear_14 {p : Program} {l : Launch} {e : Env} {s : State} {m : MethodId} {args : Array Value} {below : List Frame} {meth : Method} {c : Code} {D : va_G} {dA : Nat → ClassId} {b : Nat} {t : TS} {r : Int32} (C : cx p s m args meth c cX2_isClear RX2 3 (some .boolean)) (hK : kk D dA s) (hT : wd D (tw dA b t) s.heap) {k2 : Int32 → Option Int32} (hk2 : ∀ (x1 : Int32) (ls : Array Slot), k2 x1 = some r → lv_has ls 3 [(0, .ref b), (1, .int x1)] → W p l e rmX2_isClear s m args below meth c s.heap [] 0 0 (MQ below (rQi r) args s 0 0 nof) (F0 m 2 ls [])) : ∀ (n : Nat), ∀ (x1 : Int32) (x2 : Int32) (ls : Array Slot), T_isClear_14 k2 t n x1 x2 = some r → lv_has ls 3 [(0, .ref b), (1, .int x1), (2, .int x2)] → W p l e rmX2_isClear s m args below meth c s.heap [] 0 0 (MQ below (rQi r) args s 0 0 nof) (F0 m 14 ls []) := by
  obtain ⟨hx, hb, hr, hml, hown, hts, hlocks⟩ := id C
  intro n
  induction n with
  | zero =>
    intro x1 x2 ls h hl
    have h : none = some _ := h
    cases h
  | succ n ih =>
    intro x1 x2 ls h hl
    rw [T_isClear_14] at h
    refine lv_iload_n hx hb dX2_isClear_14 rfl (lv_at hl 2 rfl) ?_
    refine lv_iload_n hx hb dX2_isClear_15 rfl (lv_at hl 1 rfl) ?_
    refine lv_icmp_ge (tgt := 36) hx hb dX2_isClear_16 (by decide) (fun c => ?_) (fun c => ?_)
    · replace h := if_t c h
      obtain ⟨v1, ev1⟩ : ∃ y : Int32, y = x1 + (1 : Int32) := ⟨_, rfl⟩
      replace h := lt1_sub ev1 h
      refine lv_iinc (v := v1) (lv' := [(1, .int v1), (0, .ref b), (2, .int x2)]) hx hb dX2_isClear_36 hl (k := 1) rfl (by rw [ev1]; rfl) (by decide) rfl (fun ls hl => ?_)
      refine lv_goto (tgt := 2) hx hb dX2_isClear_39 (by decide) ?_
      exact hk2 v1 ls h (lv_sub hl [1, 0] rfl)
    · replace h := if_f c h
      refine lv_aload_n hx hb dX2_isClear_19 rfl (lv_at hl 0 rfl) ?_
      refine lv_iload_n hx hb dX2_isClear_20 rfl (lv_at hl 1 rfl) ?_
      refine lv_iload_n hx hb dX2_isClear_21 rfl (lv_at hl 2 rfl) ?_
      obtain ⟨v2, hv2, h⟩ := bd1_some h
      refine r_int (run_t (As := [.int x1, .int x2]) (rest := []) C hK hT (mX2_areAlike hv2) q2159 q2161 qs147 q162 q2162 ⟨rfl, rfl⟩ hdX2_areAlike ⟨Nat.le_of_ble_eq_true rfl, Nat.le_of_ble_eq_true rfl⟩ ⟨Nat.zero_le _, Nat.zero_le _⟩ rfl hl.1 rfl (Nat.le_of_ble_eq_true rfl) dX2_isClear_22) ?_
      refine lv_if_eq (tgt := 30) hx hb dX2_isClear_25 (by decide) (fun c => ?_) (fun c => ?_)
      · replace h := if_t c h
        obtain ⟨v3, ev3⟩ : ∃ y : Int32, y = x2 + (1 : Int32) := ⟨_, rfl⟩
        replace h := lt1_sub ev3 h
        refine lv_iinc (v := v3) (lv' := [(2, .int v3), (0, .ref b), (1, .int x1)]) hx hb dX2_isClear_30 hl (k := 2) rfl (by rw [ev3]; rfl) (by decide) rfl (fun ls hl => ?_)
        refine lv_goto (tgt := 14) hx hb dX2_isClear_33 (by decide) ?_
        exact ih x1 v3 ls h (lv_sub hl [1, 2, 0] rfl)
      · replace h := if_f c h
        refine lv_iconst (v := 0) hx hb dX2_isClear_28 (by decide) ?_
        exact e_rz C (Or.inl rfl) h dX2_isClear_29
theorem bX2_isClear_2 {p : Program} {l : Launch} {e : Env} {s : State} {m : MethodId} {args : Array Value} {below : List Frame} {meth : Method} {c : Code} {D : va_G} {dA : Nat → ClassId} {b : Nat} {t : TS} {r : Int32} (C : cx p s m args meth c cX2_isClear RX2 3 (some .boolean)) (hK : kk D dA s) (hT : wd D (tw dA b t) s.heap) : ∀ (n : Nat), ∀ (x1 : Int32) (ls : Array Slot), T_isClear_2 t n x1 = some r → lv_has ls 3 [(0, .ref b), (1, .int x1)] → W p l e rmX2_isClear s m args below meth c s.heap [] 0 0 (MQ below (rQi r) args s 0 0 nof) (F0 m 2 ls []) := by
  obtain ⟨hx, hb, hr, hml, hown, hts, hlocks⟩ := id C
  intro n
  induction n with
  | zero =>
    intro x1 ls h hl
    have h : none = some _ := h
    cases h
  | succ n ih =>
    intro x1 ls h hl
    rw [T_isClear_2] at h
    refine lv_iload_n hx hb dX2_isClear_2 rfl (lv_at hl 1 rfl) ?_
    refine lv_aload_n hx hb dX2_isClear_3 rfl (lv_at hl 0 rfl) ?_
    refine tg0 C hK hT dX2_isClear_4 ?_
    refine lv_iconst (v := 0) hx hb dX2_isClear_7 (by decide) ?_
    obtain ⟨hi, h⟩ := ck_some h
    refine tl0 C hK hT hi dX2_isClear_8 ?_
    refine lv_icmp_ge (tgt := 42) hx hb dX2_isClear_9 (by decide) (fun c => ?_) (fun c => ?_)
    · replace h := if_t c h
      refine lv_iconst (v := 1) hx hb dX2_isClear_42 (by decide) ?_
      exact e_rz C (Or.inr rfl) h dX2_isClear_43
    · replace h := if_f c h
      refine lv_iconst (v := 0) hx hb dX2_isClear_12 (by decide) ?_
      refine lv_istore_n (lv' := [(2, .int (0 : Int32)), (0, .ref b), (1, .int x1)]) hx hb dX2_isClear_13 rfl hl (by decide) rfl (fun ls hl => ?_)
      exact bX2_isClear_14 C hK hT ih fu x1 (0 : Int32) ls h (lv_sub hl [1, 2, 0] rfl)
theorem bX2_isClear {p : Program} {l : Launch} {e : Env} {s : State} {m : MethodId} {args : Array Value} {below : List Frame} {meth : Method} {c : Code} {D : va_G} {dA : Nat → ClassId} {b : Nat} {t : TS} {r : Int32} (C : cx p s m args meth c cX2_isClear RX2 3 (some .boolean)) (hK : kk D dA s) (hT : wd D (tw dA b t) s.heap) : ∀ (ls : Array Slot), T_isClear t = some r → lv_has ls 3 [(0, .ref b)] → W p l e rmX2_isClear s m args below meth c s.heap [] 0 0 (MQ below (rQi r) args s 0 0 nof) (F0 m 0 ls []) := by
  obtain ⟨hx, hb, hr, hml, hown, hts, hlocks⟩ := id C
  intro ls h hl
  unfold T_isClear at h
  refine lv_iconst (v := 0) hx hb dX2_isClear_0 (by decide) ?_
  refine lv_istore_n (lv' := [(1, .int (0 : Int32)), (0, .ref b)]) hx hb dX2_isClear_1 rfl hl (by decide) rfl (fun ls hl => ?_)
  exact bX2_isClear_2 C hK hT fu (0 : Int32) ls h (lv_sub hl [1, 0] rfl)
theorem mX2_isClear {l : Launch} {D : va_G} {dA : Nat → ClassId} {b : Nat} {t : TS} {r : Int32} (h : T_isClear t = some r) : Met l yX2_isClear (ws_ yX2_isClear cX2_isClear 3 (some .boolean)) rmX2_isClear (tPc D dA b t [.ref b]) (rQi r) 0 0 nof := en_R (by decide +kernel) rfl (Nat.le_of_ble_eq_true rfl) (fun p e s m below meth c ls C hK hT hl => bX2_isClear C hK hT ls h hl)
set_option maxRecDepth 20000 in
abbrev rmX2_unlike : Room := { frames := 0, cells := 0, slots := 0, locals := 0 }
theorem hdX2_unlike : yX2_unlike.cls = RX2 ∧ yX2_unlike.cls ≠ "java/lang/invoke/MethodHandle" ∧ yX2_unlike.cls ≠ "java/lang/invoke/VarHandle" ∧ (parseMethodDescriptor yX2_unlike.desc).map (fun d => d.parameters.length) = some 1 := by decide +kernel
theorem bX2_unlike_29 {p : Program} {l : Launch} {e : Env} {s : State} {m : MethodId} {args : Array Value} {below : List Frame} {meth : Method} {c : Code} {D : va_G} {dA : Nat → ClassId} {b : Nat} {t : TS} {r : Int32} (C : cx p s m args meth c cX2_unlike RX2 4 (some .int)) (hK : kk D dA s) (hT : wd D (tw dA b t) s.heap) {k4 : Int32 → Int32 → Int32 → Option Int32} (hk4 : ∀ (x1 : Int32) (x2 : Int32) (x3 : Int32) (ls : Array Slot), k4 x1 x2 x3 = some r → lv_has ls 4 [(0, .ref b), (1, .int x1), (2, .int x2), (3, .int x3)] → W p l e rmX2_unlike s m args below meth c s.heap [] 0 0 (MQ below (rQi r) args s 0 0 nof) (F0 m 4 ls [])) : ∀ (x1 : Int32) (x3 : Int32) (y0 : Int32) (ls : Array Slot), T_unlike_29 k4 t x1 x3 y0 = some r → lv_has ls 4 [(0, .ref b), (1, .int x1), (3, .int x3)] → W p l e rmX2_unlike s m args below meth c s.heap [] 0 0 (MQ below (rQi r) args s 0 0 nof) (F0 m 29 ls [.int y0]) := by
  obtain ⟨hx, hb, hr, hml, hown, hts, hlocks⟩ := id C
  intro x1 x3 y0 ls h hl
  unfold T_unlike_29 at h
  refine lv_istore_n (lv' := [(2, .int y0), (0, .ref b), (1, .int x1), (3, .int x3)]) hx hb dX2_unlike_29 rfl hl (by decide) rfl (fun ls hl => ?_)
  obtain ⟨v1, ev1⟩ : ∃ y : Int32, y = x3 + (1 : Int32) := ⟨_, rfl⟩
  replace h := lt1_sub ev1 h
  refine lv_iinc (v := v1) (lv' := [(3, .int v1), (2, .int y0), (0, .ref b), (1, .int x1)]) hx hb dX2_unlike_30 hl (k := 3) rfl (by rw [ev1]; rfl) (by decide) rfl (fun ls hl => ?_)
  refine lv_goto (tgt := 4) hx hb dX2_unlike_33 (by decide) ?_
  exact hk4 x1 y0 v1 ls h (lv_sub hl [2, 3, 1, 0] rfl)
theorem bX2_unlike_4 {p : Program} {l : Launch} {e : Env} {s : State} {m : MethodId} {args : Array Value} {below : List Frame} {meth : Method} {c : Code} {D : va_G} {dA : Nat → ClassId} {b : Nat} {t : TS} {r : Int32} (C : cx p s m args meth c cX2_unlike RX2 4 (some .int)) (hK : kk D dA s) (hT : wd D (tw dA b t) s.heap) : ∀ (n : Nat), ∀ (x1 : Int32) (x2 : Int32) (x3 : Int32) (ls : Array Slot), T_unlike_4 t n x1 x2 x3 = some r → lv_has ls 4 [(0, .ref b), (1, .int x1), (2, .int x2), (3, .int x3)] → W p l e rmX2_unlike s m args below meth c s.heap [] 0 0 (MQ below (rQi r) args s 0 0 nof) (F0 m 4 ls []) := by
  obtain ⟨hx, hb, hr, hml, hown, hts, hlocks⟩ := id C
  intro n
  induction n with
  | zero =>
    intro x1 x2 x3 ls h hl
    have h : none = some _ := h
    cases h
  | succ n ih =>
    intro x1 x2 x3 ls h hl
    rw [T_unlike_4] at h
    refine lv_iload_n hx hb dX2_unlike_4 rfl (lv_at hl 3 rfl) ?_
    refine lv_iload_n hx hb dX2_unlike_5 rfl (lv_at hl 1 rfl) ?_
    refine lv_icmp_ge (tgt := 36) hx hb dX2_unlike_6 (by decide) (fun c => ?_) (fun c => ?_)
    · replace h := if_t c h
      refine lv_iload_n hx hb dX2_unlike_36 rfl (lv_at hl 2 rfl) ?_
      refine lv_iconst (v := 1) hx hb dX2_unlike_37 (by decide) ?_
      refine lv_iadd hx hb dX2_unlike_38 ?_
      exact e_ri C h dX2_unlike_39
    · replace h := if_f c h
      refine lv_aload_n hx hb dX2_unlike_9 rfl (lv_at hl 0 rfl) ?_
      refine tg29 C hK hT dX2_unlike_10 ?_
      refine lv_iload_n hx hb dX2_unlike_13 rfl (lv_at hl 3 rfl) ?_
      obtain ⟨hi, h⟩ := ck_some h
      refine tl29 C hK hT hi dX2_unlike_14 ?_
      refine lv_iload_n hx hb dX2_unlike_15 rfl (lv_at hl 2 rfl) ?_
      refine lv_icmp_le (tgt := 28) hx hb dX2_unlike_16 (by decide) (fun c => ?_) (fun c => ?_)
      · replace h := if_t c h
        refine lv_iload_n hx hb dX2_unlike_28 rfl (lv_at hl 2 rfl) ?_
        exact bX2_unlike_29 C hK hT ih x1 x3 x2 ls h (lv_sub hl [0, 1, 3] rfl)
      · replace h := if_f c h
        refine lv_aload_n hx hb dX2_unlike_19 rfl (lv_at hl 0 rfl) ?_
        refine tg29 C hK hT dX2_unlike_20 ?_
        refine lv_iload_n hx hb dX2_unlike_23 rfl (lv_at hl 3 rfl) ?_
        obtain ⟨hi, h⟩ := ck_some h
        refine tl29 C hK hT hi dX2_unlike_24 ?_
        refine lv_goto (tgt := 29) hx hb dX2_unlike_25 (by decide) ?_
        exact bX2_unlike_29 C hK hT ih x1 x3 (t.1 29 x3.toNatClampNeg) ls h (lv_sub hl [0, 1, 3] rfl)
theorem bX2_unlike {p : Program} {l : Launch} {e : Env} {s : State} {m : MethodId} {args : Array Value} {below : List Frame} {meth : Method} {c : Code} {D : va_G} {dA : Nat → ClassId} {b : Nat} {t : TS} {r : Int32} (C : cx p s m args meth c cX2_unlike RX2 4 (some .int)) (hK : kk D dA s) (hT : wd D (tw dA b t) s.heap) : ∀ (x1 : Int32) (ls : Array Slot), T_unlike t x1 = some r → lv_has ls 4 [(0, .ref b), (1, .int x1)] → W p l e rmX2_unlike s m args below meth c s.heap [] 0 0 (MQ below (rQi r) args s 0 0 nof) (F0 m 0 ls []) := by
  obtain ⟨hx, hb, hr, hml, hown, hts, hlocks⟩ := id C
  intro x1 ls h hl
  unfold T_unlike at h
  refine lv_iconst (v := -1) hx hb dX2_unlike_0 (by decide) ?_
  refine lv_istore_n (lv' := [(2, .int (-1 : Int32)), (0, .ref b), (1, .int x1)]) hx hb dX2_unlike_1 rfl hl (by decide) rfl (fun ls hl => ?_)
  refine lv_iconst (v := 0) hx hb dX2_unlike_2 (by decide) ?_
  refine lv_istore_n (lv' := [(3, .int (0 : Int32)), (2, .int (-1 : Int32)), (0, .ref b), (1, .int x1)]) hx hb dX2_unlike_3 rfl hl (by decide) rfl (fun ls hl => ?_)
  exact bX2_unlike_4 C hK hT fu x1 (-1 : Int32) (0 : Int32) ls h (lv_sub hl [2, 3, 1, 0] rfl)
theorem mX2_unlike {l : Launch} {D : va_G} {dA : Nat → ClassId} {b : Nat} {t : TS} {x1 : Int32} {r : Int32} (h : T_unlike t x1 = some r) : Met l yX2_unlike (ws_ yX2_unlike cX2_unlike 4 (some .int)) rmX2_unlike (tPc D dA b t [.ref b, .int x1]) (rQi r) 0 0 nof := en_R (by decide +kernel) rfl (Nat.le_of_ble_eq_true rfl) (fun p e s m below meth c ls C hK hT hl => bX2_unlike C hK hT x1 ls h hl)
set_option maxRecDepth 20000 in
abbrev rmX2_nextSigns : Room := { frames := 1, cells := 0, slots := 0, locals := 23 }
theorem hdX2_nextSigns : yX2_nextSigns.cls = RX2 ∧ yX2_nextSigns.cls ≠ "java/lang/invoke/MethodHandle" ∧ yX2_nextSigns.cls ≠ "java/lang/invoke/VarHandle" ∧ (parseMethodDescriptor yX2_nextSigns.desc).map (fun d => d.parameters.length) = some 1 := by decide +kernel
theorem bX2_nextSigns_48 {p : Program} {l : Launch} {e : Env} {s : State} {m : MethodId} {args : Array Value} {below : List Frame} {meth : Method} {c : Code} {D : va_G} {dA : Nat → ClassId} {b : Nat} {r : Int32} {t9 : TS} (C : cx p s m args meth c cX2_nextSigns RX2 4 (some .boolean)) (hK : kk D dA s) : ∀ (n : Nat), ∀ (t : TS) (x1 : Int32) (x3 : Int32) (H : Heap) (locs : List Loc) (hT : wd D (tw dA b t) H) (hS : tS b s.heap H locs) (ls : Array Slot), T_nextSigns_48 n t x1 x3 = some (r, t9) → lv_has ls 4 [(0, .ref b), (1, .int x1), (3, .int x3)] → W p l e rmX2_nextSigns s m args below meth c H locs 0 0 (MQ below (tQ D dA b t9 (some (.int r))) args s 0 0 (ta b)) (F0 m 48 ls []) := by
  obtain ⟨hx, hb, hr, hml, hown, hts, hlocks⟩ := id C
  intro n
  induction n with
  | zero =>
    intro t x1 x3 H locs hT hS ls h hl
    have h : none = some _ := h
    cases h
  | succ n ih =>
    intro t x1 x3 H locs hT hS ls h hl
    rw [T_nextSigns_48] at h
    refine lv_iload_n hx hb dX2_nextSigns_48 rfl (lv_at hl 2 rfl) ?_
    refine lv_iload_n hx hb dX2_nextSigns_49 rfl (lv_at hl 1 rfl) ?_
    refine lv_icmp_ge (tgt := 66) hx hb dX2_nextSigns_50 (by decide) (fun c => ?_) (fun c => ?_)
    · replace h := if_t c h
      refine lv_iconst (v := 1) hx hb dX2_nextSigns_66 (by decide) ?_
      exact e_wz C hT hS (Or.inr rfl) h dX2_nextSigns_67
    · replace h := if_f c h
      refine lv_aload_n hx hb dX2_nextSigns_53 rfl (lv_at hl 0 rfl) ?_
      refine tg29 C hK hT dX2_nextSigns_54 ?_
      refine lv_iload_n hx hb dX2_nextSigns_57 rfl (lv_at hl 2 rfl) ?_
      refine lv_iconst (v := 0) hx hb dX2_nextSigns_58 (by decide) ?_
      obtain ⟨hi, h⟩ := ck_some h
      refine ts29 C hK hT hS hi dX2_nextSigns_59 (fun t1 H locs et1 hT hS => ?_)
      replace h := lt1_sub et1 h
      obtain ⟨v2, ev2⟩ : ∃ y : Int32, y = x3 + (1 : Int32) := ⟨_, rfl⟩
      replace h := lt1_sub ev2 h
      refine lv_iinc (v := v2) (lv' := [(3, .int v2), (0, .ref b), (1, .int x1)]) hx hb dX2_nextSigns_60 hl (k := 2) rfl (by rw [ev2]; rfl) (by decide) rfl (fun ls hl => ?_)
      refine lv_goto (tgt := 48) hx hb dX2_nextSigns_63 (by decide) ?_
      exact ih t1 x1 v2 H locs hT hS ls h (lv_sub hl [1, 2, 0] rfl)
theorem bX2_nextSigns_28 {p : Program} {l : Launch} {e : Env} {s : State} {m : MethodId} {args : Array Value} {below : List Frame} {meth : Method} {c : Code} {D : va_G} {dA : Nat → ClassId} {b : Nat} {r : Int32} {t9 : TS} (C : cx p s m args meth c cX2_nextSigns RX2 4 (some .boolean)) (hK : kk D dA s) : ∀ (t : TS) (x1 : Int32) (x2 : Int32) (H : Heap) (locs : List Loc) (hT : wd D (tw dA b t) H) (hS : tS b s.heap H locs) (ls : Array Slot), T_nextSigns_28 t x1 x2 = some (r, t9) → lv_has ls 4 [(0, .ref b), (1, .int x1), (2, .int x2)] → W p l e rmX2_nextSigns s m args below meth c H locs 0 0 (MQ below (tQ D dA b t9 (some (.int r))) args s 0 0 (ta b)) (F0 m 28 ls []) := by
  obtain ⟨hx, hb, hr, hml, hown, hts, hlocks⟩ := id C
  intro t x1 x2 H locs hT hS ls h hl
  unfold T_nextSigns_28 at h
  refine lv_iload_n hx hb dX2_nextSigns_28 rfl (lv_at hl 2 rfl) ?_
  refine lv_if_gt (tgt := 34) hx hb dX2_nextSigns_29 (by decide) (fun c => ?_) (fun c => ?_)
  · replace h := if_t c h
    refine lv_aload_n hx hb dX2_nextSigns_34 rfl (lv_at hl 0 rfl) ?_
    refine tg29 C hK hT dX2_nextSigns_35 ?_
    refine lv_iload_n hx hb dX2_nextSigns_38 rfl (lv_at hl 2 rfl) ?_
    refine lv_dup2_11 hx hb dX2_nextSigns_39 rfl rfl ?_
    obtain ⟨hi, h⟩ := ck_some h
    refine tl29 C hK hT hi dX2_nextSigns_40 ?_
    refine lv_iconst (v := 1) hx hb dX2_nextSigns_41 (by decide) ?_
    refine lv_iadd hx hb dX2_nextSigns_42 ?_
    obtain ⟨hi, h⟩ := ck_some h
    refine ts29 C hK hT hS hi dX2_nextSigns_43 (fun t1 H locs et1 hT hS => ?_)
    replace h := lt1_sub et1 h
    refine lv_iload_n hx hb dX2_nextSigns_44 rfl (lv_at hl 2 rfl) ?_
    refine lv_iconst (v := 1) hx hb dX2_nextSigns_45 (by decide) ?_
    refine lv_iadd hx hb dX2_nextSigns_46 ?_
    refine lv_topi (fun v2 ev2 => ?_)
    replace h := lt1_sub ev2 h
    refine lv_istore_n (lv' := [(3, .int v2), (0, .ref b), (1, .int x1), (2, .int x2)]) hx hb dX2_nextSigns_47 rfl hl (by decide) rfl (fun ls hl => ?_)
    exact bX2_nextSigns_48 C hK fu t1 x1 v2 H locs hT hS ls h (lv_sub hl [1, 2, 0] rfl)
  · replace h := if_f c h
    refine lv_iconst (v := 0) hx hb dX2_nextSigns_32 (by decide) ?_
    exact e_wz C hT hS (Or.inl rfl) h dX2_nextSigns_33
theorem bX2_nextSigns_4 {p : Program} {l : Launch} {e : Env} {s : State} {m : MethodId} {args : Array Value} {below : List Frame} {meth : Method} {c : Code} {D : va_G} {dA : Nat → ClassId} {b : Nat} {r : Int32} {t9 : TS} (C : cx p s m args meth c cX2_nextSigns RX2 4 (some .boolean)) (hK : kk D dA s) : ∀ (n : Nat), ∀ (t : TS) (x1 : Int32) (x2 : Int32) (H : Heap) (locs : List Loc) (hT : wd D (tw dA b t) H) (hS : tS b s.heap H locs) (ls : Array Slot), T_nextSigns_4 n t x1 x2 = some (r, t9) → lv_has ls 4 [(0, .ref b), (1, .int x1), (2, .int x2)] → W p l e rmX2_nextSigns s m args below meth c H locs 0 0 (MQ below (tQ D dA b t9 (some (.int r))) args s 0 0 (ta b)) (F0 m 4 ls []) := by
  obtain ⟨hx, hb, hr, hml, hown, hts, hlocks⟩ := id C
  intro n
  induction n with
  | zero =>
    intro t x1 x2 H locs hT hS ls h hl
    have h : none = some _ := h
    cases h
  | succ n ih =>
    intro t x1 x2 H locs hT hS ls h hl
    rw [T_nextSigns_4] at h
    refine lv_iload_n hx hb dX2_nextSigns_4 rfl (lv_at hl 2 rfl) ?_
    refine lv_if_le (tgt := 28) hx hb dX2_nextSigns_5 (by decide) (fun c => ?_) (fun c => ?_)
    · replace h := if_t c h
      exact bX2_nextSigns_28 C hK t x1 x2 H locs hT hS ls h (lv_sub hl [0, 1, 2] rfl)
    · replace h := if_f c h
      refine lv_aload_n hx hb dX2_nextSigns_8 rfl (lv_at hl 0 rfl) ?_
      refine tg29 C hK hT dX2_nextSigns_9 ?_
      refine lv_iload_n hx hb dX2_nextSigns_12 rfl (lv_at hl 2 rfl) ?_
      obtain ⟨hi, h⟩ := ck_some h
      refine tl29 C hK hT hi dX2_nextSigns_13 ?_
      refine lv_aload_n hx hb dX2_nextSigns_14 rfl (lv_at hl 0 rfl) ?_
      refine lv_iload_n hx hb dX2_nextSigns_15 rfl (lv_at hl 2 rfl) ?_
      obtain ⟨v1, hv1, h⟩ := bd1_some h
      refine r_int (run_t (As := [.int x2]) (rest := [.int (t.1 29 x2.toNatClampNeg)]) C hK hT (mX2_unlike hv1) q2151 q2153 qs145 q162 q2154 ⟨rfl, rfl⟩ hdX2_unlike ⟨Nat.le_of_ble_eq_true rfl, Nat.le_of_ble_eq_true rfl⟩ ⟨Nat.zero_le _, Nat.zero_le _⟩ rfl hl.1 rfl (Nat.le_of_ble_eq_true rfl) dX2_nextSigns_16) ?_
      refine lv_icmp_ne (tgt := 28) hx hb dX2_nextSigns_19 (by decide) (fun c => ?_) (fun c => ?_)
      · replace h := if_f c h
        exact bX2_nextSigns_28 C hK t x1 x2 H locs hT hS ls h (lv_sub hl [0, 1, 2] rfl)
      · replace h := if_t c h
        obtain ⟨v2, ev2⟩ : ∃ y : Int32, y = x2 + (-1 : Int32) := ⟨_, rfl⟩
        replace h := lt1_sub ev2 h
        refine lv_iinc (v := v2) (lv' := [(2, .int v2), (0, .ref b), (1, .int x1)]) hx hb dX2_nextSigns_22 hl (k := 2) rfl (by rw [ev2]; rfl) (by decide) rfl (fun ls hl => ?_)
        refine lv_goto (tgt := 4) hx hb dX2_nextSigns_25 (by decide) ?_
        exact ih t x1 v2 H locs hT hS ls h (lv_sub hl [1, 2, 0] rfl)
theorem bX2_nextSigns {p : Program} {l : Launch} {e : Env} {s : State} {m : MethodId} {args : Array Value} {below : List Frame} {meth : Method} {c : Code} {D : va_G} {dA : Nat → ClassId} {b : Nat} {r : Int32} {t9 : TS} (C : cx p s m args meth c cX2_nextSigns RX2 4 (some .boolean)) (hK : kk D dA s) : ∀ (t : TS) (x1 : Int32) (H : Heap) (locs : List Loc) (hT : wd D (tw dA b t) H) (hS : tS b s.heap H locs) (ls : Array Slot), T_nextSigns t x1 = some (r, t9) → lv_has ls 4 [(0, .ref b), (1, .int x1)] → W p l e rmX2_nextSigns s m args below meth c H locs 0 0 (MQ below (tQ D dA b t9 (some (.int r))) args s 0 0 (ta b)) (F0 m 0 ls []) := by
  obtain ⟨hx, hb, hr, hml, hown, hts, hlocks⟩ := id C
  intro t x1 H locs hT hS ls h hl
  unfold T_nextSigns at h
  refine lv_iload_n hx hb dX2_nextSigns_0 rfl (lv_at hl 1 rfl) ?_
  refine lv_iconst (v := 1) hx hb dX2_nextSigns_1 (by decide) ?_
  refine lv_isub hx hb dX2_nextSigns_2 ?_
  refine lv_topi (fun v1 ev1 => ?_)
  replace h := lt1_sub ev1 h
  refine lv_istore_n (lv' := [(2, .int v1), (0, .ref b), (1, .int x1)]) hx hb dX2_nextSigns_3 rfl hl (by decide) rfl (fun ls hl => ?_)
  exact bX2_nextSigns_4 C hK fu t x1 v1 H locs hT hS ls h (lv_sub hl [1, 2, 0] rfl)
theorem mX2_nextSigns {l : Launch} {D : va_G} {dA : Nat → ClassId} {b : Nat} {t : TS} {x1 : Int32} {r : Int32} {t9 : TS} (h : T_nextSigns t x1 = some (r, t9)) : Met l yX2_nextSigns (ws_ yX2_nextSigns cX2_nextSigns 4 (some .boolean)) rmX2_nextSigns (tPc D dA b t [.ref b, .int x1]) (tQ D dA b t9 (some (.int r))) 0 0 (ta b) := en_R (by decide +kernel) rfl (Nat.le_of_ble_eq_true rfl) (fun p e s m below meth c ls C hK hT hl => bX2_nextSigns C hK t x1 _ [] hT tS.rf ls h hl)
set_option maxRecDepth 20000 in
abbrev rmX2_areEnough : Room := { frames := 3, cells := 0, slots := 0, locals := 69 }
theorem hdX2_areEnough : yX2_areEnough.cls = RX2 ∧ yX2_areEnough.cls ≠ "java/lang/invoke/MethodHandle" ∧ yX2_areEnough.cls ≠ "java/lang/invoke/VarHandle" ∧ (parseMethodDescriptor yX2_areEnough.desc).map (fun d => d.parameters.length) = some 2 := by decide +kernel
theorem bX2_areEnough_78 {p : Program} {l : Launch} {e : Env} {s : State} {m : MethodId} {args : Array Value} {below : List Frame} {meth : Method} {c : Code} {D : va_G} {dA : Nat → ClassId} {b : Nat} {r : Int32} {t9 : TS} (C : cx p s m args meth c cX2_areEnough RX2 5 (some .boolean)) (hK : kk D dA s) {k22 : TS → Int32 → Int32 → Int32 → Option (Int32 × TS)} (hk22 : ∀ (t : TS) (x1 : Int32) (x2 : Int32) (x3 : Int32) (H : Heap) (locs : List Loc) (hT : wd D (tw dA b t) H) (hS : tS b s.heap H locs) (ls : Array Slot), k22 t x1 x2 x3 = some (r, t9) → lv_has ls 5 [(0, .ref b), (1, .int x1), (2, .int x2), (3, .int x3)] → W p l e rmX2_areEnough s m args below meth c H locs 0 0 (MQ below (tQ D dA b t9 (some (.int r))) args s 0 0 (ta b)) (F0 m 22 ls [])) : ∀ (t : TS) (x1 : Int32) (x2 : Int32) (H : Heap) (locs : List Loc) (hT : wd D (tw dA b t) H) (hS : tS b s.heap H locs) (ls : Array Slot), T_areEnough_78 k22 t x1 x2 = some (r, t9) → lv_has ls 5 [(0, .ref b), (1, .int x1), (2, .int x2)] → W p l e rmX2_areEnough s m args below meth c H locs 0 0 (MQ below (tQ D dA b t9 (some (.int r))) args s 0 0 (ta b)) (F0 m 78 ls []) := by
  obtain ⟨hx, hb, hr, hml, hown, hts, hlocks⟩ := id C
  intro t x1 x2 H locs hT hS ls h hl
  unfold T_areEnough_78 at h
  refine lv_aload_n hx hb dX2_areEnough_78 rfl (lv_at hl 0 rfl) ?_
  refine lv_iload_n hx hb dX2_areEnough_79 rfl (lv_at hl 1 rfl) ?_
  obtain ⟨v1, t2, ht2, h⟩ := bd2_some h
  refine w_int hS (run_t (As := [.int x1]) (rest := []) C hK hT (mX2_nextSigns ht2) q2163 q2165 qs148 q162 q2166 ⟨rfl, rfl⟩ hdX2_nextSigns ⟨Nat.le_of_ble_eq_true rfl, Nat.le_of_ble_eq_true rfl⟩ ⟨Nat.zero_le _, Nat.zero_le _⟩ rfl hl.1 rfl (Nat.le_of_ble_eq_true rfl) dX2_areEnough_80) (fun H locs hT hS => ?_)
  refine lv_istore_n (lv' := [(3, .int v1), (0, .ref b), (1, .int x1), (2, .int x2)]) hx hb dX2_areEnough_83 rfl hl (by decide) rfl (fun ls hl => ?_)
  refine lv_goto (tgt := 22) hx hb dX2_areEnough_84 (by decide) ?_
  exact hk22 t2 x1 x2 v1 H locs hT hS ls h (lv_sub hl [1, 2, 3, 0] rfl)
theorem bX2_areEnough_38 {p : Program} {l : Launch} {e : Env} {s : State} {m : MethodId} {args : Array Value} {below : List Frame} {meth : Method} {c : Code} {D : va_G} {dA : Nat → ClassId} {b : Nat} {r : Int32} {t9 : TS} (C : cx p s m args meth c cX2_areEnough RX2 5 (some .boolean)) (hK : kk D dA s) {k22 : TS → Int32 → Int32 → Int32 → Option (Int32 × TS)} (hk22 : ∀ (t : TS) (x1 : Int32) (x2 : Int32) (x3 : Int32) (H : Heap) (locs : List Loc) (hT : wd D (tw dA b t) H) (hS : tS b s.heap H locs) (ls : Array Slot), k22 t x1 x2 x3 = some (r, t9) → lv_has ls 5 [(0, .ref b), (1, .int x1), (2, .int x2), (3, .int x3)] → W p l e rmX2_areEnough s m args below meth c H locs 0 0 (MQ below (tQ D dA b t9 (some (.int r))) args s 0 0 (ta b)) (F0 m 22 ls [])) : ∀ (n : Nat), ∀ (t : TS) (x1 : Int32) (x2 : Int32) (x4 : Int32) (H : Heap) (locs : List Loc) (hT : wd D (tw dA b t) H) (hS : tS b s.heap H locs) (ls : Array Slot), T_areEnough_38 k22 n t x1 x2 x4 = some (r, t9) → lv_has ls 5 [(0, .ref b), (1, .int x1), (2, .int x2), (4, .int x4)] → W p l e rmX2_areEnough s m args below meth c H locs 0 0 (MQ below (tQ D dA b t9 (some (.int r))) args s 0 0 (ta b)) (F0 m 38 ls []) := by
  obtain ⟨hx, hb, hr, hml, hown, hts, hlocks⟩ := id C
  intro n
  induction n with
  | zero =>
    intro t x1 x2 x4 H locs hT hS ls h hl
    have h : none = some _ := h
    cases h
  | succ n ih =>
    intro t x1 x2 x4 H locs hT hS ls h hl
    rw [T_areEnough_38] at h
    refine lv_iload hx hb dX2_areEnough_38 (lv_at hl 3 rfl) ?_
    refine lv_iload_n hx hb dX2_areEnough_40 rfl (lv_at hl 1 rfl) ?_
    refine lv_icmp_ge (tgt := 69) hx hb dX2_areEnough_41 (by decide) (fun c => ?_) (fun c => ?_)
    · replace h := if_t c h
      refine lv_aload_n hx hb dX2_areEnough_69 rfl (lv_at hl 0 rfl) ?_
      obtain ⟨v1, hv1, h⟩ := bd1_some h
      refine r_int (run_t (As := []) (rest := []) C hK hT (mX2_isClear hv1) q2155 q2157 qs146 q162 q2158 ⟨rfl, rfl⟩ hdX2_isClear ⟨Nat.le_of_ble_eq_true rfl, Nat.le_of_ble_eq_true rfl⟩ ⟨Nat.zero_le _, Nat.zero_le _⟩ rfl hl.1 rfl (Nat.le_of_ble_eq_true rfl) dX2_areEnough_70) ?_
      refine lv_if_eq (tgt := 78) hx hb dX2_areEnough_73 (by decide) (fun c => ?_) (fun c => ?_)
      · replace h := if_t c h
        exact bX2_areEnough_78 C hK hk22 t x1 x2 H locs hT hS ls h (lv_sub hl [0, 1, 2] rfl)
      · replace h := if_f c h
        refine lv_iconst (v := 1) hx hb dX2_areEnough_76 (by decide) ?_
        exact e_wz C hT hS (Or.inr rfl) h dX2_areEnough_77
    · replace h := if_f c h
      refine lv_aload_n hx hb dX2_areEnough_44 rfl (lv_at hl 0 rfl) ?_
      refine tg36 C hK hT dX2_areEnough_45 ?_
      refine lv_aload_n hx hb dX2_areEnough_48 rfl (lv_at hl 0 rfl) ?_
      refine tg30 C hK hT dX2_areEnough_49 ?_
      refine lv_iload hx hb dX2_areEnough_52 (lv_at hl 3 rfl) ?_
      obtain ⟨hi, h⟩ := ck_some h
      refine tl30 C hK hT hi dX2_areEnough_54 ?_
      refine lv_aload_n hx hb dX2_areEnough_55 rfl (lv_at hl 0 rfl) ?_
      refine tg29 C hK hT dX2_areEnough_56 ?_
      refine lv_iload hx hb dX2_areEnough_59 (lv_at hl 3 rfl) ?_
      obtain ⟨hi, h⟩ := ck_some h
      refine tl29 C hK hT hi dX2_areEnough_61 ?_
      obtain ⟨hi, h⟩ := ck_some h
      refine ts36 C hK hT hS hi dX2_areEnough_62 (fun t2 H locs et2 hT hS => ?_)
      replace h := lt1_sub et2 h
      obtain ⟨v3, ev3⟩ : ∃ y : Int32, y = x4 + (1 : Int32) := ⟨_, rfl⟩
      replace h := lt1_sub ev3 h
      refine lv_iinc (v := v3) (lv' := [(4, .int v3), (0, .ref b), (1, .int x1), (2, .int x2)]) hx hb dX2_areEnough_63 hl (k := 3) rfl (by rw [ev3]; rfl) (by decide) rfl (fun ls hl => ?_)
      refine lv_goto (tgt := 38) hx hb dX2_areEnough_66 (by decide) ?_
      exact ih t2 x1 x2 v3 H locs hT hS ls h (lv_sub hl [1, 2, 3, 0] rfl)
theorem bX2_areEnough_22 {p : Program} {l : Launch} {e : Env} {s : State} {m : MethodId} {args : Array Value} {below : List Frame} {meth : Method} {c : Code} {D : va_G} {dA : Nat → ClassId} {b : Nat} {r : Int32} {t9 : TS} (C : cx p s m args meth c cX2_areEnough RX2 5 (some .boolean)) (hK : kk D dA s) : ∀ (n : Nat), ∀ (t : TS) (x1 : Int32) (x2 : Int32) (x3 : Int32) (H : Heap) (locs : List Loc) (hT : wd D (tw dA b t) H) (hS : tS b s.heap H locs) (ls : Array Slot), T_areEnough_22 n t x1 x2 x3 = some (r, t9) → lv_has ls 5 [(0, .ref b), (1, .int x1), (2, .int x2), (3, .int x3)] → W p l e rmX2_areEnough s m args below meth c H locs 0 0 (MQ below (tQ D dA b t9 (some (.int r))) args s 0 0 (ta b)) (F0 m 22 ls []) := by
  obtain ⟨hx, hb, hr, hml, hown, hts, hlocks⟩ := id C
  intro n
  induction n with
  | zero =>
    intro t x1 x2 x3 H locs hT hS ls h hl
    have h : none = some _ := h
    cases h
  | succ n ih =>
    intro t x1 x2 x3 H locs hT hS ls h hl
    rw [T_areEnough_22] at h
    refine lv_iload_n hx hb dX2_areEnough_22 rfl (lv_at hl 3 rfl) ?_
    refine lv_if_eq (tgt := 87) hx hb dX2_areEnough_23 (by decide) (fun c => ?_) (fun c => ?_)
    · replace h := if_t c h
      refine lv_iconst (v := 0) hx hb dX2_areEnough_87 (by decide) ?_
      exact e_wz C hT hS (Or.inl rfl) h dX2_areEnough_88
    · replace h := if_f c h
      refine lv_aload_n hx hb dX2_areEnough_26 rfl (lv_at hl 0 rfl) ?_
      refine lv_iload_n hx hb dX2_areEnough_27 rfl (lv_at hl 1 rfl) ?_
      obtain ⟨v1, hv1, h⟩ := bd1_some h
      refine r_int (run_t (As := [.int x1]) (rest := []) C hK hT (mX2_unlike hv1) q2151 q2153 qs145 q162 q2154 ⟨rfl, rfl⟩ hdX2_unlike ⟨Nat.le_of_ble_eq_true rfl, Nat.le_of_ble_eq_true rfl⟩ ⟨Nat.zero_le _, Nat.zero_le _⟩ rfl hl.1 rfl (Nat.le_of_ble_eq_true rfl) dX2_areEnough_28) ?_
      refine lv_iload_n hx hb dX2_areEnough_31 rfl (lv_at hl 2 rfl) ?_
      refine lv_icmp_ne (tgt := 78) hx hb dX2_areEnough_32 (by decide) (fun c => ?_) (fun c => ?_)
      · replace h := if_f c h
        exact bX2_areEnough_78 C hK ih t x1 x2 H locs hT hS ls h (lv_sub hl [0, 1, 2] rfl)
      · replace h := if_t c h
        refine lv_iconst (v := 0) hx hb dX2_areEnough_35 (by decide) ?_
        refine lv_istore (lv' := [(4, .int (0 : Int32)), (0, .ref b), (1, .int x1), (2, .int x2), (3, .int x3)]) hx hb dX2_areEnough_36 hl (by decide) rfl (fun ls hl => ?_)
        exact bX2_areEnough_38 C hK ih fu t x1 x2 (0 : Int32) H locs hT hS ls h (lv_sub hl [1, 2, 3, 0] rfl)
theorem bX2_areEnough_2 {p : Program} {l : Launch} {e : Env} {s : State} {m : MethodId} {args : Array Value} {below : List Frame} {meth : Method} {c : Code} {D : va_G} {dA : Nat → ClassId} {b : Nat} {r : Int32} {t9 : TS} (C : cx p s m args meth c cX2_areEnough RX2 5 (some .boolean)) (hK : kk D dA s) : ∀ (n : Nat), ∀ (t : TS) (x1 : Int32) (x2 : Int32) (x3 : Int32) (H : Heap) (locs : List Loc) (hT : wd D (tw dA b t) H) (hS : tS b s.heap H locs) (ls : Array Slot), T_areEnough_2 n t x1 x2 x3 = some (r, t9) → lv_has ls 5 [(0, .ref b), (1, .int x1), (2, .int x2), (3, .int x3)] → W p l e rmX2_areEnough s m args below meth c H locs 0 0 (MQ below (tQ D dA b t9 (some (.int r))) args s 0 0 (ta b)) (F0 m 2 ls []) := by
  obtain ⟨hx, hb, hr, hml, hown, hts, hlocks⟩ := id C
  intro n
  induction n with
  | zero =>
    intro t x1 x2 x3 H locs hT hS ls h hl
    have h : none = some _ := h
    cases h
  | succ n ih =>
    intro t x1 x2 x3 H locs hT hS ls h hl
    rw [T_areEnough_2] at h
    refine lv_iload_n hx hb dX2_areEnough_2 rfl (lv_at hl 3 rfl) ?_
    refine lv_iload_n hx hb dX2_areEnough_3 rfl (lv_at hl 1 rfl) ?_
    refine lv_icmp_ge (tgt := 20) hx hb dX2_areEnough_4 (by decide) (fun c => ?_) (fun c => ?_)
    · replace h := if_t c h
      refine lv_iconst (v := 1) hx hb dX2_areEnough_20 (by decide) ?_
      refine lv_istore_n (lv' := [(3, .int (1 : Int32)), (0, .ref b), (1, .int x1), (2, .int x2)]) hx hb dX2_areEnough_21 rfl hl (by decide) rfl (fun ls hl => ?_)
      exact bX2_areEnough_22 C hK fu t x1 x2 (1 : Int32) H locs hT hS ls h (lv_sub hl [1, 2, 3, 0] rfl)
    · replace h := if_f c h
      refine lv_aload_n hx hb dX2_areEnough_7 rfl (lv_at hl 0 rfl) ?_
      refine tg29 C hK hT dX2_areEnough_8 ?_
      refine lv_iload_n hx hb dX2_areEnough_11 rfl (lv_at hl 3 rfl) ?_
      refine lv_iconst (v := 0) hx hb dX2_areEnough_12 (by decide) ?_
      obtain ⟨hi, h⟩ := ck_some h
      refine ts29 C hK hT hS hi dX2_areEnough_13 (fun t1 H locs et1 hT hS => ?_)
      replace h := lt1_sub et1 h
      obtain ⟨v2, ev2⟩ : ∃ y : Int32, y = x3 + (1 : Int32) := ⟨_, rfl⟩
      replace h := lt1_sub ev2 h
      refine lv_iinc (v := v2) (lv' := [(3, .int v2), (0, .ref b), (1, .int x1), (2, .int x2)]) hx hb dX2_areEnough_14 hl (k := 3) rfl (by rw [ev2]; rfl) (by decide) rfl (fun ls hl => ?_)
      refine lv_goto (tgt := 2) hx hb dX2_areEnough_17 (by decide) ?_
      exact ih t1 x1 x2 v2 H locs hT hS ls h (lv_sub hl [1, 2, 3, 0] rfl)
theorem bX2_areEnough {p : Program} {l : Launch} {e : Env} {s : State} {m : MethodId} {args : Array Value} {below : List Frame} {meth : Method} {c : Code} {D : va_G} {dA : Nat → ClassId} {b : Nat} {r : Int32} {t9 : TS} (C : cx p s m args meth c cX2_areEnough RX2 5 (some .boolean)) (hK : kk D dA s) : ∀ (t : TS) (x1 : Int32) (x2 : Int32) (H : Heap) (locs : List Loc) (hT : wd D (tw dA b t) H) (hS : tS b s.heap H locs) (ls : Array Slot), T_areEnough t x1 x2 = some (r, t9) → lv_has ls 5 [(0, .ref b), (1, .int x1), (2, .int x2)] → W p l e rmX2_areEnough s m args below meth c H locs 0 0 (MQ below (tQ D dA b t9 (some (.int r))) args s 0 0 (ta b)) (F0 m 0 ls []) := by
  obtain ⟨hx, hb, hr, hml, hown, hts, hlocks⟩ := id C
  intro t x1 x2 H locs hT hS ls h hl
  unfold T_areEnough at h
  refine lv_iconst (v := 0) hx hb dX2_areEnough_0 (by decide) ?_
  refine lv_istore_n (lv' := [(3, .int (0 : Int32)), (0, .ref b), (1, .int x1), (2, .int x2)]) hx hb dX2_areEnough_1 rfl hl (by decide) rfl (fun ls hl => ?_)
  exact bX2_areEnough_2 C hK fu t x1 x2 (0 : Int32) H locs hT hS ls h (lv_sub hl [1, 2, 3, 0] rfl)
theorem mX2_areEnough {l : Launch} {D : va_G} {dA : Nat → ClassId} {b : Nat} {t : TS} {x1 : Int32} {x2 : Int32} {r : Int32} {t9 : TS} (h : T_areEnough t x1 x2 = some (r, t9)) : Met l yX2_areEnough (ws_ yX2_areEnough cX2_areEnough 5 (some .boolean)) rmX2_areEnough (tPc D dA b t [.ref b, .int x1, .int x2]) (tQ D dA b t9 (some (.int r))) 0 0 (ta b) := en_R (by decide +kernel) rfl (Nat.le_of_ble_eq_true rfl) (fun p e s m below meth c ls C hK hT hl => bX2_areEnough C hK t x1 x2 _ [] hT tS.rf ls h hl)
set_option maxRecDepth 20000 in
abbrev rmX2_signsFor : Room := { frames := 4, cells := 0, slots := 0, locals := 93 }
theorem hdX2_signsFor : yX2_signsFor.cls = RX2 ∧ yX2_signsFor.cls ≠ "java/lang/invoke/MethodHandle" ∧ yX2_signsFor.cls ≠ "java/lang/invoke/VarHandle" ∧ (parseMethodDescriptor yX2_signsFor.desc).map (fun d => d.parameters.length) = some 2 := by decide +kernel
theorem bX2_signsFor_81 {p : Program} {l : Launch} {e : Env} {s : State} {m : MethodId} {args : Array Value} {below : List Frame} {meth : Method} {c : Code} {D : va_G} {dA : Nat → ClassId} {b : Nat} {r : Int32} {t9 : TS} (C : cx p s m args meth c cX2_signsFor RX2 5 (some .int)) (hK : kk D dA s) {k43 : TS → Int32 → Int32 → Int32 → Int32 → Option (Int32 × TS)} (hk43 : ∀ (t : TS) (x1 : Int32) (x2 : Int32) (x3 : Int32) (x4 : Int32) (H : Heap) (locs : List Loc) (hT : wd D (tw dA b t) H) (hS : tS b s.heap H locs) (ls : Array Slot), k43 t x1 x2 x3 x4 = some (r, t9) → lv_has ls 5 [(0, .ref b), (1, .int x1), (2, .int x2), (3, .int x3), (4, .int x4)] → W p l e rmX2_signsFor s m args below meth c H locs 0 0 (MQ below (tQ D dA b t9 (some (.int r))) args s 0 0 (ta b)) (F0 m 43 ls [])) : ∀ (t : TS) (x1 : Int32) (x2 : Int32) (x3 : Int32) (x4 : Int32) (H : Heap) (locs : List Loc) (hT : wd D (tw dA b t) H) (hS : tS b s.heap H locs) (ls : Array Slot), T_signsFor_81 k43 t x1 x2 x3 x4 = some (r, t9) → lv_has ls 5 [(0, .ref b), (1, .int x1), (2, .int x2), (3, .int x3), (4, .int x4)] → W p l e rmX2_signsFor s m args below meth c H locs 0 0 (MQ below (tQ D dA b t9 (some (.int r))) args s 0 0 (ta b)) (F0 m 81 ls []) := by
  obtain ⟨hx, hb, hr, hml, hown, hts, hlocks⟩ := id C
  intro t x1 x2 x3 x4 H locs hT hS ls h hl
  unfold T_signsFor_81 at h
  obtain ⟨v1, ev1⟩ : ∃ y : Int32, y = x4 + (1 : Int32) := ⟨_, rfl⟩
  replace h := lt1_sub ev1 h
  refine lv_iinc (v := v1) (lv' := [(4, .int v1), (0, .ref b), (1, .int x1), (2, .int x2), (3, .int x3)]) hx hb dX2_signsFor_81 hl (k := 4) rfl (by rw [ev1]; rfl) (by decide) rfl (fun ls hl => ?_)
  refine lv_goto (tgt := 43) hx hb dX2_signsFor_84 (by decide) ?_
  exact hk43 t x1 x2 x3 v1 H locs hT hS ls h (lv_sub hl [1, 2, 3, 4, 0] rfl)
theorem bX2_signsFor_90 {p : Program} {l : Launch} {e : Env} {s : State} {m : MethodId} {args : Array Value} {below : List Frame} {meth : Method} {c : Code} {D : va_G} {dA : Nat → ClassId} {b : Nat} {r : Int32} {t9 : TS} (C : cx p s m args meth c cX2_signsFor RX2 5 (some .int)) (hK : kk D dA s) : ∀ (n : Nat), ∀ (t : TS) (x2 : Int32) (x3 : Int32) (x4 : Int32) (H : Heap) (locs : List Loc) (hT : wd D (tw dA b t) H) (hS : tS b s.heap H locs) (ls : Array Slot), T_signsFor_90 n t x2 x3 x4 = some (r, t9) → lv_has ls 5 [(0, .ref b), (2, .int x2), (3, .int x3), (4, .int x4)] → W p l e rmX2_signsFor s m args below meth c H locs 0 0 (MQ below (tQ D dA b t9 (some (.int r))) args s 0 0 (ta b)) (F0 m 90 ls []) := by
  obtain ⟨hx, hb, hr, hml, hown, hts, hlocks⟩ := id C
  intro n
  induction n with
  | zero =>
    intro t x2 x3 x4 H locs hT hS ls h hl
    have h : none = some _ := h
    cases h
  | succ n ih =>
    intro t x2 x3 x4 H locs hT hS ls h hl
    rw [T_signsFor_90] at h
    refine lv_iload hx hb dX2_signsFor_90 (lv_at hl 3 rfl) ?_
    refine lv_iload_n hx hb dX2_signsFor_92 rfl (lv_at hl 2 rfl) ?_
    refine lv_icmp_gt (tgt := 129) hx hb dX2_signsFor_93 (by decide) (fun c => ?_) (fun c => ?_)
    · replace h := if_t c h
      refine lv_iconst (v := -1) hx hb dX2_signsFor_129 (by decide) ?_
      exact e_wi C hT hS h dX2_signsFor_130
    · replace h := if_f c h
      refine lv_aload_n hx hb dX2_signsFor_96 rfl (lv_at hl 0 rfl) ?_
      refine lv_iload_n hx hb dX2_signsFor_97 rfl (lv_at hl 2 rfl) ?_
      refine lv_iload hx hb dX2_signsFor_98 (lv_at hl 3 rfl) ?_
      obtain ⟨v1, t2, ht2, h⟩ := bd2_some h
      refine w_int hS (run_t (As := [.int x3, .int x4]) (rest := []) C hK hT (mX2_areEnough ht2) q2147 q2149 qs144 q162 q2150 ⟨rfl, rfl⟩ hdX2_areEnough ⟨Nat.le_of_ble_eq_true rfl, Nat.le_of_ble_eq_true rfl⟩ ⟨Nat.zero_le _, Nat.zero_le _⟩ rfl hl.1 rfl (Nat.le_of_ble_eq_true rfl) dX2_signsFor_100) (fun H locs hT hS => ?_)
      refine lv_if_eq (tgt := 123) hx hb dX2_signsFor_103 (by decide) (fun c => ?_) (fun c => ?_)
      · replace h := if_t c h
        obtain ⟨v3, ev3⟩ : ∃ y : Int32, y = x4 + (1 : Int32) := ⟨_, rfl⟩
        replace h := lt1_sub ev3 h
        refine lv_iinc (v := v3) (lv' := [(4, .int v3), (0, .ref b), (2, .int x2), (3, .int x3)]) hx hb dX2_signsFor_123 hl (k := 3) rfl (by rw [ev3]; rfl) (by decide) rfl (fun ls hl => ?_)
        refine lv_goto (tgt := 90) hx hb dX2_signsFor_126 (by decide) ?_
        exact ih t2 x2 x3 v3 H locs hT hS ls h (lv_sub hl [1, 2, 3, 0] rfl)
      · replace h := if_f c h
        refine lv_iload_n hx hb dX2_signsFor_106 rfl (lv_at hl 1 rfl) ?_
        refine lv_iconst (v := -1) hx hb dX2_signsFor_107 (by decide) ?_
        refine lv_icmp_ne (tgt := 116) hx hb dX2_signsFor_108 (by decide) (fun c => ?_) (fun c => ?_)
        · replace h := if_f c h
          refine lv_aload_n hx hb dX2_signsFor_116 rfl (lv_at hl 0 rfl) ?_
          refine tg36 C hK hT dX2_signsFor_117 ?_
          refine lv_iload_n hx hb dX2_signsFor_120 rfl (lv_at hl 1 rfl) ?_
          obtain ⟨hi, h⟩ := ck_some h
          refine tl36 C hK hT hi dX2_signsFor_121 ?_
          exact e_wi C hT hS h dX2_signsFor_122
        · replace h := if_t c h
          refine lv_iload hx hb dX2_signsFor_111 (lv_at hl 3 rfl) ?_
          refine lv_goto (tgt := 122) hx hb dX2_signsFor_113 (by decide) ?_
          exact e_wi C hT hS h dX2_signsFor_122
theorem bX2_signsFor_43 {p : Program} {l : Launch} {e : Env} {s : State} {m : MethodId} {args : Array Value} {below : List Frame} {meth : Method} {c : Code} {D : va_G} {dA : Nat → ClassId} {b : Nat} {r : Int32} {t9 : TS} (C : cx p s m args meth c cX2_signsFor RX2 5 (some .int)) (hK : kk D dA s) : ∀ (n : Nat), ∀ (t : TS) (x1 : Int32) (x2 : Int32) (x3 : Int32) (x4 : Int32) (H : Heap) (locs : List Loc) (hT : wd D (tw dA b t) H) (hS : tS b s.heap H locs) (ls : Array Slot), T_signsFor_43 n t x1 x2 x3 x4 = some (r, t9) → lv_has ls 5 [(0, .ref b), (1, .int x1), (2, .int x2), (3, .int x3), (4, .int x4)] → W p l e rmX2_signsFor s m args below meth c H locs 0 0 (MQ below (tQ D dA b t9 (some (.int r))) args s 0 0 (ta b)) (F0 m 43 ls []) := by
  obtain ⟨hx, hb, hr, hml, hown, hts, hlocks⟩ := id C
  intro n
  induction n with
  | zero =>
    intro t x1 x2 x3 x4 H locs hT hS ls h hl
    have h : none = some _ := h
    cases h
  | succ n ih =>
    intro t x1 x2 x3 x4 H locs hT hS ls h hl
    rw [T_signsFor_43] at h
    refine lv_iload hx hb dX2_signsFor_43 (lv_at hl 4 rfl) ?_
    refine lv_bipush (v := 26) hx hb dX2_signsFor_45 (by decide) ?_
    refine lv_icmp_ge (tgt := 87) hx hb dX2_signsFor_47 (by decide) (fun c => ?_) (fun c => ?_)
    · replace h := if_t c h
      refine lv_iconst (v := 1) hx hb dX2_signsFor_87 (by decide) ?_
      refine lv_istore (lv' := [(4, .int (1 : Int32)), (0, .ref b), (1, .int x1), (2, .int x2), (3, .int x3)]) hx hb dX2_signsFor_88 hl (by decide) rfl (fun ls hl => ?_)
      exact bX2_signsFor_90 C hK fu t x2 x3 (1 : Int32) H locs hT hS ls h (lv_sub hl [1, 3, 4, 0] rfl)
    · replace h := if_f c h
      refine lv_aload_n hx hb dX2_signsFor_50 rfl (lv_at hl 0 rfl) ?_
      refine tg36 C hK hT dX2_signsFor_51 ?_
      refine lv_iload hx hb dX2_signsFor_54 (lv_at hl 4 rfl) ?_
      refine lv_iconst (v := -1) hx hb dX2_signsFor_56 (by decide) ?_
      obtain ⟨hi, h⟩ := ck_some h
      refine ts36 C hK hT hS hi dX2_signsFor_57 (fun t1 H locs et1 hT hS => ?_)
      replace h := lt1_sub et1 h
      refine lv_iload_n hx hb dX2_signsFor_58 rfl (lv_at hl 1 rfl) ?_
      refine lv_iload hx hb dX2_signsFor_59 (lv_at hl 4 rfl) ?_
      obtain ⟨v2, hv2, h⟩ := bd1_some h
      refine r_int (run_s (As := [.int x1, .int x4]) (rest := []) C (mX2_has hv2) q1659 q1660 q162 q1661 ⟨rfl, rfl⟩ hdX2_has ⟨Nat.le_of_ble_eq_true rfl, Nat.le_of_ble_eq_true rfl⟩ ⟨Nat.zero_le _, Nat.zero_le _⟩ rfl hl.1 rfl (Nat.le_of_ble_eq_true rfl) dX2_signsFor_61) ?_
      refine lv_if_ne (tgt := 70) hx hb dX2_signsFor_64 (by decide) (fun c => ?_) (fun c => ?_)
      · replace h := if_f c h
        refine lv_aload_n hx hb dX2_signsFor_70 rfl (lv_at hl 0 rfl) ?_
        refine tg30 C hK hT dX2_signsFor_71 ?_
        refine lv_iload_n hx hb dX2_signsFor_74 rfl (lv_at hl 3 rfl) ?_
        refine lv_iload hx hb dX2_signsFor_75 (lv_at hl 4 rfl) ?_
        obtain ⟨hi, h⟩ := ck_some h
        refine ts30 C hK hT hS hi dX2_signsFor_77 (fun t3 H locs et3 hT hS => ?_)
        replace h := lt1_sub et3 h
        obtain ⟨v4, ev4⟩ : ∃ y : Int32, y = x3 + (1 : Int32) := ⟨_, rfl⟩
        replace h := lt1_sub ev4 h
        refine lv_iinc (v := v4) (lv' := [(3, .int v4), (0, .ref b), (1, .int x1), (2, .int x2), (4, .int x4)]) hx hb dX2_signsFor_78 hl (k := 3) rfl (by rw [ev4]; rfl) (by decide) rfl (fun ls hl => ?_)
        exact bX2_signsFor_81 C hK ih t3 x1 x2 v4 x4 H locs hT hS ls h (lv_sub hl [1, 2, 3, 0, 4] rfl)
      · replace h := if_t c h
        refine lv_goto (tgt := 81) hx hb dX2_signsFor_67 (by decide) ?_
        exact bX2_signsFor_81 C hK ih t1 x1 x2 x3 x4 H locs hT hS ls h (lv_sub hl [0, 1, 2, 3, 4] rfl)
theorem bX2_signsFor_38 {p : Program} {l : Launch} {e : Env} {s : State} {m : MethodId} {args : Array Value} {below : List Frame} {meth : Method} {c : Code} {D : va_G} {dA : Nat → ClassId} {b : Nat} {r : Int32} {t9 : TS} (C : cx p s m args meth c cX2_signsFor RX2 5 (some .int)) (hK : kk D dA s) : ∀ (t : TS) (x1 : Int32) (x2 : Int32) (H : Heap) (locs : List Loc) (hT : wd D (tw dA b t) H) (hS : tS b s.heap H locs) (ls : Array Slot), T_signsFor_38 t x1 x2 = some (r, t9) → lv_has ls 5 [(0, .ref b), (1, .int x1), (2, .int x2)] → W p l e rmX2_signsFor s m args below meth c H locs 0 0 (MQ below (tQ D dA b t9 (some (.int r))) args s 0 0 (ta b)) (F0 m 38 ls []) := by
  obtain ⟨hx, hb, hr, hml, hown, hts, hlocks⟩ := id C
  intro t x1 x2 H locs hT hS ls h hl
  unfold T_signsFor_38 at h
  refine lv_iconst (v := 0) hx hb dX2_signsFor_38 (by decide) ?_
  refine lv_istore_n (lv' := [(3, .int (0 : Int32)), (0, .ref b), (1, .int x1), (2, .int x2)]) hx hb dX2_signsFor_39 rfl hl (by decide) rfl (fun ls hl => ?_)
  refine lv_iconst (v := 0) hx hb dX2_signsFor_40 (by decide) ?_
  refine lv_istore (lv' := [(4, .int (0 : Int32)), (3, .int (0 : Int32)), (0, .ref b), (1, .int x1), (2, .int x2)]) hx hb dX2_signsFor_41 hl (by decide) rfl (fun ls hl => ?_)
  exact bX2_signsFor_43 C hK fu t x1 x2 (0 : Int32) (0 : Int32) H locs hT hS ls h (lv_sub hl [2, 3, 4, 1, 0] rfl)
theorem bX2_signsFor {p : Program} {l : Launch} {e : Env} {s : State} {m : MethodId} {args : Array Value} {below : List Frame} {meth : Method} {c : Code} {D : va_G} {dA : Nat → ClassId} {b : Nat} {r : Int32} {t9 : TS} (C : cx p s m args meth c cX2_signsFor RX2 5 (some .int)) (hK : kk D dA s) : ∀ (t : TS) (x1 : Int32) (x2 : Int32) (H : Heap) (locs : List Loc) (hT : wd D (tw dA b t) H) (hS : tS b s.heap H locs) (ls : Array Slot), T_signsFor t x1 x2 = some (r, t9) → lv_has ls 5 [(0, .ref b), (1, .int x1), (2, .int x2)] → W p l e rmX2_signsFor s m args below meth c H locs 0 0 (MQ below (tQ D dA b t9 (some (.int r))) args s 0 0 (ta b)) (F0 m 0 ls []) := by
  obtain ⟨hx, hb, hr, hml, hown, hts, hlocks⟩ := id C
  intro t x1 x2 H locs hT hS ls h hl
  unfold T_signsFor at h
  refine lv_iload_n hx hb dX2_signsFor_0 rfl (lv_at hl 1 rfl) ?_
  obtain ⟨v1, hv1, h⟩ := bd1_some h
  refine r_int (run_s (As := [.int x1]) (rest := []) C (mX2_isSet hv1) q1935 q1936 q162 q1937 ⟨rfl, rfl⟩ hdX2_isSet ⟨Nat.le_of_ble_eq_true rfl, Nat.le_of_ble_eq_true rfl⟩ ⟨Nat.zero_le _, Nat.zero_le _⟩ rfl hl.1 rfl (Nat.le_of_ble_eq_true rfl) dX2_signsFor_1) ?_
  refine lv_if_eq (tgt := 36) hx hb dX2_signsFor_4 (by decide) (fun c => ?_) (fun c => ?_)
  · replace h := if_t c h
    refine lv_iconst (v := -1) hx hb dX2_signsFor_36 (by decide) ?_
    exact e_wi C hT hS h dX2_signsFor_37
  · replace h := if_f c h
    refine lv_iload_n hx hb dX2_signsFor_7 rfl (lv_at hl 1 rfl) ?_
    obtain ⟨v2, hv2, h⟩ := bd1_some h
    refine r_int (run_s (As := [.int x1]) (rest := []) C (mX2_bits hv2) q1902 q1903 q162 q1904 ⟨rfl, rfl⟩ hdX2_bits ⟨Nat.le_of_ble_eq_true rfl, Nat.le_of_ble_eq_true rfl⟩ ⟨Nat.zero_le _, Nat.zero_le _⟩ rfl hl.1 rfl (Nat.le_of_ble_eq_true rfl) dX2_signsFor_8) ?_
    refine lv_bipush (v := 6) hx hb dX2_signsFor_11 (by decide) ?_
    refine lv_icmp_gt (tgt := 36) hx hb dX2_signsFor_13 (by decide) (fun c => ?_) (fun c => ?_)
    · replace h := if_t c h
      refine lv_iconst (v := -1) hx hb dX2_signsFor_36 (by decide) ?_
      exact e_wi C hT hS h dX2_signsFor_37
    · replace h := if_f c h
      refine lv_iload_n hx hb dX2_signsFor_16 rfl (lv_at hl 2 rfl) ?_
      refine lv_iconst (v := -1) hx hb dX2_signsFor_17 (by decide) ?_
      refine lv_icmp_eq (tgt := 38) hx hb dX2_signsFor_18 (by decide) (fun c => ?_) (fun c => ?_)
      · replace h := if_t c h
        exact bX2_signsFor_38 C hK t x1 x2 H locs hT hS ls h (lv_sub hl [0, 1, 2] rfl)
      · replace h := if_f c h
        refine lv_iload_n hx hb dX2_signsFor_21 rfl (lv_at hl 2 rfl) ?_
        obtain ⟨v3, hv3, h⟩ := bd1_some h
        refine r_int (run_s (As := [.int x2]) (rest := []) C (mX2_isLetter0 hv3) q1653 q1654 q162 q1655 ⟨rfl, rfl⟩ hdX2_isLetter0 ⟨Nat.le_of_ble_eq_true rfl, Nat.le_of_ble_eq_true rfl⟩ ⟨Nat.zero_le _, Nat.zero_le _⟩ rfl hl.1 rfl (Nat.le_of_ble_eq_true rfl) dX2_signsFor_22) ?_
        refine lv_if_eq (tgt := 36) hx hb dX2_signsFor_25 (by decide) (fun c => ?_) (fun c => ?_)
        · replace h := if_t c h
          refine lv_iconst (v := -1) hx hb dX2_signsFor_36 (by decide) ?_
          exact e_wi C hT hS h dX2_signsFor_37
        · replace h := if_f c h
          refine lv_iload_n hx hb dX2_signsFor_28 rfl (lv_at hl 1 rfl) ?_
          refine lv_iload_n hx hb dX2_signsFor_29 rfl (lv_at hl 2 rfl) ?_
          obtain ⟨v4, hv4, h⟩ := bd1_some h
          refine r_int (run_s (As := [.int x1, .int x2]) (rest := []) C (mX2_has hv4) q1659 q1660 q162 q1661 ⟨rfl, rfl⟩ hdX2_has ⟨Nat.le_of_ble_eq_true rfl, Nat.le_of_ble_eq_true rfl⟩ ⟨Nat.zero_le _, Nat.zero_le _⟩ rfl hl.1 rfl (Nat.le_of_ble_eq_true rfl) dX2_signsFor_30) ?_
          refine lv_if_ne (tgt := 38) hx hb dX2_signsFor_33 (by decide) (fun c => ?_) (fun c => ?_)
          · replace h := if_f c h
            exact bX2_signsFor_38 C hK t x1 x2 H locs hT hS ls h (lv_sub hl [0, 1, 2] rfl)
          · replace h := if_t c h
            refine lv_iconst (v := -1) hx hb dX2_signsFor_36 (by decide) ?_
            exact e_wi C hT hS h dX2_signsFor_37
theorem mX2_signsFor {l : Launch} {D : va_G} {dA : Nat → ClassId} {b : Nat} {t : TS} {x1 : Int32} {x2 : Int32} {r : Int32} {t9 : TS} (h : T_signsFor t x1 x2 = some (r, t9)) : Met l yX2_signsFor (ws_ yX2_signsFor cX2_signsFor 5 (some .int)) rmX2_signsFor (tPc D dA b t [.ref b, .int x1, .int x2]) (tQ D dA b t9 (some (.int r))) 0 0 (ta b) := en_R (by decide +kernel) rfl (Nat.le_of_ble_eq_true rfl) (fun p e s m below meth c ls C hK hT hl => bX2_signsFor C hK t x1 x2 _ [] hT tS.rf ls h hl)
set_option maxRecDepth 20000 in
abbrev rmX2_weigh : Room := { frames := 2, cells := 0, slots := 0, locals := 45 }
theorem hdX2_weigh : yX2_weigh.cls = RX2 ∧ yX2_weigh.cls ≠ "java/lang/invoke/MethodHandle" ∧ yX2_weigh.cls ≠ "java/lang/invoke/VarHandle" ∧ (parseMethodDescriptor yX2_weigh.desc).map (fun d => d.parameters.length) = some 2 := by decide +kernel
theorem bX2_weigh_82 {p : Program} {l : Launch} {e : Env} {s : State} {m : MethodId} {args : Array Value} {below : List Frame} {meth : Method} {c : Code} {D : va_G} {dA : Nat → ClassId} {b : Nat} {t9 : TS} (C : cx p s m args meth c cX2_weigh RX2 6 none) (hK : kk D dA s) : ∀ (n : Nat), ∀ (t : TS) (x1 : Int32) (x5 : Int32) (H : Heap) (locs : List Loc) (hT : wd D (tw dA b t) H) (hS : tS b s.heap H locs) (ls : Array Slot), T_weigh_82 n t x1 x5 = some t9 → lv_has ls 6 [(0, .ref b), (1, .int x1), (5, .int x5)] → W p l e rmX2_weigh s m args below meth c H locs 0 0 (MQ below (tQ D dA b t9 none) args s 0 0 (ta b)) (F0 m 82 ls []) := by
  obtain ⟨hx, hb, hr, hml, hown, hts, hlocks⟩ := id C
  intro n
  induction n with
  | zero =>
    intro t x1 x5 H locs hT hS ls h hl
    have h : none = some _ := h
    cases h
  | succ n ih =>
    intro t x1 x5 H locs hT hS ls h hl
    rw [T_weigh_82] at h
    refine lv_iload hx hb dX2_weigh_82 (lv_at hl 2 rfl) ?_
    refine lv_iload_n hx hb dX2_weigh_84 rfl (lv_at hl 1 rfl) ?_
    refine lv_icmp_ge (tgt := 108) hx hb dX2_weigh_85 (by decide) (fun c => ?_) (fun c => ?_)
    · replace h := if_t c h
      exact e_wv C hT hS h dX2_weigh_108
    · replace h := if_f c h
      refine lv_aload_n hx hb dX2_weigh_88 rfl (lv_at hl 0 rfl) ?_
      refine tg37 C hK hT dX2_weigh_89 ?_
      refine lv_iload hx hb dX2_weigh_92 (lv_at hl 2 rfl) ?_
      refine lv_aload_n hx hb dX2_weigh_94 rfl (lv_at hl 0 rfl) ?_
      refine tg29 C hK hT dX2_weigh_95 ?_
      refine lv_iload hx hb dX2_weigh_98 (lv_at hl 2 rfl) ?_
      obtain ⟨hi, h⟩ := ck_some h
      refine tl29 C hK hT hi dX2_weigh_100 ?_
      obtain ⟨hi, h⟩ := ck_some h
      refine ts37 C hK hT hS hi dX2_weigh_101 (fun t1 H locs et1 hT hS => ?_)
      replace h := lt1_sub et1 h
      obtain ⟨v2, ev2⟩ : ∃ y : Int32, y = x5 + (1 : Int32) := ⟨_, rfl⟩
      replace h := lt1_sub ev2 h
      refine lv_iinc (v := v2) (lv' := [(5, .int v2), (0, .ref b), (1, .int x1)]) hx hb dX2_weigh_102 hl (k := 2) rfl (by rw [ev2]; rfl) (by decide) rfl (fun ls hl => ?_)
      refine lv_goto (tgt := 82) hx hb dX2_weigh_105 (by decide) ?_
      exact ih t1 x1 v2 H locs hT hS ls h (lv_sub hl [1, 2, 0] rfl)
theorem bX2_weigh_8 {p : Program} {l : Launch} {e : Env} {s : State} {m : MethodId} {args : Array Value} {below : List Frame} {meth : Method} {c : Code} {D : va_G} {dA : Nat → ClassId} {b : Nat} {t9 : TS} (C : cx p s m args meth c cX2_weigh RX2 6 none) (hK : kk D dA s) : ∀ (n : Nat), ∀ (t : TS) (x1 : Int32) (x2 : Int32) (x3 : Int32) (x4 : Int32) (x5 : Int32) (H : Heap) (locs : List Loc) (hT : wd D (tw dA b t) H) (hS : tS b s.heap H locs) (ls : Array Slot), T_weigh_8 n t x1 x2 x3 x4 x5 = some t9 → lv_has ls 6 [(0, .ref b), (1, .int x1), (2, .int x2), (3, .int x3), (4, .int x4), (5, .int x5)] → W p l e rmX2_weigh s m args below meth c H locs 0 0 (MQ below (tQ D dA b t9 none) args s 0 0 (ta b)) (F0 m 8 ls []) := by
  obtain ⟨hx, hb, hr, hml, hown, hts, hlocks⟩ := id C
  intro n
  induction n with
  | zero =>
    intro t x1 x2 x3 x4 x5 H locs hT hS ls h hl
    have h : none = some _ := h
    cases h
  | succ n ih =>
    intro t x1 x2 x3 x4 x5 H locs hT hS ls h hl
    rw [T_weigh_8] at h
    refine lv_iload hx hb dX2_weigh_8 (lv_at hl 5 rfl) ?_
    refine lv_iload_n hx hb dX2_weigh_10 rfl (lv_at hl 1 rfl) ?_
    refine lv_icmp_ge (tgt := 50) hx hb dX2_weigh_11 (by decide) (fun c => ?_) (fun c => ?_)
    · replace h := if_t c h
      refine lv_iload_n hx hb dX2_weigh_50 rfl (lv_at hl 2 rfl) ?_
      refine lv_iload_n hx hb dX2_weigh_51 rfl (lv_at hl 3 rfl) ?_
      refine lv_iconst (v := -1) hx hb dX2_weigh_52 (by decide) ?_
      refine lv_ixor hx hb dX2_weigh_53 ?_
      refine lv_iand hx hb dX2_weigh_54 ?_
      refine lv_if_ne (tgt := 67) hx hb dX2_weigh_55 (by decide) (fun c => ?_) (fun c => ?_)
      · replace h := if_f c h
        exact e_wv C hT hS h dX2_weigh_67
      · replace h := if_t c h
        refine lv_iload hx hb dX2_weigh_58 (lv_at hl 4 rfl) ?_
        refine lv_aload_n hx hb dX2_weigh_60 rfl (lv_at hl 0 rfl) ?_
        refine tg38 C hK hT dX2_weigh_61 ?_
        refine lv_icmp_lt (tgt := 68) hx hb dX2_weigh_64 (by decide) (fun c => ?_) (fun c => ?_)
        · replace h := if_t c h
          refine lv_aload_n hx hb dX2_weigh_68 rfl (lv_at hl 0 rfl) ?_
          refine lv_iload hx hb dX2_weigh_69 (lv_at hl 4 rfl) ?_
          refine tp38 C hK hT hS dX2_weigh_71 (fun t1 H locs et1 hT hS => ?_)
          replace h := lt1_sub et1 h
          refine lv_aload_n hx hb dX2_weigh_74 rfl (lv_at hl 0 rfl) ?_
          refine lv_iload_n hx hb dX2_weigh_75 rfl (lv_at hl 1 rfl) ?_
          refine tp39 C hK hT hS dX2_weigh_76 (fun t2 H locs et2 hT hS => ?_)
          replace h := lt1_sub et2 h
          refine lv_iconst (v := 0) hx hb dX2_weigh_79 (by decide) ?_
          refine lv_istore (lv' := [(5, .int (0 : Int32)), (0, .ref b), (1, .int x1), (2, .int x2), (3, .int x3), (4, .int x4)]) hx hb dX2_weigh_80 hl (by decide) rfl (fun ls hl => ?_)
          exact bX2_weigh_82 C hK fu t2 x1 (0 : Int32) H locs hT hS ls h (lv_sub hl [1, 2, 0] rfl)
        · replace h := if_f c h
          exact e_wv C hT hS h dX2_weigh_67
    · replace h := if_f c h
      refine lv_iload_n hx hb dX2_weigh_14 rfl (lv_at hl 3 rfl) ?_
      refine lv_aload_n hx hb dX2_weigh_15 rfl (lv_at hl 0 rfl) ?_
      refine lv_aload_n hx hb dX2_weigh_16 rfl (lv_at hl 0 rfl) ?_
      refine tg29 C hK hT dX2_weigh_17 ?_
      refine lv_iload hx hb dX2_weigh_20 (lv_at hl 5 rfl) ?_
      obtain ⟨hi, h⟩ := ck_some h
      refine tl29 C hK hT hi dX2_weigh_22 ?_
      obtain ⟨v3, hv3, h⟩ := bd1_some h
      refine r_int (run_t (As := [.int (t.1 29 x5.toNatClampNeg)]) (rest := [.int x3]) C hK hT (mX2_setOf hv3) q1912 q1914 qs114 q162 q1915 ⟨rfl, rfl⟩ hdX2_setOf ⟨Nat.le_of_ble_eq_true rfl, Nat.le_of_ble_eq_true rfl⟩ ⟨Nat.zero_le _, Nat.zero_le _⟩ rfl hl.1 rfl (Nat.le_of_ble_eq_true rfl) dX2_weigh_23) ?_
      refine lv_ior hx hb dX2_weigh_26 ?_
      refine lv_topi (fun v4 ev4 => ?_)
      replace h := lt1_sub ev4 h
      refine lv_istore_n (lv' := [(3, .int v4), (0, .ref b), (1, .int x1), (2, .int x2), (4, .int x4), (5, .int x5)]) hx hb dX2_weigh_27 rfl hl (by decide) rfl (fun ls hl => ?_)
      refine lv_iload hx hb dX2_weigh_28 (lv_at hl 4 rfl) ?_
      refine lv_aload_n hx hb dX2_weigh_30 rfl (lv_at hl 1 rfl) ?_
      refine lv_aload_n hx hb dX2_weigh_31 rfl (lv_at hl 1 rfl) ?_
      refine tg29 C hK hT dX2_weigh_32 ?_
      refine lv_iload hx hb dX2_weigh_35 (lv_at hl 5 rfl) ?_
      obtain ⟨hi, h⟩ := ck_some h
      refine tl29 C hK hT hi dX2_weigh_37 ?_
      obtain ⟨v5, hv5, h⟩ := bd1_some h
      refine r_int (run_t (As := [.int (t.1 29 x5.toNatClampNeg)]) (rest := [.int x4]) C hK hT (mX2_lengthOf hv5) q1678 q1680 qs71 q162 q1681 ⟨rfl, rfl⟩ hdX2_lengthOf ⟨Nat.le_of_ble_eq_true rfl, Nat.le_of_ble_eq_true rfl⟩ ⟨Nat.zero_le _, Nat.zero_le _⟩ rfl hl.1 rfl (Nat.le_of_ble_eq_true rfl) dX2_weigh_38) ?_
      refine lv_iadd hx hb dX2_weigh_41 ?_
      refine lv_topi (fun v6 ev6 => ?_)
      replace h := lt1_sub ev6 h
      refine lv_istore (lv' := [(4, .int v6), (3, .int v4), (0, .ref b), (1, .int x1), (2, .int x2), (5, .int x5)]) hx hb dX2_weigh_42 hl (by decide) rfl (fun ls hl => ?_)
      obtain ⟨v7, ev7⟩ : ∃ y : Int32, y = x5 + (1 : Int32) := ⟨_, rfl⟩
      replace h := lt1_sub ev7 h
      refine lv_iinc (v := v7) (lv' := [(5, .int v7), (4, .int v6), (3, .int v4), (0, .ref b), (1, .int x1), (2, .int x2)]) hx hb dX2_weigh_44 hl (k := 5) rfl (by rw [ev7]; rfl) (by decide) rfl (fun ls hl => ?_)
      refine lv_goto (tgt := 8) hx hb dX2_weigh_47 (by decide) ?_
      exact ih t x1 x2 v4 v6 v7 H locs hT hS ls h (lv_sub hl [3, 4, 5, 2, 1, 0] rfl)
theorem bX2_weigh {p : Program} {l : Launch} {e : Env} {s : State} {m : MethodId} {args : Array Value} {below : List Frame} {meth : Method} {c : Code} {D : va_G} {dA : Nat → ClassId} {b : Nat} {t9 : TS} (C : cx p s m args meth c cX2_weigh RX2 6 none) (hK : kk D dA s) : ∀ (t : TS) (x1 : Int32) (x2 : Int32) (H : Heap) (locs : List Loc) (hT : wd D (tw dA b t) H) (hS : tS b s.heap H locs) (ls : Array Slot), T_weigh t x1 x2 = some t9 → lv_has ls 6 [(0, .ref b), (1, .int x1), (2, .int x2)] → W p l e rmX2_weigh s m args below meth c H locs 0 0 (MQ below (tQ D dA b t9 none) args s 0 0 (ta b)) (F0 m 0 ls []) := by
  obtain ⟨hx, hb, hr, hml, hown, hts, hlocks⟩ := id C
  intro t x1 x2 H locs hT hS ls h hl
  unfold T_weigh at h
  refine lv_iconst (v := 0) hx hb dX2_weigh_0 (by decide) ?_
  refine lv_istore_n (lv' := [(3, .int (0 : Int32)), (0, .ref b), (1, .int x1), (2, .int x2)]) hx hb dX2_weigh_1 rfl hl (by decide) rfl (fun ls hl => ?_)
  refine lv_iconst (v := 0) hx hb dX2_weigh_2 (by decide) ?_
  refine lv_istore (lv' := [(4, .int (0 : Int32)), (3, .int (0 : Int32)), (0, .ref b), (1, .int x1), (2, .int x2)]) hx hb dX2_weigh_3 hl (by decide) rfl (fun ls hl => ?_)
  refine lv_iconst (v := 0) hx hb dX2_weigh_5 (by decide) ?_
  refine lv_istore (lv' := [(5, .int (0 : Int32)), (4, .int (0 : Int32)), (3, .int (0 : Int32)), (0, .ref b), (1, .int x1), (2, .int x2)]) hx hb dX2_weigh_6 hl (by decide) rfl (fun ls hl => ?_)
  exact bX2_weigh_8 C hK fu t x1 x2 (0 : Int32) (0 : Int32) (0 : Int32) H locs hT hS ls h (lv_sub hl [3, 4, 5, 2, 1, 0] rfl)
theorem mX2_weigh {l : Launch} {D : va_G} {dA : Nat → ClassId} {b : Nat} {t : TS} {x1 : Int32} {x2 : Int32} {t9 : TS} (h : T_weigh t x1 x2 = some t9) : Met l yX2_weigh (ws_ yX2_weigh cX2_weigh 6 none) rmX2_weigh (tPc D dA b t [.ref b, .int x1, .int x2]) (tQ D dA b t9 none) 0 0 (ta b) := en_R (by decide +kernel) rfl (Nat.le_of_ble_eq_true rfl) (fun p e s m below meth c ls C hK hT hl => bX2_weigh C hK t x1 x2 _ [] hT tS.rf ls h hl)
set_option maxRecDepth 20000 in
abbrev rmX2_settlement : Room := { frames := 3, cells := 0, slots := 0, locals := 70 }
theorem hdX2_settlement : yX2_settlement.cls = RX2 ∧ yX2_settlement.cls ≠ "java/lang/invoke/MethodHandle" ∧ yX2_settlement.cls ≠ "java/lang/invoke/VarHandle" ∧ (parseMethodDescriptor yX2_settlement.desc).map (fun d => d.parameters.length) = some 2 := by decide +kernel
theorem bX2_settlement_51 {p : Program} {l : Launch} {e : Env} {s : State} {m : MethodId} {args : Array Value} {below : List Frame} {meth : Method} {c : Code} {D : va_G} {dA : Nat → ClassId} {b : Nat} {r : Int32} {t9 : TS} (C : cx p s m args meth c cX2_settlement RX2 5 (some .int)) (hK : kk D dA s) {k28 : TS → Int32 → Int32 → Int32 → Option (Int32 × TS)} (hk28 : ∀ (t : TS) (x1 : Int32) (x2 : Int32) (x3 : Int32) (H : Heap) (locs : List Loc) (hT : wd D (tw dA b t) H) (hS : tS b s.heap H locs) (ls : Array Slot), k28 t x1 x2 x3 = some (r, t9) → lv_has ls 5 [(0, .ref b), (1, .int x1), (2, .int x2), (3, .int x3)] → W p l e rmX2_settlement s m args below meth c H locs 0 0 (MQ below (tQ D dA b t9 (some (.int r))) args s 0 0 (ta b)) (F0 m 28 ls [])) : ∀ (n : Nat), ∀ (t : TS) (x1 : Int32) (x2 : Int32) (x3 : Int32) (x4 : Int32) (H : Heap) (locs : List Loc) (hT : wd D (tw dA b t) H) (hS : tS b s.heap H locs) (ls : Array Slot), T_settlement_51 k28 n t x1 x2 x3 x4 = some (r, t9) → lv_has ls 5 [(0, .ref b), (1, .int x1), (2, .int x2), (3, .int x3), (4, .int x4)] → W p l e rmX2_settlement s m args below meth c H locs 0 0 (MQ below (tQ D dA b t9 (some (.int r))) args s 0 0 (ta b)) (F0 m 51 ls []) := by
  obtain ⟨hx, hb, hr, hml, hown, hts, hlocks⟩ := id C
  intro n
  induction n with
  | zero =>
    intro t x1 x2 x3 x4 H locs hT hS ls h hl
    have h : none = some _ := h
    cases h
  | succ n ih =>
    intro t x1 x2 x3 x4 H locs hT hS ls h hl
    rw [T_settlement_51] at h
    refine lv_iload hx hb dX2_settlement_51 (lv_at hl 4 rfl) ?_
    refine lv_if_eq (tgt := 78) hx hb dX2_settlement_53 (by decide) (fun c => ?_) (fun c => ?_)
    · replace h := if_t c h
      obtain ⟨v1, ev1⟩ : ∃ y : Int32, y = x3 + (1 : Int32) := ⟨_, rfl⟩
      replace h := lt1_sub ev1 h
      refine lv_iinc (v := v1) (lv' := [(3, .int v1), (0, .ref b), (1, .int x1), (2, .int x2), (4, .int x4)]) hx hb dX2_settlement_78 hl (k := 3) rfl (by rw [ev1]; rfl) (by decide) rfl (fun ls hl => ?_)
      refine lv_goto (tgt := 28) hx hb dX2_settlement_81 (by decide) ?_
      exact hk28 t x1 x2 v1 H locs hT hS ls h (lv_sub hl [1, 2, 3, 0] rfl)
    · replace h := if_f c h
      refine lv_aload_n hx hb dX2_settlement_56 rfl (lv_at hl 0 rfl) ?_
      refine lv_iload_n hx hb dX2_settlement_57 rfl (lv_at hl 3 rfl) ?_
      refine lv_iload_n hx hb dX2_settlement_58 rfl (lv_at hl 1 rfl) ?_
      obtain ⟨t2, ht2, h⟩ := bd1_some h
      refine w_void hS (run_t (As := [.int x3, .int x1]) (rest := []) C hK hT (mX2_weigh ht2) q2172 q2174 qs149 q162 q2175 ⟨rfl, rfl⟩ hdX2_weigh ⟨Nat.le_of_ble_eq_true rfl, Nat.le_of_ble_eq_true rfl⟩ ⟨Nat.zero_le _, Nat.zero_le _⟩ rfl hl.1 rfl (Nat.le_of_ble_eq_true rfl) dX2_settlement_59) (fun H locs hT hS => ?_)
      refine lv_aload_n hx hb dX2_settlement_62 rfl (lv_at hl 0 rfl) ?_
      refine lv_iload_n hx hb dX2_settlement_63 rfl (lv_at hl 3 rfl) ?_
      refine lv_aload_n hx hb dX2_settlement_64 rfl (lv_at hl 0 rfl) ?_
      refine tg0 C hK hT dX2_settlement_65 ?_
      refine lv_iconst (v := 0) hx hb dX2_settlement_68 (by decide) ?_
      obtain ⟨hi, h⟩ := ck_some h
      refine tl0 C hK hT hi dX2_settlement_69 ?_
      obtain ⟨v3, t4, ht4, h⟩ := bd2_some h
      refine w_int hS (run_t (As := [.int x3, .int (t2.1 0 (0 : Int32).toNatClampNeg)]) (rest := []) C hK hT (mX2_nextRow ht4) q2085 q2087 qs137 q162 q2088 ⟨rfl, rfl⟩ hdX2_nextRow ⟨Nat.le_of_ble_eq_true rfl, Nat.le_of_ble_eq_true rfl⟩ ⟨Nat.zero_le _, Nat.zero_le _⟩ rfl hl.1 rfl (Nat.le_of_ble_eq_true rfl) dX2_settlement_70) (fun H locs hT hS => ?_)
      refine lv_istore (lv' := [(4, .int v3), (0, .ref b), (1, .int x1), (2, .int x2), (3, .int x3)]) hx hb dX2_settlement_73 hl (by decide) rfl (fun ls hl => ?_)
      refine lv_goto (tgt := 51) hx hb dX2_settlement_75 (by decide) ?_
      exact ih t4 x1 x2 x3 v3 H locs hT hS ls h (lv_sub hl [1, 2, 3, 4, 0] rfl)
theorem bX2_settlement_84 {p : Program} {l : Launch} {e : Env} {s : State} {m : MethodId} {args : Array Value} {below : List Frame} {meth : Method} {c : Code} {D : va_G} {dA : Nat → ClassId} {b : Nat} {r : Int32} {t9 : TS} (C : cx p s m args meth c cX2_settlement RX2 5 (some .int)) (hK : kk D dA s) : ∀ (t : TS) (x2 : Int32) (H : Heap) (locs : List Loc) (hT : wd D (tw dA b t) H) (hS : tS b s.heap H locs) (ls : Array Slot), T_settlement_84 t x2 = some (r, t9) → lv_has ls 5 [(0, .ref b), (2, .int x2)] → W p l e rmX2_settlement s m args below meth c H locs 0 0 (MQ below (tQ D dA b t9 (some (.int r))) args s 0 0 (ta b)) (F0 m 84 ls []) := by
  obtain ⟨hx, hb, hr, hml, hown, hts, hlocks⟩ := id C
  intro t x2 H locs hT hS ls h hl
  unfold T_settlement_84 at h
  refine lv_aload_n hx hb dX2_settlement_84 rfl (lv_at hl 0 rfl) ?_
  refine tg38 C hK hT dX2_settlement_85 ?_
  refine lv_ldcw hx hb hown (hts _ q2171) dX2_settlement_88 ?_
  refine lv_icmp_ne (tgt := 96) hx hb dX2_settlement_91 (by decide) (fun c => ?_) (fun c => ?_)
  · replace h := if_f c h
    refine lv_iload_n hx hb dX2_settlement_96 rfl (lv_at hl 1 rfl) ?_
    refine lv_iconst (v := -1) hx hb dX2_settlement_97 (by decide) ?_
    refine lv_icmp_ne (tgt := 108) hx hb dX2_settlement_98 (by decide) (fun c => ?_) (fun c => ?_)
    · replace h := if_f c h
      refine lv_iload_n hx hb dX2_settlement_108 rfl (lv_at hl 1 rfl) ?_
      refine lv_aload_n hx hb dX2_settlement_109 rfl (lv_at hl 0 rfl) ?_
      refine tg39 C hK hT dX2_settlement_110 ?_
      refine lv_icmp_ge (tgt := 125) hx hb dX2_settlement_113 (by decide) (fun c => ?_) (fun c => ?_)
      · replace h := if_t c h
        refine lv_iconst (v := -1) hx hb dX2_settlement_125 (by decide) ?_
        exact e_wi C hT hS h dX2_settlement_126
      · replace h := if_f c h
        refine lv_aload_n hx hb dX2_settlement_116 rfl (lv_at hl 0 rfl) ?_
        refine tg37 C hK hT dX2_settlement_117 ?_
        refine lv_iload_n hx hb dX2_settlement_120 rfl (lv_at hl 1 rfl) ?_
        obtain ⟨hi, h⟩ := ck_some h
        refine tl37 C hK hT hi dX2_settlement_121 ?_
        refine lv_goto (tgt := 126) hx hb dX2_settlement_122 (by decide) ?_
        exact e_wi C hT hS h dX2_settlement_126
    · replace h := if_t c h
      refine lv_aload_n hx hb dX2_settlement_101 rfl (lv_at hl 0 rfl) ?_
      refine tg38 C hK hT dX2_settlement_102 ?_
      refine lv_goto (tgt := 126) hx hb dX2_settlement_105 (by decide) ?_
      exact e_wi C hT hS h dX2_settlement_126
  · replace h := if_t c h
    refine lv_iconst (v := -1) hx hb dX2_settlement_94 (by decide) ?_
    exact e_wi C hT hS h dX2_settlement_95
theorem bX2_settlement_28 {p : Program} {l : Launch} {e : Env} {s : State} {m : MethodId} {args : Array Value} {below : List Frame} {meth : Method} {c : Code} {D : va_G} {dA : Nat → ClassId} {b : Nat} {r : Int32} {t9 : TS} (C : cx p s m args meth c cX2_settlement RX2 5 (some .int)) (hK : kk D dA s) : ∀ (n : Nat), ∀ (t : TS) (x1 : Int32) (x2 : Int32) (x3 : Int32) (H : Heap) (locs : List Loc) (hT : wd D (tw dA b t) H) (hS : tS b s.heap H locs) (ls : Array Slot), T_settlement_28 n t x1 x2 x3 = some (r, t9) → lv_has ls 5 [(0, .ref b), (1, .int x1), (2, .int x2), (3, .int x3)] → W p l e rmX2_settlement s m args below meth c H locs 0 0 (MQ below (tQ D dA b t9 (some (.int r))) args s 0 0 (ta b)) (F0 m 28 ls []) := by
  obtain ⟨hx, hb, hr, hml, hown, hts, hlocks⟩ := id C
  intro n
  induction n with
  | zero =>
    intro t x1 x2 x3 H locs hT hS ls h hl
    have h : none = some _ := h
    cases h
  | succ n ih =>
    intro t x1 x2 x3 H locs hT hS ls h hl
    rw [T_settlement_28] at h
    refine lv_iload_n hx hb dX2_settlement_28 rfl (lv_at hl 3 rfl) ?_
    refine lv_iconst (v := 4) hx hb dX2_settlement_29 (by decide) ?_
    refine lv_icmp_gt (tgt := 84) hx hb dX2_settlement_30 (by decide) (fun c => ?_) (fun c => ?_)
    · replace h := if_t c h
      exact bX2_settlement_84 C hK t x2 H locs hT hS ls h (lv_sub hl [0, 2] rfl)
    · replace h := if_f c h
      refine lv_iload_n hx hb dX2_settlement_33 rfl (lv_at hl 3 rfl) ?_
      refine lv_aload_n hx hb dX2_settlement_34 rfl (lv_at hl 0 rfl) ?_
      refine tg0 C hK hT dX2_settlement_35 ?_
      refine lv_iconst (v := 0) hx hb dX2_settlement_38 (by decide) ?_
      obtain ⟨hi, h⟩ := ck_some h
      refine tl0 C hK hT hi dX2_settlement_39 ?_
      refine lv_icmp_gt (tgt := 84) hx hb dX2_settlement_40 (by decide) (fun c => ?_) (fun c => ?_)
      · replace h := if_t c h
        exact bX2_settlement_84 C hK t x2 H locs hT hS ls h (lv_sub hl [0, 2] rfl)
      · replace h := if_f c h
        refine lv_aload_n hx hb dX2_settlement_43 rfl (lv_at hl 0 rfl) ?_
        refine lv_iload_n hx hb dX2_settlement_44 rfl (lv_at hl 3 rfl) ?_
        obtain ⟨t1, ht1, h⟩ := bd1_some h
        refine w_void hS (run_t (As := [.int x3]) (rest := []) C hK hT (mX2_firstRow ht1) q2077 q2079 qs135 q162 q2080 ⟨rfl, rfl⟩ hdX2_firstRow ⟨Nat.le_of_ble_eq_true rfl, Nat.le_of_ble_eq_true rfl⟩ ⟨Nat.zero_le _, Nat.zero_le _⟩ rfl hl.1 rfl (Nat.le_of_ble_eq_true rfl) dX2_settlement_45) (fun H locs hT hS => ?_)
        refine lv_iconst (v := 1) hx hb dX2_settlement_48 (by decide) ?_
        refine lv_istore (lv' := [(4, .int (1 : Int32)), (0, .ref b), (1, .int x1), (2, .int x2), (3, .int x3)]) hx hb dX2_settlement_49 hl (by decide) rfl (fun ls hl => ?_)
        exact bX2_settlement_51 C hK ih fu t1 x1 x2 x3 (1 : Int32) H locs hT hS ls h (lv_sub hl [1, 2, 3, 4, 0] rfl)
theorem bX2_settlement {p : Program} {l : Launch} {e : Env} {s : State} {m : MethodId} {args : Array Value} {below : List Frame} {meth : Method} {c : Code} {D : va_G} {dA : Nat → ClassId} {b : Nat} {r : Int32} {t9 : TS} (C : cx p s m args meth c cX2_settlement RX2 5 (some .int)) (hK : kk D dA s) : ∀ (t : TS) (x1 : Int32) (x2 : Int32) (H : Heap) (locs : List Loc) (hT : wd D (tw dA b t) H) (hS : tS b s.heap H locs) (ls : Array Slot), T_settlement t x1 x2 = some (r, t9) → lv_has ls 5 [(0, .ref b), (1, .int x1), (2, .int x2)] → W p l e rmX2_settlement s m args below meth c H locs 0 0 (MQ below (tQ D dA b t9 (some (.int r))) args s 0 0 (ta b)) (F0 m 0 ls []) := by
  obtain ⟨hx, hb, hr, hml, hown, hts, hlocks⟩ := id C
  intro t x1 x2 H locs hT hS ls h hl
  unfold T_settlement at h
  refine lv_iload_n hx hb dX2_settlement_0 rfl (lv_at hl 1 rfl) ?_
  obtain ⟨v1, hv1, h⟩ := bd1_some h
  refine r_int (run_s (As := [.int x1]) (rest := []) C (mX2_isSet hv1) q1935 q1936 q162 q1937 ⟨rfl, rfl⟩ hdX2_isSet ⟨Nat.le_of_ble_eq_true rfl, Nat.le_of_ble_eq_true rfl⟩ ⟨Nat.zero_le _, Nat.zero_le _⟩ rfl hl.1 rfl (Nat.le_of_ble_eq_true rfl) dX2_settlement_1) ?_
  refine lv_if_eq (tgt := 12) hx hb dX2_settlement_4 (by decide) (fun c => ?_) (fun c => ?_)
  · replace h := if_t c h
    refine lv_iconst (v := -1) hx hb dX2_settlement_12 (by decide) ?_
    exact e_wi C hT hS h dX2_settlement_13
  · replace h := if_f c h
    refine lv_iload_n hx hb dX2_settlement_7 rfl (lv_at hl 2 rfl) ?_
    refine lv_iconst (v := -1) hx hb dX2_settlement_8 (by decide) ?_
    refine lv_icmp_ge (tgt := 14) hx hb dX2_settlement_9 (by decide) (fun c => ?_) (fun c => ?_)
    · replace h := if_t c h
      refine lv_aload_n hx hb dX2_settlement_14 rfl (lv_at hl 0 rfl) ?_
      refine lv_ldcw hx hb hown (hts _ q2171) dX2_settlement_15 ?_
      refine tp38 C hK hT hS dX2_settlement_18 (fun t2 H locs et2 hT hS => ?_)
      replace h := lt1_sub et2 h
      refine lv_aload_n hx hb dX2_settlement_21 rfl (lv_at hl 0 rfl) ?_
      refine lv_iconst (v := 0) hx hb dX2_settlement_22 (by decide) ?_
      refine tp39 C hK hT hS dX2_settlement_23 (fun t3 H locs et3 hT hS => ?_)
      replace h := lt1_sub et3 h
      refine lv_iconst (v := 1) hx hb dX2_settlement_26 (by decide) ?_
      refine lv_istore_n (lv' := [(3, .int (1 : Int32)), (0, .ref b), (1, .int x1), (2, .int x2)]) hx hb dX2_settlement_27 rfl hl (by decide) rfl (fun ls hl => ?_)
      exact bX2_settlement_28 C hK fu t3 x1 x2 (1 : Int32) H locs hT hS ls h (lv_sub hl [1, 2, 3, 0] rfl)
    · replace h := if_f c h
      refine lv_iconst (v := -1) hx hb dX2_settlement_12 (by decide) ?_
      exact e_wi C hT hS h dX2_settlement_13
theorem mX2_settlement {l : Launch} {D : va_G} {dA : Nat → ClassId} {b : Nat} {t : TS} {x1 : Int32} {x2 : Int32} {r : Int32} {t9 : TS} (h : T_settlement t x1 x2 = some (r, t9)) : Met l yX2_settlement (ws_ yX2_settlement cX2_settlement 5 (some .int)) rmX2_settlement (tPc D dA b t [.ref b, .int x1, .int x2]) (tQ D dA b t9 (some (.int r))) 0 0 (ta b) := en_R (by decide +kernel) rfl (Nat.le_of_ble_eq_true rfl) (fun p e s m below meth c ls C hK hT hl => bX2_settlement C hK t x1 x2 _ [] hT tS.rf ls h hl)
set_option maxRecDepth 20000 in
abbrev rmX2_writtenWith : Room := { frames := 2, cells := 0, slots := 0, locals := 45 }
theorem hdX2_writtenWith : yX2_writtenWith.cls = RX2 ∧ yX2_writtenWith.cls ≠ "java/lang/invoke/MethodHandle" ∧ yX2_writtenWith.cls ≠ "java/lang/invoke/VarHandle" ∧ (parseMethodDescriptor yX2_writtenWith.desc).map (fun d => d.parameters.length) = some 1 := by decide +kernel
theorem bX2_writtenWith_32 {p : Program} {l : Launch} {e : Env} {s : State} {m : MethodId} {args : Array Value} {below : List Frame} {meth : Method} {c : Code} {D : va_G} {dA : Nat → ClassId} {b : Nat} {t : TS} {r : Int32} (C : cx p s m args meth c cX2_writtenWith RX2 4 (some .int)) (hK : kk D dA s) (hT : wd D (tw dA b t) s.heap) {k4 : Int32 → Int32 → Int32 → Option Int32} (hk4 : ∀ (x1 : Int32) (x2 : Int32) (x3 : Int32) (ls : Array Slot), k4 x1 x2 x3 = some r → lv_has ls 4 [(0, .ref b), (1, .int x1), (2, .int x2), (3, .int x3)] → W p l e rmX2_writtenWith s m args below meth c s.heap [] 0 0 (MQ below (rQi r) args s 0 0 nof) (F0 m 4 ls [])) : ∀ (x1 : Int32) (x3 : Int32) (y0 : Int32) (y1 : Int32) (ls : Array Slot), T_writtenWith_32 k4 t x1 x3 y0 y1 = some r → lv_has ls 4 [(0, .ref b), (1, .int x1), (3, .int x3)] → W p l e rmX2_writtenWith s m args below meth c s.heap [] 0 0 (MQ below (rQi r) args s 0 0 nof) (F0 m 32 ls [.int y1, .int y0]) := by
  obtain ⟨hx, hb, hr, hml, hown, hts, hlocks⟩ := id C
  intro x1 x3 y0 y1 ls h hl
  unfold T_writtenWith_32 at h
  refine lv_iadd hx hb dX2_writtenWith_32 ?_
  refine lv_topi (fun v1 ev1 => ?_)
  replace h := lt1_sub ev1 h
  refine lv_istore_n (lv' := [(2, .int v1), (0, .ref b), (1, .int x1), (3, .int x3)]) hx hb dX2_writtenWith_33 rfl hl (by decide) rfl (fun ls hl => ?_)
  obtain ⟨v2, ev2⟩ : ∃ y : Int32, y = x3 + (1 : Int32) := ⟨_, rfl⟩
  replace h := lt1_sub ev2 h
  refine lv_iinc (v := v2) (lv' := [(3, .int v2), (2, .int v1), (0, .ref b), (1, .int x1)]) hx hb dX2_writtenWith_34 hl (k := 3) rfl (by rw [ev2]; rfl) (by decide) rfl (fun ls hl => ?_)
  refine lv_goto (tgt := 4) hx hb dX2_writtenWith_37 (by decide) ?_
  exact hk4 x1 v1 v2 ls h (lv_sub hl [2, 3, 1, 0] rfl)
theorem bX2_writtenWith_4 {p : Program} {l : Launch} {e : Env} {s : State} {m : MethodId} {args : Array Value} {below : List Frame} {meth : Method} {c : Code} {D : va_G} {dA : Nat → ClassId} {b : Nat} {t : TS} {r : Int32} (C : cx p s m args meth c cX2_writtenWith RX2 4 (some .int)) (hK : kk D dA s) (hT : wd D (tw dA b t) s.heap) : ∀ (n : Nat), ∀ (x1 : Int32) (x2 : Int32) (x3 : Int32) (ls : Array Slot), T_writtenWith_4 t n x1 x2 x3 = some r → lv_has ls 4 [(0, .ref b), (1, .int x1), (2, .int x2), (3, .int x3)] → W p l e rmX2_writtenWith s m args below meth c s.heap [] 0 0 (MQ below (rQi r) args s 0 0 nof) (F0 m 4 ls []) := by
  obtain ⟨hx, hb, hr, hml, hown, hts, hlocks⟩ := id C
  intro n
  induction n with
  | zero =>
    intro x1 x2 x3 ls h hl
    have h : none = some _ := h
    cases h
  | succ n ih =>
    intro x1 x2 x3 ls h hl
    rw [T_writtenWith_4] at h
    refine lv_iload_n hx hb dX2_writtenWith_4 rfl (lv_at hl 3 rfl) ?_
    refine lv_aload_n hx hb dX2_writtenWith_5 rfl (lv_at hl 0 rfl) ?_
    refine tg0 C hK hT dX2_writtenWith_6 ?_
    refine lv_iconst (v := 0) hx hb dX2_writtenWith_9 (by decide) ?_
    obtain ⟨hi, h⟩ := ck_some h
    refine tl0 C hK hT hi dX2_writtenWith_10 ?_
    refine lv_icmp_ge (tgt := 40) hx hb dX2_writtenWith_11 (by decide) (fun c => ?_) (fun c => ?_)
    · replace h := if_t c h
      refine lv_iload_n hx hb dX2_writtenWith_40 rfl (lv_at hl 2 rfl) ?_
      exact e_ri C h dX2_writtenWith_41
    · replace h := if_f c h
      refine lv_iload_n hx hb dX2_writtenWith_14 rfl (lv_at hl 2 rfl) ?_
      refine lv_aload_n hx hb dX2_writtenWith_15 rfl (lv_at hl 0 rfl) ?_
      refine lv_iload_n hx hb dX2_writtenWith_16 rfl (lv_at hl 3 rfl) ?_
      obtain ⟨v1, hv1, h⟩ := bd1_some h
      refine r_int (run_t (As := [.int x3]) (rest := [.int x2]) C hK hT (mX2_setOf hv1) q1912 q1914 qs114 q162 q1915 ⟨rfl, rfl⟩ hdX2_setOf ⟨Nat.le_of_ble_eq_true rfl, Nat.le_of_ble_eq_true rfl⟩ ⟨Nat.zero_le _, Nat.zero_le _⟩ rfl hl.1 rfl (Nat.le_of_ble_eq_true rfl) dX2_writtenWith_17) ?_
      refine lv_iload_n hx hb dX2_writtenWith_20 rfl (lv_at hl 1 rfl) ?_
      refine lv_iconst (v := -1) hx hb dX2_writtenWith_21 (by decide) ?_
      refine lv_ixor hx hb dX2_writtenWith_22 ?_
      refine lv_iand hx hb dX2_writtenWith_23 ?_
      refine lv_if_ne (tgt := 31) hx hb dX2_writtenWith_24 (by decide) (fun c => ?_) (fun c => ?_)
      · replace h := if_f c h
        refine lv_iconst (v := 0) hx hb dX2_writtenWith_31 (by decide) ?_
        exact bX2_writtenWith_32 C hK hT ih x1 x3 x2 (0 : Int32) ls h (lv_sub hl [0, 1, 3] rfl)
      · replace h := if_t c h
        refine lv_iconst (v := 1) hx hb dX2_writtenWith_27 (by decide) ?_
        refine lv_goto (tgt := 32) hx hb dX2_writtenWith_28 (by decide) ?_
        exact bX2_writtenWith_32 C hK hT ih x1 x3 x2 (1 : Int32) ls h (lv_sub hl [0, 1, 3] rfl)
theorem bX2_writtenWith {p : Program} {l : Launch} {e : Env} {s : State} {m : MethodId} {args : Array Value} {below : List Frame} {meth : Method} {c : Code} {D : va_G} {dA : Nat → ClassId} {b : Nat} {t : TS} {r : Int32} (C : cx p s m args meth c cX2_writtenWith RX2 4 (some .int)) (hK : kk D dA s) (hT : wd D (tw dA b t) s.heap) : ∀ (x1 : Int32) (ls : Array Slot), T_writtenWith t x1 = some r → lv_has ls 4 [(0, .ref b), (1, .int x1)] → W p l e rmX2_writtenWith s m args below meth c s.heap [] 0 0 (MQ below (rQi r) args s 0 0 nof) (F0 m 0 ls []) := by
  obtain ⟨hx, hb, hr, hml, hown, hts, hlocks⟩ := id C
  intro x1 ls h hl
  unfold T_writtenWith at h
  refine lv_iconst (v := 0) hx hb dX2_writtenWith_0 (by decide) ?_
  refine lv_istore_n (lv' := [(2, .int (0 : Int32)), (0, .ref b), (1, .int x1)]) hx hb dX2_writtenWith_1 rfl hl (by decide) rfl (fun ls hl => ?_)
  refine lv_iconst (v := 0) hx hb dX2_writtenWith_2 (by decide) ?_
  refine lv_istore_n (lv' := [(3, .int (0 : Int32)), (2, .int (0 : Int32)), (0, .ref b), (1, .int x1)]) hx hb dX2_writtenWith_3 rfl hl (by decide) rfl (fun ls hl => ?_)
  exact bX2_writtenWith_4 C hK hT fu x1 (0 : Int32) (0 : Int32) ls h (lv_sub hl [2, 3, 1, 0] rfl)
theorem mX2_writtenWith {l : Launch} {D : va_G} {dA : Nat → ClassId} {b : Nat} {t : TS} {x1 : Int32} {r : Int32} (h : T_writtenWith t x1 = some r) : Met l yX2_writtenWith (ws_ yX2_writtenWith cX2_writtenWith 4 (some .int)) rmX2_writtenWith (tPc D dA b t [.ref b, .int x1]) (rQi r) 0 0 nof := en_R (by decide +kernel) rfl (Nat.le_of_ble_eq_true rfl) (fun p e s m below meth c ls C hK hT hl => bX2_writtenWith C hK hT x1 ls h hl)
set_option maxRecDepth 20000 in
abbrev rmX2_learn : Room := { frames := 3, cells := 0, slots := 0, locals := 68 }
theorem hdX2_learn : yX2_learn.cls = RX2 ∧ yX2_learn.cls ≠ "java/lang/invoke/MethodHandle" ∧ yX2_learn.cls ≠ "java/lang/invoke/VarHandle" ∧ (parseMethodDescriptor yX2_learn.desc).map (fun d => d.parameters.length) = some 2 := by decide +kernel
theorem bX2_learn_46 {p : Program} {l : Launch} {e : Env} {s : State} {m : MethodId} {args : Array Value} {below : List Frame} {meth : Method} {c : Code} {D : va_G} {dA : Nat → ClassId} {b : Nat} {r : Int32} {t9 : TS} (C : cx p s m args meth c cX2_learn RX2 10 (some .int)) (hK : kk D dA s) {k16 : TS → Int32 → Int32 → Int32 → Int32 → Option (Int32 × TS)} (hk16 : ∀ (t : TS) (x1 : Int32) (x2 : Int32) (x3 : Int32) (x4 : Int32) (H : Heap) (locs : List Loc) (hT : wd D (tw dA b t) H) (hS : tS b s.heap H locs) (ls : Array Slot), k16 t x1 x2 x3 x4 = some (r, t9) → lv_has ls 10 [(0, .ref b), (1, .int x1), (2, .int x2), (3, .int x3), (4, .int x4)] → W p l e rmX2_learn s m args below meth c H locs 0 0 (MQ below (tQ D dA b t9 (some (.int r))) args s 0 0 (ta b)) (F0 m 16 ls [])) : ∀ (t : TS) (x1 : Int32) (x2 : Int32) (x3 : Int32) (x4 : Int32) (H : Heap) (locs : List Loc) (hT : wd D (tw dA b t) H) (hS : tS b s.heap H locs) (ls : Array Slot), T_learn_46 k16 t x1 x2 x3 x4 = some (r, t9) → lv_has ls 10 [(0, .ref b), (1, .int x1), (2, .int x2), (3, .int x3), (4, .int x4)] → W p l e rmX2_learn s m args below meth c H locs 0 0 (MQ below (tQ D dA b t9 (some (.int r))) args s 0 0 (ta b)) (F0 m 46 ls []) := by
  obtain ⟨hx, hb, hr, hml, hown, hts, hlocks⟩ := id C
  intro t x1 x2 x3 x4 H locs hT hS ls h hl
  unfold T_learn_46 at h
  obtain ⟨v1, ev1⟩ : ∃ y : Int32, y = x4 + (1 : Int32) := ⟨_, rfl⟩
  replace h := lt1_sub ev1 h
  refine lv_iinc (v := v1) (lv' := [(4, .int v1), (0, .ref b), (1, .int x1), (2, .int x2), (3, .int x3)]) hx hb dX2_learn_46 hl (k := 4) rfl (by rw [ev1]; rfl) (by decide) rfl (fun ls hl => ?_)
  refine lv_goto (tgt := 16) hx hb dX2_learn_49 (by decide) ?_
  exact hk16 t x1 x2 x3 v1 H locs hT hS ls h (lv_sub hl [1, 2, 3, 4, 0] rfl)
theorem bX2_learn_145 {p : Program} {l : Launch} {e : Env} {s : State} {m : MethodId} {args : Array Value} {below : List Frame} {meth : Method} {c : Code} {D : va_G} {dA : Nat → ClassId} {b : Nat} {r : Int32} {t9 : TS} (C : cx p s m args meth c cX2_learn RX2 10 (some .int)) (hK : kk D dA s) {k79 : TS → Int32 → Int32 → Int32 → Int32 → Int32 → Int32 → Option (Int32 × TS)} (hk79 : ∀ (t : TS) (x2 : Int32) (x3 : Int32) (x4 : Int32) (x5 : Int32) (x6 : Int32) (x7 : Int32) (H : Heap) (locs : List Loc) (hT : wd D (tw dA b t) H) (hS : tS b s.heap H locs) (ls : Array Slot), k79 t x2 x3 x4 x5 x6 x7 = some (r, t9) → lv_has ls 10 [(0, .ref b), (2, .int x2), (3, .int x3), (4, .int x4), (5, .int x5), (6, .int x6), (7, .int x7)] → W p l e rmX2_learn s m args below meth c H locs 0 0 (MQ below (tQ D dA b t9 (some (.int r))) args s 0 0 (ta b)) (F0 m 79 ls [])) : ∀ (t : TS) (x2 : Int32) (x3 : Int32) (x4 : Int32) (x5 : Int32) (x6 : Int32) (H : Heap) (locs : List Loc) (hT : wd D (tw dA b t) H) (hS : tS b s.heap H locs) (ls : Array Slot), T_learn_145 k79 t x2 x3 x4 x5 x6 = some (r, t9) → lv_has ls 10 [(0, .ref b), (2, .int x2), (3, .int x3), (4, .int x4), (5, .int x5), (6, .int x6)] → W p l e rmX2_learn s m args below meth c H locs 0 0 (MQ below (tQ D dA b t9 (some (.int r))) args s 0 0 (ta b)) (F0 m 145 ls []) := by
  obtain ⟨hx, hb, hr, hml, hown, hts, hlocks⟩ := id C
  intro t x2 x3 x4 x5 x6 H locs hT hS ls h hl
  unfold T_learn_145 at h
  refine lv_aload_n hx hb dX2_learn_145 rfl (lv_at hl 0 rfl) ?_
  refine lv_iload hx hb dX2_learn_146 (lv_at hl 3 rfl) ?_
  refine lv_iload_n hx hb dX2_learn_148 rfl (lv_at hl 2 rfl) ?_
  obtain ⟨v1, t2, ht2, h⟩ := bd2_some h
  refine w_int hS (run_t (As := [.int x4, .int x3]) (rest := []) C hK hT (mX2_nextRow ht2) q2085 q2087 qs137 q162 q2088 ⟨rfl, rfl⟩ hdX2_nextRow ⟨Nat.le_of_ble_eq_true rfl, Nat.le_of_ble_eq_true rfl⟩ ⟨Nat.zero_le _, Nat.zero_le _⟩ rfl hl.1 rfl (Nat.le_of_ble_eq_true rfl) dX2_learn_149) (fun H locs hT hS => ?_)
  refine lv_istore (lv' := [(7, .int v1), (0, .ref b), (2, .int x2), (3, .int x3), (4, .int x4), (5, .int x5), (6, .int x6)]) hx hb dX2_learn_152 hl (by decide) rfl (fun ls hl => ?_)
  refine lv_goto (tgt := 79) hx hb dX2_learn_154 (by decide) ?_
  exact hk79 t2 x2 x3 x4 x5 x6 v1 H locs hT hS ls h (lv_sub hl [1, 2, 3, 4, 5, 6, 0] rfl)
theorem bX2_learn_90 {p : Program} {l : Launch} {e : Env} {s : State} {m : MethodId} {args : Array Value} {below : List Frame} {meth : Method} {c : Code} {D : va_G} {dA : Nat → ClassId} {b : Nat} {r : Int32} {t9 : TS} (C : cx p s m args meth c cX2_learn RX2 10 (some .int)) (hK : kk D dA s) {k79 : TS → Int32 → Int32 → Int32 → Int32 → Int32 → Int32 → Option (Int32 × TS)} (hk79 : ∀ (t : TS) (x2 : Int32) (x3 : Int32) (x4 : Int32) (x5 : Int32) (x6 : Int32) (x7 : Int32) (H : Heap) (locs : List Loc) (hT : wd D (tw dA b t) H) (hS : tS b s.heap H locs) (ls : Array Slot), k79 t x2 x3 x4 x5 x6 x7 = some (r, t9) → lv_has ls 10 [(0, .ref b), (2, .int x2), (3, .int x3), (4, .int x4), (5, .int x5), (6, .int x6), (7, .int x7)] → W p l e rmX2_learn s m args below meth c H locs 0 0 (MQ below (tQ D dA b t9 (some (.int r))) args s 0 0 (ta b)) (F0 m 79 ls [])) : ∀ (n : Nat), ∀ (t : TS) (x2 : Int32) (x3 : Int32) (x4 : Int32) (x5 : Int32) (x6 : Int32) (x8 : Int32) (x9 : Int32) (H : Heap) (locs : List Loc) (hT : wd D (tw dA b t) H) (hS : tS b s.heap H locs) (ls : Array Slot), T_learn_90 k79 n t x2 x3 x4 x5 x6 x8 x9 = some (r, t9) → lv_has ls 10 [(0, .ref b), (2, .int x2), (3, .int x3), (4, .int x4), (5, .int x5), (6, .int x6), (8, .int x8), (9, .int x9)] → W p l e rmX2_learn s m args below meth c H locs 0 0 (MQ below (tQ D dA b t9 (some (.int r))) args s 0 0 (ta b)) (F0 m 90 ls []) := by
  obtain ⟨hx, hb, hr, hml, hown, hts, hlocks⟩ := id C
  intro n
  induction n with
  | zero =>
    intro t x2 x3 x4 x5 x6 x8 x9 H locs hT hS ls h hl
    have h : none = some _ := h
    cases h
  | succ n ih =>
    intro t x2 x3 x4 x5 x6 x8 x9 H locs hT hS ls h hl
    rw [T_learn_90] at h
    refine lv_iload hx hb dX2_learn_90 (lv_at hl 7 rfl) ?_
    refine lv_iload hx hb dX2_learn_92 (lv_at hl 3 rfl) ?_
    refine lv_icmp_ge (tgt := 122) hx hb dX2_learn_94 (by decide) (fun c => ?_) (fun c => ?_)
    · replace h := if_t c h
      refine lv_aload_n hx hb dX2_learn_122 rfl (lv_at hl 0 rfl) ?_
      refine lv_iload hx hb dX2_learn_123 (lv_at hl 6 rfl) ?_
      obtain ⟨v1, hv1, h⟩ := bd1_some h
      refine r_int (run_t (As := [.int x8]) (rest := []) C hK hT (mX2_writtenWith hv1) q2180 q2182 qs150 q162 q2183 ⟨rfl, rfl⟩ hdX2_writtenWith ⟨Nat.le_of_ble_eq_true rfl, Nat.le_of_ble_eq_true rfl⟩ ⟨Nat.zero_le _, Nat.zero_le _⟩ rfl hl.1 rfl (Nat.le_of_ble_eq_true rfl) dX2_learn_125) ?_
      refine lv_istore (lv' := [(9, .int v1), (0, .ref b), (2, .int x2), (3, .int x3), (4, .int x4), (5, .int x5), (6, .int x6), (8, .int x8)]) hx hb dX2_learn_128 hl (by decide) rfl (fun ls hl => ?_)
      refine lv_iload hx hb dX2_learn_130 (lv_at hl 0 rfl) ?_
      refine lv_iload hx hb dX2_learn_132 (lv_at hl 6 rfl) ?_
      refine lv_icmp_le (tgt := 145) hx hb dX2_learn_134 (by decide) (fun c => ?_) (fun c => ?_)
      · replace h := if_t c h
        exact bX2_learn_145 C hK hk79 t x2 x3 x4 x5 x6 H locs hT hS ls h (lv_sub hl [1, 2, 3, 4, 5, 6] rfl)
      · replace h := if_f c h
        refine lv_iload hx hb dX2_learn_137 (lv_at hl 0 rfl) ?_
        refine lv_istore (lv' := [(6, .int v1), (9, .int v1), (0, .ref b), (2, .int x2), (3, .int x3), (4, .int x4), (5, .int x5), (8, .int x8)]) hx hb dX2_learn_139 hl (by decide) rfl (fun ls hl => ?_)
        refine lv_iload hx hb dX2_learn_141 (lv_at hl 7 rfl) ?_
        refine lv_istore (lv' := [(5, .int x8), (6, .int v1), (9, .int v1), (0, .ref b), (2, .int x2), (3, .int x3), (4, .int x4), (8, .int x8)]) hx hb dX2_learn_143 hl (by decide) rfl (fun ls hl => ?_)
        exact bX2_learn_145 C hK hk79 t x2 x3 x4 x8 v1 H locs hT hS ls h (lv_sub hl [3, 4, 5, 6, 0, 1] rfl)
    · replace h := if_f c h
      refine lv_iload hx hb dX2_learn_97 (lv_at hl 6 rfl) ?_
      refine lv_iconst (v := 1) hx hb dX2_learn_99 (by decide) ?_
      refine lv_aload_n hx hb dX2_learn_100 rfl (lv_at hl 0 rfl) ?_
      refine tg30 C hK hT dX2_learn_101 ?_
      refine lv_aload_n hx hb dX2_learn_104 rfl (lv_at hl 0 rfl) ?_
      refine tg29 C hK hT dX2_learn_105 ?_
      refine lv_iload hx hb dX2_learn_108 (lv_at hl 7 rfl) ?_
      obtain ⟨hi, h⟩ := ck_some h
      refine tl29 C hK hT hi dX2_learn_110 ?_
      obtain ⟨hi, h⟩ := ck_some h
      refine tl30 C hK hT hi dX2_learn_111 ?_
      refine lv_ishl hx hb dX2_learn_112 ?_
      refine lv_ior hx hb dX2_learn_113 ?_
      refine lv_topi (fun v2 ev2 => ?_)
      replace h := lt1_sub ev2 h
      refine lv_istore (lv' := [(8, .int v2), (0, .ref b), (2, .int x2), (3, .int x3), (4, .int x4), (5, .int x5), (6, .int x6), (9, .int x9)]) hx hb dX2_learn_114 hl (by decide) rfl (fun ls hl => ?_)
      obtain ⟨v3, ev3⟩ : ∃ y : Int32, y = x9 + (1 : Int32) := ⟨_, rfl⟩
      replace h := lt1_sub ev3 h
      refine lv_iinc (v := v3) (lv' := [(9, .int v3), (8, .int v2), (0, .ref b), (2, .int x2), (3, .int x3), (4, .int x4), (5, .int x5), (6, .int x6)]) hx hb dX2_learn_116 hl (k := 7) rfl (by rw [ev3]; rfl) (by decide) rfl (fun ls hl => ?_)
      refine lv_goto (tgt := 90) hx hb dX2_learn_119 (by decide) ?_
      exact ih t x2 x3 x4 x5 x6 v2 v3 H locs hT hS ls h (lv_sub hl [2, 3, 4, 5, 6, 7, 1, 0] rfl)
theorem bX2_learn_79 {p : Program} {l : Launch} {e : Env} {s : State} {m : MethodId} {args : Array Value} {below : List Frame} {meth : Method} {c : Code} {D : va_G} {dA : Nat → ClassId} {b : Nat} {r : Int32} {t9 : TS} (C : cx p s m args meth c cX2_learn RX2 10 (some .int)) (hK : kk D dA s) : ∀ (n : Nat), ∀ (t : TS) (x2 : Int32) (x3 : Int32) (x4 : Int32) (x5 : Int32) (x6 : Int32) (x7 : Int32) (H : Heap) (locs : List Loc) (hT : wd D (tw dA b t) H) (hS : tS b s.heap H locs) (ls : Array Slot), T_learn_79 n t x2 x3 x4 x5 x6 x7 = some (r, t9) → lv_has ls 10 [(0, .ref b), (2, .int x2), (3, .int x3), (4, .int x4), (5, .int x5), (6, .int x6), (7, .int x7)] → W p l e rmX2_learn s m args below meth c H locs 0 0 (MQ below (tQ D dA b t9 (some (.int r))) args s 0 0 (ta b)) (F0 m 79 ls []) := by
  obtain ⟨hx, hb, hr, hml, hown, hts, hlocks⟩ := id C
  intro n
  induction n with
  | zero =>
    intro t x2 x3 x4 x5 x6 x7 H locs hT hS ls h hl
    have h : none = some _ := h
    cases h
  | succ n ih =>
    intro t x2 x3 x4 x5 x6 x7 H locs hT hS ls h hl
    rw [T_learn_79] at h
    refine lv_iload hx hb dX2_learn_79 (lv_at hl 6 rfl) ?_
    refine lv_if_eq (tgt := 157) hx hb dX2_learn_81 (by decide) (fun c => ?_) (fun c => ?_)
    · replace h := if_t c h
      refine lv_iload_n hx hb dX2_learn_157 rfl (lv_at hl 1 rfl) ?_
      refine lv_if_eq (tgt := 166) hx hb dX2_learn_158 (by decide) (fun c => ?_) (fun c => ?_)
      · replace h := if_t c h
        refine lv_iload hx hb dX2_learn_166 (lv_at hl 4 rfl) ?_
        exact e_wi C hT hS h dX2_learn_168
      · replace h := if_f c h
        refine lv_iload hx hb dX2_learn_161 (lv_at hl 5 rfl) ?_
        refine lv_goto (tgt := 168) hx hb dX2_learn_163 (by decide) ?_
        exact e_wi C hT hS h dX2_learn_168
    · replace h := if_f c h
      refine lv_iconst (v := 0) hx hb dX2_learn_84 (by decide) ?_
      refine lv_istore (lv' := [(8, .int (0 : Int32)), (0, .ref b), (2, .int x2), (3, .int x3), (4, .int x4), (5, .int x5), (6, .int x6), (7, .int x7)]) hx hb dX2_learn_85 hl (by decide) rfl (fun ls hl => ?_)
      refine lv_iconst (v := 0) hx hb dX2_learn_87 (by decide) ?_
      refine lv_istore (lv' := [(9, .int (0 : Int32)), (8, .int (0 : Int32)), (0, .ref b), (2, .int x2), (3, .int x3), (4, .int x4), (5, .int x5), (6, .int x6), (7, .int x7)]) hx hb dX2_learn_88 hl (by decide) rfl (fun ls hl => ?_)
      exact bX2_learn_90 C hK ih fu t x2 x3 x4 x5 x6 (0 : Int32) (0 : Int32) H locs hT hS ls h (lv_sub hl [2, 3, 4, 5, 6, 7, 1, 0] rfl)
theorem bX2_learn_62 {p : Program} {l : Launch} {e : Env} {s : State} {m : MethodId} {args : Array Value} {below : List Frame} {meth : Method} {c : Code} {D : va_G} {dA : Nat → ClassId} {b : Nat} {r : Int32} {t9 : TS} (C : cx p s m args meth c cX2_learn RX2 10 (some .int)) (hK : kk D dA s) : ∀ (t : TS) (x2 : Int32) (x3 : Int32) (y0 : Int32) (H : Heap) (locs : List Loc) (hT : wd D (tw dA b t) H) (hS : tS b s.heap H locs) (ls : Array Slot), T_learn_62 t x2 x3 y0 = some (r, t9) → lv_has ls 10 [(0, .ref b), (2, .int x2), (3, .int x3)] → W p l e rmX2_learn s m args below meth c H locs 0 0 (MQ below (tQ D dA b t9 (some (.int r))) args s 0 0 (ta b)) (F0 m 62 ls [.int y0]) := by
  obtain ⟨hx, hb, hr, hml, hown, hts, hlocks⟩ := id C
  intro t x2 x3 y0 H locs hT hS ls h hl
  unfold T_learn_62 at h
  refine lv_istore (lv' := [(4, .int y0), (0, .ref b), (2, .int x2), (3, .int x3)]) hx hb dX2_learn_62 hl (by decide) rfl (fun ls hl => ?_)
  refine lv_iconst (v := 0) hx hb dX2_learn_64 (by decide) ?_
  refine lv_istore (lv' := [(5, .int (0 : Int32)), (4, .int y0), (0, .ref b), (2, .int x2), (3, .int x3)]) hx hb dX2_learn_65 hl (by decide) rfl (fun ls hl => ?_)
  refine lv_iconst (v := -1) hx hb dX2_learn_67 (by decide) ?_
  refine lv_istore (lv' := [(6, .int (-1 : Int32)), (5, .int (0 : Int32)), (4, .int y0), (0, .ref b), (2, .int x2), (3, .int x3)]) hx hb dX2_learn_68 hl (by decide) rfl (fun ls hl => ?_)
  refine lv_aload_n hx hb dX2_learn_70 rfl (lv_at hl 3 rfl) ?_
  refine lv_iload hx hb dX2_learn_71 (lv_at hl 2 rfl) ?_
  obtain ⟨t1, ht1, h⟩ := bd1_some h
  refine w_void hS (run_t (As := [.int y0]) (rest := []) C hK hT (mX2_firstRow ht1) q2077 q2079 qs135 q162 q2080 ⟨rfl, rfl⟩ hdX2_firstRow ⟨Nat.le_of_ble_eq_true rfl, Nat.le_of_ble_eq_true rfl⟩ ⟨Nat.zero_le _, Nat.zero_le _⟩ rfl hl.1 rfl (Nat.le_of_ble_eq_true rfl) dX2_learn_73) (fun H locs hT hS => ?_)
  refine lv_iconst (v := 1) hx hb dX2_learn_76 (by decide) ?_
  refine lv_istore (lv' := [(7, .int (1 : Int32)), (6, .int (-1 : Int32)), (5, .int (0 : Int32)), (4, .int y0), (0, .ref b), (2, .int x2), (3, .int x3)]) hx hb dX2_learn_77 hl (by decide) rfl (fun ls hl => ?_)
  exact bX2_learn_79 C hK fu t1 x2 x3 y0 (0 : Int32) (-1 : Int32) (1 : Int32) H locs hT hS ls h (lv_sub hl [4, 5, 6, 3, 2, 1, 0] rfl)
theorem bX2_learn_16 {p : Program} {l : Launch} {e : Env} {s : State} {m : MethodId} {args : Array Value} {below : List Frame} {meth : Method} {c : Code} {D : va_G} {dA : Nat → ClassId} {b : Nat} {r : Int32} {t9 : TS} (C : cx p s m args meth c cX2_learn RX2 10 (some .int)) (hK : kk D dA s) : ∀ (n : Nat), ∀ (t : TS) (x1 : Int32) (x2 : Int32) (x3 : Int32) (x4 : Int32) (H : Heap) (locs : List Loc) (hT : wd D (tw dA b t) H) (hS : tS b s.heap H locs) (ls : Array Slot), T_learn_16 n t x1 x2 x3 x4 = some (r, t9) → lv_has ls 10 [(0, .ref b), (1, .int x1), (2, .int x2), (3, .int x3), (4, .int x4)] → W p l e rmX2_learn s m args below meth c H locs 0 0 (MQ below (tQ D dA b t9 (some (.int r))) args s 0 0 (ta b)) (F0 m 16 ls []) := by
  obtain ⟨hx, hb, hr, hml, hown, hts, hlocks⟩ := id C
  intro n
  induction n with
  | zero =>
    intro t x1 x2 x3 x4 H locs hT hS ls h hl
    have h : none = some _ := h
    cases h
  | succ n ih =>
    intro t x1 x2 x3 x4 H locs hT hS ls h hl
    rw [T_learn_16] at h
    refine lv_iload hx hb dX2_learn_16 (lv_at hl 4 rfl) ?_
    refine lv_bipush (v := 26) hx hb dX2_learn_18 (by decide) ?_
    refine lv_icmp_ge (tgt := 52) hx hb dX2_learn_20 (by decide) (fun c => ?_) (fun c => ?_)
    · replace h := if_t c h
      refine lv_iload_n hx hb dX2_learn_52 rfl (lv_at hl 1 rfl) ?_
      refine lv_iload_n hx hb dX2_learn_53 rfl (lv_at hl 3 rfl) ?_
      refine lv_icmp_ge (tgt := 61) hx hb dX2_learn_54 (by decide) (fun c => ?_) (fun c => ?_)
      · replace h := if_t c h
        refine lv_iload_n hx hb dX2_learn_61 rfl (lv_at hl 3 rfl) ?_
        exact bX2_learn_62 C hK t x2 x3 x3 H locs hT hS ls h (lv_sub hl [0, 2, 3] rfl)
      · replace h := if_f c h
        refine lv_iload_n hx hb dX2_learn_57 rfl (lv_at hl 1 rfl) ?_
        refine lv_goto (tgt := 62) hx hb dX2_learn_58 (by decide) ?_
        exact bX2_learn_62 C hK t x2 x3 x1 H locs hT hS ls h (lv_sub hl [0, 2, 3] rfl)
    · replace h := if_f c h
      refine lv_aload_n hx hb dX2_learn_23 rfl (lv_at hl 0 rfl) ?_
      refine lv_iload hx hb dX2_learn_24 (lv_at hl 4 rfl) ?_
      obtain ⟨v1, hv1, h⟩ := bd1_some h
      refine r_int (run_t (As := [.int x4]) (rest := []) C hK hT (mX2_usesOf hv1) q1908 q1910 qs113 q162 q1911 ⟨rfl, rfl⟩ hdX2_usesOf ⟨Nat.le_of_ble_eq_true rfl, Nat.le_of_ble_eq_true rfl⟩ ⟨Nat.zero_le _, Nat.zero_le _⟩ rfl hl.1 rfl (Nat.le_of_ble_eq_true rfl) dX2_learn_26) ?_
      refine lv_if_ne (tgt := 35) hx hb dX2_learn_29 (by decide) (fun c => ?_) (fun c => ?_)
      · replace h := if_f c h
        refine lv_aload_n hx hb dX2_learn_35 rfl (lv_at hl 0 rfl) ?_
        refine tg30 C hK hT dX2_learn_36 ?_
        refine lv_iload_n hx hb dX2_learn_39 rfl (lv_at hl 3 rfl) ?_
        refine lv_iload hx hb dX2_learn_40 (lv_at hl 4 rfl) ?_
        obtain ⟨hi, h⟩ := ck_some h
        refine ts30 C hK hT hS hi dX2_learn_42 (fun t2 H locs et2 hT hS => ?_)
        replace h := lt1_sub et2 h
        obtain ⟨v3, ev3⟩ : ∃ y : Int32, y = x3 + (1 : Int32) := ⟨_, rfl⟩
        replace h := lt1_sub ev3 h
        refine lv_iinc (v := v3) (lv' := [(3, .int v3), (0, .ref b), (1, .int x1), (2, .int x2), (4, .int x4)]) hx hb dX2_learn_43 hl (k := 3) rfl (by rw [ev3]; rfl) (by decide) rfl (fun ls hl => ?_)
        exact bX2_learn_46 C hK ih t2 x1 x2 v3 x4 H locs hT hS ls h (lv_sub hl [1, 2, 3, 0, 4] rfl)
      · replace h := if_t c h
        refine lv_goto (tgt := 46) hx hb dX2_learn_32 (by decide) ?_
        exact bX2_learn_46 C hK ih t x1 x2 x3 x4 H locs hT hS ls h (lv_sub hl [0, 1, 2, 3, 4] rfl)
theorem bX2_learn {p : Program} {l : Launch} {e : Env} {s : State} {m : MethodId} {args : Array Value} {below : List Frame} {meth : Method} {c : Code} {D : va_G} {dA : Nat → ClassId} {b : Nat} {r : Int32} {t9 : TS} (C : cx p s m args meth c cX2_learn RX2 10 (some .int)) (hK : kk D dA s) : ∀ (t : TS) (x1 : Int32) (x2 : Int32) (H : Heap) (locs : List Loc) (hT : wd D (tw dA b t) H) (hS : tS b s.heap H locs) (ls : Array Slot), T_learn t x1 x2 = some (r, t9) → lv_has ls 10 [(0, .ref b), (1, .int x1), (2, .int x2)] → W p l e rmX2_learn s m args below meth c H locs 0 0 (MQ below (tQ D dA b t9 (some (.int r))) args s 0 0 (ta b)) (F0 m 0 ls []) := by
  obtain ⟨hx, hb, hr, hml, hown, hts, hlocks⟩ := id C
  intro t x1 x2 H locs hT hS ls h hl
  unfold T_learn at h
  refine lv_iload_n hx hb dX2_learn_0 rfl (lv_at hl 1 rfl) ?_
  refine lv_iconst (v := 1) hx hb dX2_learn_1 (by decide) ?_
  refine lv_iconst (v := 4) hx hb dX2_learn_2 (by decide) ?_
  obtain ⟨v1, hv1, h⟩ := bd1_some h
  refine r_int (run_s (As := [.int x1, .int (1 : Int32), .int (4 : Int32)]) (rest := []) C (mX2_isIn hv1) q1656 q1657 q162 q1658 ⟨rfl, rfl⟩ hdX2_isIn ⟨Nat.le_of_ble_eq_true rfl, Nat.le_of_ble_eq_true rfl⟩ ⟨Nat.zero_le _, Nat.zero_le _⟩ rfl hl.1 rfl (Nat.le_of_ble_eq_true rfl) dX2_learn_3) ?_
  refine lv_if_ne (tgt := 11) hx hb dX2_learn_6 (by decide) (fun c => ?_) (fun c => ?_)
  · replace h := if_f c h
    refine lv_iconst (v := 0) hx hb dX2_learn_11 (by decide) ?_
    refine lv_istore_n (lv' := [(3, .int (0 : Int32)), (0, .ref b), (1, .int x1), (2, .int x2)]) hx hb dX2_learn_12 rfl hl (by decide) rfl (fun ls hl => ?_)
    refine lv_iconst (v := 0) hx hb dX2_learn_13 (by decide) ?_
    refine lv_istore (lv' := [(4, .int (0 : Int32)), (3, .int (0 : Int32)), (0, .ref b), (1, .int x1), (2, .int x2)]) hx hb dX2_learn_14 hl (by decide) rfl (fun ls hl => ?_)
    exact bX2_learn_16 C hK fu t x1 x2 (0 : Int32) (0 : Int32) H locs hT hS ls h (lv_sub hl [2, 3, 4, 1, 0] rfl)
  · replace h := if_t c h
    refine lv_iconst (v := -1) hx hb dX2_learn_9 (by decide) ?_
    exact e_wi C hT hS h dX2_learn_10
theorem mX2_learn {l : Launch} {D : va_G} {dA : Nat → ClassId} {b : Nat} {t : TS} {x1 : Int32} {x2 : Int32} {r : Int32} {t9 : TS} (h : T_learn t x1 x2 = some (r, t9)) : Met l yX2_learn (ws_ yX2_learn cX2_learn 10 (some .int)) rmX2_learn (tPc D dA b t [.ref b, .int x1, .int x2]) (tQ D dA b t9 (some (.int r))) 0 0 (ta b) := en_R (by decide +kernel) rfl (Nat.le_of_ble_eq_true rfl) (fun p e s m below meth c ls C hK hT hl => bX2_learn C hK t x1 x2 _ [] hT tS.rf ls h hl)
set_option maxRecDepth 20000 in
abbrev rmX2_isHair : Room := { frames := 1, cells := 0, slots := 0, locals := 22 }
theorem hdX2_isHair : yX2_isHair.cls = RX2 ∧ yX2_isHair.cls ≠ "java/lang/invoke/MethodHandle" ∧ yX2_isHair.cls ≠ "java/lang/invoke/VarHandle" ∧ (parseMethodDescriptor yX2_isHair.desc).map (fun d => d.parameters.length) = some 2 := by decide +kernel
theorem bX2_isHair_53 {p : Program} {l : Launch} {e : Env} {s : State} {m : MethodId} {args : Array Value} {below : List Frame} {meth : Method} {c : Code} {D : va_G} {dA : Nat → ClassId} {b : Nat} {t : TS} {r : Int32} (C : cx p s m args meth c cX2_isHair RX2 5 (some .boolean)) (hK : kk D dA s) (hT : wd D (tw dA b t) s.heap) {k20 : Int32 → Int32 → Int32 → Int32 → Option Int32} (hk20 : ∀ (x1 : Int32) (x2 : Int32) (x3 : Int32) (x4 : Int32) (ls : Array Slot), k20 x1 x2 x3 x4 = some r → lv_has ls 5 [(0, .ref b), (1, .int x1), (2, .int x2), (3, .int x3), (4, .int x4)] → W p l e rmX2_isHair s m args below meth c s.heap [] 0 0 (MQ below (rQi r) args s 0 0 nof) (F0 m 20 ls [])) : ∀ (x1 : Int32) (x2 : Int32) (x4 : Int32) (y0 : Int32) (y1 : Int32) (ls : Array Slot), T_isHair_53 k20 t x1 x2 x4 y0 y1 = some r → lv_has ls 5 [(0, .ref b), (1, .int x1), (2, .int x2), (4, .int x4)] → W p l e rmX2_isHair s m args below meth c s.heap [] 0 0 (MQ below (rQi r) args s 0 0 nof) (F0 m 53 ls [.int y1, .int y0]) := by
  obtain ⟨hx, hb, hr, hml, hown, hts, hlocks⟩ := id C
  intro x1 x2 x4 y0 y1 ls h hl
  unfold T_isHair_53 at h
  refine lv_iadd hx hb dX2_isHair_53 ?_
  refine lv_topi (fun v1 ev1 => ?_)
  replace h := lt1_sub ev1 h
  refine lv_istore_n (lv' := [(3, .int v1), (0, .ref b), (1, .int x1), (2, .int x2), (4, .int x4)]) hx hb dX2_isHair_54 rfl hl (by decide) rfl (fun ls hl => ?_)
  obtain ⟨v2, ev2⟩ : ∃ y : Int32, y = x4 + (1 : Int32) := ⟨_, rfl⟩
  replace h := lt1_sub ev2 h
  refine lv_iinc (v := v2) (lv' := [(4, .int v2), (3, .int v1), (0, .ref b), (1, .int x1), (2, .int x2)]) hx hb dX2_isHair_55 hl (k := 4) rfl (by rw [ev2]; rfl) (by decide) rfl (fun ls hl => ?_)
  refine lv_goto (tgt := 20) hx hb dX2_isHair_58 (by decide) ?_
  exact hk20 x1 x2 v1 v2 ls h (lv_sub hl [2, 3, 4, 1, 0] rfl)
theorem bX2_isHair_20 {p : Program} {l : Launch} {e : Env} {s : State} {m : MethodId} {args : Array Value} {below : List Frame} {meth : Method} {c : Code} {D : va_G} {dA : Nat → ClassId} {b : Nat} {t : TS} {r : Int32} (C : cx p s m args meth c cX2_isHair RX2 5 (some .boolean)) (hK : kk D dA s) (hT : wd D (tw dA b t) s.heap) : ∀ (n : Nat), ∀ (x1 : Int32) (x2 : Int32) (x3 : Int32) (x4 : Int32) (ls : Array Slot), T_isHair_20 t n x1 x2 x3 x4 = some r → lv_has ls 5 [(0, .ref b), (1, .int x1), (2, .int x2), (3, .int x3), (4, .int x4)] → W p l e rmX2_isHair s m args below meth c s.heap [] 0 0 (MQ below (rQi r) args s 0 0 nof) (F0 m 20 ls []) := by
  obtain ⟨hx, hb, hr, hml, hown, hts, hlocks⟩ := id C
  intro n
  induction n with
  | zero =>
    intro x1 x2 x3 x4 ls h hl
    have h : none = some _ := h
    cases h
  | succ n ih =>
    intro x1 x2 x3 x4 ls h hl
    rw [T_isHair_20] at h
    refine lv_iload hx hb dX2_isHair_20 (lv_at hl 4 rfl) ?_
    refine lv_aload_n hx hb dX2_isHair_22 rfl (lv_at hl 0 rfl) ?_
    refine lv_iload_n hx hb dX2_isHair_23 rfl (lv_at hl 1 rfl) ?_
    obtain ⟨v1, hv1, h⟩ := bd1_some h
    refine r_int (run_t (As := [.int x1]) (rest := [.int x4]) C hK hT (mX2_lengthOf hv1) q1678 q1680 qs71 q162 q1681 ⟨rfl, rfl⟩ hdX2_lengthOf ⟨Nat.le_of_ble_eq_true rfl, Nat.le_of_ble_eq_true rfl⟩ ⟨Nat.zero_le _, Nat.zero_le _⟩ rfl hl.1 rfl (Nat.le_of_ble_eq_true rfl) dX2_isHair_24) ?_
    refine lv_icmp_ge (tgt := 61) hx hb dX2_isHair_27 (by decide) (fun c => ?_) (fun c => ?_)
    · replace h := if_t c h
      refine lv_iload_n hx hb dX2_isHair_61 rfl (lv_at hl 3 rfl) ?_
      refine lv_iconst (v := 1) hx hb dX2_isHair_62 (by decide) ?_
      refine lv_icmp_ne (tgt := 70) hx hb dX2_isHair_63 (by decide) (fun c => ?_) (fun c => ?_)
      · replace h := if_f c h
        refine lv_iconst (v := 0) hx hb dX2_isHair_70 (by decide) ?_
        exact e_rz C (Or.inl rfl) h dX2_isHair_71
      · replace h := if_t c h
        refine lv_iconst (v := 1) hx hb dX2_isHair_66 (by decide) ?_
        refine lv_goto (tgt := 71) hx hb dX2_isHair_67 (by decide) ?_
        exact e_rz C (Or.inr rfl) h dX2_isHair_71
    · replace h := if_f c h
      refine lv_iload_n hx hb dX2_isHair_30 rfl (lv_at hl 3 rfl) ?_
      refine lv_aload_n hx hb dX2_isHair_31 rfl (lv_at hl 0 rfl) ?_
      refine lv_iload_n hx hb dX2_isHair_32 rfl (lv_at hl 1 rfl) ?_
      refine lv_iload hx hb dX2_isHair_33 (lv_at hl 4 rfl) ?_
      obtain ⟨v2, hv2, h⟩ := bd1_some h
      refine r_int (run_t (As := [.int x1, .int x4]) (rest := [.int x3]) C hK hT (mX2_letterOf hv2) q1682 q1684 qs72 q162 q1685 ⟨rfl, rfl⟩ hdX2_letterOf ⟨Nat.le_of_ble_eq_true rfl, Nat.le_of_ble_eq_true rfl⟩ ⟨Nat.zero_le _, Nat.zero_le _⟩ rfl hl.1 rfl (Nat.le_of_ble_eq_true rfl) dX2_isHair_35) ?_
      refine lv_aload_n hx hb dX2_isHair_38 rfl (lv_at hl 0 rfl) ?_
      refine lv_iload_n hx hb dX2_isHair_39 rfl (lv_at hl 2 rfl) ?_
      refine lv_iload hx hb dX2_isHair_40 (lv_at hl 4 rfl) ?_
      obtain ⟨v3, hv3, h⟩ := bd1_some h
      refine r_int (run_t (As := [.int x2, .int x4]) (rest := [.int v2, .int x3]) C hK hT (mX2_letterOf hv3) q1682 q1684 qs72 q162 q1685 ⟨rfl, rfl⟩ hdX2_letterOf ⟨Nat.le_of_ble_eq_true rfl, Nat.le_of_ble_eq_true rfl⟩ ⟨Nat.zero_le _, Nat.zero_le _⟩ rfl hl.1 rfl (Nat.le_of_ble_eq_true rfl) dX2_isHair_42) ?_
      refine lv_icmp_eq (tgt := 52) hx hb dX2_isHair_45 (by decide) (fun c => ?_) (fun c => ?_)
      · replace h := if_t c h
        refine lv_iconst (v := 0) hx hb dX2_isHair_52 (by decide) ?_
        exact bX2_isHair_53 C hK hT ih x1 x2 x4 x3 (0 : Int32) ls h (lv_sub hl [0, 1, 2, 4] rfl)
      · replace h := if_f c h
        refine lv_iconst (v := 1) hx hb dX2_isHair_48 (by decide) ?_
        refine lv_goto (tgt := 53) hx hb dX2_isHair_49 (by decide) ?_
        exact bX2_isHair_53 C hK hT ih x1 x2 x4 x3 (1 : Int32) ls h (lv_sub hl [0, 1, 2, 4] rfl)
theorem bX2_isHair {p : Program} {l : Launch} {e : Env} {s : State} {m : MethodId} {args : Array Value} {below : List Frame} {meth : Method} {c : Code} {D : va_G} {dA : Nat → ClassId} {b : Nat} {t : TS} {r : Int32} (C : cx p s m args meth c cX2_isHair RX2 5 (some .boolean)) (hK : kk D dA s) (hT : wd D (tw dA b t) s.heap) : ∀ (x1 : Int32) (x2 : Int32) (ls : Array Slot), T_isHair t x1 x2 = some r → lv_has ls 5 [(0, .ref b), (1, .int x1), (2, .int x2)] → W p l e rmX2_isHair s m args below meth c s.heap [] 0 0 (MQ below (rQi r) args s 0 0 nof) (F0 m 0 ls []) := by
  obtain ⟨hx, hb, hr, hml, hown, hts, hlocks⟩ := id C
  intro x1 x2 ls h hl
  unfold T_isHair at h
  refine lv_aload_n hx hb dX2_isHair_0 rfl (lv_at hl 0 rfl) ?_
  refine lv_iload_n hx hb dX2_isHair_1 rfl (lv_at hl 1 rfl) ?_
  obtain ⟨v1, hv1, h⟩ := bd1_some h
  refine r_int (run_t (As := [.int x1]) (rest := []) C hK hT (mX2_lengthOf hv1) q1678 q1680 qs71 q162 q1681 ⟨rfl, rfl⟩ hdX2_lengthOf ⟨Nat.le_of_ble_eq_true rfl, Nat.le_of_ble_eq_true rfl⟩ ⟨Nat.zero_le _, Nat.zero_le _⟩ rfl hl.1 rfl (Nat.le_of_ble_eq_true rfl) dX2_isHair_2) ?_
  refine lv_aload_n hx hb dX2_isHair_5 rfl (lv_at hl 0 rfl) ?_
  refine lv_iload_n hx hb dX2_isHair_6 rfl (lv_at hl 2 rfl) ?_
  obtain ⟨v2, hv2, h⟩ := bd1_some h
  refine r_int (run_t (As := [.int x2]) (rest := [.int v1]) C hK hT (mX2_lengthOf hv2) q1678 q1680 qs71 q162 q1681 ⟨rfl, rfl⟩ hdX2_lengthOf ⟨Nat.le_of_ble_eq_true rfl, Nat.le_of_ble_eq_true rfl⟩ ⟨Nat.zero_le _, Nat.zero_le _⟩ rfl hl.1 rfl (Nat.le_of_ble_eq_true rfl) dX2_isHair_7) ?_
  refine lv_icmp_eq (tgt := 15) hx hb dX2_isHair_10 (by decide) (fun c => ?_) (fun c => ?_)
  · replace h := if_t c h
    refine lv_iconst (v := 0) hx hb dX2_isHair_15 (by decide) ?_
    refine lv_istore_n (lv' := [(3, .int (0 : Int32)), (0, .ref b), (1, .int x1), (2, .int x2)]) hx hb dX2_isHair_16 rfl hl (by decide) rfl (fun ls hl => ?_)
    refine lv_iconst (v := 0) hx hb dX2_isHair_17 (by decide) ?_
    refine lv_istore (lv' := [(4, .int (0 : Int32)), (3, .int (0 : Int32)), (0, .ref b), (1, .int x1), (2, .int x2)]) hx hb dX2_isHair_18 hl (by decide) rfl (fun ls hl => ?_)
    exact bX2_isHair_20 C hK hT fu x1 x2 (0 : Int32) (0 : Int32) ls h (lv_sub hl [2, 3, 4, 1, 0] rfl)
  · replace h := if_f c h
    refine lv_iconst (v := 0) hx hb dX2_isHair_13 (by decide) ?_
    exact e_rz C (Or.inl rfl) h dX2_isHair_14
theorem mX2_isHair {l : Launch} {D : va_G} {dA : Nat → ClassId} {b : Nat} {t : TS} {x1 : Int32} {x2 : Int32} {r : Int32} (h : T_isHair t x1 x2 = some r) : Met l yX2_isHair (ws_ yX2_isHair cX2_isHair 5 (some .boolean)) rmX2_isHair (tPc D dA b t [.ref b, .int x1, .int x2]) (rQi r) 0 0 nof := en_R (by decide +kernel) rfl (Nat.le_of_ble_eq_true rfl) (fun p e s m below meth c ls C hK hT hl => bX2_isHair C hK hT x1 x2 ls h hl)
set_option maxRecDepth 20000 in
abbrev rmX2_hair : Room := { frames := 2, cells := 0, slots := 0, locals := 46 }
theorem hdX2_hair : yX2_hair.cls = RX2 ∧ yX2_hair.cls ≠ "java/lang/invoke/MethodHandle" ∧ yX2_hair.cls ≠ "java/lang/invoke/VarHandle" ∧ (parseMethodDescriptor yX2_hair.desc).map (fun d => d.parameters.length) = some 2 := by decide +kernel
theorem bX2_hair_55 {p : Program} {l : Launch} {e : Env} {s : State} {m : MethodId} {args : Array Value} {below : List Frame} {meth : Method} {c : Code} {D : va_G} {dA : Nat → ClassId} {b : Nat} {t : TS} {r : Int32} (C : cx p s m args meth c cX2_hair RX2 5 (some .int)) (hK : kk D dA s) (hT : wd D (tw dA b t) s.heap) {k20 : Int32 → Int32 → Int32 → Int32 → Option Int32} (hk20 : ∀ (x1 : Int32) (x2 : Int32) (x3 : Int32) (x4 : Int32) (ls : Array Slot), k20 x1 x2 x3 x4 = some r → lv_has ls 5 [(0, .ref b), (1, .int x1), (2, .int x2), (3, .int x3), (4, .int x4)] → W p l e rmX2_hair s m args below meth c s.heap [] 0 0 (MQ below (rQi r) args s 0 0 nof) (F0 m 20 ls [])) : ∀ (x1 : Int32) (x2 : Int32) (x3 : Int32) (x4 : Int32) (ls : Array Slot), T_hair_55 k20 t x1 x2 x3 x4 = some r → lv_has ls 5 [(0, .ref b), (1, .int x1), (2, .int x2), (3, .int x3), (4, .int x4)] → W p l e rmX2_hair s m args below meth c s.heap [] 0 0 (MQ below (rQi r) args s 0 0 nof) (F0 m 55 ls []) := by
  obtain ⟨hx, hb, hr, hml, hown, hts, hlocks⟩ := id C
  intro x1 x2 x3 x4 ls h hl
  unfold T_hair_55 at h
  obtain ⟨v1, ev1⟩ : ∃ y : Int32, y = x4 + (1 : Int32) := ⟨_, rfl⟩
  replace h := lt1_sub ev1 h
  refine lv_iinc (v := v1) (lv' := [(4, .int v1), (0, .ref b), (1, .int x1), (2, .int x2), (3, .int x3)]) hx hb dX2_hair_55 hl (k := 4) rfl (by rw [ev1]; rfl) (by decide) rfl (fun ls hl => ?_)
  refine lv_goto (tgt := 20) hx hb dX2_hair_58 (by decide) ?_
  exact hk20 x1 x2 x3 v1 ls h (lv_sub hl [1, 2, 3, 4, 0] rfl)
theorem bX2_hair_20 {p : Program} {l : Launch} {e : Env} {s : State} {m : MethodId} {args : Array Value} {below : List Frame} {meth : Method} {c : Code} {D : va_G} {dA : Nat → ClassId} {b : Nat} {t : TS} {r : Int32} (C : cx p s m args meth c cX2_hair RX2 5 (some .int)) (hK : kk D dA s) (hT : wd D (tw dA b t) s.heap) : ∀ (n : Nat), ∀ (x1 : Int32) (x2 : Int32) (x3 : Int32) (x4 : Int32) (ls : Array Slot), T_hair_20 t n x1 x2 x3 x4 = some r → lv_has ls 5 [(0, .ref b), (1, .int x1), (2, .int x2), (3, .int x3), (4, .int x4)] → W p l e rmX2_hair s m args below meth c s.heap [] 0 0 (MQ below (rQi r) args s 0 0 nof) (F0 m 20 ls []) := by
  obtain ⟨hx, hb, hr, hml, hown, hts, hlocks⟩ := id C
  intro n
  induction n with
  | zero =>
    intro x1 x2 x3 x4 ls h hl
    have h : none = some _ := h
    cases h
  | succ n ih =>
    intro x1 x2 x3 x4 ls h hl
    rw [T_hair_20] at h
    refine lv_iload hx hb dX2_hair_20 (lv_at hl 4 rfl) ?_
    refine lv_aload_n hx hb dX2_hair_22 rfl (lv_at hl 0 rfl) ?_
    refine tg0 C hK hT dX2_hair_23 ?_
    refine lv_iconst (v := 0) hx hb dX2_hair_26 (by decide) ?_
    obtain ⟨hi, h⟩ := ck_some h
    refine tl0 C hK hT hi dX2_hair_27 ?_
    refine lv_icmp_ge (tgt := 61) hx hb dX2_hair_28 (by decide) (fun c => ?_) (fun c => ?_)
    · replace h := if_t c h
      refine lv_iload_n hx hb dX2_hair_61 rfl (lv_at hl 2 rfl) ?_
      refine lv_iconst (v := -1) hx hb dX2_hair_62 (by decide) ?_
      refine lv_icmp_ne (tgt := 70) hx hb dX2_hair_63 (by decide) (fun c => ?_) (fun c => ?_)
      · replace h := if_f c h
        refine lv_iconst (v := -1) hx hb dX2_hair_70 (by decide) ?_
        exact e_ri C h dX2_hair_71
      · replace h := if_t c h
        refine lv_iload_n hx hb dX2_hair_66 rfl (lv_at hl 3 rfl) ?_
        refine lv_goto (tgt := 71) hx hb dX2_hair_67 (by decide) ?_
        exact e_ri C h dX2_hair_71
    · replace h := if_f c h
      refine lv_aload_n hx hb dX2_hair_31 rfl (lv_at hl 0 rfl) ?_
      refine lv_iload hx hb dX2_hair_32 (lv_at hl 4 rfl) ?_
      refine lv_iload_n hx hb dX2_hair_34 rfl (lv_at hl 1 rfl) ?_
      obtain ⟨v1, hv1, h⟩ := bd1_some h
      refine r_int (run_t (As := [.int x4, .int x1]) (rest := []) C hK hT (mX2_isHair hv1) q2188 q2190 qs151 q162 q2191 ⟨rfl, rfl⟩ hdX2_isHair ⟨Nat.le_of_ble_eq_true rfl, Nat.le_of_ble_eq_true rfl⟩ ⟨Nat.zero_le _, Nat.zero_le _⟩ rfl hl.1 rfl (Nat.le_of_ble_eq_true rfl) dX2_hair_35) ?_
      refine lv_if_ne (tgt := 44) hx hb dX2_hair_38 (by decide) (fun c => ?_) (fun c => ?_)
      · replace h := if_f c h
        refine lv_iload_n hx hb dX2_hair_44 rfl (lv_at hl 3 rfl) ?_
        refine lv_iload_n hx hb dX2_hair_45 rfl (lv_at hl 2 rfl) ?_
        refine lv_icmp_ne (tgt := 52) hx hb dX2_hair_46 (by decide) (fun c => ?_) (fun c => ?_)
        · replace h := if_f c h
          obtain ⟨v2, ev2⟩ : ∃ y : Int32, y = x3 + (1 : Int32) := ⟨_, rfl⟩
          replace h := lt1_sub ev2 h
          refine lv_iinc (v := v2) (lv' := [(3, .int v2), (0, .ref b), (1, .int x1), (2, .int x2), (4, .int x4)]) hx hb dX2_hair_52 hl (k := 3) rfl (by rw [ev2]; rfl) (by decide) rfl (fun ls hl => ?_)
          exact bX2_hair_55 C hK hT ih x1 x2 v2 x4 ls h (lv_sub hl [1, 2, 3, 0, 4] rfl)
        · replace h := if_t c h
          refine lv_iload hx hb dX2_hair_49 (lv_at hl 4 rfl) ?_
          exact e_ri C h dX2_hair_51
      · replace h := if_t c h
        refine lv_goto (tgt := 55) hx hb dX2_hair_41 (by decide) ?_
        exact bX2_hair_55 C hK hT ih x1 x2 x3 x4 ls h (lv_sub hl [0, 1, 2, 3, 4] rfl)
theorem bX2_hair {p : Program} {l : Launch} {e : Env} {s : State} {m : MethodId} {args : Array Value} {below : List Frame} {meth : Method} {c : Code} {D : va_G} {dA : Nat → ClassId} {b : Nat} {t : TS} {r : Int32} (C : cx p s m args meth c cX2_hair RX2 5 (some .int)) (hK : kk D dA s) (hT : wd D (tw dA b t) s.heap) : ∀ (x1 : Int32) (x2 : Int32) (ls : Array Slot), T_hair t x1 x2 = some r → lv_has ls 5 [(0, .ref b), (1, .int x1), (2, .int x2)] → W p l e rmX2_hair s m args below meth c s.heap [] 0 0 (MQ below (rQi r) args s 0 0 nof) (F0 m 0 ls []) := by
  obtain ⟨hx, hb, hr, hml, hown, hts, hlocks⟩ := id C
  intro x1 x2 ls h hl
  unfold T_hair at h
  refine lv_aload_n hx hb dX2_hair_0 rfl (lv_at hl 0 rfl) ?_
  refine lv_iload_n hx hb dX2_hair_1 rfl (lv_at hl 1 rfl) ?_
  obtain ⟨v1, hv1, h⟩ := bd1_some h
  refine r_int (run_t (As := [.int x1]) (rest := []) C hK hT (mX2_isWord0 hv1) q2044 q2046 qs132 q162 q2047 ⟨rfl, rfl⟩ hdX2_isWord0 ⟨Nat.le_of_ble_eq_true rfl, Nat.le_of_ble_eq_true rfl⟩ ⟨Nat.zero_le _, Nat.zero_le _⟩ rfl hl.1 rfl (Nat.le_of_ble_eq_true rfl) dX2_hair_2) ?_
  refine lv_if_eq (tgt := 13) hx hb dX2_hair_5 (by decide) (fun c => ?_) (fun c => ?_)
  · replace h := if_t c h
    refine lv_iconst (v := -1) hx hb dX2_hair_13 (by decide) ?_
    exact e_ri C h dX2_hair_14
  · replace h := if_f c h
    refine lv_iload_n hx hb dX2_hair_8 rfl (lv_at hl 2 rfl) ?_
    refine lv_iconst (v := -1) hx hb dX2_hair_9 (by decide) ?_
    refine lv_icmp_ge (tgt := 15) hx hb dX2_hair_10 (by decide) (fun c => ?_) (fun c => ?_)
    · replace h := if_t c h
      refine lv_iconst (v := 0) hx hb dX2_hair_15 (by decide) ?_
      refine lv_istore_n (lv' := [(3, .int (0 : Int32)), (0, .ref b), (1, .int x1), (2, .int x2)]) hx hb dX2_hair_16 rfl hl (by decide) rfl (fun ls hl => ?_)
      refine lv_iconst (v := 0) hx hb dX2_hair_17 (by decide) ?_
      refine lv_istore (lv' := [(4, .int (0 : Int32)), (3, .int (0 : Int32)), (0, .ref b), (1, .int x1), (2, .int x2)]) hx hb dX2_hair_18 hl (by decide) rfl (fun ls hl => ?_)
      exact bX2_hair_20 C hK hT fu x1 x2 (0 : Int32) (0 : Int32) ls h (lv_sub hl [2, 3, 4, 1, 0] rfl)
    · replace h := if_f c h
      refine lv_iconst (v := -1) hx hb dX2_hair_13 (by decide) ?_
      exact e_ri C h dX2_hair_14
theorem mX2_hair {l : Launch} {D : va_G} {dA : Nat → ClassId} {b : Nat} {t : TS} {x1 : Int32} {x2 : Int32} {r : Int32} (h : T_hair t x1 x2 = some r) : Met l yX2_hair (ws_ yX2_hair cX2_hair 5 (some .int)) rmX2_hair (tPc D dA b t [.ref b, .int x1, .int x2]) (rQi r) 0 0 nof := en_R (by decide +kernel) rfl (Nat.le_of_ble_eq_true rfl) (fun p e s m below meth c ls C hK hT hl => bX2_hair C hK hT x1 x2 ls h hl)
set_option maxRecDepth 20000 in
abbrev rmX2_printed : Room := { frames := 2, cells := 0, slots := 0, locals := 43 }
theorem hdX2_printed : yX2_printed.cls = RX2 ∧ yX2_printed.cls ≠ "java/lang/invoke/MethodHandle" ∧ yX2_printed.cls ≠ "java/lang/invoke/VarHandle" ∧ (parseMethodDescriptor yX2_printed.desc).map (fun d => d.parameters.length) = some 3 := by decide +kernel
theorem bX2_printed_98 {p : Program} {l : Launch} {e : Env} {s : State} {m : MethodId} {args : Array Value} {below : List Frame} {meth : Method} {c : Code} {D : va_G} {dA : Nat → ClassId} {b : Nat} {r : Int32} {t9 : TS} (C : cx p s m args meth c cX2_printed RX2 5 (some .int)) (hK : kk D dA s) : ∀ (t : TS) (y1 : Int32) (y2 : Int32) (H : Heap) (locs : List Loc) (hT : wd D (tw dA b t) H) (hS : tS b s.heap H locs) (ls : Array Slot), T_printed_98 t y1 y2 = some (r, t9) → lv_has ls 5 [(0, .ref b)] → W p l e rmX2_printed s m args below meth c H locs 0 0 (MQ below (tQ D dA b t9 (some (.int r))) args s 0 0 (ta b)) (F0 m 98 ls [.int y2, .int y1, .ref (b + 1)]) := by
  obtain ⟨hx, hb, hr, hml, hown, hts, hlocks⟩ := id C
  intro t y1 y2 H locs hT hS ls h hl
  unfold T_printed_98 at h
  obtain ⟨hi, h⟩ := ck_some h
  refine ts0 C hK hT hS hi dX2_printed_98 (fun t1 H locs et1 hT hS => ?_)
  replace h := lt1_sub et1 h
  refine lv_aload_n hx hb dX2_printed_99 rfl (lv_at hl 0 rfl) ?_
  refine tg0 C hK hT dX2_printed_100 ?_
  refine lv_bipush (v := 9) hx hb dX2_printed_103 (by decide) ?_
  refine lv_dup2_11 hx hb dX2_printed_105 rfl rfl ?_
  obtain ⟨hi, h⟩ := ck_some h
  refine tl0 C hK hT hi dX2_printed_106 ?_
  refine lv_iconst (v := 1) hx hb dX2_printed_107 (by decide) ?_
  refine lv_iadd hx hb dX2_printed_108 ?_
  obtain ⟨hi, h⟩ := ck_some h
  refine ts0 C hK hT hS hi dX2_printed_109 (fun t2 H locs et2 hT hS => ?_)
  replace h := lt1_sub et2 h
  refine lv_aload_n hx hb dX2_printed_110 rfl (lv_at hl 0 rfl) ?_
  refine tg0 C hK hT dX2_printed_111 ?_
  refine lv_bipush (v := 9) hx hb dX2_printed_114 (by decide) ?_
  obtain ⟨hi, h⟩ := ck_some h
  refine tl0 C hK hT hi dX2_printed_116 ?_
  exact e_wi C hT hS h dX2_printed_117
theorem bX2_printed {p : Program} {l : Launch} {e : Env} {s : State} {m : MethodId} {args : Array Value} {below : List Frame} {meth : Method} {c : Code} {D : va_G} {dA : Nat → ClassId} {b : Nat} {r : Int32} {t9 : TS} (C : cx p s m args meth c cX2_printed RX2 5 (some .int)) (hK : kk D dA s) : ∀ (t : TS) (x1 : Int32) (x2 : Int32) (x3 : Int32) (H : Heap) (locs : List Loc) (hT : wd D (tw dA b t) H) (hS : tS b s.heap H locs) (ls : Array Slot), T_printed t x1 x2 x3 = some (r, t9) → lv_has ls 5 [(0, .ref b), (1, .int x1), (2, .int x2), (3, .int x3)] → W p l e rmX2_printed s m args below meth c H locs 0 0 (MQ below (tQ D dA b t9 (some (.int r))) args s 0 0 (ta b)) (F0 m 0 ls []) := by
  obtain ⟨hx, hb, hr, hml, hown, hts, hlocks⟩ := id C
  intro t x1 x2 x3 H locs hT hS ls h hl
  unfold T_printed at h
  refine lv_iload_n hx hb dX2_printed_0 rfl (lv_at hl 1 rfl) ?_
  refine lv_iconst (v := -1) hx hb dX2_printed_1 (by decide) ?_
  refine lv_icmp_ne (tgt := 15) hx hb dX2_printed_2 (by decide) (fun c => ?_) (fun c => ?_)
  · replace h := if_f c h
    refine lv_aload_n hx hb dX2_printed_15 rfl (lv_at hl 0 rfl) ?_
    refine lv_iload_n hx hb dX2_printed_16 rfl (lv_at hl 1 rfl) ?_
    obtain ⟨v1, hv1, h⟩ := bd1_some h
    refine r_int (run_t (As := [.int x1]) (rest := []) C hK hT (mX2_isWord0 hv1) q2044 q2046 qs132 q162 q2047 ⟨rfl, rfl⟩ hdX2_isWord0 ⟨Nat.le_of_ble_eq_true rfl, Nat.le_of_ble_eq_true rfl⟩ ⟨Nat.zero_le _, Nat.zero_le _⟩ rfl hl.1 rfl (Nat.le_of_ble_eq_true rfl) dX2_printed_17) ?_
    refine lv_if_eq (tgt := 45) hx hb dX2_printed_20 (by decide) (fun c => ?_) (fun c => ?_)
    · replace h := if_t c h
      refine lv_bipush (v := -2) hx hb dX2_printed_45 (by decide) ?_
      exact e_wi C hT hS h dX2_printed_47
    · replace h := if_f c h
      refine lv_iload_n hx hb dX2_printed_23 rfl (lv_at hl 2 rfl) ?_
      refine lv_iconst (v := 0) hx hb dX2_printed_24 (by decide) ?_
      refine lv_bipush (v := 30) hx hb dX2_printed_25 (by decide) ?_
      obtain ⟨v2, hv2, h⟩ := bd1_some h
      refine r_int (run_s (As := [.int x2, .int (0 : Int32), .int (30 : Int32)]) (rest := []) C (mX2_isIn hv2) q1656 q1657 q162 q1658 ⟨rfl, rfl⟩ hdX2_isIn ⟨Nat.le_of_ble_eq_true rfl, Nat.le_of_ble_eq_true rfl⟩ ⟨Nat.zero_le _, Nat.zero_le _⟩ rfl hl.1 rfl (Nat.le_of_ble_eq_true rfl) dX2_printed_27) ?_
      refine lv_if_eq (tgt := 45) hx hb dX2_printed_30 (by decide) (fun c => ?_) (fun c => ?_)
      · replace h := if_t c h
        refine lv_bipush (v := -2) hx hb dX2_printed_45 (by decide) ?_
        exact e_wi C hT hS h dX2_printed_47
      · replace h := if_f c h
        refine lv_aload_n hx hb dX2_printed_33 rfl (lv_at hl 0 rfl) ?_
        refine tg0 C hK hT dX2_printed_34 ?_
        refine lv_bipush (v := 9) hx hb dX2_printed_37 (by decide) ?_
        obtain ⟨hi, h⟩ := ck_some h
        refine tl0 C hK hT hi dX2_printed_39 ?_
        refine lv_bipush (v := 12) hx hb dX2_printed_40 (by decide) ?_
        refine lv_icmp_ne (tgt := 48) hx hb dX2_printed_42 (by decide) (fun c => ?_) (fun c => ?_)
        · replace h := if_f c h
          refine lv_sipush (v := 542) hx hb dX2_printed_48 (by decide) ?_
          refine lv_iconst (v := 3) hx hb dX2_printed_51 (by decide) ?_
          refine lv_aload_n hx hb dX2_printed_52 rfl (lv_at hl 0 rfl) ?_
          refine tg0 C hK hT dX2_printed_53 ?_
          refine lv_bipush (v := 9) hx hb dX2_printed_56 (by decide) ?_
          obtain ⟨hi, h⟩ := ck_some h
          refine tl0 C hK hT hi dX2_printed_58 ?_
          refine lv_imul hx hb dX2_printed_59 ?_
          refine lv_iadd hx hb dX2_printed_60 ?_
          refine lv_topi (fun v3 ev3 => ?_)
          replace h := lt1_sub ev3 h
          refine lv_istore (lv' := [(4, .int v3), (0, .ref b), (1, .int x1), (2, .int x2), (3, .int x3)]) hx hb dX2_printed_61 hl (by decide) rfl (fun ls hl => ?_)
          refine lv_aload_n hx hb dX2_printed_63 rfl (lv_at hl 1 rfl) ?_
          refine tg0 C hK hT dX2_printed_64 ?_
          refine lv_iload hx hb dX2_printed_67 (lv_at hl 0 rfl) ?_
          refine lv_iload_n hx hb dX2_printed_69 rfl (lv_at hl 2 rfl) ?_
          obtain ⟨hi, h⟩ := ck_some h
          refine ts0 C hK hT hS hi dX2_printed_70 (fun t4 H locs et4 hT hS => ?_)
          replace h := lt1_sub et4 h
          refine lv_aload_n hx hb dX2_printed_71 rfl (lv_at hl 1 rfl) ?_
          refine tg0 C hK hT dX2_printed_72 ?_
          refine lv_iload hx hb dX2_printed_75 (lv_at hl 0 rfl) ?_
          refine lv_iconst (v := 1) hx hb dX2_printed_77 (by decide) ?_
          refine lv_iadd hx hb dX2_printed_78 ?_
          refine lv_iload_n hx hb dX2_printed_79 rfl (lv_at hl 3 rfl) ?_
          obtain ⟨hi, h⟩ := ck_some h
          refine ts0 C hK hT hS hi dX2_printed_80 (fun t5 H locs et5 hT hS => ?_)
          replace h := lt1_sub et5 h
          refine lv_aload_n hx hb dX2_printed_81 rfl (lv_at hl 1 rfl) ?_
          refine tg0 C hK hT dX2_printed_82 ?_
          refine lv_iload hx hb dX2_printed_85 (lv_at hl 0 rfl) ?_
          refine lv_iconst (v := 2) hx hb dX2_printed_87 (by decide) ?_
          refine lv_iadd hx hb dX2_printed_88 ?_
          refine lv_iload_n hx hb dX2_printed_89 rfl (lv_at hl 4 rfl) ?_
          refine lv_if_eq (tgt := 97) hx hb dX2_printed_90 (by decide) (fun c => ?_) (fun c => ?_)
          · replace h := if_t c h
            refine lv_iconst (v := 0) hx hb dX2_printed_97 (by decide) ?_
            exact bX2_printed_98 C hK t5 (v3 + (2 : Int32)) (0 : Int32) H locs hT hS ls h (lv_sub hl [1] rfl)
          · replace h := if_f c h
            refine lv_iconst (v := 1) hx hb dX2_printed_93 (by decide) ?_
            refine lv_goto (tgt := 98) hx hb dX2_printed_94 (by decide) ?_
            exact bX2_printed_98 C hK t5 (v3 + (2 : Int32)) (1 : Int32) H locs hT hS ls h (lv_sub hl [1] rfl)
        · replace h := if_t c h
          refine lv_bipush (v := -2) hx hb dX2_printed_45 (by decide) ?_
          exact e_wi C hT hS h dX2_printed_47
  · replace h := if_t c h
    refine lv_aload_n hx hb dX2_printed_5 rfl (lv_at hl 0 rfl) ?_
    refine tg0 C hK hT dX2_printed_6 ?_
    refine lv_bipush (v := 9) hx hb dX2_printed_9 (by decide) ?_
    refine lv_iconst (v := 0) hx hb dX2_printed_11 (by decide) ?_
    obtain ⟨hi, h⟩ := ck_some h
    refine ts0 C hK hT hS hi dX2_printed_12 (fun t6 H locs et6 hT hS => ?_)
    replace h := lt1_sub et6 h
    refine lv_iconst (v := 0) hx hb dX2_printed_13 (by decide) ?_
    exact e_wi C hT hS h dX2_printed_14
theorem mX2_printed {l : Launch} {D : va_G} {dA : Nat → ClassId} {b : Nat} {t : TS} {x1 : Int32} {x2 : Int32} {x3 : Int32} {r : Int32} {t9 : TS} (h : T_printed t x1 x2 x3 = some (r, t9)) : Met l yX2_printed (ws_ yX2_printed cX2_printed 5 (some .int)) rmX2_printed (tPc D dA b t [.ref b, .int x1, .int x2, .int x3]) (tQ D dA b t9 (some (.int r))) 0 0 (ta b) := en_R (by decide +kernel) rfl (Nat.le_of_ble_eq_true rfl) (fun p e s m below meth c ls C hK hT hl => bX2_printed C hK t x1 x2 x3 _ [] hT tS.rf ls h hl)
set_option maxRecDepth 20000 in
abbrev rmX2_setThere : Room := { frames := 2, cells := 0, slots := 0, locals := 45 }
theorem hdX2_setThere : yX2_setThere.cls = RX2 ∧ yX2_setThere.cls ≠ "java/lang/invoke/MethodHandle" ∧ yX2_setThere.cls ≠ "java/lang/invoke/VarHandle" ∧ (parseMethodDescriptor yX2_setThere.desc).map (fun d => d.parameters.length) = some 1 := by decide +kernel
theorem bX2_setThere_70 {p : Program} {l : Launch} {e : Env} {s : State} {m : MethodId} {args : Array Value} {below : List Frame} {meth : Method} {c : Code} {D : va_G} {dA : Nat → ClassId} {b : Nat} {t : TS} {r : Int32} (C : cx p s m args meth c cX2_setThere RX2 4 (some .int)) (hK : kk D dA s) (hT : wd D (tw dA b t) s.heap) {k4 : Int32 → Int32 → Int32 → Option Int32} (hk4 : ∀ (x1 : Int32) (x2 : Int32) (x3 : Int32) (ls : Array Slot), k4 x1 x2 x3 = some r → lv_has ls 4 [(0, .ref b), (1, .int x1), (2, .int x2), (3, .int x3)] → W p l e rmX2_setThere s m args below meth c s.heap [] 0 0 (MQ below (rQi r) args s 0 0 nof) (F0 m 4 ls [])) : ∀ (x1 : Int32) (x2 : Int32) (x3 : Int32) (ls : Array Slot), T_setThere_70 k4 t x1 x2 x3 = some r → lv_has ls 4 [(0, .ref b), (1, .int x1), (2, .int x2), (3, .int x3)] → W p l e rmX2_setThere s m args below meth c s.heap [] 0 0 (MQ below (rQi r) args s 0 0 nof) (F0 m 70 ls []) := by
  obtain ⟨hx, hb, hr, hml, hown, hts, hlocks⟩ := id C
  intro x1 x2 x3 ls h hl
  unfold T_setThere_70 at h
  obtain ⟨v1, ev1⟩ : ∃ y : Int32, y = x3 + (1 : Int32) := ⟨_, rfl⟩
  replace h := lt1_sub ev1 h
  refine lv_iinc (v := v1) (lv' := [(3, .int v1), (0, .ref b), (1, .int x1), (2, .int x2)]) hx hb dX2_setThere_70 hl (k := 3) rfl (by rw [ev1]; rfl) (by decide) rfl (fun ls hl => ?_)
  refine lv_goto (tgt := 4) hx hb dX2_setThere_73 (by decide) ?_
  exact hk4 x1 x2 v1 ls h (lv_sub hl [1, 2, 3, 0] rfl)
theorem bX2_setThere_4 {p : Program} {l : Launch} {e : Env} {s : State} {m : MethodId} {args : Array Value} {below : List Frame} {meth : Method} {c : Code} {D : va_G} {dA : Nat → ClassId} {b : Nat} {t : TS} {r : Int32} (C : cx p s m args meth c cX2_setThere RX2 4 (some .int)) (hK : kk D dA s) (hT : wd D (tw dA b t) s.heap) : ∀ (n : Nat), ∀ (x1 : Int32) (x2 : Int32) (x3 : Int32) (ls : Array Slot), T_setThere_4 t n x1 x2 x3 = some r → lv_has ls 4 [(0, .ref b), (1, .int x1), (2, .int x2), (3, .int x3)] → W p l e rmX2_setThere s m args below meth c s.heap [] 0 0 (MQ below (rQi r) args s 0 0 nof) (F0 m 4 ls []) := by
  obtain ⟨hx, hb, hr, hml, hown, hts, hlocks⟩ := id C
  intro n
  induction n with
  | zero =>
    intro x1 x2 x3 ls h hl
    have h : none = some _ := h
    cases h
  | succ n ih =>
    intro x1 x2 x3 ls h hl
    rw [T_setThere_4] at h
    refine lv_iload_n hx hb dX2_setThere_4 rfl (lv_at hl 3 rfl) ?_
    refine lv_aload_n hx hb dX2_setThere_5 rfl (lv_at hl 0 rfl) ?_
    refine tg0 C hK hT dX2_setThere_6 ?_
    refine lv_bipush (v := 9) hx hb dX2_setThere_9 (by decide) ?_
    obtain ⟨hi, h⟩ := ck_some h
    refine tl0 C hK hT hi dX2_setThere_11 ?_
    refine lv_icmp_ge (tgt := 76) hx hb dX2_setThere_12 (by decide) (fun c => ?_) (fun c => ?_)
    · replace h := if_t c h
      refine lv_iload_n hx hb dX2_setThere_76 rfl (lv_at hl 2 rfl) ?_
      exact e_ri C h dX2_setThere_77
    · replace h := if_f c h
      refine lv_aload_n hx hb dX2_setThere_15 rfl (lv_at hl 0 rfl) ?_
      refine tg0 C hK hT dX2_setThere_16 ?_
      refine lv_sipush (v := 542) hx hb dX2_setThere_19 (by decide) ?_
      refine lv_iconst (v := 3) hx hb dX2_setThere_22 (by decide) ?_
      refine lv_iload_n hx hb dX2_setThere_23 rfl (lv_at hl 3 rfl) ?_
      refine lv_imul hx hb dX2_setThere_24 ?_
      refine lv_iadd hx hb dX2_setThere_25 ?_
      refine lv_iconst (v := 1) hx hb dX2_setThere_26 (by decide) ?_
      refine lv_iadd hx hb dX2_setThere_27 ?_
      obtain ⟨hi, h⟩ := ck_some h
      refine tl0 C hK hT hi dX2_setThere_28 ?_
      refine lv_iload_n hx hb dX2_setThere_29 rfl (lv_at hl 1 rfl) ?_
      refine lv_icmp_ne (tgt := 70) hx hb dX2_setThere_30 (by decide) (fun c => ?_) (fun c => ?_)
      · replace h := if_f c h
        exact bX2_setThere_70 C hK hT ih x1 x2 x3 ls h (lv_sub hl [0, 1, 2, 3] rfl)
      · replace h := if_t c h
        refine lv_aload_n hx hb dX2_setThere_33 rfl (lv_at hl 0 rfl) ?_
        refine tg0 C hK hT dX2_setThere_34 ?_
        refine lv_sipush (v := 542) hx hb dX2_setThere_37 (by decide) ?_
        refine lv_iconst (v := 3) hx hb dX2_setThere_40 (by decide) ?_
        refine lv_iload_n hx hb dX2_setThere_41 rfl (lv_at hl 3 rfl) ?_
        refine lv_imul hx hb dX2_setThere_42 ?_
        refine lv_iadd hx hb dX2_setThere_43 ?_
        refine lv_iconst (v := 2) hx hb dX2_setThere_44 (by decide) ?_
        refine lv_iadd hx hb dX2_setThere_45 ?_
        obtain ⟨hi, h⟩ := ck_some h
        refine tl0 C hK hT hi dX2_setThere_46 ?_
        refine lv_iconst (v := 1) hx hb dX2_setThere_47 (by decide) ?_
        refine lv_icmp_ne (tgt := 70) hx hb dX2_setThere_48 (by decide) (fun c => ?_) (fun c => ?_)
        · replace h := if_f c h
          exact bX2_setThere_70 C hK hT ih x1 x2 x3 ls h (lv_sub hl [0, 1, 2, 3] rfl)
        · replace h := if_t c h
          refine lv_iload_n hx hb dX2_setThere_51 rfl (lv_at hl 2 rfl) ?_
          refine lv_aload_n hx hb dX2_setThere_52 rfl (lv_at hl 0 rfl) ?_
          refine lv_aload_n hx hb dX2_setThere_53 rfl (lv_at hl 0 rfl) ?_
          refine tg0 C hK hT dX2_setThere_54 ?_
          refine lv_sipush (v := 542) hx hb dX2_setThere_57 (by decide) ?_
          refine lv_iconst (v := 3) hx hb dX2_setThere_60 (by decide) ?_
          refine lv_iload_n hx hb dX2_setThere_61 rfl (lv_at hl 3 rfl) ?_
          refine lv_imul hx hb dX2_setThere_62 ?_
          refine lv_iadd hx hb dX2_setThere_63 ?_
          obtain ⟨hi, h⟩ := ck_some h
          refine tl0 C hK hT hi dX2_setThere_64 ?_
          obtain ⟨v1, hv1, h⟩ := bd1_some h
          refine r_int (run_t (As := [.int (t.1 0 ((542 : Int32) + ((3 : Int32) * x3)).toNatClampNeg)]) (rest := [.int x2]) C hK hT (mX2_setOf hv1) q1912 q1914 qs114 q162 q1915 ⟨rfl, rfl⟩ hdX2_setOf ⟨Nat.le_of_ble_eq_true rfl, Nat.le_of_ble_eq_true rfl⟩ ⟨Nat.zero_le _, Nat.zero_le _⟩ rfl hl.1 rfl (Nat.le_of_ble_eq_true rfl) dX2_setThere_65) ?_
          refine lv_ior hx hb dX2_setThere_68 ?_
          refine lv_topi (fun v2 ev2 => ?_)
          replace h := lt1_sub ev2 h
          refine lv_istore_n (lv' := [(2, .int v2), (0, .ref b), (1, .int x1), (3, .int x3)]) hx hb dX2_setThere_69 rfl hl (by decide) rfl (fun ls hl => ?_)
          exact bX2_setThere_70 C hK hT ih x1 v2 x3 ls h (lv_sub hl [1, 2, 0, 3] rfl)
theorem bX2_setThere {p : Program} {l : Launch} {e : Env} {s : State} {m : MethodId} {args : Array Value} {below : List Frame} {meth : Method} {c : Code} {D : va_G} {dA : Nat → ClassId} {b : Nat} {t : TS} {r : Int32} (C : cx p s m args meth c cX2_setThere RX2 4 (some .int)) (hK : kk D dA s) (hT : wd D (tw dA b t) s.heap) : ∀ (x1 : Int32) (ls : Array Slot), T_setThere t x1 = some r → lv_has ls 4 [(0, .ref b), (1, .int x1)] → W p l e rmX2_setThere s m args below meth c s.heap [] 0 0 (MQ below (rQi r) args s 0 0 nof) (F0 m 0 ls []) := by
  obtain ⟨hx, hb, hr, hml, hown, hts, hlocks⟩ := id C
  intro x1 ls h hl
  unfold T_setThere at h
  refine lv_iconst (v := 0) hx hb dX2_setThere_0 (by decide) ?_
  refine lv_istore_n (lv' := [(2, .int (0 : Int32)), (0, .ref b), (1, .int x1)]) hx hb dX2_setThere_1 rfl hl (by decide) rfl (fun ls hl => ?_)
  refine lv_iconst (v := 0) hx hb dX2_setThere_2 (by decide) ?_
  refine lv_istore_n (lv' := [(3, .int (0 : Int32)), (2, .int (0 : Int32)), (0, .ref b), (1, .int x1)]) hx hb dX2_setThere_3 rfl hl (by decide) rfl (fun ls hl => ?_)
  exact bX2_setThere_4 C hK hT fu x1 (0 : Int32) (0 : Int32) ls h (lv_sub hl [2, 3, 1, 0] rfl)
theorem mX2_setThere {l : Launch} {D : va_G} {dA : Nat → ClassId} {b : Nat} {t : TS} {x1 : Int32} {r : Int32} (h : T_setThere t x1 = some r) : Met l yX2_setThere (ws_ yX2_setThere cX2_setThere 4 (some .int)) rmX2_setThere (tPc D dA b t [.ref b, .int x1]) (rQi r) 0 0 nof := en_R (by decide +kernel) rfl (Nat.le_of_ble_eq_true rfl) (fun p e s m below meth c ls C hK hT hl => bX2_setThere C hK hT x1 ls h hl)
set_option maxRecDepth 20000 in
abbrev rmX2_canBe : Room := { frames := 3, cells := 0, slots := 0, locals := 68 }
theorem hdX2_canBe : yX2_canBe.cls = RX2 ∧ yX2_canBe.cls ≠ "java/lang/invoke/MethodHandle" ∧ yX2_canBe.cls ≠ "java/lang/invoke/VarHandle" ∧ (parseMethodDescriptor yX2_canBe.desc).map (fun d => d.parameters.length) = some 3 := by decide +kernel
theorem bX2_canBe_135 {p : Program} {l : Launch} {e : Env} {s : State} {m : MethodId} {args : Array Value} {below : List Frame} {meth : Method} {c : Code} {D : va_G} {dA : Nat → ClassId} {b : Nat} {t : TS} {r : Int32} (C : cx p s m args meth c cX2_canBe RX2 9 (some .boolean)) (hK : kk D dA s) (hT : wd D (tw dA b t) s.heap) {k3 : Int32 → Int32 → Int32 → Int32 → Option Int32} (hk3 : ∀ (x1 : Int32) (x2 : Int32) (x3 : Int32) (x4 : Int32) (ls : Array Slot), k3 x1 x2 x3 x4 = some r → lv_has ls 9 [(0, .ref b), (1, .int x1), (2, .int x2), (3, .int x3), (4, .int x4)] → W p l e rmX2_canBe s m args below meth c s.heap [] 0 0 (MQ below (rQi r) args s 0 0 nof) (F0 m 3 ls [])) : ∀ (x1 : Int32) (x2 : Int32) (x3 : Int32) (x4 : Int32) (ls : Array Slot), T_canBe_135 k3 t x1 x2 x3 x4 = some r → lv_has ls 9 [(0, .ref b), (1, .int x1), (2, .int x2), (3, .int x3), (4, .int x4)] → W p l e rmX2_canBe s m args below meth c s.heap [] 0 0 (MQ below (rQi r) args s 0 0 nof) (F0 m 135 ls []) := by
  obtain ⟨hx, hb, hr, hml, hown, hts, hlocks⟩ := id C
  intro x1 x2 x3 x4 ls h hl
  unfold T_canBe_135 at h
  obtain ⟨v1, ev1⟩ : ∃ y : Int32, y = x4 + (1 : Int32) := ⟨_, rfl⟩
  replace h := lt1_sub ev1 h
  refine lv_iinc (v := v1) (lv' := [(4, .int v1), (0, .ref b), (1, .int x1), (2, .int x2), (3, .int x3)]) hx hb dX2_canBe_135 hl (k := 4) rfl (by rw [ev1]; rfl) (by decide) rfl (fun ls hl => ?_)
  refine lv_goto (tgt := 3) hx hb dX2_canBe_138 (by decide) ?_
  exact hk3 x1 x2 x3 v1 ls h (lv_sub hl [1, 2, 3, 4, 0] rfl)
theorem bX2_canBe_3 {p : Program} {l : Launch} {e : Env} {s : State} {m : MethodId} {args : Array Value} {below : List Frame} {meth : Method} {c : Code} {D : va_G} {dA : Nat → ClassId} {b : Nat} {t : TS} {r : Int32} (C : cx p s m args meth c cX2_canBe RX2 9 (some .boolean)) (hK : kk D dA s) (hT : wd D (tw dA b t) s.heap) : ∀ (n : Nat), ∀ (x1 : Int32) (x2 : Int32) (x3 : Int32) (x4 : Int32) (ls : Array Slot), T_canBe_3 t n x1 x2 x3 x4 = some r → lv_has ls 9 [(0, .ref b), (1, .int x1), (2, .int x2), (3, .int x3), (4, .int x4)] → W p l e rmX2_canBe s m args below meth c s.heap [] 0 0 (MQ below (rQi r) args s 0 0 nof) (F0 m 3 ls []) := by
  obtain ⟨hx, hb, hr, hml, hown, hts, hlocks⟩ := id C
  intro n
  induction n with
  | zero =>
    intro x1 x2 x3 x4 ls h hl
    have h : none = some _ := h
    cases h
  | succ n ih =>
    intro x1 x2 x3 x4 ls h hl
    rw [T_canBe_3] at h
    refine lv_iload hx hb dX2_canBe_3 (lv_at hl 4 rfl) ?_
    refine lv_aload_n hx hb dX2_canBe_5 rfl (lv_at hl 0 rfl) ?_
    refine tg0 C hK hT dX2_canBe_6 ?_
    refine lv_bipush (v := 9) hx hb dX2_canBe_9 (by decide) ?_
    obtain ⟨hi, h⟩ := ck_some h
    refine tl0 C hK hT hi dX2_canBe_11 ?_
    refine lv_icmp_ge (tgt := 141) hx hb dX2_canBe_12 (by decide) (fun c => ?_) (fun c => ?_)
    · replace h := if_t c h
      refine lv_iconst (v := 1) hx hb dX2_canBe_141 (by decide) ?_
      exact e_rz C (Or.inr rfl) h dX2_canBe_142
    · replace h := if_f c h
      refine lv_aload_n hx hb dX2_canBe_15 rfl (lv_at hl 0 rfl) ?_
      refine tg0 C hK hT dX2_canBe_16 ?_
      refine lv_sipush (v := 542) hx hb dX2_canBe_19 (by decide) ?_
      refine lv_iconst (v := 3) hx hb dX2_canBe_22 (by decide) ?_
      refine lv_iload hx hb dX2_canBe_23 (lv_at hl 4 rfl) ?_
      refine lv_imul hx hb dX2_canBe_25 ?_
      refine lv_iadd hx hb dX2_canBe_26 ?_
      refine lv_iconst (v := 1) hx hb dX2_canBe_27 (by decide) ?_
      refine lv_iadd hx hb dX2_canBe_28 ?_
      obtain ⟨hi, h⟩ := ck_some h
      refine tl0 C hK hT hi dX2_canBe_29 ?_
      refine lv_topi (fun v1 ev1 => ?_)
      replace h := lt1_sub ev1 h
      refine lv_istore (lv' := [(5, .int v1), (0, .ref b), (1, .int x1), (2, .int x2), (3, .int x3), (4, .int x4)]) hx hb dX2_canBe_30 hl (by decide) rfl (fun ls hl => ?_)
      refine lv_aload_n hx hb dX2_canBe_32 rfl (lv_at hl 1 rfl) ?_
      refine lv_aload_n hx hb dX2_canBe_33 rfl (lv_at hl 1 rfl) ?_
      refine tg0 C hK hT dX2_canBe_34 ?_
      refine lv_sipush (v := 542) hx hb dX2_canBe_37 (by decide) ?_
      refine lv_iconst (v := 3) hx hb dX2_canBe_40 (by decide) ?_
      refine lv_iload hx hb dX2_canBe_41 (lv_at hl 5 rfl) ?_
      refine lv_imul hx hb dX2_canBe_43 ?_
      refine lv_iadd hx hb dX2_canBe_44 ?_
      obtain ⟨hi, h⟩ := ck_some h
      refine tl0 C hK hT hi dX2_canBe_45 ?_
      obtain ⟨v2, hv2, h⟩ := bd1_some h
      refine r_int (run_t (As := [.int (t.1 0 ((542 : Int32) + ((3 : Int32) * x4)).toNatClampNeg)]) (rest := []) C hK hT (mX2_setOf hv2) q1912 q1914 qs114 q162 q1915 ⟨rfl, rfl⟩ hdX2_setOf ⟨Nat.le_of_ble_eq_true rfl, Nat.le_of_ble_eq_true rfl⟩ ⟨Nat.zero_le _, Nat.zero_le _⟩ rfl hl.1 rfl (Nat.le_of_ble_eq_true rfl) dX2_canBe_46) ?_
      refine lv_istore (lv' := [(6, .int v2), (5, .int v1), (0, .ref b), (1, .int x1), (2, .int x2), (3, .int x3), (4, .int x4)]) hx hb dX2_canBe_49 hl (by decide) rfl (fun ls hl => ?_)
      refine lv_iload hx hb dX2_canBe_51 (lv_at hl 1 rfl) ?_
      refine lv_iload_n hx hb dX2_canBe_53 rfl (lv_at hl 4 rfl) ?_
      refine lv_iload_n hx hb dX2_canBe_54 rfl (lv_at hl 5 rfl) ?_
      obtain ⟨v3, hv3, h⟩ := bd1_some h
      refine r_int (run_s (As := [.int v1, .int x2, .int x3]) (rest := []) C (mX2_isIn hv3) q1656 q1657 q162 q1658 ⟨rfl, rfl⟩ hdX2_isIn ⟨Nat.le_of_ble_eq_true rfl, Nat.le_of_ble_eq_true rfl⟩ ⟨Nat.zero_le _, Nat.zero_le _⟩ rfl hl.1 rfl (Nat.le_of_ble_eq_true rfl) dX2_canBe_55) ?_
      refine lv_istore (lv' := [(7, .int v3), (6, .int v2), (5, .int v1), (0, .ref b), (1, .int x1), (2, .int x2), (3, .int x3), (4, .int x4)]) hx hb dX2_canBe_58 hl (by decide) rfl (fun ls hl => ?_)
      refine lv_aload_n hx hb dX2_canBe_60 rfl (lv_at hl 3 rfl) ?_
      refine tg0 C hK hT dX2_canBe_61 ?_
      refine lv_sipush (v := 542) hx hb dX2_canBe_64 (by decide) ?_
      refine lv_iconst (v := 3) hx hb dX2_canBe_67 (by decide) ?_
      refine lv_iload hx hb dX2_canBe_68 (lv_at hl 7 rfl) ?_
      refine lv_imul hx hb dX2_canBe_70 ?_
      refine lv_iadd hx hb dX2_canBe_71 ?_
      refine lv_iconst (v := 2) hx hb dX2_canBe_72 (by decide) ?_
      refine lv_iadd hx hb dX2_canBe_73 ?_
      obtain ⟨hi, h⟩ := ck_some h
      refine tl0 C hK hT hi dX2_canBe_74 ?_
      refine lv_iconst (v := 1) hx hb dX2_canBe_75 (by decide) ?_
      refine lv_icmp_ne (tgt := 95) hx hb dX2_canBe_76 (by decide) (fun c => ?_) (fun c => ?_)
      · replace h := if_f c h
        refine lv_iload hx hb dX2_canBe_95 (lv_at hl 1 rfl) ?_
        refine lv_aload_n hx hb dX2_canBe_97 rfl (lv_at hl 3 rfl) ?_
        refine lv_iload hx hb dX2_canBe_98 (lv_at hl 2 rfl) ?_
        obtain ⟨v4, hv4, h⟩ := bd1_some h
        refine r_int (run_t (As := [.int v1]) (rest := [.int v2]) C hK hT (mX2_setThere hv4) q2204 q2206 qs153 q162 q2207 ⟨rfl, rfl⟩ hdX2_setThere ⟨Nat.le_of_ble_eq_true rfl, Nat.le_of_ble_eq_true rfl⟩ ⟨Nat.zero_le _, Nat.zero_le _⟩ rfl hl.1 rfl (Nat.le_of_ble_eq_true rfl) dX2_canBe_100) ?_
        refine lv_iconst (v := -1) hx hb dX2_canBe_103 (by decide) ?_
        refine lv_ixor hx hb dX2_canBe_104 ?_
        refine lv_iand hx hb dX2_canBe_105 ?_
        refine lv_iconst (v := 1) hx hb dX2_canBe_106 (by decide) ?_
        refine lv_iload_n hx hb dX2_canBe_107 rfl (lv_at hl 4 rfl) ?_
        refine lv_ishl hx hb dX2_canBe_108 ?_
        refine lv_iconst (v := -1) hx hb dX2_canBe_109 (by decide) ?_
        refine lv_ixor hx hb dX2_canBe_110 ?_
        refine lv_iand hx hb dX2_canBe_111 ?_
        refine lv_topi (fun v5 ev5 => ?_)
        replace h := lt1_sub ev5 h
        refine lv_istore (lv' := [(8, .int v5), (7, .int v3), (6, .int v2), (5, .int v1), (0, .ref b), (1, .int x1), (2, .int x2), (3, .int x3), (4, .int x4)]) hx hb dX2_canBe_112 hl (by decide) rfl (fun ls hl => ?_)
        refine lv_iload hx hb dX2_canBe_114 (lv_at hl 0 rfl) ?_
        refine lv_if_ne (tgt := 135) hx hb dX2_canBe_116 (by decide) (fun c => ?_) (fun c => ?_)
        · replace h := if_f c h
          exact bX2_canBe_135 C hK hT ih x1 x2 x3 x4 ls h (lv_sub hl [4, 5, 6, 7, 8] rfl)
        · replace h := if_t c h
          refine lv_iload hx hb dX2_canBe_119 (lv_at hl 1 rfl) ?_
          refine lv_if_eq (tgt := 133) hx hb dX2_canBe_121 (by decide) (fun c => ?_) (fun c => ?_)
          · replace h := if_t c h
            refine lv_iconst (v := 0) hx hb dX2_canBe_133 (by decide) ?_
            exact e_rz C (Or.inl rfl) h dX2_canBe_134
          · replace h := if_f c h
            refine lv_iload hx hb dX2_canBe_124 (lv_at hl 2 rfl) ?_
            refine lv_iload_n hx hb dX2_canBe_126 rfl (lv_at hl 5 rfl) ?_
            obtain ⟨v6, hv6, h⟩ := bd1_some h
            refine r_int (run_s (As := [.int v2, .int x1]) (rest := []) C (mX2_has hv6) q1659 q1660 q162 q1661 ⟨rfl, rfl⟩ hdX2_has ⟨Nat.le_of_ble_eq_true rfl, Nat.le_of_ble_eq_true rfl⟩ ⟨Nat.zero_le _, Nat.zero_le _⟩ rfl hl.1 rfl (Nat.le_of_ble_eq_true rfl) dX2_canBe_127) ?_
            refine lv_if_ne (tgt := 135) hx hb dX2_canBe_130 (by decide) (fun c => ?_) (fun c => ?_)
            · replace h := if_f c h
              exact bX2_canBe_135 C hK hT ih x1 x2 x3 x4 ls h (lv_sub hl [4, 5, 6, 7, 8] rfl)
            · replace h := if_t c h
              refine lv_iconst (v := 0) hx hb dX2_canBe_133 (by decide) ?_
              exact e_rz C (Or.inl rfl) h dX2_canBe_134
      · replace h := if_t c h
        refine lv_iload hx hb dX2_canBe_79 (lv_at hl 0 rfl) ?_
        refine lv_if_eq (tgt := 135) hx hb dX2_canBe_81 (by decide) (fun c => ?_) (fun c => ?_)
        · replace h := if_t c h
          exact bX2_canBe_135 C hK hT ih x1 x2 x3 x4 ls h (lv_sub hl [3, 4, 5, 6, 7] rfl)
        · replace h := if_f c h
          refine lv_iload hx hb dX2_canBe_84 (lv_at hl 1 rfl) ?_
          refine lv_iload_n hx hb dX2_canBe_86 rfl (lv_at hl 4 rfl) ?_
          obtain ⟨v7, hv7, h⟩ := bd1_some h
          refine r_int (run_s (As := [.int v2, .int x1]) (rest := []) C (mX2_has hv7) q1659 q1660 q162 q1661 ⟨rfl, rfl⟩ hdX2_has ⟨Nat.le_of_ble_eq_true rfl, Nat.le_of_ble_eq_true rfl⟩ ⟨Nat.zero_le _, Nat.zero_le _⟩ rfl hl.1 rfl (Nat.le_of_ble_eq_true rfl) dX2_canBe_87) ?_
          refine lv_if_eq (tgt := 135) hx hb dX2_canBe_90 (by decide) (fun c => ?_) (fun c => ?_)
          · replace h := if_t c h
            exact bX2_canBe_135 C hK hT ih x1 x2 x3 x4 ls h (lv_sub hl [3, 4, 5, 6, 7] rfl)
          · replace h := if_f c h
            refine lv_iconst (v := 0) hx hb dX2_canBe_93 (by decide) ?_
            exact e_rz C (Or.inl rfl) h dX2_canBe_94
theorem bX2_canBe {p : Program} {l : Launch} {e : Env} {s : State} {m : MethodId} {args : Array Value} {below : List Frame} {meth : Method} {c : Code} {D : va_G} {dA : Nat → ClassId} {b : Nat} {t : TS} {r : Int32} (C : cx p s m args meth c cX2_canBe RX2 9 (some .boolean)) (hK : kk D dA s) (hT : wd D (tw dA b t) s.heap) : ∀ (x1 : Int32) (x2 : Int32) (x3 : Int32) (ls : Array Slot), T_canBe t x1 x2 x3 = some r → lv_has ls 9 [(0, .ref b), (1, .int x1), (2, .int x2), (3, .int x3)] → W p l e rmX2_canBe s m args below meth c s.heap [] 0 0 (MQ below (rQi r) args s 0 0 nof) (F0 m 0 ls []) := by
  obtain ⟨hx, hb, hr, hml, hown, hts, hlocks⟩ := id C
  intro x1 x2 x3 ls h hl
  unfold T_canBe at h
  refine lv_iconst (v := 0) hx hb dX2_canBe_0 (by decide) ?_
  refine lv_istore (lv' := [(4, .int (0 : Int32)), (0, .ref b), (1, .int x1), (2, .int x2), (3, .int x3)]) hx hb dX2_canBe_1 hl (by decide) rfl (fun ls hl => ?_)
  exact bX2_canBe_3 C hK hT fu x1 x2 x3 (0 : Int32) ls h (lv_sub hl [1, 2, 3, 4, 0] rfl)
theorem mX2_canBe {l : Launch} {D : va_G} {dA : Nat → ClassId} {b : Nat} {t : TS} {x1 : Int32} {x2 : Int32} {x3 : Int32} {r : Int32} (h : T_canBe t x1 x2 x3 = some r) : Met l yX2_canBe (ws_ yX2_canBe cX2_canBe 9 (some .boolean)) rmX2_canBe (tPc D dA b t [.ref b, .int x1, .int x2, .int x3]) (rQi r) 0 0 nof := en_R (by decide +kernel) rfl (Nat.le_of_ble_eq_true rfl) (fun p e s m below meth c ls C hK hT hl => bX2_canBe C hK hT x1 x2 x3 ls h hl)
set_option maxRecDepth 20000 in
abbrev rmX2_spells : Room := { frames := 4, cells := 0, slots := 0, locals := 96 }
theorem hdX2_spells : yX2_spells.cls = RX2 ∧ yX2_spells.cls ≠ "java/lang/invoke/MethodHandle" ∧ yX2_spells.cls ≠ "java/lang/invoke/VarHandle" ∧ (parseMethodDescriptor yX2_spells.desc).map (fun d => d.parameters.length) = some 2 := by decide +kernel
theorem bX2_spells_89 {p : Program} {l : Launch} {e : Env} {s : State} {m : MethodId} {args : Array Value} {below : List Frame} {meth : Method} {c : Code} {D : va_G} {dA : Nat → ClassId} {b : Nat} {t : TS} {r : Int32} (C : cx p s m args meth c cX2_spells RX2 6 (some .int)) (hK : kk D dA s) (hT : wd D (tw dA b t) s.heap) {k50 : Int32 → Int32 → Int32 → Int32 → Int32 → Option Int32} (hk50 : ∀ (x1 : Int32) (x2 : Int32) (x3 : Int32) (x4 : Int32) (x5 : Int32) (ls : Array Slot), k50 x1 x2 x3 x4 x5 = some r → lv_has ls 6 [(0, .ref b), (1, .int x1), (2, .int x2), (3, .int x3), (4, .int x4), (5, .int x5)] → W p l e rmX2_spells s m args below meth c s.heap [] 0 0 (MQ below (rQi r) args s 0 0 nof) (F0 m 50 ls [])) : ∀ (x1 : Int32) (x2 : Int32) (x3 : Int32) (x4 : Int32) (x5 : Int32) (ls : Array Slot), T_spells_89 k50 t x1 x2 x3 x4 x5 = some r → lv_has ls 6 [(0, .ref b), (1, .int x1), (2, .int x2), (3, .int x3), (4, .int x4), (5, .int x5)] → W p l e rmX2_spells s m args below meth c s.heap [] 0 0 (MQ below (rQi r) args s 0 0 nof) (F0 m 89 ls []) := by
  obtain ⟨hx, hb, hr, hml, hown, hts, hlocks⟩ := id C
  intro x1 x2 x3 x4 x5 ls h hl
  unfold T_spells_89 at h
  obtain ⟨v1, ev1⟩ : ∃ y : Int32, y = x5 + (1 : Int32) := ⟨_, rfl⟩
  replace h := lt1_sub ev1 h
  refine lv_iinc (v := v1) (lv' := [(5, .int v1), (0, .ref b), (1, .int x1), (2, .int x2), (3, .int x3), (4, .int x4)]) hx hb dX2_spells_89 hl (k := 5) rfl (by rw [ev1]; rfl) (by decide) rfl (fun ls hl => ?_)
  refine lv_goto (tgt := 50) hx hb dX2_spells_92 (by decide) ?_
  exact hk50 x1 x2 x3 x4 v1 ls h (lv_sub hl [1, 2, 3, 4, 5, 0] rfl)
theorem bX2_spells_50 {p : Program} {l : Launch} {e : Env} {s : State} {m : MethodId} {args : Array Value} {below : List Frame} {meth : Method} {c : Code} {D : va_G} {dA : Nat → ClassId} {b : Nat} {t : TS} {r : Int32} (C : cx p s m args meth c cX2_spells RX2 6 (some .int)) (hK : kk D dA s) (hT : wd D (tw dA b t) s.heap) {k39 : Int32 → Int32 → Int32 → Int32 → Option Int32} (hk39 : ∀ (x1 : Int32) (x2 : Int32) (x3 : Int32) (x4 : Int32) (ls : Array Slot), k39 x1 x2 x3 x4 = some r → lv_has ls 6 [(0, .ref b), (1, .int x1), (2, .int x2), (3, .int x3), (4, .int x4)] → W p l e rmX2_spells s m args below meth c s.heap [] 0 0 (MQ below (rQi r) args s 0 0 nof) (F0 m 39 ls [])) : ∀ (n : Nat), ∀ (x1 : Int32) (x2 : Int32) (x3 : Int32) (x4 : Int32) (x5 : Int32) (ls : Array Slot), T_spells_50 k39 t n x1 x2 x3 x4 x5 = some r → lv_has ls 6 [(0, .ref b), (1, .int x1), (2, .int x2), (3, .int x3), (4, .int x4), (5, .int x5)] → W p l e rmX2_spells s m args below meth c s.heap [] 0 0 (MQ below (rQi r) args s 0 0 nof) (F0 m 50 ls []) := by
  obtain ⟨hx, hb, hr, hml, hown, hts, hlocks⟩ := id C
  intro n
  induction n with
  | zero =>
    intro x1 x2 x3 x4 x5 ls h hl
    have h : none = some _ := h
    cases h
  | succ n ih =>
    intro x1 x2 x3 x4 x5 ls h hl
    rw [T_spells_50] at h
    refine lv_iload hx hb dX2_spells_50 (lv_at hl 5 rfl) ?_
    refine lv_bipush (v := 31) hx hb dX2_spells_52 (by decide) ?_
    refine lv_icmp_ge (tgt := 95) hx hb dX2_spells_54 (by decide) (fun c => ?_) (fun c => ?_)
    · replace h := if_t c h
      obtain ⟨v1, ev1⟩ : ∃ y : Int32, y = x4 + (1 : Int32) := ⟨_, rfl⟩
      replace h := lt1_sub ev1 h
      refine lv_iinc (v := v1) (lv' := [(4, .int v1), (0, .ref b), (1, .int x1), (2, .int x2), (3, .int x3), (5, .int x5)]) hx hb dX2_spells_95 hl (k := 4) rfl (by rw [ev1]; rfl) (by decide) rfl (fun ls hl => ?_)
      refine lv_goto (tgt := 39) hx hb dX2_spells_98 (by decide) ?_
      exact hk39 x1 x2 x3 v1 ls h (lv_sub hl [1, 2, 3, 4, 0] rfl)
    · replace h := if_f c h
      refine lv_aload_n hx hb dX2_spells_57 rfl (lv_at hl 0 rfl) ?_
      refine lv_iload_n hx hb dX2_spells_58 rfl (lv_at hl 1 rfl) ?_
      refine lv_iload hx hb dX2_spells_59 (lv_at hl 4 rfl) ?_
      refine lv_iload hx hb dX2_spells_61 (lv_at hl 5 rfl) ?_
      obtain ⟨v2, hv2, h⟩ := bd1_some h
      refine r_int (run_t (As := [.int x1, .int x4, .int x5]) (rest := []) C hK hT (mX2_canBe hv2) q2200 q2202 qs152 q162 q2203 ⟨rfl, rfl⟩ hdX2_canBe ⟨Nat.le_of_ble_eq_true rfl, Nat.le_of_ble_eq_true rfl⟩ ⟨Nat.zero_le _, Nat.zero_le _⟩ rfl hl.1 rfl (Nat.le_of_ble_eq_true rfl) dX2_spells_63) ?_
      refine lv_if_ne (tgt := 72) hx hb dX2_spells_66 (by decide) (fun c => ?_) (fun c => ?_)
      · replace h := if_f c h
        refine lv_iload_n hx hb dX2_spells_72 rfl (lv_at hl 3 rfl) ?_
        refine lv_iload_n hx hb dX2_spells_73 rfl (lv_at hl 2 rfl) ?_
        refine lv_icmp_ne (tgt := 86) hx hb dX2_spells_74 (by decide) (fun c => ?_) (fun c => ?_)
        · replace h := if_f c h
          obtain ⟨v3, ev3⟩ : ∃ y : Int32, y = x3 + (1 : Int32) := ⟨_, rfl⟩
          replace h := lt1_sub ev3 h
          refine lv_iinc (v := v3) (lv' := [(3, .int v3), (0, .ref b), (1, .int x1), (2, .int x2), (4, .int x4), (5, .int x5)]) hx hb dX2_spells_86 hl (k := 3) rfl (by rw [ev3]; rfl) (by decide) rfl (fun ls hl => ?_)
          exact bX2_spells_89 C hK hT ih x1 x2 v3 x4 x5 ls h (lv_sub hl [1, 2, 3, 0, 4, 5] rfl)
        · replace h := if_t c h
          refine lv_bipush (v := 31) hx hb dX2_spells_77 (by decide) ?_
          refine lv_iload hx hb dX2_spells_79 (lv_at hl 4 rfl) ?_
          refine lv_imul hx hb dX2_spells_81 ?_
          refine lv_iload hx hb dX2_spells_82 (lv_at hl 5 rfl) ?_
          refine lv_iadd hx hb dX2_spells_84 ?_
          exact e_ri C h dX2_spells_85
      · replace h := if_t c h
        refine lv_goto (tgt := 89) hx hb dX2_spells_69 (by decide) ?_
        exact bX2_spells_89 C hK hT ih x1 x2 x3 x4 x5 ls h (lv_sub hl [0, 1, 2, 3, 4, 5] rfl)
theorem bX2_spells_39 {p : Program} {l : Launch} {e : Env} {s : State} {m : MethodId} {args : Array Value} {below : List Frame} {meth : Method} {c : Code} {D : va_G} {dA : Nat → ClassId} {b : Nat} {t : TS} {r : Int32} (C : cx p s m args meth c cX2_spells RX2 6 (some .int)) (hK : kk D dA s) (hT : wd D (tw dA b t) s.heap) : ∀ (n : Nat), ∀ (x1 : Int32) (x2 : Int32) (x3 : Int32) (x4 : Int32) (ls : Array Slot), T_spells_39 t n x1 x2 x3 x4 = some r → lv_has ls 6 [(0, .ref b), (1, .int x1), (2, .int x2), (3, .int x3), (4, .int x4)] → W p l e rmX2_spells s m args below meth c s.heap [] 0 0 (MQ below (rQi r) args s 0 0 nof) (F0 m 39 ls []) := by
  obtain ⟨hx, hb, hr, hml, hown, hts, hlocks⟩ := id C
  intro n
  induction n with
  | zero =>
    intro x1 x2 x3 x4 ls h hl
    have h : none = some _ := h
    cases h
  | succ n ih =>
    intro x1 x2 x3 x4 ls h hl
    rw [T_spells_39] at h
    refine lv_iload hx hb dX2_spells_39 (lv_at hl 4 rfl) ?_
    refine lv_bipush (v := 31) hx hb dX2_spells_41 (by decide) ?_
    refine lv_icmp_ge (tgt := 101) hx hb dX2_spells_43 (by decide) (fun c => ?_) (fun c => ?_)
    · replace h := if_t c h
      refine lv_iload_n hx hb dX2_spells_101 rfl (lv_at hl 2 rfl) ?_
      refine lv_iconst (v := -1) hx hb dX2_spells_102 (by decide) ?_
      refine lv_icmp_ne (tgt := 110) hx hb dX2_spells_103 (by decide) (fun c => ?_) (fun c => ?_)
      · replace h := if_f c h
        refine lv_bipush (v := -2) hx hb dX2_spells_110 (by decide) ?_
        exact e_ri C h dX2_spells_112
      · replace h := if_t c h
        refine lv_iload_n hx hb dX2_spells_106 rfl (lv_at hl 3 rfl) ?_
        refine lv_goto (tgt := 112) hx hb dX2_spells_107 (by decide) ?_
        exact e_ri C h dX2_spells_112
    · replace h := if_f c h
      refine lv_iload hx hb dX2_spells_46 (lv_at hl 4 rfl) ?_
      refine lv_istore (lv' := [(5, .int x4), (0, .ref b), (1, .int x1), (2, .int x2), (3, .int x3), (4, .int x4)]) hx hb dX2_spells_48 hl (by decide) rfl (fun ls hl => ?_)
      exact bX2_spells_50 C hK hT ih fu x1 x2 x3 x4 x4 ls h (lv_sub hl [1, 2, 3, 4, 5, 0] rfl)
theorem bX2_spells_36 {p : Program} {l : Launch} {e : Env} {s : State} {m : MethodId} {args : Array Value} {below : List Frame} {meth : Method} {c : Code} {D : va_G} {dA : Nat → ClassId} {b : Nat} {t : TS} {r : Int32} (C : cx p s m args meth c cX2_spells RX2 6 (some .int)) (hK : kk D dA s) (hT : wd D (tw dA b t) s.heap) : ∀ (x1 : Int32) (x2 : Int32) (x3 : Int32) (ls : Array Slot), T_spells_36 t x1 x2 x3 = some r → lv_has ls 6 [(0, .ref b), (1, .int x1), (2, .int x2), (3, .int x3)] → W p l e rmX2_spells s m args below meth c s.heap [] 0 0 (MQ below (rQi r) args s 0 0 nof) (F0 m 36 ls []) := by
  obtain ⟨hx, hb, hr, hml, hown, hts, hlocks⟩ := id C
  intro x1 x2 x3 ls h hl
  unfold T_spells_36 at h
  refine lv_iconst (v := 0) hx hb dX2_spells_36 (by decide) ?_
  refine lv_istore (lv' := [(4, .int (0 : Int32)), (0, .ref b), (1, .int x1), (2, .int x2), (3, .int x3)]) hx hb dX2_spells_37 hl (by decide) rfl (fun ls hl => ?_)
  exact bX2_spells_39 C hK hT fu x1 x2 x3 (0 : Int32) ls h (lv_sub hl [1, 2, 3, 4, 0] rfl)
theorem bX2_spells {p : Program} {l : Launch} {e : Env} {s : State} {m : MethodId} {args : Array Value} {below : List Frame} {meth : Method} {c : Code} {D : va_G} {dA : Nat → ClassId} {b : Nat} {t : TS} {r : Int32} (C : cx p s m args meth c cX2_spells RX2 6 (some .int)) (hK : kk D dA s) (hT : wd D (tw dA b t) s.heap) : ∀ (x1 : Int32) (x2 : Int32) (ls : Array Slot), T_spells t x1 x2 = some r → lv_has ls 6 [(0, .ref b), (1, .int x1), (2, .int x2)] → W p l e rmX2_spells s m args below meth c s.heap [] 0 0 (MQ below (rQi r) args s 0 0 nof) (F0 m 0 ls []) := by
  obtain ⟨hx, hb, hr, hml, hown, hts, hlocks⟩ := id C
  intro x1 x2 ls h hl
  unfold T_spells at h
  refine lv_iload_n hx hb dX2_spells_0 rfl (lv_at hl 1 rfl) ?_
  obtain ⟨v1, hv1, h⟩ := bd1_some h
  refine r_int (run_s (As := [.int x1]) (rest := []) C (mX2_isLetter0 hv1) q1653 q1654 q162 q1655 ⟨rfl, rfl⟩ hdX2_isLetter0 ⟨Nat.le_of_ble_eq_true rfl, Nat.le_of_ble_eq_true rfl⟩ ⟨Nat.zero_le _, Nat.zero_le _⟩ rfl hl.1 rfl (Nat.le_of_ble_eq_true rfl) dX2_spells_1) ?_
  refine lv_if_eq (tgt := 12) hx hb dX2_spells_4 (by decide) (fun c => ?_) (fun c => ?_)
  · replace h := if_t c h
    refine lv_bipush (v := -2) hx hb dX2_spells_12 (by decide) ?_
    exact e_ri C h dX2_spells_14
  · replace h := if_f c h
    refine lv_iload_n hx hb dX2_spells_7 rfl (lv_at hl 2 rfl) ?_
    refine lv_iconst (v := -1) hx hb dX2_spells_8 (by decide) ?_
    refine lv_icmp_ge (tgt := 15) hx hb dX2_spells_9 (by decide) (fun c => ?_) (fun c => ?_)
    · replace h := if_t c h
      refine lv_iconst (v := 0) hx hb dX2_spells_15 (by decide) ?_
      refine lv_istore_n (lv' := [(3, .int (0 : Int32)), (0, .ref b), (1, .int x1), (2, .int x2)]) hx hb dX2_spells_16 rfl hl (by decide) rfl (fun ls hl => ?_)
      refine lv_aload_n hx hb dX2_spells_17 rfl (lv_at hl 1 rfl) ?_
      refine lv_iload_n hx hb dX2_spells_18 rfl (lv_at hl 2 rfl) ?_
      refine lv_iconst (v := 1) hx hb dX2_spells_19 (by decide) ?_
      refine lv_iconst (v := 0) hx hb dX2_spells_20 (by decide) ?_
      obtain ⟨v2, hv2, h⟩ := bd1_some h
      refine r_int (run_t (As := [.int x1, .int (1 : Int32), .int (0 : Int32)]) (rest := []) C hK hT (mX2_canBe hv2) q2200 q2202 qs152 q162 q2203 ⟨rfl, rfl⟩ hdX2_canBe ⟨Nat.le_of_ble_eq_true rfl, Nat.le_of_ble_eq_true rfl⟩ ⟨Nat.zero_le _, Nat.zero_le _⟩ rfl hl.1 rfl (Nat.le_of_ble_eq_true rfl) dX2_spells_21) ?_
      refine lv_if_eq (tgt := 36) hx hb dX2_spells_24 (by decide) (fun c => ?_) (fun c => ?_)
      · replace h := if_t c h
        exact bX2_spells_36 C hK hT x1 x2 (0 : Int32) ls h (lv_sub hl [1, 2, 3, 0] rfl)
      · replace h := if_f c h
        refine lv_iload_n hx hb dX2_spells_27 rfl (lv_at hl 3 rfl) ?_
        refine lv_if_ne (tgt := 33) hx hb dX2_spells_28 (by decide) (fun c => ?_) (fun c => ?_)
        · replace h := if_f c h
          obtain ⟨v3, ev3⟩ : ∃ y : Int32, y = (0 : Int32) + (1 : Int32) := ⟨_, rfl⟩
          replace h := lt1_sub ev3 h
          refine lv_iinc (v := v3) (lv' := [(3, .int v3), (0, .ref b), (1, .int x1), (2, .int x2)]) hx hb dX2_spells_33 hl (k := 0) rfl (by rw [ev3]; rfl) (by decide) rfl (fun ls hl => ?_)
          exact bX2_spells_36 C hK hT x1 x2 v3 ls h (lv_sub hl [1, 2, 3, 0] rfl)
        · replace h := if_t c h
          refine lv_iconst (v := -1) hx hb dX2_spells_31 (by decide) ?_
          exact e_ri C h dX2_spells_32
    · replace h := if_f c h
      refine lv_bipush (v := -2) hx hb dX2_spells_12 (by decide) ?_
      exact e_ri C h dX2_spells_14
theorem mX2_spells {l : Launch} {D : va_G} {dA : Nat → ClassId} {b : Nat} {t : TS} {x1 : Int32} {x2 : Int32} {r : Int32} (h : T_spells t x1 x2 = some r) : Met l yX2_spells (ws_ yX2_spells cX2_spells 6 (some .int)) rmX2_spells (tPc D dA b t [.ref b, .int x1, .int x2]) (rQi r) 0 0 nof := en_R (by decide +kernel) rfl (Nat.le_of_ble_eq_true rfl) (fun p e s m below meth c ls C hK hT hl => bX2_spells C hK hT x1 x2 ls h hl)
set_option maxRecDepth 20000 in
abbrev rmX2_brokenOf : Room := { frames := 3, cells := 0, slots := 0, locals := 64 }
theorem hdX2_brokenOf : yX2_brokenOf.cls = RX2 ∧ yX2_brokenOf.cls ≠ "java/lang/invoke/MethodHandle" ∧ yX2_brokenOf.cls ≠ "java/lang/invoke/VarHandle" ∧ (parseMethodDescriptor yX2_brokenOf.desc).map (fun d => d.parameters.length) = some 1 := by decide +kernel
theorem bX2_brokenOf_51 {p : Program} {l : Launch} {e : Env} {s : State} {m : MethodId} {args : Array Value} {below : List Frame} {meth : Method} {c : Code} {D : va_G} {dA : Nat → ClassId} {b : Nat} {t : TS} {r : Int32} (C : cx p s m args meth c cX2_brokenOf RX2 5 (some .int)) (hK : kk D dA s) (hT : wd D (tw dA b t) s.heap) {k14 : Int32 → Int32 → Int32 → Option Int32} (hk14 : ∀ (x2 : Int32) (x3 : Int32) (x4 : Int32) (ls : Array Slot), k14 x2 x3 x4 = some r → lv_has ls 5 [(0, .ref b), (2, .int x2), (3, .int x3), (4, .int x4)] → W p l e rmX2_brokenOf s m args below meth c s.heap [] 0 0 (MQ below (rQi r) args s 0 0 nof) (F0 m 14 ls [])) : ∀ (x2 : Int32) (x4 : Int32) (y0 : Int32) (y1 : Int32) (ls : Array Slot), T_brokenOf_51 k14 t x2 x4 y0 y1 = some r → lv_has ls 5 [(0, .ref b), (2, .int x2), (4, .int x4)] → W p l e rmX2_brokenOf s m args below meth c s.heap [] 0 0 (MQ below (rQi r) args s 0 0 nof) (F0 m 51 ls [.int y1, .int y0]) := by
  obtain ⟨hx, hb, hr, hml, hown, hts, hlocks⟩ := id C
  intro x2 x4 y0 y1 ls h hl
  unfold T_brokenOf_51 at h
  refine lv_iadd hx hb dX2_brokenOf_51 ?_
  refine lv_topi (fun v1 ev1 => ?_)
  replace h := lt1_sub ev1 h
  refine lv_istore_n (lv' := [(3, .int v1), (0, .ref b), (2, .int x2), (4, .int x4)]) hx hb dX2_brokenOf_52 rfl hl (by decide) rfl (fun ls hl => ?_)
  obtain ⟨v2, ev2⟩ : ∃ y : Int32, y = x4 + (1 : Int32) := ⟨_, rfl⟩
  replace h := lt1_sub ev2 h
  refine lv_iinc (v := v2) (lv' := [(4, .int v2), (3, .int v1), (0, .ref b), (2, .int x2)]) hx hb dX2_brokenOf_53 hl (k := 3) rfl (by rw [ev2]; rfl) (by decide) rfl (fun ls hl => ?_)
  refine lv_goto (tgt := 14) hx hb dX2_brokenOf_56 (by decide) ?_
  exact hk14 x2 v1 v2 ls h (lv_sub hl [2, 3, 1, 0] rfl)
theorem bX2_brokenOf_14 {p : Program} {l : Launch} {e : Env} {s : State} {m : MethodId} {args : Array Value} {below : List Frame} {meth : Method} {c : Code} {D : va_G} {dA : Nat → ClassId} {b : Nat} {t : TS} {r : Int32} (C : cx p s m args meth c cX2_brokenOf RX2 5 (some .int)) (hK : kk D dA s) (hT : wd D (tw dA b t) s.heap) : ∀ (n : Nat), ∀ (x2 : Int32) (x3 : Int32) (x4 : Int32) (ls : Array Slot), T_brokenOf_14 t n x2 x3 x4 = some r → lv_has ls 5 [(0, .ref b), (2, .int x2), (3, .int x3), (4, .int x4)] → W p l e rmX2_brokenOf s m args below meth c s.heap [] 0 0 (MQ below (rQi r) args s 0 0 nof) (F0 m 14 ls []) := by
  obtain ⟨hx, hb, hr, hml, hown, hts, hlocks⟩ := id C
  intro n
  induction n with
  | zero =>
    intro x2 x3 x4 ls h hl
    have h : none = some _ := h
    cases h
  | succ n ih =>
    intro x2 x3 x4 ls h hl
    rw [T_brokenOf_14] at h
    refine lv_iload hx hb dX2_brokenOf_14 (lv_at hl 3 rfl) ?_
    refine lv_aload_n hx hb dX2_brokenOf_16 rfl (lv_at hl 0 rfl) ?_
    refine tg0 C hK hT dX2_brokenOf_17 ?_
    refine lv_iload_n hx hb dX2_brokenOf_20 rfl (lv_at hl 1 rfl) ?_
    refine lv_iconst (v := 2) hx hb dX2_brokenOf_21 (by decide) ?_
    refine lv_iadd hx hb dX2_brokenOf_22 ?_
    obtain ⟨hi, h⟩ := ck_some h
    refine tl0 C hK hT hi dX2_brokenOf_23 ?_
    refine lv_icmp_ge (tgt := 59) hx hb dX2_brokenOf_24 (by decide) (fun c => ?_) (fun c => ?_)
    · replace h := if_t c h
      refine lv_iload_n hx hb dX2_brokenOf_59 rfl (lv_at hl 2 rfl) ?_
      exact e_ri C h dX2_brokenOf_60
    · replace h := if_f c h
      refine lv_iload_n hx hb dX2_brokenOf_27 rfl (lv_at hl 2 rfl) ?_
      refine lv_aload_n hx hb dX2_brokenOf_28 rfl (lv_at hl 0 rfl) ?_
      refine lv_aload_n hx hb dX2_brokenOf_29 rfl (lv_at hl 0 rfl) ?_
      refine tg0 C hK hT dX2_brokenOf_30 ?_
      refine lv_iload_n hx hb dX2_brokenOf_33 rfl (lv_at hl 1 rfl) ?_
      refine lv_iconst (v := 3) hx hb dX2_brokenOf_34 (by decide) ?_
      refine lv_iadd hx hb dX2_brokenOf_35 ?_
      refine lv_iload hx hb dX2_brokenOf_36 (lv_at hl 3 rfl) ?_
      refine lv_iadd hx hb dX2_brokenOf_38 ?_
      obtain ⟨hi, h⟩ := ck_some h
      refine tl0 C hK hT hi dX2_brokenOf_39 ?_
      obtain ⟨v1, hv1, h⟩ := bd1_some h
      refine r_int (run_t (As := [.int (t.1 0 ((x2 + (3 : Int32)) + x4).toNatClampNeg)]) (rest := [.int x3]) C hK hT (mX2_isWritten hv1) q1983 q1985 qs123 q162 q1986 ⟨rfl, rfl⟩ hdX2_isWritten ⟨Nat.le_of_ble_eq_true rfl, Nat.le_of_ble_eq_true rfl⟩ ⟨Nat.zero_le _, Nat.zero_le _⟩ rfl hl.1 rfl (Nat.le_of_ble_eq_true rfl) dX2_brokenOf_40) ?_
      refine lv_if_eq (tgt := 50) hx hb dX2_brokenOf_43 (by decide) (fun c => ?_) (fun c => ?_)
      · replace h := if_t c h
        refine lv_iconst (v := 1) hx hb dX2_brokenOf_50 (by decide) ?_
        exact bX2_brokenOf_51 C hK hT ih x2 x4 x3 (1 : Int32) ls h (lv_sub hl [0, 1, 3] rfl)
      · replace h := if_f c h
        refine lv_iconst (v := 0) hx hb dX2_brokenOf_46 (by decide) ?_
        refine lv_goto (tgt := 51) hx hb dX2_brokenOf_47 (by decide) ?_
        exact bX2_brokenOf_51 C hK hT ih x2 x4 x3 (0 : Int32) ls h (lv_sub hl [0, 1, 3] rfl)
theorem bX2_brokenOf {p : Program} {l : Launch} {e : Env} {s : State} {m : MethodId} {args : Array Value} {below : List Frame} {meth : Method} {c : Code} {D : va_G} {dA : Nat → ClassId} {b : Nat} {t : TS} {r : Int32} (C : cx p s m args meth c cX2_brokenOf RX2 5 (some .int)) (hK : kk D dA s) (hT : wd D (tw dA b t) s.heap) : ∀ (x1 : Int32) (ls : Array Slot), T_brokenOf t x1 = some r → lv_has ls 5 [(0, .ref b), (1, .int x1)] → W p l e rmX2_brokenOf s m args below meth c s.heap [] 0 0 (MQ below (rQi r) args s 0 0 nof) (F0 m 0 ls []) := by
  obtain ⟨hx, hb, hr, hml, hown, hts, hlocks⟩ := id C
  intro x1 ls h hl
  unfold T_brokenOf at h
  refine lv_sipush (v := 428) hx hb dX2_brokenOf_0 (by decide) ?_
  refine lv_bipush (v := 11) hx hb dX2_brokenOf_3 (by decide) ?_
  refine lv_iload_n hx hb dX2_brokenOf_5 rfl (lv_at hl 1 rfl) ?_
  refine lv_imul hx hb dX2_brokenOf_6 ?_
  refine lv_iadd hx hb dX2_brokenOf_7 ?_
  refine lv_topi (fun v1 ev1 => ?_)
  replace h := lt1_sub ev1 h
  refine lv_istore_n (lv' := [(2, .int v1), (0, .ref b), (1, .int x1)]) hx hb dX2_brokenOf_8 rfl hl (by decide) rfl (fun ls hl => ?_)
  refine lv_iconst (v := 0) hx hb dX2_brokenOf_9 (by decide) ?_
  refine lv_istore_n (lv' := [(3, .int (0 : Int32)), (2, .int v1), (0, .ref b), (1, .int x1)]) hx hb dX2_brokenOf_10 rfl hl (by decide) rfl (fun ls hl => ?_)
  refine lv_iconst (v := 0) hx hb dX2_brokenOf_11 (by decide) ?_
  refine lv_istore (lv' := [(4, .int (0 : Int32)), (3, .int (0 : Int32)), (2, .int v1), (0, .ref b), (1, .int x1)]) hx hb dX2_brokenOf_12 hl (by decide) rfl (fun ls hl => ?_)
  exact bX2_brokenOf_14 C hK hT fu v1 (0 : Int32) (0 : Int32) ls h (lv_sub hl [3, 2, 1, 0] rfl)
theorem mX2_brokenOf {l : Launch} {D : va_G} {dA : Nat → ClassId} {b : Nat} {t : TS} {x1 : Int32} {r : Int32} (h : T_brokenOf t x1 = some r) : Met l yX2_brokenOf (ws_ yX2_brokenOf cX2_brokenOf 5 (some .int)) rmX2_brokenOf (tPc D dA b t [.ref b, .int x1]) (rQi r) 0 0 nof := en_R (by decide +kernel) rfl (Nat.le_of_ble_eq_true rfl) (fun p e s m below meth c ls C hK hT hl => bX2_brokenOf C hK hT x1 ls h hl)
set_option maxRecDepth 20000 in
abbrev rmX2_binds : Room := { frames := 4, cells := 0, slots := 0, locals := 88 }
theorem hdX2_binds : yX2_binds.cls = RX2 ∧ yX2_binds.cls ≠ "java/lang/invoke/MethodHandle" ∧ yX2_binds.cls ≠ "java/lang/invoke/VarHandle" ∧ (parseMethodDescriptor yX2_binds.desc).map (fun d => d.parameters.length) = some 1 := by decide +kernel
theorem bX2_binds {p : Program} {l : Launch} {e : Env} {s : State} {m : MethodId} {args : Array Value} {below : List Frame} {meth : Method} {c : Code} {D : va_G} {dA : Nat → ClassId} {b : Nat} {r : Int32} {t9 : TS} (C : cx p s m args meth c cX2_binds RX2 4 (some .boolean)) (hK : kk D dA s) : ∀ (t : TS) (x1 : Int32) (H : Heap) (locs : List Loc) (hT : wd D (tw dA b t) H) (hS : tS b s.heap H locs) (ls : Array Slot), T_binds t x1 = some (r, t9) → lv_has ls 4 [(0, .ref b), (1, .int x1)] → W p l e rmX2_binds s m args below meth c H locs 0 0 (MQ below (tQ D dA b t9 (some (.int r))) args s 0 0 (ta b)) (F0 m 0 ls []) := by
  obtain ⟨hx, hb, hr, hml, hown, hts, hlocks⟩ := id C
  intro t x1 H locs hT hS ls h hl
  unfold T_binds at h
  refine lv_aload_n hx hb dX2_binds_0 rfl (lv_at hl 0 rfl) ?_
  refine lv_iconst (v := 3) hx hb dX2_binds_1 (by decide) ?_
  obtain ⟨v1, hv1, h⟩ := bd1_some h
  refine r_int (run_t (As := [.int (3 : Int32)]) (rest := []) C hK hT (mX2_clauseOf hv1) q1898 q1900 qs112 q162 q1901 ⟨rfl, rfl⟩ hdX2_clauseOf ⟨Nat.le_of_ble_eq_true rfl, Nat.le_of_ble_eq_true rfl⟩ ⟨Nat.zero_le _, Nat.zero_le _⟩ rfl hl.1 rfl (Nat.le_of_ble_eq_true rfl) dX2_binds_2) ?_
  refine lv_istore_n (lv' := [(2, .int v1), (0, .ref b), (1, .int x1)]) hx hb dX2_binds_5 rfl hl (by decide) rfl (fun ls hl => ?_)
  refine lv_aload_n hx hb dX2_binds_6 rfl (lv_at hl 1 rfl) ?_
  refine lv_iload_n hx hb dX2_binds_7 rfl (lv_at hl 2 rfl) ?_
  obtain ⟨v2, hv2, h⟩ := bd1_some h
  refine r_int (run_t (As := [.int x1]) (rest := []) C hK hT (mX2_brokenOf hv2) q2216 q2218 qs155 q162 q2219 ⟨rfl, rfl⟩ hdX2_brokenOf ⟨Nat.le_of_ble_eq_true rfl, Nat.le_of_ble_eq_true rfl⟩ ⟨Nat.zero_le _, Nat.zero_le _⟩ rfl hl.1 rfl (Nat.le_of_ble_eq_true rfl) dX2_binds_8) ?_
  refine lv_istore_n (lv' := [(3, .int v2), (2, .int v1), (0, .ref b), (1, .int x1)]) hx hb dX2_binds_11 rfl hl (by decide) rfl (fun ls hl => ?_)
  refine lv_iload_n hx hb dX2_binds_12 rfl (lv_at hl 1 rfl) ?_
  refine lv_if_ge (tgt := 26) hx hb dX2_binds_13 (by decide) (fun c => ?_) (fun c => ?_)
  · replace h := if_t c h
    refine lv_aload_n hx hb dX2_binds_26 rfl (lv_at hl 2 rfl) ?_
    refine tg26 C hK hT dX2_binds_27 ?_
    refine lv_iconst (v := 1) hx hb dX2_binds_30 (by decide) ?_
    refine lv_aload_n hx hb dX2_binds_31 rfl (lv_at hl 2 rfl) ?_
    refine tg0 C hK hT dX2_binds_32 ?_
    refine lv_bipush (v := 7) hx hb dX2_binds_35 (by decide) ?_
    obtain ⟨hi, h⟩ := ck_some h
    refine tl0 C hK hT hi dX2_binds_37 ?_
    obtain ⟨v3, hv3, h⟩ := bd1_some h
    refine r_int (run_s (As := [.int (t.1 0 (7 : Int32).toNatClampNeg)]) (rest := [.int (1 : Int32), .ref (b + 8)]) C (mX2_bits hv3) q1902 q1903 q162 q1904 ⟨rfl, rfl⟩ hdX2_bits ⟨Nat.le_of_ble_eq_true rfl, Nat.le_of_ble_eq_true rfl⟩ ⟨Nat.zero_le _, Nat.zero_le _⟩ rfl hl.1 rfl (Nat.le_of_ble_eq_true rfl) dX2_binds_38) ?_
    obtain ⟨hi, h⟩ := ck_some h
    refine ts26 C hK hT hS hi dX2_binds_41 (fun t4 H locs et4 hT hS => ?_)
    replace h := lt1_sub et4 h
    refine lv_aload_n hx hb dX2_binds_42 rfl (lv_at hl 2 rfl) ?_
    refine tg26 C hK hT dX2_binds_43 ?_
    refine lv_bipush (v := 11) hx hb dX2_binds_46 (by decide) ?_
    refine lv_iload_n hx hb dX2_binds_48 rfl (lv_at hl 0 rfl) ?_
    obtain ⟨hi, h⟩ := ck_some h
    refine ts26 C hK hT hS hi dX2_binds_49 (fun t5 H locs et5 hT hS => ?_)
    replace h := lt1_sub et5 h
    refine lv_aload_n hx hb dX2_binds_50 rfl (lv_at hl 2 rfl) ?_
    refine tg26 C hK hT dX2_binds_51 ?_
    refine lv_bipush (v := 12) hx hb dX2_binds_54 (by decide) ?_
    refine lv_aload_n hx hb dX2_binds_56 rfl (lv_at hl 2 rfl) ?_
    refine tg0 C hK hT dX2_binds_57 ?_
    refine lv_sipush (v := 428) hx hb dX2_binds_60 (by decide) ?_
    refine lv_bipush (v := 11) hx hb dX2_binds_63 (by decide) ?_
    refine lv_iload_n hx hb dX2_binds_65 rfl (lv_at hl 3 rfl) ?_
    refine lv_imul hx hb dX2_binds_66 ?_
    refine lv_iadd hx hb dX2_binds_67 ?_
    refine lv_iconst (v := 2) hx hb dX2_binds_68 (by decide) ?_
    refine lv_iadd hx hb dX2_binds_69 ?_
    obtain ⟨hi, h⟩ := ck_some h
    refine tl0 C hK hT hi dX2_binds_70 ?_
    obtain ⟨hi, h⟩ := ck_some h
    refine ts26 C hK hT hS hi dX2_binds_71 (fun t6 H locs et6 hT hS => ?_)
    replace h := lt1_sub et6 h
    refine lv_aload_n hx hb dX2_binds_72 rfl (lv_at hl 2 rfl) ?_
    refine tg26 C hK hT dX2_binds_73 ?_
    refine lv_bipush (v := 13) hx hb dX2_binds_76 (by decide) ?_
    refine lv_aload_n hx hb dX2_binds_78 rfl (lv_at hl 2 rfl) ?_
    refine tg0 C hK hT dX2_binds_79 ?_
    refine lv_iconst (v := 2) hx hb dX2_binds_82 (by decide) ?_
    obtain ⟨hi, h⟩ := ck_some h
    refine tl0 C hK hT hi dX2_binds_83 ?_
    refine lv_aload_n hx hb dX2_binds_84 rfl (lv_at hl 2 rfl) ?_
    refine tg0 C hK hT dX2_binds_85 ?_
    refine lv_sipush (v := 428) hx hb dX2_binds_88 (by decide) ?_
    refine lv_bipush (v := 11) hx hb dX2_binds_91 (by decide) ?_
    refine lv_iload_n hx hb dX2_binds_93 rfl (lv_at hl 3 rfl) ?_
    refine lv_imul hx hb dX2_binds_94 ?_
    refine lv_iadd hx hb dX2_binds_95 ?_
    refine lv_iconst (v := 1) hx hb dX2_binds_96 (by decide) ?_
    refine lv_iadd hx hb dX2_binds_97 ?_
    obtain ⟨hi, h⟩ := ck_some h
    refine tl0 C hK hT hi dX2_binds_98 ?_
    refine lv_isub hx hb dX2_binds_99 ?_
    obtain ⟨hi, h⟩ := ck_some h
    refine ts26 C hK hT hS hi dX2_binds_100 (fun t7 H locs et7 hT hS => ?_)
    replace h := lt1_sub et7 h
    refine lv_aload_n hx hb dX2_binds_101 rfl (lv_at hl 2 rfl) ?_
    refine lv_iload_n hx hb dX2_binds_102 rfl (lv_at hl 1 rfl) ?_
    obtain ⟨t8, ht8, h⟩ := bd1_some h
    refine w_void hS (run_t (As := [.int v1]) (rest := []) C hK hT (mX2_work ht8) q1916 q1918 qs115 q162 q1919 ⟨rfl, rfl⟩ hdX2_work ⟨Nat.le_of_ble_eq_true rfl, Nat.le_of_ble_eq_true rfl⟩ ⟨Nat.zero_le _, Nat.zero_le _⟩ rfl hl.1 rfl (Nat.le_of_ble_eq_true rfl) dX2_binds_103) (fun H locs hT hS => ?_)
    refine lv_aload_n hx hb dX2_binds_106 rfl (lv_at hl 2 rfl) ?_
    refine tg28 C hK hT dX2_binds_107 ?_
    refine lv_iconst (v := 0) hx hb dX2_binds_110 (by decide) ?_
    obtain ⟨hi, h⟩ := ck_some h
    refine tl28 C hK hT hi dX2_binds_111 ?_
    obtain ⟨hz, h⟩ := zr_some h
    exact e_wz C hT hS hz h dX2_binds_112
  · replace h := if_f c h
    refine lv_iload_n hx hb dX2_binds_16 rfl (lv_at hl 0 rfl) ?_
    refine lv_if_ne (tgt := 24) hx hb dX2_binds_17 (by decide) (fun c => ?_) (fun c => ?_)
    · replace h := if_f c h
      refine lv_iconst (v := 0) hx hb dX2_binds_24 (by decide) ?_
      exact e_wz C hT hS (Or.inl rfl) h dX2_binds_25
    · replace h := if_t c h
      refine lv_iconst (v := 1) hx hb dX2_binds_20 (by decide) ?_
      refine lv_goto (tgt := 25) hx hb dX2_binds_21 (by decide) ?_
      exact e_wz C hT hS (Or.inr rfl) h dX2_binds_25
theorem mX2_binds {l : Launch} {D : va_G} {dA : Nat → ClassId} {b : Nat} {t : TS} {x1 : Int32} {r : Int32} {t9 : TS} (h : T_binds t x1 = some (r, t9)) : Met l yX2_binds (ws_ yX2_binds cX2_binds 4 (some .boolean)) rmX2_binds (tPc D dA b t [.ref b, .int x1]) (tQ D dA b t9 (some (.int r))) 0 0 (ta b) := en_R (by decide +kernel) rfl (Nat.le_of_ble_eq_true rfl) (fun p e s m below meth c ls C hK hT hl => bX2_binds C hK t x1 _ [] hT tS.rf ls h hl)
