/-! the reference's walks, 0 (written by gen/gen_twin.py) -/
set_option maxRecDepth 20000
set_option maxRecDepth 20000 in
abbrev rmX2_has : Room := { frames := 0, cells := 0, slots := 0, locals := 0 }
theorem hdX2_has : yX2_has.cls ≠ "java/lang/invoke/MethodHandle" ∧ yX2_has.cls ≠ "java/lang/invoke/VarHandle" ∧ (parseMethodDescriptor yX2_has.desc).map (fun d => d.parameters.length) = some 2 := by decide +kernel
theorem bX2_has {p : Program} {l : Launch} {e : Env} {s : State} {m : MethodId} {args : Array Value} {below : List Frame} {meth : Method} {c : Code} {r : Int32} (C : cx p s m args meth c cX2_has RX2 2 (some .boolean)) : ∀ (x0 : Int32) (x1 : Int32) (ls : Array Slot), T_has x0 x1 = some r → lv_has ls 2 [(0, .int x0), (1, .int x1)] → W p l e rmX2_has s m args below meth c s.heap [] 0 0 (MQ below (rQi r) args s 0 0 nof) (F0 m 0 ls []) := by
  obtain ⟨hx, hb, hr, hml, hown, hts, hlocks⟩ := id C
  intro x0 x1 ls h hl
  unfold T_has at h
  refine lv_iload_n hx hb dX2_has_0 rfl (lv_at hl 0 rfl) ?_
  refine lv_iload_n hx hb dX2_has_1 rfl (lv_at hl 1 rfl) ?_
  refine lv_ishr hx hb dX2_has_2 ?_
  refine lv_iconst (v := 1) hx hb dX2_has_3 (by decide) ?_
  refine lv_iand hx hb dX2_has_4 ?_
  refine lv_iconst (v := 1) hx hb dX2_has_5 (by decide) ?_
  refine lv_icmp_ne (tgt := 13) hx hb dX2_has_6 (by decide) (fun c => ?_) (fun c => ?_)
  · replace h := if_f c h
    refine lv_iconst (v := 0) hx hb dX2_has_13 (by decide) ?_
    exact e_rz C (Or.inl rfl) h dX2_has_14
  · replace h := if_t c h
    refine lv_iconst (v := 1) hx hb dX2_has_9 (by decide) ?_
    refine lv_goto (tgt := 14) hx hb dX2_has_10 (by decide) ?_
    exact e_rz C (Or.inr rfl) h dX2_has_14
theorem mX2_has {l : Launch} {x0 : Int32} {x1 : Int32} {r : Int32} (h : T_has x0 x1 = some r) : Met l yX2_has (ws_ yX2_has cX2_has 2 (some .boolean)) rmX2_has (sPc [.int x0, .int x1]) (rQi r) 0 0 nof := en_S (by decide +kernel) rfl (Nat.le_of_ble_eq_true rfl) (fun p e s m below meth c ls C hl => bX2_has C x0 x1 ls h hl)
set_option maxRecDepth 20000 in
abbrev rmX2_isIn : Room := { frames := 0, cells := 0, slots := 0, locals := 0 }
theorem hdX2_isIn : yX2_isIn.cls ≠ "java/lang/invoke/MethodHandle" ∧ yX2_isIn.cls ≠ "java/lang/invoke/VarHandle" ∧ (parseMethodDescriptor yX2_isIn.desc).map (fun d => d.parameters.length) = some 3 := by decide +kernel
theorem bX2_isIn {p : Program} {l : Launch} {e : Env} {s : State} {m : MethodId} {args : Array Value} {below : List Frame} {meth : Method} {c : Code} {r : Int32} (C : cx p s m args meth c cX2_isIn RX2 3 (some .boolean)) : ∀ (x0 : Int32) (x1 : Int32) (x2 : Int32) (ls : Array Slot), T_isIn x0 x1 x2 = some r → lv_has ls 3 [(0, .int x0), (1, .int x1), (2, .int x2)] → W p l e rmX2_isIn s m args below meth c s.heap [] 0 0 (MQ below (rQi r) args s 0 0 nof) (F0 m 0 ls []) := by
  obtain ⟨hx, hb, hr, hml, hown, hts, hlocks⟩ := id C
  intro x0 x1 x2 ls h hl
  unfold T_isIn at h
  refine lv_iload_n hx hb dX2_isIn_0 rfl (lv_at hl 0 rfl) ?_
  refine lv_iload_n hx hb dX2_isIn_1 rfl (lv_at hl 1 rfl) ?_
  refine lv_icmp_lt (tgt := 14) hx hb dX2_isIn_2 (by decide) (fun c => ?_) (fun c => ?_)
  · replace h := if_t c h
    refine lv_iconst (v := 0) hx hb dX2_isIn_14 (by decide) ?_
    exact e_rz C (Or.inl rfl) h dX2_isIn_15
  · replace h := if_f c h
    refine lv_iload_n hx hb dX2_isIn_5 rfl (lv_at hl 0 rfl) ?_
    refine lv_iload_n hx hb dX2_isIn_6 rfl (lv_at hl 2 rfl) ?_
    refine lv_icmp_gt (tgt := 14) hx hb dX2_isIn_7 (by decide) (fun c => ?_) (fun c => ?_)
    · replace h := if_t c h
      refine lv_iconst (v := 0) hx hb dX2_isIn_14 (by decide) ?_
      exact e_rz C (Or.inl rfl) h dX2_isIn_15
    · replace h := if_f c h
      refine lv_iconst (v := 1) hx hb dX2_isIn_10 (by decide) ?_
      refine lv_goto (tgt := 15) hx hb dX2_isIn_11 (by decide) ?_
      exact e_rz C (Or.inr rfl) h dX2_isIn_15
theorem mX2_isIn {l : Launch} {x0 : Int32} {x1 : Int32} {x2 : Int32} {r : Int32} (h : T_isIn x0 x1 x2 = some r) : Met l yX2_isIn (ws_ yX2_isIn cX2_isIn 3 (some .boolean)) rmX2_isIn (sPc [.int x0, .int x1, .int x2]) (rQi r) 0 0 nof := en_S (by decide +kernel) rfl (Nat.le_of_ble_eq_true rfl) (fun p e s m below meth c ls C hl => bX2_isIn C x0 x1 x2 ls h hl)
set_option maxRecDepth 20000 in
abbrev rmX2_isLetter0 : Room := { frames := 1, cells := 0, slots := 0, locals := 22 }
theorem hdX2_isLetter0 : yX2_isLetter0.cls ≠ "java/lang/invoke/MethodHandle" ∧ yX2_isLetter0.cls ≠ "java/lang/invoke/VarHandle" ∧ (parseMethodDescriptor yX2_isLetter0.desc).map (fun d => d.parameters.length) = some 1 := by decide +kernel
theorem bX2_isLetter0 {p : Program} {l : Launch} {e : Env} {s : State} {m : MethodId} {args : Array Value} {below : List Frame} {meth : Method} {c : Code} {r : Int32} (C : cx p s m args meth c cX2_isLetter0 RX2 1 (some .boolean)) : ∀ (x0 : Int32) (ls : Array Slot), T_isLetter0 x0 = some r → lv_has ls 1 [(0, .int x0)] → W p l e rmX2_isLetter0 s m args below meth c s.heap [] 0 0 (MQ below (rQi r) args s 0 0 nof) (F0 m 0 ls []) := by
  obtain ⟨hx, hb, hr, hml, hown, hts, hlocks⟩ := id C
  intro x0 ls h hl
  unfold T_isLetter0 at h
  refine lv_iload_n hx hb dX2_isLetter0_0 rfl (lv_at hl 0 rfl) ?_
  refine lv_iconst (v := 0) hx hb dX2_isLetter0_1 (by decide) ?_
  refine lv_bipush (v := 25) hx hb dX2_isLetter0_2 (by decide) ?_
  obtain ⟨v1, hv1, h⟩ := bd1_some h
  refine r_int (run_s (As := [.int x0, .int (0 : Int32), .int (25 : Int32)]) (rest := []) C (mX2_isIn hv1) q1656 q1657 q162 q1658 ⟨rfl, rfl⟩ hdX2_isIn ⟨Nat.le_of_ble_eq_true rfl, Nat.le_of_ble_eq_true rfl⟩ ⟨Nat.zero_le _, Nat.zero_le _⟩ rfl hl.1 rfl (Nat.le_of_ble_eq_true rfl) dX2_isLetter0_4) ?_
  obtain ⟨hz, h⟩ := zr_some h
  exact e_rz C hz h dX2_isLetter0_7
theorem mX2_isLetter0 {l : Launch} {x0 : Int32} {r : Int32} (h : T_isLetter0 x0 = some r) : Met l yX2_isLetter0 (ws_ yX2_isLetter0 cX2_isLetter0 1 (some .boolean)) rmX2_isLetter0 (sPc [.int x0]) (rQi r) 0 0 nof := en_S (by decide +kernel) rfl (Nat.le_of_ble_eq_true rfl) (fun p e s m below meth c ls C hl => bX2_isLetter0 C x0 ls h hl)
set_option maxRecDepth 20000 in
abbrev rmX2_tie : Room := { frames := 2, cells := 0, slots := 0, locals := 42 }
theorem hdX2_tie : yX2_tie.cls = RX2 ∧ yX2_tie.cls ≠ "java/lang/invoke/MethodHandle" ∧ yX2_tie.cls ≠ "java/lang/invoke/VarHandle" ∧ (parseMethodDescriptor yX2_tie.desc).map (fun d => d.parameters.length) = some 2 := by decide +kernel
theorem bX2_tie {p : Program} {l : Launch} {e : Env} {s : State} {m : MethodId} {args : Array Value} {below : List Frame} {meth : Method} {c : Code} {D : va_G} {dA : Nat → ClassId} {b : Nat} {r : Int32} {t9 : TS} (C : cx p s m args meth c cX2_tie RX2 3 (some .boolean)) (hK : kk D dA s) : ∀ (t : TS) (x1 : Int32) (x2 : Int32) (H : Heap) (locs : List Loc) (hT : wd D (tw dA b t) H) (hS : tS b s.heap H locs) (ls : Array Slot), T_tie t x1 x2 = some (r, t9) → lv_has ls 3 [(0, .ref b), (1, .int x1), (2, .int x2)] → W p l e rmX2_tie s m args below meth c H locs 0 0 (MQ below (tQ D dA b t9 (some (.int r))) args s 0 0 (ta b)) (F0 m 0 ls []) := by
  obtain ⟨hx, hb, hr, hml, hown, hts, hlocks⟩ := id C
  intro t x1 x2 H locs hT hS ls h hl
  unfold T_tie at h
  refine lv_iload_n hx hb dX2_tie_0 rfl (lv_at hl 1 rfl) ?_
  obtain ⟨v1, hv1, h⟩ := bd1_some h
  refine r_int (run_s (As := [.int x1]) (rest := []) C (mX2_isLetter0 hv1) q1653 q1654 q162 q1655 ⟨rfl, rfl⟩ hdX2_isLetter0 ⟨Nat.le_of_ble_eq_true rfl, Nat.le_of_ble_eq_true rfl⟩ ⟨Nat.zero_le _, Nat.zero_le _⟩ rfl hl.1 rfl (Nat.le_of_ble_eq_true rfl) dX2_tie_1) ?_
  refine lv_if_eq (tgt := 35) hx hb dX2_tie_4 (by decide) (fun c => ?_) (fun c => ?_)
  · replace h := if_t c h
    refine lv_iconst (v := 0) hx hb dX2_tie_35 (by decide) ?_
    exact e_wz C hT hS (Or.inl rfl) h dX2_tie_36
  · replace h := if_f c h
    refine lv_iload_n hx hb dX2_tie_7 rfl (lv_at hl 2 rfl) ?_
    obtain ⟨v2, hv2, h⟩ := bd1_some h
    refine r_int (run_s (As := [.int x2]) (rest := []) C (mX2_isLetter0 hv2) q1653 q1654 q162 q1655 ⟨rfl, rfl⟩ hdX2_isLetter0 ⟨Nat.le_of_ble_eq_true rfl, Nat.le_of_ble_eq_true rfl⟩ ⟨Nat.zero_le _, Nat.zero_le _⟩ rfl hl.1 rfl (Nat.le_of_ble_eq_true rfl) dX2_tie_8) ?_
    refine lv_if_eq (tgt := 35) hx hb dX2_tie_11 (by decide) (fun c => ?_) (fun c => ?_)
    · replace h := if_t c h
      refine lv_iconst (v := 0) hx hb dX2_tie_35 (by decide) ?_
      exact e_wz C hT hS (Or.inl rfl) h dX2_tie_36
    · replace h := if_f c h
      refine lv_iload_n hx hb dX2_tie_14 rfl (lv_at hl 1 rfl) ?_
      refine lv_iload_n hx hb dX2_tie_15 rfl (lv_at hl 2 rfl) ?_
      refine lv_icmp_eq (tgt := 35) hx hb dX2_tie_16 (by decide) (fun c => ?_) (fun c => ?_)
      · replace h := if_t c h
        refine lv_iconst (v := 0) hx hb dX2_tie_35 (by decide) ?_
        exact e_wz C hT hS (Or.inl rfl) h dX2_tie_36
      · replace h := if_f c h
        refine lv_aload_n hx hb dX2_tie_19 rfl (lv_at hl 0 rfl) ?_
        refine tg0 C hK hT dX2_tie_20 ?_
        refine lv_bipush (v := 90) hx hb dX2_tie_23 (by decide) ?_
        refine lv_iload_n hx hb dX2_tie_25 rfl (lv_at hl 1 rfl) ?_
        refine lv_iadd hx hb dX2_tie_26 ?_
        obtain ⟨hi, h⟩ := ck_some h
        refine tl0 C hK hT hi dX2_tie_27 ?_
        refine lv_iload_n hx hb dX2_tie_28 rfl (lv_at hl 2 rfl) ?_
        obtain ⟨v3, hv3, h⟩ := bd1_some h
        refine r_int (run_s (As := [.int (t.1 0 ((90 : Int32) + x1).toNatClampNeg), .int x2]) (rest := []) C (mX2_has hv3) q1659 q1660 q162 q1661 ⟨rfl, rfl⟩ hdX2_has ⟨Nat.le_of_ble_eq_true rfl, Nat.le_of_ble_eq_true rfl⟩ ⟨Nat.zero_le _, Nat.zero_le _⟩ rfl hl.1 rfl (Nat.le_of_ble_eq_true rfl) dX2_tie_29) ?_
        refine lv_if_eq (tgt := 37) hx hb dX2_tie_32 (by decide) (fun c => ?_) (fun c => ?_)
        · replace h := if_t c h
          refine lv_aload_n hx hb dX2_tie_37 rfl (lv_at hl 0 rfl) ?_
          refine tg0 C hK hT dX2_tie_38 ?_
          refine lv_bipush (v := 90) hx hb dX2_tie_41 (by decide) ?_
          refine lv_iload_n hx hb dX2_tie_43 rfl (lv_at hl 1 rfl) ?_
          refine lv_iadd hx hb dX2_tie_44 ?_
          refine lv_topi (fun v4 ev4 => ?_)
          replace h := lt1_sub ev4 h
          refine lv_dup2_11 hx hb dX2_tie_45 rfl rfl ?_
          obtain ⟨hi, h⟩ := ck_some h
          refine tl0 C hK hT hi dX2_tie_46 ?_
          refine lv_iconst (v := 1) hx hb dX2_tie_47 (by decide) ?_
          refine lv_iload_n hx hb dX2_tie_48 rfl (lv_at hl 2 rfl) ?_
          refine lv_ishl hx hb dX2_tie_49 ?_
          refine lv_ior hx hb dX2_tie_50 ?_
          obtain ⟨hi, h⟩ := ck_some h
          refine ts0 C hK hT hS hi dX2_tie_51 (fun t5 H locs et5 hT hS => ?_)
          replace h := lt1_sub et5 h
          refine lv_iconst (v := 1) hx hb dX2_tie_52 (by decide) ?_
          exact e_wz C hT hS (Or.inr rfl) h dX2_tie_53
        · replace h := if_f c h
          refine lv_iconst (v := 0) hx hb dX2_tie_35 (by decide) ?_
          exact e_wz C hT hS (Or.inl rfl) h dX2_tie_36
theorem mX2_tie {l : Launch} {D : va_G} {dA : Nat → ClassId} {b : Nat} {t : TS} {x1 : Int32} {x2 : Int32} {r : Int32} {t9 : TS} (h : T_tie t x1 x2 = some (r, t9)) : Met l yX2_tie (ws_ yX2_tie cX2_tie 3 (some .boolean)) rmX2_tie (tPc D dA b t [.ref b, .int x1, .int x2]) (tQ D dA b t9 (some (.int r))) 0 0 (ta b) := en_R (by decide +kernel) rfl (Nat.le_of_ble_eq_true rfl) (fun p e s m below meth c ls C hK hT hl => bX2_tie C hK t x1 x2 _ [] hT tS.rf ls h hl)
set_option maxRecDepth 20000 in
abbrev rmX2_take : Room := { frames := 1, cells := 0, slots := 0, locals := 22 }
theorem hdX2_take : yX2_take.cls = RX2 ∧ yX2_take.cls ≠ "java/lang/invoke/MethodHandle" ∧ yX2_take.cls ≠ "java/lang/invoke/VarHandle" ∧ (parseMethodDescriptor yX2_take.desc).map (fun d => d.parameters.length) = some 2 := by decide +kernel
theorem bX2_take_85 {p : Program} {l : Launch} {e : Env} {s : State} {m : MethodId} {args : Array Value} {below : List Frame} {meth : Method} {c : Code} {D : va_G} {dA : Nat → ClassId} {b : Nat} {r : Int32} {t9 : TS} (C : cx p s m args meth c cX2_take RX2 5 (some .boolean)) (hK : kk D dA s) {k2 : TS → Int32 → Int32 → Int32 → Option (Int32 × TS)} (hk2 : ∀ (t : TS) (x1 : Int32) (x2 : Int32) (x3 : Int32) (H : Heap) (locs : List Loc) (hT : wd D (tw dA b t) H) (hS : tS b s.heap H locs) (ls : Array Slot), k2 t x1 x2 x3 = some (r, t9) → lv_has ls 5 [(0, .ref b), (1, .int x1), (2, .int x2), (3, .int x3)] → W p l e rmX2_take s m args below meth c H locs 0 0 (MQ below (tQ D dA b t9 (some (.int r))) args s 0 0 (ta b)) (F0 m 2 ls [])) : ∀ (t : TS) (x1 : Int32) (x2 : Int32) (x3 : Int32) (H : Heap) (locs : List Loc) (hT : wd D (tw dA b t) H) (hS : tS b s.heap H locs) (ls : Array Slot), T_take_85 k2 t x1 x2 x3 = some (r, t9) → lv_has ls 5 [(0, .ref b), (1, .int x1), (2, .int x2), (3, .int x3)] → W p l e rmX2_take s m args below meth c H locs 0 0 (MQ below (tQ D dA b t9 (some (.int r))) args s 0 0 (ta b)) (F0 m 85 ls []) := by
  obtain ⟨hx, hb, hr, hml, hown, hts, hlocks⟩ := id C
  intro t x1 x2 x3 H locs hT hS ls h hl
  unfold T_take_85 at h
  obtain ⟨v1, ev1⟩ : ∃ y : Int32, y = x3 + (1 : Int32) := ⟨_, rfl⟩
  replace h := lt1_sub ev1 h
  refine lv_iinc (v := v1) (lv' := [(3, .int v1), (0, .ref b), (1, .int x1), (2, .int x2)]) hx hb dX2_take_85 hl (k := 3) rfl (by rw [ev1]; rfl) (by decide) rfl (fun ls hl => ?_)
  refine lv_goto (tgt := 2) hx hb dX2_take_88 (by decide) ?_
  exact hk2 t x1 x2 v1 H locs hT hS ls h (lv_sub hl [1, 2, 3, 0] rfl)
theorem bX2_take_37 {p : Program} {l : Launch} {e : Env} {s : State} {m : MethodId} {args : Array Value} {below : List Frame} {meth : Method} {c : Code} {D : va_G} {dA : Nat → ClassId} {b : Nat} {r : Int32} {t9 : TS} (C : cx p s m args meth c cX2_take RX2 5 (some .boolean)) (hK : kk D dA s) {k2 : TS → Int32 → Int32 → Int32 → Option (Int32 × TS)} (hk2 : ∀ (t : TS) (x1 : Int32) (x2 : Int32) (x3 : Int32) (H : Heap) (locs : List Loc) (hT : wd D (tw dA b t) H) (hS : tS b s.heap H locs) (ls : Array Slot), k2 t x1 x2 x3 = some (r, t9) → lv_has ls 5 [(0, .ref b), (1, .int x1), (2, .int x2), (3, .int x3)] → W p l e rmX2_take s m args below meth c H locs 0 0 (MQ below (tQ D dA b t9 (some (.int r))) args s 0 0 (ta b)) (F0 m 2 ls [])) : ∀ (t : TS) (x1 : Int32) (x2 : Int32) (x3 : Int32) (x4 : Int32) (H : Heap) (locs : List Loc) (hT : wd D (tw dA b t) H) (hS : tS b s.heap H locs) (ls : Array Slot), T_take_37 k2 t x1 x2 x3 x4 = some (r, t9) → lv_has ls 5 [(0, .ref b), (1, .int x1), (2, .int x2), (3, .int x3), (4, .int x4)] → W p l e rmX2_take s m args below meth c H locs 0 0 (MQ below (tQ D dA b t9 (some (.int r))) args s 0 0 (ta b)) (F0 m 37 ls []) := by
  obtain ⟨hx, hb, hr, hml, hown, hts, hlocks⟩ := id C
  intro t x1 x2 x3 x4 H locs hT hS ls h hl
  unfold T_take_37 at h
  refine lv_iload hx hb dX2_take_37 (lv_at hl 4 rfl) ?_
  refine lv_bipush (v := 97) hx hb dX2_take_39 (by decide) ?_
  refine lv_bipush (v := 122) hx hb dX2_take_41 (by decide) ?_
  obtain ⟨v1, hv1, h⟩ := bd1_some h
  refine r_int (run_s (As := [.int x4, .int (97 : Int32), .int (122 : Int32)]) (rest := []) C (mX2_isIn hv1) q1656 q1657 q162 q1658 ⟨rfl, rfl⟩ hdX2_isIn ⟨Nat.le_of_ble_eq_true rfl, Nat.le_of_ble_eq_true rfl⟩ ⟨Nat.zero_le _, Nat.zero_le _⟩ rfl hl.1 rfl (Nat.le_of_ble_eq_true rfl) dX2_take_43) ?_
  refine lv_if_eq (tgt := 59) hx hb dX2_take_46 (by decide) (fun c => ?_) (fun c => ?_)
  · replace h := if_t c h
    refine lv_iconst (v := 0) hx hb dX2_take_59 (by decide) ?_
    exact e_wz C hT hS (Or.inl rfl) h dX2_take_60
  · replace h := if_f c h
    refine lv_aload_n hx hb dX2_take_49 rfl (lv_at hl 0 rfl) ?_
    refine tg4 C hK hT dX2_take_50 ?_
    refine lv_iload_n hx hb dX2_take_53 rfl (lv_at hl 2 rfl) ?_
    refine lv_iload_n hx hb dX2_take_54 rfl (lv_at hl 3 rfl) ?_
    refine lv_iadd hx hb dX2_take_55 ?_
    refine lv_icmp_ge (tgt := 61) hx hb dX2_take_56 (by decide) (fun c => ?_) (fun c => ?_)
    · replace h := if_t c h
      refine lv_aload_n hx hb dX2_take_61 rfl (lv_at hl 0 rfl) ?_
      refine tg3 C hK hT dX2_take_62 ?_
      refine lv_aload_n hx hb dX2_take_65 rfl (lv_at hl 0 rfl) ?_
      refine tg4 C hK hT dX2_take_66 ?_
      refine lv_iload hx hb dX2_take_69 (lv_at hl 4 rfl) ?_
      refine lv_bipush (v := 97) hx hb dX2_take_71 (by decide) ?_
      refine lv_isub hx hb dX2_take_73 ?_
      obtain ⟨hi, h⟩ := ck_some h
      refine ts3 C hK hT hS hi dX2_take_74 (fun t2 H locs et2 hT hS => ?_)
      replace h := lt1_sub et2 h
      refine lv_aload_n hx hb dX2_take_75 rfl (lv_at hl 0 rfl) ?_
      refine lv_dup hx hb dX2_take_76 rfl ?_
      refine tg4 C hK hT dX2_take_77 ?_
      refine lv_iconst (v := 1) hx hb dX2_take_80 (by decide) ?_
      refine lv_iadd hx hb dX2_take_81 ?_
      refine tp4 C hK hT hS dX2_take_82 (fun t3 H locs et3 hT hS => ?_)
      replace h := lt1_sub et3 h
      exact bX2_take_85 C hK hk2 t3 x1 x2 x3 H locs hT hS ls h (lv_sub hl [0, 1, 2, 3] rfl)
    · replace h := if_f c h
      refine lv_iconst (v := 0) hx hb dX2_take_59 (by decide) ?_
      exact e_wz C hT hS (Or.inl rfl) h dX2_take_60
theorem bX2_take_2 {p : Program} {l : Launch} {e : Env} {s : State} {m : MethodId} {args : Array Value} {below : List Frame} {meth : Method} {c : Code} {D : va_G} {dA : Nat → ClassId} {b : Nat} {r : Int32} {t9 : TS} (C : cx p s m args meth c cX2_take RX2 5 (some .boolean)) (hK : kk D dA s) : ∀ (n : Nat), ∀ (t : TS) (x1 : Int32) (x2 : Int32) (x3 : Int32) (H : Heap) (locs : List Loc) (hT : wd D (tw dA b t) H) (hS : tS b s.heap H locs) (ls : Array Slot), T_take_2 n t x1 x2 x3 = some (r, t9) → lv_has ls 5 [(0, .ref b), (1, .int x1), (2, .int x2), (3, .int x3)] → W p l e rmX2_take s m args below meth c H locs 0 0 (MQ below (tQ D dA b t9 (some (.int r))) args s 0 0 (ta b)) (F0 m 2 ls []) := by
  obtain ⟨hx, hb, hr, hml, hown, hts, hlocks⟩ := id C
  intro n
  induction n with
  | zero =>
    intro t x1 x2 x3 H locs hT hS ls h hl
    have h : none = some _ := h
    cases h
  | succ n ih =>
    intro t x1 x2 x3 H locs hT hS ls h hl
    rw [T_take_2] at h
    refine lv_iload_n hx hb dX2_take_2 rfl (lv_at hl 3 rfl) ?_
    refine lv_iconst (v := 4) hx hb dX2_take_3 (by decide) ?_
    refine lv_icmp_ge (tgt := 91) hx hb dX2_take_4 (by decide) (fun c => ?_) (fun c => ?_)
    · replace h := if_t c h
      refine lv_iconst (v := 1) hx hb dX2_take_91 (by decide) ?_
      exact e_wz C hT hS (Or.inr rfl) h dX2_take_92
    · replace h := if_f c h
      refine lv_iload_n hx hb dX2_take_7 rfl (lv_at hl 1 rfl) ?_
      refine lv_bipush (v := 8) hx hb dX2_take_8 (by decide) ?_
      refine lv_iload_n hx hb dX2_take_10 rfl (lv_at hl 3 rfl) ?_
      refine lv_imul hx hb dX2_take_11 ?_
      refine lv_ishr hx hb dX2_take_12 ?_
      refine lv_sipush (v := 255) hx hb dX2_take_13 (by decide) ?_
      refine lv_iand hx hb dX2_take_16 ?_
      refine lv_topi (fun v1 ev1 => ?_)
      replace h := lt1_sub ev1 h
      refine lv_istore (lv' := [(4, .int v1), (0, .ref b), (1, .int x1), (2, .int x2), (3, .int x3)]) hx hb dX2_take_17 hl (by decide) rfl (fun ls hl => ?_)
      refine lv_iload hx hb dX2_take_19 (lv_at hl 0 rfl) ?_
      refine lv_if_ne (tgt := 37) hx hb dX2_take_21 (by decide) (fun c => ?_) (fun c => ?_)
      · replace h := if_f c h
        exact bX2_take_37 C hK ih t x1 x2 x3 v1 H locs hT hS ls h (lv_sub hl [1, 2, 3, 4, 0] rfl)
      · replace h := if_t c h
        refine lv_aload_n hx hb dX2_take_24 rfl (lv_at hl 1 rfl) ?_
        refine tg4 C hK hT dX2_take_25 ?_
        refine lv_iload_n hx hb dX2_take_28 rfl (lv_at hl 3 rfl) ?_
        refine lv_iload_n hx hb dX2_take_29 rfl (lv_at hl 4 rfl) ?_
        refine lv_iadd hx hb dX2_take_30 ?_
        refine lv_icmp_gt (tgt := 37) hx hb dX2_take_31 (by decide) (fun c => ?_) (fun c => ?_)
        · replace h := if_t c h
          exact bX2_take_37 C hK ih t x1 x2 x3 v1 H locs hT hS ls h (lv_sub hl [1, 2, 3, 4, 0] rfl)
        · replace h := if_f c h
          refine lv_goto (tgt := 85) hx hb dX2_take_34 (by decide) ?_
          exact bX2_take_85 C hK ih t x1 x2 x3 H locs hT hS ls h (lv_sub hl [1, 2, 3, 4] rfl)
theorem bX2_take {p : Program} {l : Launch} {e : Env} {s : State} {m : MethodId} {args : Array Value} {below : List Frame} {meth : Method} {c : Code} {D : va_G} {dA : Nat → ClassId} {b : Nat} {r : Int32} {t9 : TS} (C : cx p s m args meth c cX2_take RX2 5 (some .boolean)) (hK : kk D dA s) : ∀ (t : TS) (x1 : Int32) (x2 : Int32) (H : Heap) (locs : List Loc) (hT : wd D (tw dA b t) H) (hS : tS b s.heap H locs) (ls : Array Slot), T_take t x1 x2 = some (r, t9) → lv_has ls 5 [(0, .ref b), (1, .int x1), (2, .int x2)] → W p l e rmX2_take s m args below meth c H locs 0 0 (MQ below (tQ D dA b t9 (some (.int r))) args s 0 0 (ta b)) (F0 m 0 ls []) := by
  obtain ⟨hx, hb, hr, hml, hown, hts, hlocks⟩ := id C
  intro t x1 x2 H locs hT hS ls h hl
  unfold T_take at h
  refine lv_iconst (v := 0) hx hb dX2_take_0 (by decide) ?_
  refine lv_istore_n (lv' := [(3, .int (0 : Int32)), (0, .ref b), (1, .int x1), (2, .int x2)]) hx hb dX2_take_1 rfl hl (by decide) rfl (fun ls hl => ?_)
  exact bX2_take_2 C hK fu t x1 x2 (0 : Int32) H locs hT hS ls h (lv_sub hl [1, 2, 3, 0] rfl)
theorem mX2_take {l : Launch} {D : va_G} {dA : Nat → ClassId} {b : Nat} {t : TS} {x1 : Int32} {x2 : Int32} {r : Int32} {t9 : TS} (h : T_take t x1 x2 = some (r, t9)) : Met l yX2_take (ws_ yX2_take cX2_take 5 (some .boolean)) rmX2_take (tPc D dA b t [.ref b, .int x1, .int x2]) (tQ D dA b t9 (some (.int r))) 0 0 (ta b) := en_R (by decide +kernel) rfl (Nat.le_of_ble_eq_true rfl) (fun p e s m below meth c ls C hK hT hl => bX2_take C hK t x1 x2 _ [] hT tS.rf ls h hl)
set_option maxRecDepth 20000 in
abbrev rmX2_lengthOf : Room := { frames := 0, cells := 0, slots := 0, locals := 0 }
theorem hdX2_lengthOf : yX2_lengthOf.cls = RX2 ∧ yX2_lengthOf.cls ≠ "java/lang/invoke/MethodHandle" ∧ yX2_lengthOf.cls ≠ "java/lang/invoke/VarHandle" ∧ (parseMethodDescriptor yX2_lengthOf.desc).map (fun d => d.parameters.length) = some 1 := by decide +kernel
theorem bX2_lengthOf {p : Program} {l : Launch} {e : Env} {s : State} {m : MethodId} {args : Array Value} {below : List Frame} {meth : Method} {c : Code} {D : va_G} {dA : Nat → ClassId} {b : Nat} {t : TS} {r : Int32} (C : cx p s m args meth c cX2_lengthOf RX2 2 (some .int)) (hK : kk D dA s) (hT : wd D (tw dA b t) s.heap) : ∀ (x1 : Int32) (ls : Array Slot), T_lengthOf t x1 = some r → lv_has ls 2 [(0, .ref b), (1, .int x1)] → W p l e rmX2_lengthOf s m args below meth c s.heap [] 0 0 (MQ below (rQi r) args s 0 0 nof) (F0 m 0 ls []) := by
  obtain ⟨hx, hb, hr, hml, hown, hts, hlocks⟩ := id C
  intro x1 ls h hl
  unfold T_lengthOf at h
  refine lv_aload_n hx hb dX2_lengthOf_0 rfl (lv_at hl 0 rfl) ?_
  refine tg0 C hK hT dX2_lengthOf_1 ?_
  refine lv_bipush (v := 116) hx hb dX2_lengthOf_4 (by decide) ?_
  refine lv_bipush (v := 10) hx hb dX2_lengthOf_6 (by decide) ?_
  refine lv_iload_n hx hb dX2_lengthOf_8 rfl (lv_at hl 1 rfl) ?_
  refine lv_imul hx hb dX2_lengthOf_9 ?_
  refine lv_iadd hx hb dX2_lengthOf_10 ?_
  refine lv_bipush (v := 8) hx hb dX2_lengthOf_11 (by decide) ?_
  refine lv_iadd hx hb dX2_lengthOf_13 ?_
  obtain ⟨hi, h⟩ := ck_some h
  refine tl0 C hK hT hi dX2_lengthOf_14 ?_
  exact e_ri C h dX2_lengthOf_15
theorem mX2_lengthOf {l : Launch} {D : va_G} {dA : Nat → ClassId} {b : Nat} {t : TS} {x1 : Int32} {r : Int32} (h : T_lengthOf t x1 = some r) : Met l yX2_lengthOf (ws_ yX2_lengthOf cX2_lengthOf 2 (some .int)) rmX2_lengthOf (tPc D dA b t [.ref b, .int x1]) (rQi r) 0 0 nof := en_R (by decide +kernel) rfl (Nat.le_of_ble_eq_true rfl) (fun p e s m below meth c ls C hK hT hl => bX2_lengthOf C hK hT x1 ls h hl)
set_option maxRecDepth 20000 in
abbrev rmX2_letterOf : Room := { frames := 0, cells := 0, slots := 0, locals := 0 }
theorem hdX2_letterOf : yX2_letterOf.cls = RX2 ∧ yX2_letterOf.cls ≠ "java/lang/invoke/MethodHandle" ∧ yX2_letterOf.cls ≠ "java/lang/invoke/VarHandle" ∧ (parseMethodDescriptor yX2_letterOf.desc).map (fun d => d.parameters.length) = some 2 := by decide +kernel
theorem bX2_letterOf {p : Program} {l : Launch} {e : Env} {s : State} {m : MethodId} {args : Array Value} {below : List Frame} {meth : Method} {c : Code} {D : va_G} {dA : Nat → ClassId} {b : Nat} {t : TS} {r : Int32} (C : cx p s m args meth c cX2_letterOf RX2 3 (some .int)) (hK : kk D dA s) (hT : wd D (tw dA b t) s.heap) : ∀ (x1 : Int32) (x2 : Int32) (ls : Array Slot), T_letterOf t x1 x2 = some r → lv_has ls 3 [(0, .ref b), (1, .int x1), (2, .int x2)] → W p l e rmX2_letterOf s m args below meth c s.heap [] 0 0 (MQ below (rQi r) args s 0 0 nof) (F0 m 0 ls []) := by
  obtain ⟨hx, hb, hr, hml, hown, hts, hlocks⟩ := id C
  intro x1 x2 ls h hl
  unfold T_letterOf at h
  refine lv_aload_n hx hb dX2_letterOf_0 rfl (lv_at hl 0 rfl) ?_
  refine tg0 C hK hT dX2_letterOf_1 ?_
  refine lv_bipush (v := 116) hx hb dX2_letterOf_4 (by decide) ?_
  refine lv_bipush (v := 10) hx hb dX2_letterOf_6 (by decide) ?_
  refine lv_iload_n hx hb dX2_letterOf_8 rfl (lv_at hl 1 rfl) ?_
  refine lv_imul hx hb dX2_letterOf_9 ?_
  refine lv_iadd hx hb dX2_letterOf_10 ?_
  refine lv_iload_n hx hb dX2_letterOf_11 rfl (lv_at hl 2 rfl) ?_
  refine lv_iadd hx hb dX2_letterOf_12 ?_
  obtain ⟨hi, h⟩ := ck_some h
  refine tl0 C hK hT hi dX2_letterOf_13 ?_
  exact e_ri C h dX2_letterOf_14
theorem mX2_letterOf {l : Launch} {D : va_G} {dA : Nat → ClassId} {b : Nat} {t : TS} {x1 : Int32} {x2 : Int32} {r : Int32} (h : T_letterOf t x1 x2 = some r) : Met l yX2_letterOf (ws_ yX2_letterOf cX2_letterOf 3 (some .int)) rmX2_letterOf (tPc D dA b t [.ref b, .int x1, .int x2]) (rQi r) 0 0 nof := en_R (by decide +kernel) rfl (Nat.le_of_ble_eq_true rfl) (fun p e s m below meth c ls C hK hT hl => bX2_letterOf C hK hT x1 x2 ls h hl)
set_option maxRecDepth 20000 in
abbrev rmX2_isTold : Room := { frames := 1, cells := 0, slots := 0, locals := 22 }
theorem hdX2_isTold : yX2_isTold.cls = RX2 ∧ yX2_isTold.cls ≠ "java/lang/invoke/MethodHandle" ∧ yX2_isTold.cls ≠ "java/lang/invoke/VarHandle" ∧ (parseMethodDescriptor yX2_isTold.desc).map (fun d => d.parameters.length) = some 0 := by decide +kernel
theorem bX2_isTold_64 {p : Program} {l : Launch} {e : Env} {s : State} {m : MethodId} {args : Array Value} {below : List Frame} {meth : Method} {c : Code} {D : va_G} {dA : Nat → ClassId} {b : Nat} {t : TS} {r : Int32} (C : cx p s m args meth c cX2_isTold RX2 4 (some .boolean)) (hK : kk D dA s) (hT : wd D (tw dA b t) s.heap) {k32 : Int32 → Int32 → Int32 → Option Int32} (hk32 : ∀ (x1 : Int32) (x2 : Int32) (x3 : Int32) (ls : Array Slot), k32 x1 x2 x3 = some r → lv_has ls 4 [(0, .ref b), (1, .int x1), (2, .int x2), (3, .int x3)] → W p l e rmX2_isTold s m args below meth c s.heap [] 0 0 (MQ below (rQi r) args s 0 0 nof) (F0 m 32 ls [])) : ∀ (x1 : Int32) (x3 : Int32) (y0 : Int32) (ls : Array Slot), T_isTold_64 k32 t x1 x3 y0 = some r → lv_has ls 4 [(0, .ref b), (1, .int x1), (3, .int x3)] → W p l e rmX2_isTold s m args below meth c s.heap [] 0 0 (MQ below (rQi r) args s 0 0 nof) (F0 m 64 ls [.int y0]) := by
  obtain ⟨hx, hb, hr, hml, hown, hts, hlocks⟩ := id C
  intro x1 x3 y0 ls h hl
  unfold T_isTold_64 at h
  refine lv_istore_n (lv' := [(2, .int y0), (0, .ref b), (1, .int x1), (3, .int x3)]) hx hb dX2_isTold_64 rfl hl (by decide) rfl (fun ls hl => ?_)
  obtain ⟨v1, ev1⟩ : ∃ y : Int32, y = x3 + (1 : Int32) := ⟨_, rfl⟩
  replace h := lt1_sub ev1 h
  refine lv_iinc (v := v1) (lv' := [(3, .int v1), (2, .int y0), (0, .ref b), (1, .int x1)]) hx hb dX2_isTold_65 hl (k := 3) rfl (by rw [ev1]; rfl) (by decide) rfl (fun ls hl => ?_)
  refine lv_goto (tgt := 32) hx hb dX2_isTold_68 (by decide) ?_
  exact hk32 x1 y0 v1 ls h (lv_sub hl [2, 3, 1, 0] rfl)
theorem bX2_isTold_63 {p : Program} {l : Launch} {e : Env} {s : State} {m : MethodId} {args : Array Value} {below : List Frame} {meth : Method} {c : Code} {D : va_G} {dA : Nat → ClassId} {b : Nat} {t : TS} {r : Int32} (C : cx p s m args meth c cX2_isTold RX2 4 (some .boolean)) (hK : kk D dA s) (hT : wd D (tw dA b t) s.heap) {k32 : Int32 → Int32 → Int32 → Option Int32} (hk32 : ∀ (x1 : Int32) (x2 : Int32) (x3 : Int32) (ls : Array Slot), k32 x1 x2 x3 = some r → lv_has ls 4 [(0, .ref b), (1, .int x1), (2, .int x2), (3, .int x3)] → W p l e rmX2_isTold s m args below meth c s.heap [] 0 0 (MQ below (rQi r) args s 0 0 nof) (F0 m 32 ls [])) : ∀ (x1 : Int32) (x3 : Int32) (ls : Array Slot), T_isTold_63 k32 t x1 x3 = some r → lv_has ls 4 [(0, .ref b), (1, .int x1), (3, .int x3)] → W p l e rmX2_isTold s m args below meth c s.heap [] 0 0 (MQ below (rQi r) args s 0 0 nof) (F0 m 63 ls []) := by
  obtain ⟨hx, hb, hr, hml, hown, hts, hlocks⟩ := id C
  intro x1 x3 ls h hl
  unfold T_isTold_63 at h
  refine lv_iconst (v := 0) hx hb dX2_isTold_63 (by decide) ?_
  exact bX2_isTold_64 C hK hT hk32 x1 x3 (0 : Int32) ls h (lv_sub hl [0, 1, 2] rfl)
theorem bX2_isTold_32 {p : Program} {l : Launch} {e : Env} {s : State} {m : MethodId} {args : Array Value} {below : List Frame} {meth : Method} {c : Code} {D : va_G} {dA : Nat → ClassId} {b : Nat} {t : TS} {r : Int32} (C : cx p s m args meth c cX2_isTold RX2 4 (some .boolean)) (hK : kk D dA s) (hT : wd D (tw dA b t) s.heap) {k2 : Int32 → Option Int32} (hk2 : ∀ (x1 : Int32) (ls : Array Slot), k2 x1 = some r → lv_has ls 4 [(0, .ref b), (1, .int x1)] → W p l e rmX2_isTold s m args below meth c s.heap [] 0 0 (MQ below (rQi r) args s 0 0 nof) (F0 m 2 ls [])) : ∀ (n : Nat), ∀ (x1 : Int32) (x2 : Int32) (x3 : Int32) (ls : Array Slot), T_isTold_32 k2 t n x1 x2 x3 = some r → lv_has ls 4 [(0, .ref b), (1, .int x1), (2, .int x2), (3, .int x3)] → W p l e rmX2_isTold s m args below meth c s.heap [] 0 0 (MQ below (rQi r) args s 0 0 nof) (F0 m 32 ls []) := by
  obtain ⟨hx, hb, hr, hml, hown, hts, hlocks⟩ := id C
  intro n
  induction n with
  | zero =>
    intro x1 x2 x3 ls h hl
    have h : none = some _ := h
    cases h
  | succ n ih =>
    intro x1 x2 x3 ls h hl
    rw [T_isTold_32] at h
    refine lv_iload_n hx hb dX2_isTold_32 rfl (lv_at hl 3 rfl) ?_
    refine lv_aload_n hx hb dX2_isTold_33 rfl (lv_at hl 0 rfl) ?_
    refine tg4 C hK hT dX2_isTold_34 ?_
    refine lv_icmp_ge (tgt := 71) hx hb dX2_isTold_37 (by decide) (fun c => ?_) (fun c => ?_)
    · replace h := if_t c h
      refine lv_iload_n hx hb dX2_isTold_71 rfl (lv_at hl 2 rfl) ?_
      refine lv_if_eq (tgt := 77) hx hb dX2_isTold_72 (by decide) (fun c => ?_) (fun c => ?_)
      · replace h := if_t c h
        obtain ⟨v1, ev1⟩ : ∃ y : Int32, y = x1 + (1 : Int32) := ⟨_, rfl⟩
        replace h := lt1_sub ev1 h
        refine lv_iinc (v := v1) (lv' := [(1, .int v1), (0, .ref b), (2, .int x2), (3, .int x3)]) hx hb dX2_isTold_77 hl (k := 1) rfl (by rw [ev1]; rfl) (by decide) rfl (fun ls hl => ?_)
        refine lv_goto (tgt := 2) hx hb dX2_isTold_80 (by decide) ?_
        exact hk2 v1 ls h (lv_sub hl [1, 0] rfl)
      · replace h := if_f c h
        refine lv_iconst (v := 1) hx hb dX2_isTold_75 (by decide) ?_
        exact e_rz C (Or.inr rfl) h dX2_isTold_76
    · replace h := if_f c h
      refine lv_iload_n hx hb dX2_isTold_40 rfl (lv_at hl 2 rfl) ?_
      refine lv_if_eq (tgt := 63) hx hb dX2_isTold_41 (by decide) (fun c => ?_) (fun c => ?_)
      · replace h := if_t c h
        exact bX2_isTold_63 C hK hT ih x1 x3 ls h (lv_sub hl [0, 1, 3] rfl)
      · replace h := if_f c h
        refine lv_aload_n hx hb dX2_isTold_44 rfl (lv_at hl 0 rfl) ?_
        refine lv_iload_n hx hb dX2_isTold_45 rfl (lv_at hl 1 rfl) ?_
        refine lv_iload_n hx hb dX2_isTold_46 rfl (lv_at hl 3 rfl) ?_
        obtain ⟨v2, hv2, h⟩ := bd1_some h
        refine r_int (run_t (As := [.int x1, .int x3]) (rest := []) C hK hT (mX2_letterOf hv2) q1682 q1684 qs72 q162 q1685 ⟨rfl, rfl⟩ hdX2_letterOf ⟨Nat.le_of_ble_eq_true rfl, Nat.le_of_ble_eq_true rfl⟩ ⟨Nat.zero_le _, Nat.zero_le _⟩ rfl hl.1 rfl (Nat.le_of_ble_eq_true rfl) dX2_isTold_47) ?_
        refine lv_aload_n hx hb dX2_isTold_50 rfl (lv_at hl 0 rfl) ?_
        refine tg3 C hK hT dX2_isTold_51 ?_
        refine lv_iload_n hx hb dX2_isTold_54 rfl (lv_at hl 3 rfl) ?_
        obtain ⟨hi, h⟩ := ck_some h
        refine tl3 C hK hT hi dX2_isTold_55 ?_
        refine lv_icmp_ne (tgt := 63) hx hb dX2_isTold_56 (by decide) (fun c => ?_) (fun c => ?_)
        · replace h := if_f c h
          exact bX2_isTold_63 C hK hT ih x1 x3 ls h (lv_sub hl [0, 1, 3] rfl)
        · replace h := if_t c h
          refine lv_iconst (v := 1) hx hb dX2_isTold_59 (by decide) ?_
          refine lv_goto (tgt := 64) hx hb dX2_isTold_60 (by decide) ?_
          exact bX2_isTold_64 C hK hT ih x1 x3 (1 : Int32) ls h (lv_sub hl [0, 1, 3] rfl)
theorem bX2_isTold_29 {p : Program} {l : Launch} {e : Env} {s : State} {m : MethodId} {args : Array Value} {below : List Frame} {meth : Method} {c : Code} {D : va_G} {dA : Nat → ClassId} {b : Nat} {t : TS} {r : Int32} (C : cx p s m args meth c cX2_isTold RX2 4 (some .boolean)) (hK : kk D dA s) (hT : wd D (tw dA b t) s.heap) {k2 : Int32 → Option Int32} (hk2 : ∀ (x1 : Int32) (ls : Array Slot), k2 x1 = some r → lv_has ls 4 [(0, .ref b), (1, .int x1)] → W p l e rmX2_isTold s m args below meth c s.heap [] 0 0 (MQ below (rQi r) args s 0 0 nof) (F0 m 2 ls [])) : ∀ (x1 : Int32) (y0 : Int32) (ls : Array Slot), T_isTold_29 k2 t x1 y0 = some r → lv_has ls 4 [(0, .ref b), (1, .int x1)] → W p l e rmX2_isTold s m args below meth c s.heap [] 0 0 (MQ below (rQi r) args s 0 0 nof) (F0 m 29 ls [.int y0]) := by
  obtain ⟨hx, hb, hr, hml, hown, hts, hlocks⟩ := id C
  intro x1 y0 ls h hl
  unfold T_isTold_29 at h
  refine lv_istore_n (lv' := [(2, .int y0), (0, .ref b), (1, .int x1)]) hx hb dX2_isTold_29 rfl hl (by decide) rfl (fun ls hl => ?_)
  refine lv_iconst (v := 0) hx hb dX2_isTold_30 (by decide) ?_
  refine lv_istore_n (lv' := [(3, .int (0 : Int32)), (2, .int y0), (0, .ref b), (1, .int x1)]) hx hb dX2_isTold_31 rfl hl (by decide) rfl (fun ls hl => ?_)
  exact bX2_isTold_32 C hK hT hk2 fu x1 y0 (0 : Int32) ls h (lv_sub hl [2, 3, 1, 0] rfl)
theorem bX2_isTold_2 {p : Program} {l : Launch} {e : Env} {s : State} {m : MethodId} {args : Array Value} {below : List Frame} {meth : Method} {c : Code} {D : va_G} {dA : Nat → ClassId} {b : Nat} {t : TS} {r : Int32} (C : cx p s m args meth c cX2_isTold RX2 4 (some .boolean)) (hK : kk D dA s) (hT : wd D (tw dA b t) s.heap) : ∀ (n : Nat), ∀ (x1 : Int32) (ls : Array Slot), T_isTold_2 t n x1 = some r → lv_has ls 4 [(0, .ref b), (1, .int x1)] → W p l e rmX2_isTold s m args below meth c s.heap [] 0 0 (MQ below (rQi r) args s 0 0 nof) (F0 m 2 ls []) := by
  obtain ⟨hx, hb, hr, hml, hown, hts, hlocks⟩ := id C
  intro n
  induction n with
  | zero =>
    intro x1 ls h hl
    have h : none = some _ := h
    cases h
  | succ n ih =>
    intro x1 ls h hl
    rw [T_isTold_2] at h
    refine lv_iload_n hx hb dX2_isTold_2 rfl (lv_at hl 1 rfl) ?_
    refine lv_aload_n hx hb dX2_isTold_3 rfl (lv_at hl 0 rfl) ?_
    refine tg0 C hK hT dX2_isTold_4 ?_
    refine lv_iconst (v := 0) hx hb dX2_isTold_7 (by decide) ?_
    obtain ⟨hi, h⟩ := ck_some h
    refine tl0 C hK hT hi dX2_isTold_8 ?_
    refine lv_icmp_ge (tgt := 83) hx hb dX2_isTold_9 (by decide) (fun c => ?_) (fun c => ?_)
    · replace h := if_t c h
      refine lv_iconst (v := 0) hx hb dX2_isTold_83 (by decide) ?_
      exact e_rz C (Or.inl rfl) h dX2_isTold_84
    · replace h := if_f c h
      refine lv_aload_n hx hb dX2_isTold_12 rfl (lv_at hl 0 rfl) ?_
      refine lv_iload_n hx hb dX2_isTold_13 rfl (lv_at hl 1 rfl) ?_
      obtain ⟨v1, hv1, h⟩ := bd1_some h
      refine r_int (run_t (As := [.int x1]) (rest := []) C hK hT (mX2_lengthOf hv1) q1678 q1680 qs71 q162 q1681 ⟨rfl, rfl⟩ hdX2_lengthOf ⟨Nat.le_of_ble_eq_true rfl, Nat.le_of_ble_eq_true rfl⟩ ⟨Nat.zero_le _, Nat.zero_le _⟩ rfl hl.1 rfl (Nat.le_of_ble_eq_true rfl) dX2_isTold_14) ?_
      refine lv_aload_n hx hb dX2_isTold_17 rfl (lv_at hl 0 rfl) ?_
      refine tg4 C hK hT dX2_isTold_18 ?_
      refine lv_icmp_ne (tgt := 28) hx hb dX2_isTold_21 (by decide) (fun c => ?_) (fun c => ?_)
      · replace h := if_f c h
        refine lv_iconst (v := 0) hx hb dX2_isTold_28 (by decide) ?_
        exact bX2_isTold_29 C hK hT ih x1 (0 : Int32) ls h (lv_sub hl [0, 1] rfl)
      · replace h := if_t c h
        refine lv_iconst (v := 1) hx hb dX2_isTold_24 (by decide) ?_
        refine lv_goto (tgt := 29) hx hb dX2_isTold_25 (by decide) ?_
        exact bX2_isTold_29 C hK hT ih x1 (1 : Int32) ls h (lv_sub hl [0, 1] rfl)
theorem bX2_isTold {p : Program} {l : Launch} {e : Env} {s : State} {m : MethodId} {args : Array Value} {below : List Frame} {meth : Method} {c : Code} {D : va_G} {dA : Nat → ClassId} {b : Nat} {t : TS} {r : Int32} (C : cx p s m args meth c cX2_isTold RX2 4 (some .boolean)) (hK : kk D dA s) (hT : wd D (tw dA b t) s.heap) : ∀ (ls : Array Slot), T_isTold t = some r → lv_has ls 4 [(0, .ref b)] → W p l e rmX2_isTold s m args below meth c s.heap [] 0 0 (MQ below (rQi r) args s 0 0 nof) (F0 m 0 ls []) := by
  obtain ⟨hx, hb, hr, hml, hown, hts, hlocks⟩ := id C
  intro ls h hl
  unfold T_isTold at h
  refine lv_iconst (v := 0) hx hb dX2_isTold_0 (by decide) ?_
  refine lv_istore_n (lv' := [(1, .int (0 : Int32)), (0, .ref b)]) hx hb dX2_isTold_1 rfl hl (by decide) rfl (fun ls hl => ?_)
  exact bX2_isTold_2 C hK hT fu (0 : Int32) ls h (lv_sub hl [1, 0] rfl)
theorem mX2_isTold {l : Launch} {D : va_G} {dA : Nat → ClassId} {b : Nat} {t : TS} {r : Int32} (h : T_isTold t = some r) : Met l yX2_isTold (ws_ yX2_isTold cX2_isTold 4 (some .boolean)) rmX2_isTold (tPc D dA b t [.ref b]) (rQi r) 0 0 nof := en_R (by decide +kernel) rfl (Nat.le_of_ble_eq_true rfl) (fun p e s m below meth c ls C hK hT hl => bX2_isTold C hK hT ls h hl)
set_option maxRecDepth 20000 in
abbrev rmX2_wordNow : Room := { frames := 2, cells := 0, slots := 0, locals := 45 }
theorem hdX2_wordNow : yX2_wordNow.cls = RX2 ∧ yX2_wordNow.cls ≠ "java/lang/invoke/MethodHandle" ∧ yX2_wordNow.cls ≠ "java/lang/invoke/VarHandle" ∧ (parseMethodDescriptor yX2_wordNow.desc).map (fun d => d.parameters.length) = some 1 := by decide +kernel
theorem bX2_wordNow_73 {p : Program} {l : Launch} {e : Env} {s : State} {m : MethodId} {args : Array Value} {below : List Frame} {meth : Method} {c : Code} {D : va_G} {dA : Nat → ClassId} {b : Nat} {r : Int32} {t9 : TS} (C : cx p s m args meth c cX2_wordNow RX2 4 (some .int)) (hK : kk D dA s) {k42 : TS → Int32 → Int32 → Int32 → Option (Int32 × TS)} (hk42 : ∀ (t : TS) (x1 : Int32) (x2 : Int32) (x3 : Int32) (H : Heap) (locs : List Loc) (hT : wd D (tw dA b t) H) (hS : tS b s.heap H locs) (ls : Array Slot), k42 t x1 x2 x3 = some (r, t9) → lv_has ls 4 [(0, .ref b), (1, .int x1), (2, .int x2), (3, .int x3)] → W p l e rmX2_wordNow s m args below meth c H locs 0 0 (MQ below (tQ D dA b t9 (some (.int r))) args s 0 0 (ta b)) (F0 m 42 ls [])) : ∀ (t : TS) (x1 : Int32) (x2 : Int32) (x3 : Int32) (y1 : Int32) (y2 : Int32) (H : Heap) (locs : List Loc) (hT : wd D (tw dA b t) H) (hS : tS b s.heap H locs) (ls : Array Slot), T_wordNow_73 k42 t x1 x2 x3 y1 y2 = some (r, t9) → lv_has ls 4 [(0, .ref b), (1, .int x1), (2, .int x2), (3, .int x3)] → W p l e rmX2_wordNow s m args below meth c H locs 0 0 (MQ below (tQ D dA b t9 (some (.int r))) args s 0 0 (ta b)) (F0 m 73 ls [.int y2, .int y1, .ref (b + 1)]) := by
  obtain ⟨hx, hb, hr, hml, hown, hts, hlocks⟩ := id C
  intro t x1 x2 x3 y1 y2 H locs hT hS ls h hl
  unfold T_wordNow_73 at h
  obtain ⟨hi, h⟩ := ck_some h
  refine ts0 C hK hT hS hi dX2_wordNow_73 (fun t1 H locs et1 hT hS => ?_)
  replace h := lt1_sub et1 h
  obtain ⟨v2, ev2⟩ : ∃ y : Int32, y = x3 + (1 : Int32) := ⟨_, rfl⟩
  replace h := lt1_sub ev2 h
  refine lv_iinc (v := v2) (lv' := [(3, .int v2), (0, .ref b), (1, .int x1), (2, .int x2)]) hx hb dX2_wordNow_74 hl (k := 3) rfl (by rw [ev2]; rfl) (by decide) rfl (fun ls hl => ?_)
  refine lv_goto (tgt := 42) hx hb dX2_wordNow_77 (by decide) ?_
  exact hk42 t1 x1 x2 v2 H locs hT hS ls h (lv_sub hl [1, 2, 3, 0] rfl)
theorem bX2_wordNow_42 {p : Program} {l : Launch} {e : Env} {s : State} {m : MethodId} {args : Array Value} {below : List Frame} {meth : Method} {c : Code} {D : va_G} {dA : Nat → ClassId} {b : Nat} {r : Int32} {t9 : TS} (C : cx p s m args meth c cX2_wordNow RX2 4 (some .int)) (hK : kk D dA s) : ∀ (n : Nat), ∀ (t : TS) (x1 : Int32) (x2 : Int32) (x3 : Int32) (H : Heap) (locs : List Loc) (hT : wd D (tw dA b t) H) (hS : tS b s.heap H locs) (ls : Array Slot), T_wordNow_42 n t x1 x2 x3 = some (r, t9) → lv_has ls 4 [(0, .ref b), (1, .int x1), (2, .int x2), (3, .int x3)] → W p l e rmX2_wordNow s m args below meth c H locs 0 0 (MQ below (tQ D dA b t9 (some (.int r))) args s 0 0 (ta b)) (F0 m 42 ls []) := by
  obtain ⟨hx, hb, hr, hml, hown, hts, hlocks⟩ := id C
  intro n
  induction n with
  | zero =>
    intro t x1 x2 x3 H locs hT hS ls h hl
    have h : none = some _ := h
    cases h
  | succ n ih =>
    intro t x1 x2 x3 H locs hT hS ls h hl
    rw [T_wordNow_42] at h
    refine lv_iload_n hx hb dX2_wordNow_42 rfl (lv_at hl 3 rfl) ?_
    refine lv_bipush (v := 8) hx hb dX2_wordNow_43 (by decide) ?_
    refine lv_icmp_ge (tgt := 80) hx hb dX2_wordNow_45 (by decide) (fun c => ?_) (fun c => ?_)
    · replace h := if_t c h
      refine lv_aload_n hx hb dX2_wordNow_80 rfl (lv_at hl 0 rfl) ?_
      refine tg0 C hK hT dX2_wordNow_81 ?_
      refine lv_iload_n hx hb dX2_wordNow_84 rfl (lv_at hl 2 rfl) ?_
      refine lv_bipush (v := 8) hx hb dX2_wordNow_85 (by decide) ?_
      refine lv_iadd hx hb dX2_wordNow_87 ?_
      refine lv_aload_n hx hb dX2_wordNow_88 rfl (lv_at hl 0 rfl) ?_
      refine tg4 C hK hT dX2_wordNow_89 ?_
      obtain ⟨hi, h⟩ := ck_some h
      refine ts0 C hK hT hS hi dX2_wordNow_92 (fun t1 H locs et1 hT hS => ?_)
      replace h := lt1_sub et1 h
      refine lv_aload_n hx hb dX2_wordNow_93 rfl (lv_at hl 0 rfl) ?_
      refine tg0 C hK hT dX2_wordNow_94 ?_
      refine lv_iload_n hx hb dX2_wordNow_97 rfl (lv_at hl 2 rfl) ?_
      refine lv_bipush (v := 9) hx hb dX2_wordNow_98 (by decide) ?_
      refine lv_iadd hx hb dX2_wordNow_100 ?_
      refine lv_iload_n hx hb dX2_wordNow_101 rfl (lv_at hl 1 rfl) ?_
      obtain ⟨hi, h⟩ := ck_some h
      refine ts0 C hK hT hS hi dX2_wordNow_102 (fun t2 H locs et2 hT hS => ?_)
      replace h := lt1_sub et2 h
      refine lv_aload_n hx hb dX2_wordNow_103 rfl (lv_at hl 0 rfl) ?_
      refine tg0 C hK hT dX2_wordNow_104 ?_
      refine lv_iconst (v := 0) hx hb dX2_wordNow_107 (by decide) ?_
      refine lv_dup2_11 hx hb dX2_wordNow_108 rfl rfl ?_
      obtain ⟨hi, h⟩ := ck_some h
      refine tl0 C hK hT hi dX2_wordNow_109 ?_
      refine lv_iconst (v := 1) hx hb dX2_wordNow_110 (by decide) ?_
      refine lv_iadd hx hb dX2_wordNow_111 ?_
      obtain ⟨hi, h⟩ := ck_some h
      refine ts0 C hK hT hS hi dX2_wordNow_112 (fun t3 H locs et3 hT hS => ?_)
      replace h := lt1_sub et3 h
      refine lv_aload_n hx hb dX2_wordNow_113 rfl (lv_at hl 0 rfl) ?_
      refine tg0 C hK hT dX2_wordNow_114 ?_
      refine lv_iconst (v := 0) hx hb dX2_wordNow_117 (by decide) ?_
      obtain ⟨hi, h⟩ := ck_some h
      refine tl0 C hK hT hi dX2_wordNow_118 ?_
      refine lv_iconst (v := 1) hx hb dX2_wordNow_119 (by decide) ?_
      refine lv_isub hx hb dX2_wordNow_120 ?_
      exact e_wi C hT hS h dX2_wordNow_121
    · replace h := if_f c h
      refine lv_aload_n hx hb dX2_wordNow_48 rfl (lv_at hl 0 rfl) ?_
      refine tg0 C hK hT dX2_wordNow_49 ?_
      refine lv_iload_n hx hb dX2_wordNow_52 rfl (lv_at hl 2 rfl) ?_
      refine lv_iload_n hx hb dX2_wordNow_53 rfl (lv_at hl 3 rfl) ?_
      refine lv_iadd hx hb dX2_wordNow_54 ?_
      refine lv_iload_n hx hb dX2_wordNow_55 rfl (lv_at hl 3 rfl) ?_
      refine lv_aload_n hx hb dX2_wordNow_56 rfl (lv_at hl 0 rfl) ?_
      refine tg4 C hK hT dX2_wordNow_57 ?_
      refine lv_icmp_ge (tgt := 72) hx hb dX2_wordNow_60 (by decide) (fun c => ?_) (fun c => ?_)
      · replace h := if_t c h
        refine lv_iconst (v := 0) hx hb dX2_wordNow_72 (by decide) ?_
        exact bX2_wordNow_73 C hK ih t x1 x2 x3 (x2 + x3) (0 : Int32) H locs hT hS ls h (lv_sub hl [0, 1, 2, 3] rfl)
      · replace h := if_f c h
        refine lv_aload_n hx hb dX2_wordNow_63 rfl (lv_at hl 0 rfl) ?_
        refine tg3 C hK hT dX2_wordNow_64 ?_
        refine lv_iload_n hx hb dX2_wordNow_67 rfl (lv_at hl 3 rfl) ?_
        obtain ⟨hi, h⟩ := ck_some h
        refine tl3 C hK hT hi dX2_wordNow_68 ?_
        refine lv_goto (tgt := 73) hx hb dX2_wordNow_69 (by decide) ?_
        exact bX2_wordNow_73 C hK ih t x1 x2 x3 (x2 + x3) (t.1 3 x3.toNatClampNeg) H locs hT hS ls h (lv_sub hl [0, 1, 2, 3] rfl)
theorem bX2_wordNow {p : Program} {l : Launch} {e : Env} {s : State} {m : MethodId} {args : Array Value} {below : List Frame} {meth : Method} {c : Code} {D : va_G} {dA : Nat → ClassId} {b : Nat} {r : Int32} {t9 : TS} (C : cx p s m args meth c cX2_wordNow RX2 4 (some .int)) (hK : kk D dA s) : ∀ (t : TS) (x1 : Int32) (H : Heap) (locs : List Loc) (hT : wd D (tw dA b t) H) (hS : tS b s.heap H locs) (ls : Array Slot), T_wordNow t x1 = some (r, t9) → lv_has ls 4 [(0, .ref b), (1, .int x1)] → W p l e rmX2_wordNow s m args below meth c H locs 0 0 (MQ below (tQ D dA b t9 (some (.int r))) args s 0 0 (ta b)) (F0 m 0 ls []) := by
  obtain ⟨hx, hb, hr, hml, hown, hts, hlocks⟩ := id C
  intro t x1 H locs hT hS ls h hl
  unfold T_wordNow at h
  refine lv_aload_n hx hb dX2_wordNow_0 rfl (lv_at hl 0 rfl) ?_
  refine tg4 C hK hT dX2_wordNow_1 ?_
  refine lv_if_eq (tgt := 25) hx hb dX2_wordNow_4 (by decide) (fun c => ?_) (fun c => ?_)
  · replace h := if_t c h
    refine lv_iconst (v := -1) hx hb dX2_wordNow_25 (by decide) ?_
    exact e_wi C hT hS h dX2_wordNow_26
  · replace h := if_f c h
    refine lv_aload_n hx hb dX2_wordNow_7 rfl (lv_at hl 0 rfl) ?_
    obtain ⟨v1, hv1, h⟩ := bd1_some h
    refine r_int (run_t (As := []) (rest := []) C hK hT (mX2_isTold hv1) q1674 q1676 qs70 q162 q1677 ⟨rfl, rfl⟩ hdX2_isTold ⟨Nat.le_of_ble_eq_true rfl, Nat.le_of_ble_eq_true rfl⟩ ⟨Nat.zero_le _, Nat.zero_le _⟩ rfl hl.1 rfl (Nat.le_of_ble_eq_true rfl) dX2_wordNow_8) ?_
    refine lv_if_ne (tgt := 25) hx hb dX2_wordNow_11 (by decide) (fun c => ?_) (fun c => ?_)
    · replace h := if_f c h
      refine lv_iconst (v := -1) hx hb dX2_wordNow_25 (by decide) ?_
      exact e_wi C hT hS h dX2_wordNow_26
    · replace h := if_t c h
      refine lv_aload_n hx hb dX2_wordNow_14 rfl (lv_at hl 0 rfl) ?_
      refine tg0 C hK hT dX2_wordNow_15 ?_
      refine lv_iconst (v := 0) hx hb dX2_wordNow_18 (by decide) ?_
      obtain ⟨hi, h⟩ := ck_some h
      refine tl0 C hK hT hi dX2_wordNow_19 ?_
      refine lv_bipush (v := 24) hx hb dX2_wordNow_20 (by decide) ?_
      refine lv_icmp_ne (tgt := 27) hx hb dX2_wordNow_22 (by decide) (fun c => ?_) (fun c => ?_)
      · replace h := if_f c h
        refine lv_bipush (v := 116) hx hb dX2_wordNow_27 (by decide) ?_
        refine lv_bipush (v := 10) hx hb dX2_wordNow_29 (by decide) ?_
        refine lv_aload_n hx hb dX2_wordNow_31 rfl (lv_at hl 0 rfl) ?_
        refine tg0 C hK hT dX2_wordNow_32 ?_
        refine lv_iconst (v := 0) hx hb dX2_wordNow_35 (by decide) ?_
        obtain ⟨hi, h⟩ := ck_some h
        refine tl0 C hK hT hi dX2_wordNow_36 ?_
        refine lv_imul hx hb dX2_wordNow_37 ?_
        refine lv_iadd hx hb dX2_wordNow_38 ?_
        refine lv_topi (fun v2 ev2 => ?_)
        replace h := lt1_sub ev2 h
        refine lv_istore_n (lv' := [(2, .int v2), (0, .ref b), (1, .int x1)]) hx hb dX2_wordNow_39 rfl hl (by decide) rfl (fun ls hl => ?_)
        refine lv_iconst (v := 0) hx hb dX2_wordNow_40 (by decide) ?_
        refine lv_istore_n (lv' := [(3, .int (0 : Int32)), (2, .int v2), (0, .ref b), (1, .int x1)]) hx hb dX2_wordNow_41 rfl hl (by decide) rfl (fun ls hl => ?_)
        exact bX2_wordNow_42 C hK fu t x1 v2 (0 : Int32) H locs hT hS ls h (lv_sub hl [2, 3, 1, 0] rfl)
      · replace h := if_t c h
        refine lv_iconst (v := -1) hx hb dX2_wordNow_25 (by decide) ?_
        exact e_wi C hT hS h dX2_wordNow_26
theorem mX2_wordNow {l : Launch} {D : va_G} {dA : Nat → ClassId} {b : Nat} {t : TS} {x1 : Int32} {r : Int32} {t9 : TS} (h : T_wordNow t x1 = some (r, t9)) : Met l yX2_wordNow (ws_ yX2_wordNow cX2_wordNow 4 (some .int)) rmX2_wordNow (tPc D dA b t [.ref b, .int x1]) (tQ D dA b t9 (some (.int r))) 0 0 (ta b) := en_R (by decide +kernel) rfl (Nat.le_of_ble_eq_true rfl) (fun p e s m below meth c ls C hK hT hl => bX2_wordNow C hK t x1 _ [] hT tS.rf ls h hl)
set_option maxRecDepth 20000 in
abbrev rmX2_word : Room := { frames := 3, cells := 0, slots := 0, locals := 68 }
theorem hdX2_word : yX2_word.cls = RX2 ∧ yX2_word.cls ≠ "java/lang/invoke/MethodHandle" ∧ yX2_word.cls ≠ "java/lang/invoke/VarHandle" ∧ (parseMethodDescriptor yX2_word.desc).map (fun d => d.parameters.length) = some 3 := by decide +kernel
theorem bX2_word {p : Program} {l : Launch} {e : Env} {s : State} {m : MethodId} {args : Array Value} {below : List Frame} {meth : Method} {c : Code} {D : va_G} {dA : Nat → ClassId} {b : Nat} {r : Int32} {t9 : TS} (C : cx p s m args meth c cX2_word RX2 4 (some .int)) (hK : kk D dA s) : ∀ (t : TS) (x1 : Int32) (x2 : Int32) (x3 : Int32) (H : Heap) (locs : List Loc) (hT : wd D (tw dA b t) H) (hS : tS b s.heap H locs) (ls : Array Slot), T_word t x1 x2 x3 = some (r, t9) → lv_has ls 4 [(0, .ref b), (1, .int x1), (2, .int x2), (3, .int x3)] → W p l e rmX2_word s m args below meth c H locs 0 0 (MQ below (tQ D dA b t9 (some (.int r))) args s 0 0 (ta b)) (F0 m 0 ls []) := by
  obtain ⟨hx, hb, hr, hml, hown, hts, hlocks⟩ := id C
  intro t x1 x2 x3 H locs hT hS ls h hl
  unfold T_word at h
  refine lv_aload_n hx hb dX2_word_0 rfl (lv_at hl 0 rfl) ?_
  refine lv_iconst (v := 0) hx hb dX2_word_1 (by decide) ?_
  refine tp4 C hK hT hS dX2_word_2 (fun t1 H locs et1 hT hS => ?_)
  replace h := lt1_sub et1 h
  refine lv_iload_n hx hb dX2_word_5 rfl (lv_at hl 3 rfl) ?_
  refine lv_iconst (v := 0) hx hb dX2_word_6 (by decide) ?_
  refine lv_bipush (v := 9) hx hb dX2_word_7 (by decide) ?_
  obtain ⟨v2, hv2, h⟩ := bd1_some h
  refine r_int (run_s (As := [.int x3, .int (0 : Int32), .int (9 : Int32)]) (rest := []) C (mX2_isIn hv2) q1656 q1657 q162 q1658 ⟨rfl, rfl⟩ hdX2_isIn ⟨Nat.le_of_ble_eq_true rfl, Nat.le_of_ble_eq_true rfl⟩ ⟨Nat.zero_le _, Nat.zero_le _⟩ rfl hl.1 rfl (Nat.le_of_ble_eq_true rfl) dX2_word_9) ?_
  refine lv_if_eq (tgt := 33) hx hb dX2_word_12 (by decide) (fun c => ?_) (fun c => ?_)
  · replace h := if_t c h
    refine lv_iconst (v := -1) hx hb dX2_word_33 (by decide) ?_
    exact e_wi C hT hS h dX2_word_34
  · replace h := if_f c h
    refine lv_aload_n hx hb dX2_word_15 rfl (lv_at hl 0 rfl) ?_
    refine lv_iload_n hx hb dX2_word_16 rfl (lv_at hl 1 rfl) ?_
    refine lv_iconst (v := 0) hx hb dX2_word_17 (by decide) ?_
    obtain ⟨v3, t4, ht4, h⟩ := bd2_some h
    refine w_int hS (run_t (As := [.int x1, .int (0 : Int32)]) (rest := []) C hK hT (mX2_take ht4) q1666 q1668 qs68 q162 q1669 ⟨rfl, rfl⟩ hdX2_take ⟨Nat.le_of_ble_eq_true rfl, Nat.le_of_ble_eq_true rfl⟩ ⟨Nat.zero_le _, Nat.zero_le _⟩ rfl hl.1 rfl (Nat.le_of_ble_eq_true rfl) dX2_word_18) (fun H locs hT hS => ?_)
    refine lv_if_eq (tgt := 33) hx hb dX2_word_21 (by decide) (fun c => ?_) (fun c => ?_)
    · replace h := if_t c h
      refine lv_iconst (v := -1) hx hb dX2_word_33 (by decide) ?_
      exact e_wi C hT hS h dX2_word_34
    · replace h := if_f c h
      refine lv_aload_n hx hb dX2_word_24 rfl (lv_at hl 0 rfl) ?_
      refine lv_iload_n hx hb dX2_word_25 rfl (lv_at hl 2 rfl) ?_
      refine lv_iconst (v := 4) hx hb dX2_word_26 (by decide) ?_
      obtain ⟨v5, t6, ht6, h⟩ := bd2_some h
      refine w_int hS (run_t (As := [.int x2, .int (4 : Int32)]) (rest := []) C hK hT (mX2_take ht6) q1666 q1668 qs68 q162 q1669 ⟨rfl, rfl⟩ hdX2_take ⟨Nat.le_of_ble_eq_true rfl, Nat.le_of_ble_eq_true rfl⟩ ⟨Nat.zero_le _, Nat.zero_le _⟩ rfl hl.1 rfl (Nat.le_of_ble_eq_true rfl) dX2_word_27) (fun H locs hT hS => ?_)
      refine lv_if_ne (tgt := 35) hx hb dX2_word_30 (by decide) (fun c => ?_) (fun c => ?_)
      · replace h := if_f c h
        refine lv_aload_n hx hb dX2_word_35 rfl (lv_at hl 0 rfl) ?_
        refine lv_iload_n hx hb dX2_word_36 rfl (lv_at hl 3 rfl) ?_
        obtain ⟨v7, t8, ht8, h⟩ := bd2_some h
        refine w_int hS (run_t (As := [.int x3]) (rest := []) C hK hT (mX2_wordNow ht8) q1670 q1672 qs69 q162 q1673 ⟨rfl, rfl⟩ hdX2_wordNow ⟨Nat.le_of_ble_eq_true rfl, Nat.le_of_ble_eq_true rfl⟩ ⟨Nat.zero_le _, Nat.zero_le _⟩ rfl hl.1 rfl (Nat.le_of_ble_eq_true rfl) dX2_word_37) (fun H locs hT hS => ?_)
        exact e_wi C hT hS h dX2_word_40
      · replace h := if_t c h
        refine lv_iconst (v := -1) hx hb dX2_word_33 (by decide) ?_
        exact e_wi C hT hS h dX2_word_34
theorem mX2_word {l : Launch} {D : va_G} {dA : Nat → ClassId} {b : Nat} {t : TS} {x1 : Int32} {x2 : Int32} {x3 : Int32} {r : Int32} {t9 : TS} (h : T_word t x1 x2 x3 = some (r, t9)) : Met l yX2_word (ws_ yX2_word cX2_word 4 (some .int)) rmX2_word (tPc D dA b t [.ref b, .int x1, .int x2, .int x3]) (tQ D dA b t9 (some (.int r))) 0 0 (ta b) := en_R (by decide +kernel) rfl (Nat.le_of_ble_eq_true rfl) (fun p e s m below meth c ls C hK hT hl => bX2_word C hK t x1 x2 x3 _ [] hT tS.rf ls h hl)
set_option maxRecDepth 20000 in
abbrev rmX2_sayNow : Room := { frames := 0, cells := 0, slots := 0, locals := 0 }
theorem hdX2_sayNow : yX2_sayNow.cls = RX2 ∧ yX2_sayNow.cls ≠ "java/lang/invoke/MethodHandle" ∧ yX2_sayNow.cls ≠ "java/lang/invoke/VarHandle" ∧ (parseMethodDescriptor yX2_sayNow.desc).map (fun d => d.parameters.length) = some 0 := by decide +kernel
theorem bX2_sayNow_39 {p : Program} {l : Launch} {e : Env} {s : State} {m : MethodId} {args : Array Value} {below : List Frame} {meth : Method} {c : Code} {D : va_G} {dA : Nat → ClassId} {b : Nat} {r : Int32} {t9 : TS} (C : cx p s m args meth c cX2_sayNow RX2 3 (some .int)) (hK : kk D dA s) : ∀ (n : Nat), ∀ (t : TS) (x1 : Int32) (x2 : Int32) (H : Heap) (locs : List Loc) (hT : wd D (tw dA b t) H) (hS : tS b s.heap H locs) (ls : Array Slot), T_sayNow_39 n t x1 x2 = some (r, t9) → lv_has ls 3 [(0, .ref b), (1, .int x1), (2, .int x2)] → W p l e rmX2_sayNow s m args below meth c H locs 0 0 (MQ below (tQ D dA b t9 (some (.int r))) args s 0 0 (ta b)) (F0 m 39 ls []) := by
  obtain ⟨hx, hb, hr, hml, hown, hts, hlocks⟩ := id C
  intro n
  induction n with
  | zero =>
    intro t x1 x2 H locs hT hS ls h hl
    have h : none = some _ := h
    cases h
  | succ n ih =>
    intro t x1 x2 H locs hT hS ls h hl
    rw [T_sayNow_39] at h
    refine lv_iload_n hx hb dX2_sayNow_39 rfl (lv_at hl 2 rfl) ?_
    refine lv_aload_n hx hb dX2_sayNow_40 rfl (lv_at hl 0 rfl) ?_
    refine tg6 C hK hT dX2_sayNow_41 ?_
    refine lv_icmp_ge (tgt := 69) hx hb dX2_sayNow_44 (by decide) (fun c => ?_) (fun c => ?_)
    · replace h := if_t c h
      refine lv_aload_n hx hb dX2_sayNow_69 rfl (lv_at hl 0 rfl) ?_
      refine tg0 C hK hT dX2_sayNow_70 ?_
      refine lv_iconst (v := 1) hx hb dX2_sayNow_73 (by decide) ?_
      refine lv_dup2_11 hx hb dX2_sayNow_74 rfl rfl ?_
      obtain ⟨hi, h⟩ := ck_some h
      refine tl0 C hK hT hi dX2_sayNow_75 ?_
      refine lv_iconst (v := 1) hx hb dX2_sayNow_76 (by decide) ?_
      refine lv_iadd hx hb dX2_sayNow_77 ?_
      obtain ⟨hi, h⟩ := ck_some h
      refine ts0 C hK hT hS hi dX2_sayNow_78 (fun t1 H locs et1 hT hS => ?_)
      replace h := lt1_sub et1 h
      refine lv_aload_n hx hb dX2_sayNow_79 rfl (lv_at hl 0 rfl) ?_
      refine tg0 C hK hT dX2_sayNow_80 ?_
      refine lv_iconst (v := 1) hx hb dX2_sayNow_83 (by decide) ?_
      obtain ⟨hi, h⟩ := ck_some h
      refine tl0 C hK hT hi dX2_sayNow_84 ?_
      refine lv_iconst (v := 1) hx hb dX2_sayNow_85 (by decide) ?_
      refine lv_isub hx hb dX2_sayNow_86 ?_
      exact e_wi C hT hS h dX2_sayNow_87
    · replace h := if_f c h
      refine lv_aload_n hx hb dX2_sayNow_47 rfl (lv_at hl 0 rfl) ?_
      refine tg0 C hK hT dX2_sayNow_48 ?_
      refine lv_iload_n hx hb dX2_sayNow_51 rfl (lv_at hl 1 rfl) ?_
      refine lv_iconst (v := 1) hx hb dX2_sayNow_52 (by decide) ?_
      refine lv_iadd hx hb dX2_sayNow_53 ?_
      refine lv_iload_n hx hb dX2_sayNow_54 rfl (lv_at hl 2 rfl) ?_
      refine lv_iadd hx hb dX2_sayNow_55 ?_
      refine lv_aload_n hx hb dX2_sayNow_56 rfl (lv_at hl 0 rfl) ?_
      refine tg5 C hK hT dX2_sayNow_57 ?_
      refine lv_iload_n hx hb dX2_sayNow_60 rfl (lv_at hl 2 rfl) ?_
      obtain ⟨hi, h⟩ := ck_some h
      refine tl5 C hK hT hi dX2_sayNow_61 ?_
      obtain ⟨hi, h⟩ := ck_some h
      refine ts0 C hK hT hS hi dX2_sayNow_62 (fun t2 H locs et2 hT hS => ?_)
      replace h := lt1_sub et2 h
      obtain ⟨v3, ev3⟩ : ∃ y : Int32, y = x2 + (1 : Int32) := ⟨_, rfl⟩
      replace h := lt1_sub ev3 h
      refine lv_iinc (v := v3) (lv' := [(2, .int v3), (0, .ref b), (1, .int x1)]) hx hb dX2_sayNow_63 hl (k := 2) rfl (by rw [ev3]; rfl) (by decide) rfl (fun ls hl => ?_)
      refine lv_goto (tgt := 39) hx hb dX2_sayNow_66 (by decide) ?_
      exact ih t2 x1 v3 H locs hT hS ls h (lv_sub hl [1, 2, 0] rfl)
theorem bX2_sayNow {p : Program} {l : Launch} {e : Env} {s : State} {m : MethodId} {args : Array Value} {below : List Frame} {meth : Method} {c : Code} {D : va_G} {dA : Nat → ClassId} {b : Nat} {r : Int32} {t9 : TS} (C : cx p s m args meth c cX2_sayNow RX2 3 (some .int)) (hK : kk D dA s) : ∀ (t : TS) (H : Heap) (locs : List Loc) (hT : wd D (tw dA b t) H) (hS : tS b s.heap H locs) (ls : Array Slot), T_sayNow t = some (r, t9) → lv_has ls 3 [(0, .ref b)] → W p l e rmX2_sayNow s m args below meth c H locs 0 0 (MQ below (tQ D dA b t9 (some (.int r))) args s 0 0 (ta b)) (F0 m 0 ls []) := by
  obtain ⟨hx, hb, hr, hml, hown, hts, hlocks⟩ := id C
  intro t H locs hT hS ls h hl
  unfold T_sayNow at h
  refine lv_aload_n hx hb dX2_sayNow_0 rfl (lv_at hl 0 rfl) ?_
  refine tg0 C hK hT dX2_sayNow_1 ?_
  refine lv_iconst (v := 1) hx hb dX2_sayNow_4 (by decide) ?_
  obtain ⟨hi, h⟩ := ck_some h
  refine tl0 C hK hT hi dX2_sayNow_5 ?_
  refine lv_bipush (v := 8) hx hb dX2_sayNow_6 (by decide) ?_
  refine lv_icmp_ne (tgt := 13) hx hb dX2_sayNow_8 (by decide) (fun c => ?_) (fun c => ?_)
  · replace h := if_f c h
    refine lv_sipush (v := 356) hx hb dX2_sayNow_13 (by decide) ?_
    refine lv_bipush (v := 9) hx hb dX2_sayNow_16 (by decide) ?_
    refine lv_aload_n hx hb dX2_sayNow_18 rfl (lv_at hl 0 rfl) ?_
    refine tg0 C hK hT dX2_sayNow_19 ?_
    refine lv_iconst (v := 1) hx hb dX2_sayNow_22 (by decide) ?_
    obtain ⟨hi, h⟩ := ck_some h
    refine tl0 C hK hT hi dX2_sayNow_23 ?_
    refine lv_imul hx hb dX2_sayNow_24 ?_
    refine lv_iadd hx hb dX2_sayNow_25 ?_
    refine lv_topi (fun v1 ev1 => ?_)
    replace h := lt1_sub ev1 h
    refine lv_istore_n (lv' := [(1, .int v1), (0, .ref b)]) hx hb dX2_sayNow_26 rfl hl (by decide) rfl (fun ls hl => ?_)
    refine lv_aload_n hx hb dX2_sayNow_27 rfl (lv_at hl 1 rfl) ?_
    refine tg0 C hK hT dX2_sayNow_28 ?_
    refine lv_iload_n hx hb dX2_sayNow_31 rfl (lv_at hl 0 rfl) ?_
    refine lv_aload_n hx hb dX2_sayNow_32 rfl (lv_at hl 1 rfl) ?_
    refine tg6 C hK hT dX2_sayNow_33 ?_
    obtain ⟨hi, h⟩ := ck_some h
    refine ts0 C hK hT hS hi dX2_sayNow_36 (fun t2 H locs et2 hT hS => ?_)
    replace h := lt1_sub et2 h
    refine lv_iconst (v := 0) hx hb dX2_sayNow_37 (by decide) ?_
    refine lv_istore_n (lv' := [(2, .int (0 : Int32)), (1, .int v1), (0, .ref b)]) hx hb dX2_sayNow_38 rfl hl (by decide) rfl (fun ls hl => ?_)
    exact bX2_sayNow_39 C hK fu t2 v1 (0 : Int32) H locs hT hS ls h (lv_sub hl [2, 1, 0] rfl)
  · replace h := if_t c h
    refine lv_iconst (v := -1) hx hb dX2_sayNow_11 (by decide) ?_
    exact e_wi C hT hS h dX2_sayNow_12
theorem mX2_sayNow {l : Launch} {D : va_G} {dA : Nat → ClassId} {b : Nat} {t : TS} {r : Int32} {t9 : TS} (h : T_sayNow t = some (r, t9)) : Met l yX2_sayNow (ws_ yX2_sayNow cX2_sayNow 3 (some .int)) rmX2_sayNow (tPc D dA b t [.ref b]) (tQ D dA b t9 (some (.int r))) 0 0 (ta b) := en_R (by decide +kernel) rfl (Nat.le_of_ble_eq_true rfl) (fun p e s m below meth c ls C hK hT hl => bX2_sayNow C hK t _ [] hT tS.rf ls h hl)
set_option maxRecDepth 20000 in
abbrev rmX2_saying : Room := { frames := 1, cells := 0, slots := 0, locals := 22 }
theorem hdX2_saying : yX2_saying.cls = RX2 ∧ yX2_saying.cls ≠ "java/lang/invoke/MethodHandle" ∧ yX2_saying.cls ≠ "java/lang/invoke/VarHandle" ∧ (parseMethodDescriptor yX2_saying.desc).map (fun d => d.parameters.length) = some 1 := by decide +kernel
theorem bX2_saying_66 {p : Program} {l : Launch} {e : Env} {s : State} {m : MethodId} {args : Array Value} {below : List Frame} {meth : Method} {c : Code} {D : va_G} {dA : Nat → ClassId} {b : Nat} {r : Int32} {t9 : TS} (C : cx p s m args meth c cX2_saying RX2 5 (some .int)) (hK : kk D dA s) : ∀ (n : Nat), ∀ (t : TS) (x3 : Int32) (x4 : Int32) (H : Heap) (locs : List Loc) (hT : wd D (tw dA b t) H) (hS : tS b s.heap H locs) (ls : Array Slot), T_saying_66 n t x3 x4 = some (r, t9) → lv_has ls 5 [(0, .ref b), (3, .int x3), (4, .int x4)] → W p l e rmX2_saying s m args below meth c H locs 0 0 (MQ below (tQ D dA b t9 (some (.int r))) args s 0 0 (ta b)) (F0 m 66 ls []) := by
  obtain ⟨hx, hb, hr, hml, hown, hts, hlocks⟩ := id C
  intro n
  induction n with
  | zero =>
    intro t x3 x4 H locs hT hS ls h hl
    have h : none = some _ := h
    cases h
  | succ n ih =>
    intro t x3 x4 H locs hT hS ls h hl
    rw [T_saying_66] at h
    refine lv_iload hx hb dX2_saying_66 (lv_at hl 2 rfl) ?_
    refine lv_if_lt (tgt := 93) hx hb dX2_saying_68 (by decide) (fun c => ?_) (fun c => ?_)
    · replace h := if_t c h
      refine lv_aload_n hx hb dX2_saying_93 rfl (lv_at hl 0 rfl) ?_
      obtain ⟨v1, t2, ht2, h⟩ := bd2_some h
      refine w_int hS (run_t (As := []) (rest := []) C hK hT (mX2_sayNow ht2) q1691 q1693 qs73 q162 q1694 ⟨rfl, rfl⟩ hdX2_sayNow ⟨Nat.le_of_ble_eq_true rfl, Nat.le_of_ble_eq_true rfl⟩ ⟨Nat.zero_le _, Nat.zero_le _⟩ rfl hl.1 rfl (Nat.le_of_ble_eq_true rfl) dX2_saying_94) (fun H locs hT hS => ?_)
      exact e_wi C hT hS h dX2_saying_97
    · replace h := if_f c h
      refine lv_aload_n hx hb dX2_saying_71 rfl (lv_at hl 0 rfl) ?_
      refine tg5 C hK hT dX2_saying_72 ?_
      refine lv_iload hx hb dX2_saying_75 (lv_at hl 2 rfl) ?_
      refine lv_iload_n hx hb dX2_saying_77 rfl (lv_at hl 1 rfl) ?_
      refine lv_bipush (v := 10) hx hb dX2_saying_78 (by decide) ?_
      refine lv_irem hx hb dX2_saying_80 (by decide) ?_
      obtain ⟨hi, h⟩ := ck_some h
      refine ts5 C hK hT hS hi dX2_saying_81 (fun t3 H locs et3 hT hS => ?_)
      replace h := lt1_sub et3 h
      refine lv_iload_n hx hb dX2_saying_82 rfl (lv_at hl 1 rfl) ?_
      refine lv_bipush (v := 10) hx hb dX2_saying_83 (by decide) ?_
      refine lv_idiv hx hb dX2_saying_85 (by decide) ?_
      refine lv_topi (fun v4 ev4 => ?_)
      replace h := lt1_sub ev4 h
      refine lv_istore_n (lv' := [(3, .int v4), (0, .ref b), (4, .int x4)]) hx hb dX2_saying_86 rfl hl (by decide) rfl (fun ls hl => ?_)
      obtain ⟨v5, ev5⟩ : ∃ y : Int32, y = x4 + (-1 : Int32) := ⟨_, rfl⟩
      replace h := lt1_sub ev5 h
      refine lv_iinc (v := v5) (lv' := [(4, .int v5), (3, .int v4), (0, .ref b)]) hx hb dX2_saying_87 hl (k := 2) rfl (by rw [ev5]; rfl) (by decide) rfl (fun ls hl => ?_)
      refine lv_goto (tgt := 66) hx hb dX2_saying_90 (by decide) ?_
      exact ih t3 v4 v5 H locs hT hS ls h (lv_sub hl [2, 1, 0] rfl)
theorem bX2_saying_21 {p : Program} {l : Launch} {e : Env} {s : State} {m : MethodId} {args : Array Value} {below : List Frame} {meth : Method} {c : Code} {D : va_G} {dA : Nat → ClassId} {b : Nat} {r : Int32} {t9 : TS} (C : cx p s m args meth c cX2_saying RX2 5 (some .int)) (hK : kk D dA s) : ∀ (n : Nat), ∀ (t : TS) (x1 : Int32) (x2 : Int32) (H : Heap) (locs : List Loc) (hT : wd D (tw dA b t) H) (hS : tS b s.heap H locs) (ls : Array Slot), T_saying_21 n t x1 x2 = some (r, t9) → lv_has ls 5 [(0, .ref b), (1, .int x1), (2, .int x2)] → W p l e rmX2_saying s m args below meth c H locs 0 0 (MQ below (tQ D dA b t9 (some (.int r))) args s 0 0 (ta b)) (F0 m 21 ls []) := by
  obtain ⟨hx, hb, hr, hml, hown, hts, hlocks⟩ := id C
  intro n
  induction n with
  | zero =>
    intro t x1 x2 H locs hT hS ls h hl
    have h : none = some _ := h
    cases h
  | succ n ih =>
    intro t x1 x2 H locs hT hS ls h hl
    rw [T_saying_21] at h
    refine lv_iload_n hx hb dX2_saying_21 rfl (lv_at hl 1 rfl) ?_
    refine lv_iload_n hx hb dX2_saying_22 rfl (lv_at hl 2 rfl) ?_
    obtain ⟨hn, h⟩ := nz_some h
    refine lv_idiv hx hb dX2_saying_23 hn ?_
    refine lv_bipush (v := 9) hx hb dX2_saying_24 (by decide) ?_
    refine lv_icmp_le (tgt := 47) hx hb dX2_saying_26 (by decide) (fun c => ?_) (fun c => ?_)
    · replace h := if_t c h
      refine lv_iload_n hx hb dX2_saying_47 rfl (lv_at hl 1 rfl) ?_
      refine lv_iload_n hx hb dX2_saying_48 rfl (lv_at hl 2 rfl) ?_
      obtain ⟨hn, h⟩ := nz_some h
      refine lv_idiv hx hb dX2_saying_49 hn ?_
      refine lv_iconst (v := 1) hx hb dX2_saying_50 (by decide) ?_
      refine lv_icmp_eq (tgt := 56) hx hb dX2_saying_51 (by decide) (fun c => ?_) (fun c => ?_)
      · replace h := if_t c h
        refine lv_iload_n hx hb dX2_saying_56 rfl (lv_at hl 1 rfl) ?_
        refine lv_istore_n (lv' := [(3, .int x1), (0, .ref b), (1, .int x1), (2, .int x2)]) hx hb dX2_saying_57 rfl hl (by decide) rfl (fun ls hl => ?_)
        refine lv_aload_n hx hb dX2_saying_58 rfl (lv_at hl 1 rfl) ?_
        refine tg6 C hK hT dX2_saying_59 ?_
        refine lv_iconst (v := 1) hx hb dX2_saying_62 (by decide) ?_
        refine lv_isub hx hb dX2_saying_63 ?_
        refine lv_topi (fun v1 ev1 => ?_)
        replace h := lt1_sub ev1 h
        refine lv_istore (lv' := [(4, .int v1), (3, .int x1), (0, .ref b), (1, .int x1), (2, .int x2)]) hx hb dX2_saying_64 hl (by decide) rfl (fun ls hl => ?_)
        exact bX2_saying_66 C hK fu t x1 v1 H locs hT hS ls h (lv_sub hl [2, 1, 0] rfl)
      · replace h := if_f c h
        refine lv_iconst (v := -1) hx hb dX2_saying_54 (by decide) ?_
        exact e_wi C hT hS h dX2_saying_55
    · replace h := if_f c h
      refine lv_iload_n hx hb dX2_saying_29 rfl (lv_at hl 2 rfl) ?_
      refine lv_bipush (v := 10) hx hb dX2_saying_30 (by decide) ?_
      refine lv_imul hx hb dX2_saying_32 ?_
      refine lv_topi (fun v2 ev2 => ?_)
      replace h := lt1_sub ev2 h
      refine lv_istore_n (lv' := [(2, .int v2), (0, .ref b), (1, .int x1)]) hx hb dX2_saying_33 rfl hl (by decide) rfl (fun ls hl => ?_)
      refine lv_aload_n hx hb dX2_saying_34 rfl (lv_at hl 1 rfl) ?_
      refine lv_dup hx hb dX2_saying_35 rfl ?_
      refine tg6 C hK hT dX2_saying_36 ?_
      refine lv_iconst (v := 1) hx hb dX2_saying_39 (by decide) ?_
      refine lv_iadd hx hb dX2_saying_40 ?_
      refine tp6 C hK hT hS dX2_saying_41 (fun t3 H locs et3 hT hS => ?_)
      replace h := lt1_sub et3 h
      refine lv_goto (tgt := 21) hx hb dX2_saying_44 (by decide) ?_
      exact ih t3 x1 v2 H locs hT hS ls h (lv_sub hl [1, 2, 0] rfl)
theorem bX2_saying {p : Program} {l : Launch} {e : Env} {s : State} {m : MethodId} {args : Array Value} {below : List Frame} {meth : Method} {c : Code} {D : va_G} {dA : Nat → ClassId} {b : Nat} {r : Int32} {t9 : TS} (C : cx p s m args meth c cX2_saying RX2 5 (some .int)) (hK : kk D dA s) : ∀ (t : TS) (x1 : Int32) (H : Heap) (locs : List Loc) (hT : wd D (tw dA b t) H) (hS : tS b s.heap H locs) (ls : Array Slot), T_saying t x1 = some (r, t9) → lv_has ls 5 [(0, .ref b), (1, .int x1)] → W p l e rmX2_saying s m args below meth c H locs 0 0 (MQ below (tQ D dA b t9 (some (.int r))) args s 0 0 (ta b)) (F0 m 0 ls []) := by
  obtain ⟨hx, hb, hr, hml, hown, hts, hlocks⟩ := id C
  intro t x1 H locs hT hS ls h hl
  unfold T_saying at h
  refine lv_iload_n hx hb dX2_saying_0 rfl (lv_at hl 1 rfl) ?_
  refine lv_bipush (v := 10) hx hb dX2_saying_1 (by decide) ?_
  refine lv_ldc hx hb hown (hts _ q1690) dX2_saying_3 ?_
  obtain ⟨v1, hv1, h⟩ := bd1_some h
  refine r_int (run_s (As := [.int x1, .int (10 : Int32), .int (199999999 : Int32)]) (rest := []) C (mX2_isIn hv1) q1656 q1657 q162 q1658 ⟨rfl, rfl⟩ hdX2_isIn ⟨Nat.le_of_ble_eq_true rfl, Nat.le_of_ble_eq_true rfl⟩ ⟨Nat.zero_le _, Nat.zero_le _⟩ rfl hl.1 rfl (Nat.le_of_ble_eq_true rfl) dX2_saying_5) ?_
  refine lv_if_ne (tgt := 13) hx hb dX2_saying_8 (by decide) (fun c => ?_) (fun c => ?_)
  · replace h := if_f c h
    refine lv_bipush (v := 10) hx hb dX2_saying_13 (by decide) ?_
    refine lv_istore_n (lv' := [(2, .int (10 : Int32)), (0, .ref b), (1, .int x1)]) hx hb dX2_saying_15 rfl hl (by decide) rfl (fun ls hl => ?_)
    refine lv_aload_n hx hb dX2_saying_16 rfl (lv_at hl 1 rfl) ?_
    refine lv_iconst (v := 1) hx hb dX2_saying_17 (by decide) ?_
    refine tp6 C hK hT hS dX2_saying_18 (fun t2 H locs et2 hT hS => ?_)
    replace h := lt1_sub et2 h
    exact bX2_saying_21 C hK fu t2 x1 (10 : Int32) H locs hT hS ls h (lv_sub hl [1, 2, 0] rfl)
  · replace h := if_t c h
    refine lv_iconst (v := -1) hx hb dX2_saying_11 (by decide) ?_
    exact e_wi C hT hS h dX2_saying_12
theorem mX2_saying {l : Launch} {D : va_G} {dA : Nat → ClassId} {b : Nat} {t : TS} {x1 : Int32} {r : Int32} {t9 : TS} (h : T_saying t x1 = some (r, t9)) : Met l yX2_saying (ws_ yX2_saying cX2_saying 5 (some .int)) rmX2_saying (tPc D dA b t [.ref b, .int x1]) (tQ D dA b t9 (some (.int r))) 0 0 (ta b) := en_R (by decide +kernel) rfl (Nat.le_of_ble_eq_true rfl) (fun p e s m below meth c ls C hK hT hl => bX2_saying C hK t x1 _ [] hT tS.rf ls h hl)
set_option maxRecDepth 20000 in
abbrev rmX2_four : Room := { frames := 0, cells := 0, slots := 0, locals := 0 }
theorem hdX2_four : yX2_four.cls = RX2 ∧ yX2_four.cls ≠ "java/lang/invoke/MethodHandle" ∧ yX2_four.cls ≠ "java/lang/invoke/VarHandle" ∧ (parseMethodDescriptor yX2_four.desc).map (fun d => d.parameters.length) = some 1 := by decide +kernel
theorem bX2_four_3 {p : Program} {l : Launch} {e : Env} {s : State} {m : MethodId} {args : Array Value} {below : List Frame} {meth : Method} {c : Code} {D : va_G} {dA : Nat → ClassId} {b : Nat} {t9 : TS} (C : cx p s m args meth c cX2_four RX2 3 none) (hK : kk D dA s) : ∀ (n : Nat), ∀ (t : TS) (x1 : Int32) (x2 : Int32) (H : Heap) (locs : List Loc) (hT : wd D (tw dA b t) H) (hS : tS b s.heap H locs) (ls : Array Slot), T_four_3 n t x1 x2 = some t9 → lv_has ls 3 [(0, .ref b), (1, .int x1), (2, .int x2)] → W p l e rmX2_four s m args below meth c H locs 0 0 (MQ below (tQ D dA b t9 none) args s 0 0 (ta b)) (F0 m 3 ls []) := by
  obtain ⟨hx, hb, hr, hml, hown, hts, hlocks⟩ := id C
  intro n
  induction n with
  | zero =>
    intro t x1 x2 H locs hT hS ls h hl
    have h : none = some _ := h
    cases h
  | succ n ih =>
    intro t x1 x2 H locs hT hS ls h hl
    rw [T_four_3] at h
    refine lv_iload_n hx hb dX2_four_3 rfl (lv_at hl 2 rfl) ?_
    refine lv_if_lt (tgt := 39) hx hb dX2_four_4 (by decide) (fun c => ?_) (fun c => ?_)
    · replace h := if_t c h
      exact e_wv C hT hS h dX2_four_39
    · replace h := if_f c h
      refine lv_aload_n hx hb dX2_four_7 rfl (lv_at hl 0 rfl) ?_
      refine tg7 C hK hT dX2_four_8 ?_
      refine lv_aload_n hx hb dX2_four_11 rfl (lv_at hl 0 rfl) ?_
      refine tg8 C hK hT dX2_four_12 ?_
      refine lv_iload_n hx hb dX2_four_15 rfl (lv_at hl 1 rfl) ?_
      refine lv_iload_n hx hb dX2_four_16 rfl (lv_at hl 2 rfl) ?_
      refine lv_ishr hx hb dX2_four_17 ?_
      refine lv_sipush (v := 255) hx hb dX2_four_18 (by decide) ?_
      refine lv_iand hx hb dX2_four_21 ?_
      obtain ⟨hi, h⟩ := ck_some h
      refine ts7 C hK hT hS hi dX2_four_22 (fun t1 H locs et1 hT hS => ?_)
      replace h := lt1_sub et1 h
      refine lv_aload_n hx hb dX2_four_23 rfl (lv_at hl 0 rfl) ?_
      refine lv_dup hx hb dX2_four_24 rfl ?_
      refine tg8 C hK hT dX2_four_25 ?_
      refine lv_iconst (v := 1) hx hb dX2_four_28 (by decide) ?_
      refine lv_iadd hx hb dX2_four_29 ?_
      refine tp8 C hK hT hS dX2_four_30 (fun t2 H locs et2 hT hS => ?_)
      replace h := lt1_sub et2 h
      obtain ⟨v3, ev3⟩ : ∃ y : Int32, y = x2 + (-8 : Int32) := ⟨_, rfl⟩
      replace h := lt1_sub ev3 h
      refine lv_iinc (v := v3) (lv' := [(2, .int v3), (0, .ref b), (1, .int x1)]) hx hb dX2_four_33 hl (k := 2) rfl (by rw [ev3]; rfl) (by decide) rfl (fun ls hl => ?_)
      refine lv_goto (tgt := 3) hx hb dX2_four_36 (by decide) ?_
      exact ih t2 x1 v3 H locs hT hS ls h (lv_sub hl [1, 2, 0] rfl)
theorem bX2_four {p : Program} {l : Launch} {e : Env} {s : State} {m : MethodId} {args : Array Value} {below : List Frame} {meth : Method} {c : Code} {D : va_G} {dA : Nat → ClassId} {b : Nat} {t9 : TS} (C : cx p s m args meth c cX2_four RX2 3 none) (hK : kk D dA s) : ∀ (t : TS) (x1 : Int32) (H : Heap) (locs : List Loc) (hT : wd D (tw dA b t) H) (hS : tS b s.heap H locs) (ls : Array Slot), T_four t x1 = some t9 → lv_has ls 3 [(0, .ref b), (1, .int x1)] → W p l e rmX2_four s m args below meth c H locs 0 0 (MQ below (tQ D dA b t9 none) args s 0 0 (ta b)) (F0 m 0 ls []) := by
  obtain ⟨hx, hb, hr, hml, hown, hts, hlocks⟩ := id C
  intro t x1 H locs hT hS ls h hl
  unfold T_four at h
  refine lv_bipush (v := 24) hx hb dX2_four_0 (by decide) ?_
  refine lv_istore_n (lv' := [(2, .int (24 : Int32)), (0, .ref b), (1, .int x1)]) hx hb dX2_four_2 rfl hl (by decide) rfl (fun ls hl => ?_)
  exact bX2_four_3 C hK fu t x1 (24 : Int32) H locs hT hS ls h (lv_sub hl [1, 2, 0] rfl)
theorem mX2_four {l : Launch} {D : va_G} {dA : Nat → ClassId} {b : Nat} {t : TS} {x1 : Int32} {t9 : TS} (h : T_four t x1 = some t9) : Met l yX2_four (ws_ yX2_four cX2_four 3 none) rmX2_four (tPc D dA b t [.ref b, .int x1]) (tQ D dA b t9 none) 0 0 (ta b) := en_R (by decide +kernel) rfl (Nat.le_of_ble_eq_true rfl) (fun p e s m below meth c ls C hK hT hl => bX2_four C hK t x1 _ [] hT tS.rf ls h hl)
set_option maxRecDepth 20000 in
abbrev rmX2_feed : Room := { frames := 1, cells := 0, slots := 0, locals := 22 }
theorem hdX2_feed : yX2_feed.cls = RX2 ∧ yX2_feed.cls ≠ "java/lang/invoke/MethodHandle" ∧ yX2_feed.cls ≠ "java/lang/invoke/VarHandle" ∧ (parseMethodDescriptor yX2_feed.desc).map (fun d => d.parameters.length) = some 5 := by decide +kernel
theorem bX2_feed {p : Program} {l : Launch} {e : Env} {s : State} {m : MethodId} {args : Array Value} {below : List Frame} {meth : Method} {c : Code} {D : va_G} {dA : Nat → ClassId} {b : Nat} {r : Int32} {t9 : TS} (C : cx p s m args meth c cX2_feed RX2 6 (some .int)) (hK : kk D dA s) : ∀ (t : TS) (x1 : Int32) (x2 : Int32) (x3 : Int32) (x4 : Int32) (x5 : Int32) (H : Heap) (locs : List Loc) (hT : wd D (tw dA b t) H) (hS : tS b s.heap H locs) (ls : Array Slot), T_feed t x1 x2 x3 x4 x5 = some (r, t9) → lv_has ls 6 [(0, .ref b), (1, .int x1), (2, .int x2), (3, .int x3), (4, .int x4), (5, .int x5)] → W p l e rmX2_feed s m args below meth c H locs 0 0 (MQ below (tQ D dA b t9 (some (.int r))) args s 0 0 (ta b)) (F0 m 0 ls []) := by
  obtain ⟨hx, hb, hr, hml, hown, hts, hlocks⟩ := id C
  intro t x1 x2 x3 x4 x5 H locs hT hS ls h hl
  unfold T_feed at h
  refine lv_aload_n hx hb dX2_feed_0 rfl (lv_at hl 0 rfl) ?_
  refine tg8 C hK hT dX2_feed_1 ?_
  refine lv_bipush (v := 20) hx hb dX2_feed_4 (by decide) ?_
  refine lv_iadd hx hb dX2_feed_6 ?_
  refine lv_sipush (v := 300) hx hb dX2_feed_7 (by decide) ?_
  refine lv_icmp_le (tgt := 15) hx hb dX2_feed_10 (by decide) (fun c => ?_) (fun c => ?_)
  · replace h := if_t c h
    refine lv_aload_n hx hb dX2_feed_15 rfl (lv_at hl 0 rfl) ?_
    refine lv_iload_n hx hb dX2_feed_16 rfl (lv_at hl 1 rfl) ?_
    obtain ⟨t1, ht1, h⟩ := bd1_some h
    refine w_void hS (run_t (As := [.int x1]) (rest := []) C hK hT (mX2_four ht1) q1699 q1701 qs74 q162 q1702 ⟨rfl, rfl⟩ hdX2_four ⟨Nat.le_of_ble_eq_true rfl, Nat.le_of_ble_eq_true rfl⟩ ⟨Nat.zero_le _, Nat.zero_le _⟩ rfl hl.1 rfl (Nat.le_of_ble_eq_true rfl) dX2_feed_17) (fun H locs hT hS => ?_)
    refine lv_aload_n hx hb dX2_feed_20 rfl (lv_at hl 0 rfl) ?_
    refine lv_iload_n hx hb dX2_feed_21 rfl (lv_at hl 2 rfl) ?_
    obtain ⟨t2, ht2, h⟩ := bd1_some h
    refine w_void hS (run_t (As := [.int x2]) (rest := []) C hK hT (mX2_four ht2) q1699 q1701 qs74 q162 q1702 ⟨rfl, rfl⟩ hdX2_four ⟨Nat.le_of_ble_eq_true rfl, Nat.le_of_ble_eq_true rfl⟩ ⟨Nat.zero_le _, Nat.zero_le _⟩ rfl hl.1 rfl (Nat.le_of_ble_eq_true rfl) dX2_feed_22) (fun H locs hT hS => ?_)
    refine lv_aload_n hx hb dX2_feed_25 rfl (lv_at hl 0 rfl) ?_
    refine lv_iload_n hx hb dX2_feed_26 rfl (lv_at hl 3 rfl) ?_
    obtain ⟨t3, ht3, h⟩ := bd1_some h
    refine w_void hS (run_t (As := [.int x3]) (rest := []) C hK hT (mX2_four ht3) q1699 q1701 qs74 q162 q1702 ⟨rfl, rfl⟩ hdX2_four ⟨Nat.le_of_ble_eq_true rfl, Nat.le_of_ble_eq_true rfl⟩ ⟨Nat.zero_le _, Nat.zero_le _⟩ rfl hl.1 rfl (Nat.le_of_ble_eq_true rfl) dX2_feed_27) (fun H locs hT hS => ?_)
    refine lv_aload_n hx hb dX2_feed_30 rfl (lv_at hl 0 rfl) ?_
    refine lv_iload hx hb dX2_feed_31 (lv_at hl 4 rfl) ?_
    obtain ⟨t4, ht4, h⟩ := bd1_some h
    refine w_void hS (run_t (As := [.int x4]) (rest := []) C hK hT (mX2_four ht4) q1699 q1701 qs74 q162 q1702 ⟨rfl, rfl⟩ hdX2_four ⟨Nat.le_of_ble_eq_true rfl, Nat.le_of_ble_eq_true rfl⟩ ⟨Nat.zero_le _, Nat.zero_le _⟩ rfl hl.1 rfl (Nat.le_of_ble_eq_true rfl) dX2_feed_33) (fun H locs hT hS => ?_)
    refine lv_aload_n hx hb dX2_feed_36 rfl (lv_at hl 0 rfl) ?_
    refine lv_iload hx hb dX2_feed_37 (lv_at hl 5 rfl) ?_
    obtain ⟨t5, ht5, h⟩ := bd1_some h
    refine w_void hS (run_t (As := [.int x5]) (rest := []) C hK hT (mX2_four ht5) q1699 q1701 qs74 q162 q1702 ⟨rfl, rfl⟩ hdX2_four ⟨Nat.le_of_ble_eq_true rfl, Nat.le_of_ble_eq_true rfl⟩ ⟨Nat.zero_le _, Nat.zero_le _⟩ rfl hl.1 rfl (Nat.le_of_ble_eq_true rfl) dX2_feed_39) (fun H locs hT hS => ?_)
    refine lv_aload_n hx hb dX2_feed_42 rfl (lv_at hl 0 rfl) ?_
    refine tg8 C hK hT dX2_feed_43 ?_
    exact e_wi C hT hS h dX2_feed_46
  · replace h := if_f c h
    refine lv_iconst (v := -1) hx hb dX2_feed_13 (by decide) ?_
    exact e_wi C hT hS h dX2_feed_14
theorem mX2_feed {l : Launch} {D : va_G} {dA : Nat → ClassId} {b : Nat} {t : TS} {x1 : Int32} {x2 : Int32} {x3 : Int32} {x4 : Int32} {x5 : Int32} {r : Int32} {t9 : TS} (h : T_feed t x1 x2 x3 x4 x5 = some (r, t9)) : Met l yX2_feed (ws_ yX2_feed cX2_feed 6 (some .int)) rmX2_feed (tPc D dA b t [.ref b, .int x1, .int x2, .int x3, .int x4, .int x5]) (tQ D dA b t9 (some (.int r))) 0 0 (ta b) := en_R (by decide +kernel) rfl (Nat.le_of_ble_eq_true rfl) (fun p e s m below meth c ls C hK hT hl => bX2_feed C hK t x1 x2 x3 x4 x5 _ [] hT tS.rf ls h hl)
set_option maxRecDepth 20000 in
abbrev rmX2_end : Room := { frames := 1, cells := 0, slots := 0, locals := 22 }
theorem hdX2_end : yX2_end.cls = RX2 ∧ yX2_end.cls ≠ "java/lang/invoke/MethodHandle" ∧ yX2_end.cls ≠ "java/lang/invoke/VarHandle" ∧ (parseMethodDescriptor yX2_end.desc).map (fun d => d.parameters.length) = some 1 := by decide +kernel
theorem bX2_end {p : Program} {l : Launch} {e : Env} {s : State} {m : MethodId} {args : Array Value} {below : List Frame} {meth : Method} {c : Code} {D : va_G} {dA : Nat → ClassId} {b : Nat} {r : Int32} {t9 : TS} (C : cx p s m args meth c cX2_end RX2 2 (some .int)) (hK : kk D dA s) : ∀ (t : TS) (x1 : Int32) (H : Heap) (locs : List Loc) (hT : wd D (tw dA b t) H) (hS : tS b s.heap H locs) (ls : Array Slot), T_end t x1 = some (r, t9) → lv_has ls 2 [(0, .ref b), (1, .int x1)] → W p l e rmX2_end s m args below meth c H locs 0 0 (MQ below (tQ D dA b t9 (some (.int r))) args s 0 0 (ta b)) (F0 m 0 ls []) := by
  obtain ⟨hx, hb, hr, hml, hown, hts, hlocks⟩ := id C
  intro t x1 H locs hT hS ls h hl
  unfold T_end at h
  refine lv_iload_n hx hb dX2_end_0 rfl (lv_at hl 1 rfl) ?_
  refine lv_iconst (v := 0) hx hb dX2_end_1 (by decide) ?_
  refine lv_aload_n hx hb dX2_end_2 rfl (lv_at hl 0 rfl) ?_
  refine tg8 C hK hT dX2_end_3 ?_
  obtain ⟨v1, hv1, h⟩ := bd1_some h
  refine r_int (run_s (As := [.int x1, .int (0 : Int32), .int (t.1 8 0)]) (rest := []) C (mX2_isIn hv1) q1656 q1657 q162 q1658 ⟨rfl, rfl⟩ hdX2_isIn ⟨Nat.le_of_ble_eq_true rfl, Nat.le_of_ble_eq_true rfl⟩ ⟨Nat.zero_le _, Nat.zero_le _⟩ rfl hl.1 rfl (Nat.le_of_ble_eq_true rfl) dX2_end_6) ?_
  refine lv_if_ne (tgt := 14) hx hb dX2_end_9 (by decide) (fun c => ?_) (fun c => ?_)
  · replace h := if_f c h
    refine lv_aload_n hx hb dX2_end_14 rfl (lv_at hl 0 rfl) ?_
    refine lv_iload_n hx hb dX2_end_15 rfl (lv_at hl 1 rfl) ?_
    refine tp8 C hK hT hS dX2_end_16 (fun t2 H locs et2 hT hS => ?_)
    replace h := lt1_sub et2 h
    refine lv_iload_n hx hb dX2_end_19 rfl (lv_at hl 1 rfl) ?_
    exact e_wi C hT hS h dX2_end_20
  · replace h := if_t c h
    refine lv_iconst (v := -1) hx hb dX2_end_12 (by decide) ?_
    exact e_wi C hT hS h dX2_end_13
theorem mX2_end {l : Launch} {D : va_G} {dA : Nat → ClassId} {b : Nat} {t : TS} {x1 : Int32} {r : Int32} {t9 : TS} (h : T_end t x1 = some (r, t9)) : Met l yX2_end (ws_ yX2_end cX2_end 2 (some .int)) rmX2_end (tPc D dA b t [.ref b, .int x1]) (tQ D dA b t9 (some (.int r))) 0 0 (ta b) := en_R (by decide +kernel) rfl (Nat.le_of_ble_eq_true rfl) (fun p e s m below meth c ls C hK hT hl => bX2_end C hK t x1 _ [] hT tS.rf ls h hl)
set_option maxRecDepth 20000 in
abbrev rmX2_byteAt : Room := { frames := 0, cells := 0, slots := 0, locals := 0 }
theorem hdX2_byteAt : yX2_byteAt.cls = RX2 ∧ yX2_byteAt.cls ≠ "java/lang/invoke/MethodHandle" ∧ yX2_byteAt.cls ≠ "java/lang/invoke/VarHandle" ∧ (parseMethodDescriptor yX2_byteAt.desc).map (fun d => d.parameters.length) = some 1 := by decide +kernel
theorem bX2_byteAt {p : Program} {l : Launch} {e : Env} {s : State} {m : MethodId} {args : Array Value} {below : List Frame} {meth : Method} {c : Code} {D : va_G} {dA : Nat → ClassId} {b : Nat} {t : TS} {r : Int32} (C : cx p s m args meth c cX2_byteAt RX2 2 (some .int)) (hK : kk D dA s) (hT : wd D (tw dA b t) s.heap) : ∀ (x1 : Int32) (ls : Array Slot), T_byteAt t x1 = some r → lv_has ls 2 [(0, .ref b), (1, .int x1)] → W p l e rmX2_byteAt s m args below meth c s.heap [] 0 0 (MQ below (rQi r) args s 0 0 nof) (F0 m 0 ls []) := by
  obtain ⟨hx, hb, hr, hml, hown, hts, hlocks⟩ := id C
  intro x1 ls h hl
  unfold T_byteAt at h
  refine lv_iload_n hx hb dX2_byteAt_0 rfl (lv_at hl 1 rfl) ?_
  refine lv_aload_n hx hb dX2_byteAt_1 rfl (lv_at hl 0 rfl) ?_
  refine tg8 C hK hT dX2_byteAt_2 ?_
  refine lv_icmp_ge (tgt := 17) hx hb dX2_byteAt_5 (by decide) (fun c => ?_) (fun c => ?_)
  · replace h := if_t c h
    refine lv_iconst (v := -1) hx hb dX2_byteAt_17 (by decide) ?_
    exact e_ri C h dX2_byteAt_18
  · replace h := if_f c h
    refine lv_aload_n hx hb dX2_byteAt_8 rfl (lv_at hl 0 rfl) ?_
    refine tg7 C hK hT dX2_byteAt_9 ?_
    refine lv_iload_n hx hb dX2_byteAt_12 rfl (lv_at hl 1 rfl) ?_
    obtain ⟨hi, h⟩ := ck_some h
    refine tl7 C hK hT hi dX2_byteAt_13 ?_
    refine lv_goto (tgt := 18) hx hb dX2_byteAt_14 (by decide) ?_
    exact e_ri C h dX2_byteAt_18
theorem mX2_byteAt {l : Launch} {D : va_G} {dA : Nat → ClassId} {b : Nat} {t : TS} {x1 : Int32} {r : Int32} (h : T_byteAt t x1 = some r) : Met l yX2_byteAt (ws_ yX2_byteAt cX2_byteAt 2 (some .int)) rmX2_byteAt (tPc D dA b t [.ref b, .int x1]) (rQi r) 0 0 nof := en_R (by decide +kernel) rfl (Nat.le_of_ble_eq_true rfl) (fun p e s m below meth c ls C hK hT hl => bX2_byteAt C hK hT x1 ls h hl)
set_option maxRecDepth 20000 in
abbrev rmX2_isDigit : Room := { frames := 1, cells := 0, slots := 0, locals := 22 }
theorem hdX2_isDigit : yX2_isDigit.cls ≠ "java/lang/invoke/MethodHandle" ∧ yX2_isDigit.cls ≠ "java/lang/invoke/VarHandle" ∧ (parseMethodDescriptor yX2_isDigit.desc).map (fun d => d.parameters.length) = some 1 := by decide +kernel
theorem bX2_isDigit {p : Program} {l : Launch} {e : Env} {s : State} {m : MethodId} {args : Array Value} {below : List Frame} {meth : Method} {c : Code} {r : Int32} (C : cx p s m args meth c cX2_isDigit RX2 1 (some .boolean)) : ∀ (x0 : Int32) (ls : Array Slot), T_isDigit x0 = some r → lv_has ls 1 [(0, .int x0)] → W p l e rmX2_isDigit s m args below meth c s.heap [] 0 0 (MQ below (rQi r) args s 0 0 nof) (F0 m 0 ls []) := by
  obtain ⟨hx, hb, hr, hml, hown, hts, hlocks⟩ := id C
  intro x0 ls h hl
  unfold T_isDigit at h
  refine lv_iload_n hx hb dX2_isDigit_0 rfl (lv_at hl 0 rfl) ?_
  refine lv_bipush (v := 48) hx hb dX2_isDigit_1 (by decide) ?_
  refine lv_bipush (v := 57) hx hb dX2_isDigit_3 (by decide) ?_
  obtain ⟨v1, hv1, h⟩ := bd1_some h
  refine r_int (run_s (As := [.int x0, .int (48 : Int32), .int (57 : Int32)]) (rest := []) C (mX2_isIn hv1) q1656 q1657 q162 q1658 ⟨rfl, rfl⟩ hdX2_isIn ⟨Nat.le_of_ble_eq_true rfl, Nat.le_of_ble_eq_true rfl⟩ ⟨Nat.zero_le _, Nat.zero_le _⟩ rfl hl.1 rfl (Nat.le_of_ble_eq_true rfl) dX2_isDigit_5) ?_
  obtain ⟨hz, h⟩ := zr_some h
  exact e_rz C hz h dX2_isDigit_8
theorem mX2_isDigit {l : Launch} {x0 : Int32} {r : Int32} (h : T_isDigit x0 = some r) : Met l yX2_isDigit (ws_ yX2_isDigit cX2_isDigit 1 (some .boolean)) rmX2_isDigit (sPc [.int x0]) (rQi r) 0 0 nof := en_S (by decide +kernel) rfl (Nat.le_of_ble_eq_true rfl) (fun p e s m below meth c ls C hl => bX2_isDigit C x0 ls h hl)
set_option maxRecDepth 20000 in
abbrev rmX2_isLetter : Room := { frames := 1, cells := 0, slots := 0, locals := 22 }
theorem hdX2_isLetter : yX2_isLetter.cls ≠ "java/lang/invoke/MethodHandle" ∧ yX2_isLetter.cls ≠ "java/lang/invoke/VarHandle" ∧ (parseMethodDescriptor yX2_isLetter.desc).map (fun d => d.parameters.length) = some 1 := by decide +kernel
theorem bX2_isLetter_22 {p : Program} {l : Launch} {e : Env} {s : State} {m : MethodId} {args : Array Value} {below : List Frame} {meth : Method} {c : Code} {r : Int32} (C : cx p s m args meth c cX2_isLetter RX2 1 (some .boolean)) : ∀ (ls : Array Slot), T_isLetter_22 = some r → lv_has ls 1 [] → W p l e rmX2_isLetter s m args below meth c s.heap [] 0 0 (MQ below (rQi r) args s 0 0 nof) (F0 m 22 ls []) := by
  obtain ⟨hx, hb, hr, hml, hown, hts, hlocks⟩ := id C
  intro ls h hl
  unfold T_isLetter_22 at h
  refine lv_iconst (v := 1) hx hb dX2_isLetter_22 (by decide) ?_
  refine lv_goto (tgt := 27) hx hb dX2_isLetter_23 (by decide) ?_
  exact e_rz C (Or.inr rfl) h dX2_isLetter_27
theorem bX2_isLetter {p : Program} {l : Launch} {e : Env} {s : State} {m : MethodId} {args : Array Value} {below : List Frame} {meth : Method} {c : Code} {r : Int32} (C : cx p s m args meth c cX2_isLetter RX2 1 (some .boolean)) : ∀ (x0 : Int32) (ls : Array Slot), T_isLetter x0 = some r → lv_has ls 1 [(0, .int x0)] → W p l e rmX2_isLetter s m args below meth c s.heap [] 0 0 (MQ below (rQi r) args s 0 0 nof) (F0 m 0 ls []) := by
  obtain ⟨hx, hb, hr, hml, hown, hts, hlocks⟩ := id C
  intro x0 ls h hl
  unfold T_isLetter at h
  refine lv_iload_n hx hb dX2_isLetter_0 rfl (lv_at hl 0 rfl) ?_
  refine lv_bipush (v := 97) hx hb dX2_isLetter_1 (by decide) ?_
  refine lv_bipush (v := 122) hx hb dX2_isLetter_3 (by decide) ?_
  obtain ⟨v1, hv1, h⟩ := bd1_some h
  refine r_int (run_s (As := [.int x0, .int (97 : Int32), .int (122 : Int32)]) (rest := []) C (mX2_isIn hv1) q1656 q1657 q162 q1658 ⟨rfl, rfl⟩ hdX2_isIn ⟨Nat.le_of_ble_eq_true rfl, Nat.le_of_ble_eq_true rfl⟩ ⟨Nat.zero_le _, Nat.zero_le _⟩ rfl hl.1 rfl (Nat.le_of_ble_eq_true rfl) dX2_isLetter_5) ?_
  refine lv_if_ne (tgt := 22) hx hb dX2_isLetter_8 (by decide) (fun c => ?_) (fun c => ?_)
  · replace h := if_f c h
    exact bX2_isLetter_22 C  ls h (lv_sub hl [] rfl)
  · replace h := if_t c h
    refine lv_iload_n hx hb dX2_isLetter_11 rfl (lv_at hl 0 rfl) ?_
    refine lv_bipush (v := 65) hx hb dX2_isLetter_12 (by decide) ?_
    refine lv_bipush (v := 90) hx hb dX2_isLetter_14 (by decide) ?_
    obtain ⟨v2, hv2, h⟩ := bd1_some h
    refine r_int (run_s (As := [.int x0, .int (65 : Int32), .int (90 : Int32)]) (rest := []) C (mX2_isIn hv2) q1656 q1657 q162 q1658 ⟨rfl, rfl⟩ hdX2_isIn ⟨Nat.le_of_ble_eq_true rfl, Nat.le_of_ble_eq_true rfl⟩ ⟨Nat.zero_le _, Nat.zero_le _⟩ rfl hl.1 rfl (Nat.le_of_ble_eq_true rfl) dX2_isLetter_16) ?_
    refine lv_if_eq (tgt := 26) hx hb dX2_isLetter_19 (by decide) (fun c => ?_) (fun c => ?_)
    · replace h := if_t c h
      refine lv_iconst (v := 0) hx hb dX2_isLetter_26 (by decide) ?_
      exact e_rz C (Or.inl rfl) h dX2_isLetter_27
    · replace h := if_f c h
      exact bX2_isLetter_22 C  ls h (lv_sub hl [] rfl)
theorem mX2_isLetter {l : Launch} {x0 : Int32} {r : Int32} (h : T_isLetter x0 = some r) : Met l yX2_isLetter (ws_ yX2_isLetter cX2_isLetter 1 (some .boolean)) rmX2_isLetter (sPc [.int x0]) (rQi r) 0 0 nof := en_S (by decide +kernel) rfl (Nat.le_of_ble_eq_true rfl) (fun p e s m below meth c ls C hl => bX2_isLetter C x0 ls h hl)
set_option maxRecDepth 20000 in
abbrev rmX2_nextToken : Room := { frames := 2, cells := 0, slots := 0, locals := 42 }
theorem hdX2_nextToken : yX2_nextToken.cls = RX2 ∧ yX2_nextToken.cls ≠ "java/lang/invoke/MethodHandle" ∧ yX2_nextToken.cls ≠ "java/lang/invoke/VarHandle" ∧ (parseMethodDescriptor yX2_nextToken.desc).map (fun d => d.parameters.length) = some 0 := by decide +kernel
theorem bX2_nextToken_26 {p : Program} {l : Launch} {e : Env} {s : State} {m : MethodId} {args : Array Value} {below : List Frame} {meth : Method} {c : Code} {D : va_G} {dA : Nat → ClassId} {b : Nat} {t9 : TS} (C : cx p s m args meth c cX2_nextToken RX2 3 none) (hK : kk D dA s) {k0 : TS → Option TS} (hk0 : ∀ (t : TS) (H : Heap) (locs : List Loc) (hT : wd D (tw dA b t) H) (hS : tS b s.heap H locs) (ls : Array Slot), k0 t = some t9 → lv_has ls 3 [(0, .ref b)] → W p l e rmX2_nextToken s m args below meth c H locs 0 0 (MQ below (tQ D dA b t9 none) args s 0 0 (ta b)) (F0 m 0 ls [])) : ∀ (t : TS) (H : Heap) (locs : List Loc) (hT : wd D (tw dA b t) H) (hS : tS b s.heap H locs) (ls : Array Slot), T_nextToken_26 k0 t = some t9 → lv_has ls 3 [(0, .ref b)] → W p l e rmX2_nextToken s m args below meth c H locs 0 0 (MQ below (tQ D dA b t9 none) args s 0 0 (ta b)) (F0 m 26 ls []) := by
  obtain ⟨hx, hb, hr, hml, hown, hts, hlocks⟩ := id C
  intro t H locs hT hS ls h hl
  unfold T_nextToken_26 at h
  refine lv_aload_n hx hb dX2_nextToken_26 rfl (lv_at hl 0 rfl) ?_
  refine lv_dup hx hb dX2_nextToken_27 rfl ?_
  refine tg11 C hK hT dX2_nextToken_28 ?_
  refine lv_iconst (v := 1) hx hb dX2_nextToken_31 (by decide) ?_
  refine lv_iadd hx hb dX2_nextToken_32 ?_
  refine tp11 C hK hT hS dX2_nextToken_33 (fun t1 H locs et1 hT hS => ?_)
  replace h := lt1_sub et1 h
  refine lv_goto (tgt := 0) hx hb dX2_nextToken_36 (by decide) ?_
  exact hk0 t1 H locs hT hS ls h (lv_sub hl [0] rfl)
theorem bX2_nextToken_131 {p : Program} {l : Launch} {e : Env} {s : State} {m : MethodId} {args : Array Value} {below : List Frame} {meth : Method} {c : Code} {D : va_G} {dA : Nat → ClassId} {b : Nat} {t9 : TS} (C : cx p s m args meth c cX2_nextToken RX2 3 none) (hK : kk D dA s) {k85 : TS → Option TS} (hk85 : ∀ (t : TS) (H : Heap) (locs : List Loc) (hT : wd D (tw dA b t) H) (hS : tS b s.heap H locs) (ls : Array Slot), k85 t = some t9 → lv_has ls 3 [(0, .ref b)] → W p l e rmX2_nextToken s m args below meth c H locs 0 0 (MQ below (tQ D dA b t9 none) args s 0 0 (ta b)) (F0 m 85 ls [])) : ∀ (t : TS) (H : Heap) (locs : List Loc) (hT : wd D (tw dA b t) H) (hS : tS b s.heap H locs) (ls : Array Slot), T_nextToken_131 k85 t = some t9 → lv_has ls 3 [(0, .ref b)] → W p l e rmX2_nextToken s m args below meth c H locs 0 0 (MQ below (tQ D dA b t9 none) args s 0 0 (ta b)) (F0 m 131 ls []) := by
  obtain ⟨hx, hb, hr, hml, hown, hts, hlocks⟩ := id C
  intro t H locs hT hS ls h hl
  unfold T_nextToken_131 at h
  refine lv_aload_n hx hb dX2_nextToken_131 rfl (lv_at hl 0 rfl) ?_
  refine lv_dup hx hb dX2_nextToken_132 rfl ?_
  refine tg11 C hK hT dX2_nextToken_133 ?_
  refine lv_iconst (v := 1) hx hb dX2_nextToken_136 (by decide) ?_
  refine lv_iadd hx hb dX2_nextToken_137 ?_
  refine tp11 C hK hT hS dX2_nextToken_138 (fun t1 H locs et1 hT hS => ?_)
  replace h := lt1_sub et1 h
  refine lv_goto (tgt := 85) hx hb dX2_nextToken_141 (by decide) ?_
  exact hk85 t1 H locs hT hS ls h (lv_sub hl [0] rfl)
theorem bX2_nextToken_85 {p : Program} {l : Launch} {e : Env} {s : State} {m : MethodId} {args : Array Value} {below : List Frame} {meth : Method} {c : Code} {D : va_G} {dA : Nat → ClassId} {b : Nat} {t9 : TS} (C : cx p s m args meth c cX2_nextToken RX2 3 none) (hK : kk D dA s) : ∀ (n : Nat), ∀ (t : TS) (H : Heap) (locs : List Loc) (hT : wd D (tw dA b t) H) (hS : tS b s.heap H locs) (ls : Array Slot), T_nextToken_85 n t = some t9 → lv_has ls 3 [(0, .ref b)] → W p l e rmX2_nextToken s m args below meth c H locs 0 0 (MQ below (tQ D dA b t9 none) args s 0 0 (ta b)) (F0 m 85 ls []) := by
  obtain ⟨hx, hb, hr, hml, hown, hts, hlocks⟩ := id C
  intro n
  induction n with
  | zero =>
    intro t H locs hT hS ls h hl
    have h : none = some _ := h
    cases h
  | succ n ih =>
    intro t H locs hT hS ls h hl
    rw [T_nextToken_85] at h
    refine lv_aload_n hx hb dX2_nextToken_85 rfl (lv_at hl 0 rfl) ?_
    refine lv_aload_n hx hb dX2_nextToken_86 rfl (lv_at hl 0 rfl) ?_
    refine tg11 C hK hT dX2_nextToken_87 ?_
    obtain ⟨v1, hv1, h⟩ := bd1_some h
    refine r_int (run_t (As := [.int (t.1 11 0)]) (rest := []) C hK hT (mX2_byteAt hv1) q1719 q1721 qs77 q162 q1722 ⟨rfl, rfl⟩ hdX2_byteAt ⟨Nat.le_of_ble_eq_true rfl, Nat.le_of_ble_eq_true rfl⟩ ⟨Nat.zero_le _, Nat.zero_le _⟩ rfl hl.1 rfl (Nat.le_of_ble_eq_true rfl) dX2_nextToken_90) ?_
    obtain ⟨v2, hv2, h⟩ := bd1_some h
    refine r_int (run_s (As := [.int v1]) (rest := []) C (mX2_isDigit hv2) q1723 q1724 q162 q1725 ⟨rfl, rfl⟩ hdX2_isDigit ⟨Nat.le_of_ble_eq_true rfl, Nat.le_of_ble_eq_true rfl⟩ ⟨Nat.zero_le _, Nat.zero_le _⟩ rfl hl.1 rfl (Nat.le_of_ble_eq_true rfl) dX2_nextToken_93) ?_
    refine lv_if_eq (tgt := 396) hx hb dX2_nextToken_96 (by decide) (fun c => ?_) (fun c => ?_)
    · replace h := if_t c h
      exact e_wv C hT hS h dX2_nextToken_396
    · replace h := if_f c h
      refine lv_aload_n hx hb dX2_nextToken_99 rfl (lv_at hl 0 rfl) ?_
      refine tg14 C hK hT dX2_nextToken_100 ?_
      refine lv_ldc hx hb hown (hts _ q1726) dX2_nextToken_103 ?_
      refine lv_icmp_ge (tgt := 131) hx hb dX2_nextToken_105 (by decide) (fun c => ?_) (fun c => ?_)
      · replace h := if_t c h
        exact bX2_nextToken_131 C hK ih t H locs hT hS ls h (lv_sub hl [0] rfl)
      · replace h := if_f c h
        refine lv_aload_n hx hb dX2_nextToken_108 rfl (lv_at hl 0 rfl) ?_
        refine lv_bipush (v := 10) hx hb dX2_nextToken_109 (by decide) ?_
        refine lv_aload_n hx hb dX2_nextToken_111 rfl (lv_at hl 0 rfl) ?_
        refine tg14 C hK hT dX2_nextToken_112 ?_
        refine lv_imul hx hb dX2_nextToken_115 ?_
        refine lv_aload_n hx hb dX2_nextToken_116 rfl (lv_at hl 0 rfl) ?_
        refine lv_aload_n hx hb dX2_nextToken_117 rfl (lv_at hl 0 rfl) ?_
        refine tg11 C hK hT dX2_nextToken_118 ?_
        obtain ⟨v3, hv3, h⟩ := bd1_some h
        refine r_int (run_t (As := [.int (t.1 11 0)]) (rest := [.int ((10 : Int32) * (t.1 14 0)), .ref b]) C hK hT (mX2_byteAt hv3) q1719 q1721 qs77 q162 q1722 ⟨rfl, rfl⟩ hdX2_byteAt ⟨Nat.le_of_ble_eq_true rfl, Nat.le_of_ble_eq_true rfl⟩ ⟨Nat.zero_le _, Nat.zero_le _⟩ rfl hl.1 rfl (Nat.le_of_ble_eq_true rfl) dX2_nextToken_121) ?_
        refine lv_iadd hx hb dX2_nextToken_124 ?_
        refine lv_bipush (v := 48) hx hb dX2_nextToken_125 (by decide) ?_
        refine lv_isub hx hb dX2_nextToken_127 ?_
        refine tp14 C hK hT hS dX2_nextToken_128 (fun t4 H locs et4 hT hS => ?_)
        replace h := lt1_sub et4 h
        exact bX2_nextToken_131 C hK ih t4 H locs hT hS ls h (lv_sub hl [0] rfl)
theorem bX2_nextToken_210 {p : Program} {l : Launch} {e : Env} {s : State} {m : MethodId} {args : Array Value} {below : List Frame} {meth : Method} {c : Code} {D : va_G} {dA : Nat → ClassId} {b : Nat} {t9 : TS} (C : cx p s m args meth c cX2_nextToken RX2 3 none) (hK : kk D dA s) {k161 : TS → Option TS} (hk161 : ∀ (t : TS) (H : Heap) (locs : List Loc) (hT : wd D (tw dA b t) H) (hS : tS b s.heap H locs) (ls : Array Slot), k161 t = some t9 → lv_has ls 3 [(0, .ref b)] → W p l e rmX2_nextToken s m args below meth c H locs 0 0 (MQ below (tQ D dA b t9 none) args s 0 0 (ta b)) (F0 m 161 ls [])) : ∀ (t : TS) (H : Heap) (locs : List Loc) (hT : wd D (tw dA b t) H) (hS : tS b s.heap H locs) (ls : Array Slot), T_nextToken_210 k161 t = some t9 → lv_has ls 3 [(0, .ref b)] → W p l e rmX2_nextToken s m args below meth c H locs 0 0 (MQ below (tQ D dA b t9 none) args s 0 0 (ta b)) (F0 m 210 ls []) := by
  obtain ⟨hx, hb, hr, hml, hown, hts, hlocks⟩ := id C
  intro t H locs hT hS ls h hl
  unfold T_nextToken_210 at h
  refine lv_aload_n hx hb dX2_nextToken_210 rfl (lv_at hl 0 rfl) ?_
  refine lv_dup hx hb dX2_nextToken_211 rfl ?_
  refine tg11 C hK hT dX2_nextToken_212 ?_
  refine lv_iconst (v := 1) hx hb dX2_nextToken_215 (by decide) ?_
  refine lv_iadd hx hb dX2_nextToken_216 ?_
  refine tp11 C hK hT hS dX2_nextToken_217 (fun t1 H locs et1 hT hS => ?_)
  replace h := lt1_sub et1 h
  refine lv_goto (tgt := 161) hx hb dX2_nextToken_220 (by decide) ?_
  exact hk161 t1 H locs hT hS ls h (lv_sub hl [0] rfl)
theorem bX2_nextToken_161 {p : Program} {l : Launch} {e : Env} {s : State} {m : MethodId} {args : Array Value} {below : List Frame} {meth : Method} {c : Code} {D : va_G} {dA : Nat → ClassId} {b : Nat} {t9 : TS} (C : cx p s m args meth c cX2_nextToken RX2 3 none) (hK : kk D dA s) : ∀ (n : Nat), ∀ (t : TS) (H : Heap) (locs : List Loc) (hT : wd D (tw dA b t) H) (hS : tS b s.heap H locs) (ls : Array Slot), T_nextToken_161 n t = some t9 → lv_has ls 3 [(0, .ref b)] → W p l e rmX2_nextToken s m args below meth c H locs 0 0 (MQ below (tQ D dA b t9 none) args s 0 0 (ta b)) (F0 m 161 ls []) := by
  obtain ⟨hx, hb, hr, hml, hown, hts, hlocks⟩ := id C
  intro n
  induction n with
  | zero =>
    intro t H locs hT hS ls h hl
    have h : none = some _ := h
    cases h
  | succ n ih =>
    intro t H locs hT hS ls h hl
    rw [T_nextToken_161] at h
    refine lv_aload_n hx hb dX2_nextToken_161 rfl (lv_at hl 0 rfl) ?_
    refine lv_aload_n hx hb dX2_nextToken_162 rfl (lv_at hl 0 rfl) ?_
    refine tg11 C hK hT dX2_nextToken_163 ?_
    obtain ⟨v1, hv1, h⟩ := bd1_some h
    refine r_int (run_t (As := [.int (t.1 11 0)]) (rest := []) C hK hT (mX2_byteAt hv1) q1719 q1721 qs77 q162 q1722 ⟨rfl, rfl⟩ hdX2_byteAt ⟨Nat.le_of_ble_eq_true rfl, Nat.le_of_ble_eq_true rfl⟩ ⟨Nat.zero_le _, Nat.zero_le _⟩ rfl hl.1 rfl (Nat.le_of_ble_eq_true rfl) dX2_nextToken_166) ?_
    obtain ⟨v2, hv2, h⟩ := bd1_some h
    refine r_int (run_s (As := [.int v1]) (rest := []) C (mX2_isLetter hv2) q1727 q1728 q162 q1729 ⟨rfl, rfl⟩ hdX2_isLetter ⟨Nat.le_of_ble_eq_true rfl, Nat.le_of_ble_eq_true rfl⟩ ⟨Nat.zero_le _, Nat.zero_le _⟩ rfl hl.1 rfl (Nat.le_of_ble_eq_true rfl) dX2_nextToken_169) ?_
    refine lv_if_eq (tgt := 223) hx hb dX2_nextToken_172 (by decide) (fun c => ?_) (fun c => ?_)
    · replace h := if_t c h
      refine lv_aload_n hx hb dX2_nextToken_223 rfl (lv_at hl 0 rfl) ?_
      refine tg11 C hK hT dX2_nextToken_224 ?_
      refine lv_aload_n hx hb dX2_nextToken_227 rfl (lv_at hl 0 rfl) ?_
      refine tg12 C hK hT dX2_nextToken_228 ?_
      refine lv_isub hx hb dX2_nextToken_231 ?_
      refine lv_bipush (v := 7) hx hb dX2_nextToken_232 (by decide) ?_
      refine lv_icmp_le (tgt := 396) hx hb dX2_nextToken_234 (by decide) (fun c => ?_) (fun c => ?_)
      · replace h := if_t c h
        exact e_wv C hT hS h dX2_nextToken_396
      · replace h := if_f c h
        refine lv_aload_n hx hb dX2_nextToken_237 rfl (lv_at hl 0 rfl) ?_
        refine lv_lconst (v := 0) hx hb dX2_nextToken_238 (by decide) ?_
        refine tp15 C hK hT hS dX2_nextToken_239 (fun t3 H locs et3 hT hS => ?_)
        replace h := lt1_sub et3 h
        refine lv_goto (tgt := 396) hx hb dX2_nextToken_242 (by decide) ?_
        exact e_wv C hT hS h dX2_nextToken_396
    · replace h := if_f c h
      refine lv_aload_n hx hb dX2_nextToken_175 rfl (lv_at hl 0 rfl) ?_
      refine tg11 C hK hT dX2_nextToken_176 ?_
      refine lv_aload_n hx hb dX2_nextToken_179 rfl (lv_at hl 0 rfl) ?_
      refine tg12 C hK hT dX2_nextToken_180 ?_
      refine lv_isub hx hb dX2_nextToken_183 ?_
      refine lv_bipush (v := 7) hx hb dX2_nextToken_184 (by decide) ?_
      refine lv_icmp_ge (tgt := 210) hx hb dX2_nextToken_186 (by decide) (fun c => ?_) (fun c => ?_)
      · replace h := if_t c h
        exact bX2_nextToken_210 C hK ih t H locs hT hS ls h (lv_sub hl [0] rfl)
      · replace h := if_f c h
        refine lv_aload_n hx hb dX2_nextToken_189 rfl (lv_at hl 0 rfl) ?_
        refine lv_aload_n hx hb dX2_nextToken_190 rfl (lv_at hl 0 rfl) ?_
        refine tg15 C hK hT dX2_nextToken_191 ?_
        refine lv_bipush (v := 8) hx hb dX2_nextToken_194 (by decide) ?_
        refine lv_lshl hx hb dX2_nextToken_196 rfl ?_
        refine lv_aload_n hx hb dX2_nextToken_197 rfl (lv_at hl 0 rfl) ?_
        refine lv_aload_n hx hb dX2_nextToken_198 rfl (lv_at hl 0 rfl) ?_
        refine tg11 C hK hT dX2_nextToken_199 ?_
        obtain ⟨v4, hv4, h⟩ := bd1_some h
        refine r_int (run_t (As := [.int (t.1 11 0)]) (rest := [.long ((t.2 15 0) <<< ((8 : Int32).toInt64 &&& (63 : Int64))), .ref b]) C hK hT (mX2_byteAt hv4) q1719 q1721 qs77 q162 q1722 ⟨rfl, rfl⟩ hdX2_byteAt ⟨Nat.le_of_ble_eq_true rfl, Nat.le_of_ble_eq_true rfl⟩ ⟨Nat.zero_le _, Nat.zero_le _⟩ rfl hl.1 rfl (Nat.le_of_ble_eq_true rfl) dX2_nextToken_202) ?_
        refine lv_i2l hx hb dX2_nextToken_205 rfl ?_
        refine lv_lor hx hb dX2_nextToken_206 ?_
        refine tp15 C hK hT hS dX2_nextToken_207 (fun t5 H locs et5 hT hS => ?_)
        replace h := lt1_sub et5 h
        exact bX2_nextToken_210 C hK ih t5 H locs hT hS ls h (lv_sub hl [0] rfl)
theorem bX2_nextToken_393 {p : Program} {l : Launch} {e : Env} {s : State} {m : MethodId} {args : Array Value} {below : List Frame} {meth : Method} {c : Code} {D : va_G} {dA : Nat → ClassId} {b : Nat} {t9 : TS} (C : cx p s m args meth c cX2_nextToken RX2 3 none) (hK : kk D dA s) : ∀ (t : TS) (y1 : Int32) (H : Heap) (locs : List Loc) (hT : wd D (tw dA b t) H) (hS : tS b s.heap H locs) (ls : Array Slot), T_nextToken_393 t y1 = some t9 → lv_has ls 3 [] → W p l e rmX2_nextToken s m args below meth c H locs 0 0 (MQ below (tQ D dA b t9 none) args s 0 0 (ta b)) (F0 m 393 ls [.int y1, .ref b]) := by
  obtain ⟨hx, hb, hr, hml, hown, hts, hlocks⟩ := id C
  intro t y1 H locs hT hS ls h hl
  unfold T_nextToken_393 at h
  refine tp13 C hK hT hS dX2_nextToken_393 (fun t1 H locs et1 hT hS => ?_)
  replace h := lt1_sub et1 h
  exact e_wv C hT hS h dX2_nextToken_396
theorem bX2_nextToken_358 {p : Program} {l : Launch} {e : Env} {s : State} {m : MethodId} {args : Array Value} {below : List Frame} {meth : Method} {c : Code} {D : va_G} {dA : Nat → ClassId} {b : Nat} {t9 : TS} (C : cx p s m args meth c cX2_nextToken RX2 3 none) (hK : kk D dA s) : ∀ (t : TS) (x1 : Int32) (H : Heap) (locs : List Loc) (hT : wd D (tw dA b t) H) (hS : tS b s.heap H locs) (ls : Array Slot), T_nextToken_358 t x1 = some t9 → lv_has ls 3 [(0, .ref b), (1, .int x1)] → W p l e rmX2_nextToken s m args below meth c H locs 0 0 (MQ below (tQ D dA b t9 none) args s 0 0 (ta b)) (F0 m 358 ls []) := by
  obtain ⟨hx, hb, hr, hml, hown, hts, hlocks⟩ := id C
  intro t x1 H locs hT hS ls h hl
  unfold T_nextToken_358 at h
  refine lv_aload_n hx hb dX2_nextToken_358 rfl (lv_at hl 0 rfl) ?_
  refine lv_aload_n hx hb dX2_nextToken_359 rfl (lv_at hl 0 rfl) ?_
  refine tg11 C hK hT dX2_nextToken_360 ?_
  obtain ⟨v1, hv1, h⟩ := bd1_some h
  refine r_int (run_t (As := [.int (t.1 11 0)]) (rest := []) C hK hT (mX2_byteAt hv1) q1719 q1721 qs77 q162 q1722 ⟨rfl, rfl⟩ hdX2_byteAt ⟨Nat.le_of_ble_eq_true rfl, Nat.le_of_ble_eq_true rfl⟩ ⟨Nat.zero_le _, Nat.zero_le _⟩ rfl hl.1 rfl (Nat.le_of_ble_eq_true rfl) dX2_nextToken_363) ?_
  refine lv_bipush (v := 61) hx hb dX2_nextToken_366 (by decide) ?_
  refine lv_icmp_ne (tgt := 396) hx hb dX2_nextToken_368 (by decide) (fun c => ?_) (fun c => ?_)
  · replace h := if_f c h
    exact e_wv C hT hS h dX2_nextToken_396
  · replace h := if_t c h
    refine lv_aload_n hx hb dX2_nextToken_371 rfl (lv_at hl 0 rfl) ?_
    refine lv_dup hx hb dX2_nextToken_372 rfl ?_
    refine tg11 C hK hT dX2_nextToken_373 ?_
    refine lv_iconst (v := 1) hx hb dX2_nextToken_376 (by decide) ?_
    refine lv_iadd hx hb dX2_nextToken_377 ?_
    refine tp11 C hK hT hS dX2_nextToken_378 (fun t2 H locs et2 hT hS => ?_)
    replace h := lt1_sub et2 h
    refine lv_aload_n hx hb dX2_nextToken_381 rfl (lv_at hl 0 rfl) ?_
    refine lv_iload_n hx hb dX2_nextToken_382 rfl (lv_at hl 1 rfl) ?_
    refine lv_bipush (v := 60) hx hb dX2_nextToken_383 (by decide) ?_
    refine lv_icmp_ne (tgt := 392) hx hb dX2_nextToken_385 (by decide) (fun c => ?_) (fun c => ?_)
    · replace h := if_f c h
      refine lv_iconst (v := 5) hx hb dX2_nextToken_392 (by decide) ?_
      exact bX2_nextToken_393 C hK t2 (5 : Int32) H locs hT hS ls h (lv_sub hl [] rfl)
    · replace h := if_t c h
      refine lv_iconst (v := 4) hx hb dX2_nextToken_388 (by decide) ?_
      refine lv_goto (tgt := 393) hx hb dX2_nextToken_389 (by decide) ?_
      exact bX2_nextToken_393 C hK t2 (4 : Int32) H locs hT hS ls h (lv_sub hl [] rfl)
theorem bX2_nextToken_343 {p : Program} {l : Launch} {e : Env} {s : State} {m : MethodId} {args : Array Value} {below : List Frame} {meth : Method} {c : Code} {D : va_G} {dA : Nat → ClassId} {b : Nat} {t9 : TS} (C : cx p s m args meth c cX2_nextToken RX2 3 none) (hK : kk D dA s) : ∀ (t : TS) (x1 : Int32) (y1 : Int32) (H : Heap) (locs : List Loc) (hT : wd D (tw dA b t) H) (hS : tS b s.heap H locs) (ls : Array Slot), T_nextToken_343 t x1 y1 = some t9 → lv_has ls 3 [(0, .ref b), (1, .int x1)] → W p l e rmX2_nextToken s m args below meth c H locs 0 0 (MQ below (tQ D dA b t9 none) args s 0 0 (ta b)) (F0 m 343 ls [.int y1, .ref b]) := by
  obtain ⟨hx, hb, hr, hml, hown, hts, hlocks⟩ := id C
  intro t x1 y1 H locs hT hS ls h hl
  unfold T_nextToken_343 at h
  refine tp13 C hK hT hS dX2_nextToken_343 (fun t1 H locs et1 hT hS => ?_)
  replace h := lt1_sub et1 h
  refine lv_iload_n hx hb dX2_nextToken_346 rfl (lv_at hl 1 rfl) ?_
  refine lv_bipush (v := 60) hx hb dX2_nextToken_347 (by decide) ?_
  refine lv_icmp_eq (tgt := 358) hx hb dX2_nextToken_349 (by decide) (fun c => ?_) (fun c => ?_)
  · replace h := if_t c h
    exact bX2_nextToken_358 C hK t1 x1 H locs hT hS ls h (lv_sub hl [0, 1] rfl)
  · replace h := if_f c h
    refine lv_iload_n hx hb dX2_nextToken_352 rfl (lv_at hl 1 rfl) ?_
    refine lv_bipush (v := 62) hx hb dX2_nextToken_353 (by decide) ?_
    refine lv_icmp_ne (tgt := 396) hx hb dX2_nextToken_355 (by decide) (fun c => ?_) (fun c => ?_)
    · replace h := if_f c h
      exact e_wv C hT hS h dX2_nextToken_396
    · replace h := if_t c h
      exact bX2_nextToken_358 C hK t1 x1 H locs hT hS ls h (lv_sub hl [0, 1] rfl)
theorem bX2_nextToken_332 {p : Program} {l : Launch} {e : Env} {s : State} {m : MethodId} {args : Array Value} {below : List Frame} {meth : Method} {c : Code} {D : va_G} {dA : Nat → ClassId} {b : Nat} {t9 : TS} (C : cx p s m args meth c cX2_nextToken RX2 3 none) (hK : kk D dA s) : ∀ (t : TS) (x1 : Int32) (y0 : Int32) (H : Heap) (locs : List Loc) (hT : wd D (tw dA b t) H) (hS : tS b s.heap H locs) (ls : Array Slot), T_nextToken_332 t x1 y0 = some t9 → lv_has ls 3 [(0, .ref b), (1, .int x1)] → W p l e rmX2_nextToken s m args below meth c H locs 0 0 (MQ below (tQ D dA b t9 none) args s 0 0 (ta b)) (F0 m 332 ls [.int y0]) := by
  obtain ⟨hx, hb, hr, hml, hown, hts, hlocks⟩ := id C
  intro t x1 y0 H locs hT hS ls h hl
  unfold T_nextToken_332 at h
  refine lv_istore_n (lv' := [(2, .int y0), (0, .ref b), (1, .int x1)]) hx hb dX2_nextToken_332 rfl hl (by decide) rfl (fun ls hl => ?_)
  refine lv_aload_n hx hb dX2_nextToken_333 rfl (lv_at hl 1 rfl) ?_
  refine lv_iload_n hx hb dX2_nextToken_334 rfl (lv_at hl 0 rfl) ?_
  refine lv_if_eq (tgt := 342) hx hb dX2_nextToken_335 (by decide) (fun c => ?_) (fun c => ?_)
  · replace h := if_t c h
    refine lv_iconst (v := 3) hx hb dX2_nextToken_342 (by decide) ?_
    exact bX2_nextToken_343 C hK t x1 (3 : Int32) H locs hT hS ls h (lv_sub hl [1, 2] rfl)
  · replace h := if_f c h
    refine lv_iload_n hx hb dX2_nextToken_338 rfl (lv_at hl 2 rfl) ?_
    refine lv_goto (tgt := 343) hx hb dX2_nextToken_339 (by decide) ?_
    exact bX2_nextToken_343 C hK t x1 x1 H locs hT hS ls h (lv_sub hl [1, 2] rfl)
theorem bX2_nextToken_327 {p : Program} {l : Launch} {e : Env} {s : State} {m : MethodId} {args : Array Value} {below : List Frame} {meth : Method} {c : Code} {D : va_G} {dA : Nat → ClassId} {b : Nat} {t9 : TS} (C : cx p s m args meth c cX2_nextToken RX2 3 none) (hK : kk D dA s) : ∀ (t : TS) (x1 : Int32) (H : Heap) (locs : List Loc) (hT : wd D (tw dA b t) H) (hS : tS b s.heap H locs) (ls : Array Slot), T_nextToken_327 t x1 = some t9 → lv_has ls 3 [(0, .ref b), (1, .int x1)] → W p l e rmX2_nextToken s m args below meth c H locs 0 0 (MQ below (tQ D dA b t9 none) args s 0 0 (ta b)) (F0 m 327 ls []) := by
  obtain ⟨hx, hb, hr, hml, hown, hts, hlocks⟩ := id C
  intro t x1 H locs hT hS ls h hl
  unfold T_nextToken_327 at h
  refine lv_iconst (v := 1) hx hb dX2_nextToken_327 (by decide) ?_
  refine lv_goto (tgt := 332) hx hb dX2_nextToken_328 (by decide) ?_
  exact bX2_nextToken_332 C hK t x1 (1 : Int32) H locs hT hS ls h (lv_sub hl [0, 1] rfl)
theorem bX2_nextToken_0 {p : Program} {l : Launch} {e : Env} {s : State} {m : MethodId} {args : Array Value} {below : List Frame} {meth : Method} {c : Code} {D : va_G} {dA : Nat → ClassId} {b : Nat} {t9 : TS} (C : cx p s m args meth c cX2_nextToken RX2 3 none) (hK : kk D dA s) : ∀ (n : Nat), ∀ (t : TS) (H : Heap) (locs : List Loc) (hT : wd D (tw dA b t) H) (hS : tS b s.heap H locs) (ls : Array Slot), T_nextToken_0 n t = some t9 → lv_has ls 3 [(0, .ref b)] → W p l e rmX2_nextToken s m args below meth c H locs 0 0 (MQ below (tQ D dA b t9 none) args s 0 0 (ta b)) (F0 m 0 ls []) := by
  obtain ⟨hx, hb, hr, hml, hown, hts, hlocks⟩ := id C
  intro n
  induction n with
  | zero =>
    intro t H locs hT hS ls h hl
    have h : none = some _ := h
    cases h
  | succ n ih =>
    intro t H locs hT hS ls h hl
    rw [T_nextToken_0] at h
    refine lv_aload_n hx hb dX2_nextToken_0 rfl (lv_at hl 0 rfl) ?_
    refine lv_aload_n hx hb dX2_nextToken_1 rfl (lv_at hl 0 rfl) ?_
    refine tg11 C hK hT dX2_nextToken_2 ?_
    obtain ⟨v1, hv1, h⟩ := bd1_some h
    refine r_int (run_t (As := [.int (t.1 11 0)]) (rest := []) C hK hT (mX2_byteAt hv1) q1719 q1721 qs77 q162 q1722 ⟨rfl, rfl⟩ hdX2_byteAt ⟨Nat.le_of_ble_eq_true rfl, Nat.le_of_ble_eq_true rfl⟩ ⟨Nat.zero_le _, Nat.zero_le _⟩ rfl hl.1 rfl (Nat.le_of_ble_eq_true rfl) dX2_nextToken_5) ?_
    refine lv_bipush (v := 32) hx hb dX2_nextToken_8 (by decide) ?_
    refine lv_icmp_eq (tgt := 26) hx hb dX2_nextToken_10 (by decide) (fun c => ?_) (fun c => ?_)
    · replace h := if_t c h
      exact bX2_nextToken_26 C hK ih t H locs hT hS ls h (lv_sub hl [0] rfl)
    · replace h := if_f c h
      refine lv_aload_n hx hb dX2_nextToken_13 rfl (lv_at hl 0 rfl) ?_
      refine lv_aload_n hx hb dX2_nextToken_14 rfl (lv_at hl 0 rfl) ?_
      refine tg11 C hK hT dX2_nextToken_15 ?_
      obtain ⟨v2, hv2, h⟩ := bd1_some h
      refine r_int (run_t (As := [.int (t.1 11 0)]) (rest := []) C hK hT (mX2_byteAt hv2) q1719 q1721 qs77 q162 q1722 ⟨rfl, rfl⟩ hdX2_byteAt ⟨Nat.le_of_ble_eq_true rfl, Nat.le_of_ble_eq_true rfl⟩ ⟨Nat.zero_le _, Nat.zero_le _⟩ rfl hl.1 rfl (Nat.le_of_ble_eq_true rfl) dX2_nextToken_18) ?_
      refine lv_bipush (v := 10) hx hb dX2_nextToken_21 (by decide) ?_
      refine lv_icmp_ne (tgt := 39) hx hb dX2_nextToken_23 (by decide) (fun c => ?_) (fun c => ?_)
      · replace h := if_f c h
        refine lv_aload_n hx hb dX2_nextToken_39 rfl (lv_at hl 0 rfl) ?_
        refine lv_aload_n hx hb dX2_nextToken_40 rfl (lv_at hl 0 rfl) ?_
        refine tg11 C hK hT dX2_nextToken_41 ?_
        refine tp12 C hK hT hS dX2_nextToken_44 (fun t3 H locs et3 hT hS => ?_)
        replace h := lt1_sub et3 h
        refine lv_aload_n hx hb dX2_nextToken_47 rfl (lv_at hl 0 rfl) ?_
        refine lv_aload_n hx hb dX2_nextToken_48 rfl (lv_at hl 0 rfl) ?_
        refine tg11 C hK hT dX2_nextToken_49 ?_
        obtain ⟨v4, hv4, h⟩ := bd1_some h
        refine r_int (run_t (As := [.int (t3.1 11 0)]) (rest := []) C hK hT (mX2_byteAt hv4) q1719 q1721 qs77 q162 q1722 ⟨rfl, rfl⟩ hdX2_byteAt ⟨Nat.le_of_ble_eq_true rfl, Nat.le_of_ble_eq_true rfl⟩ ⟨Nat.zero_le _, Nat.zero_le _⟩ rfl hl.1 rfl (Nat.le_of_ble_eq_true rfl) dX2_nextToken_52) ?_
        refine lv_istore_n (lv' := [(1, .int v4), (0, .ref b)]) hx hb dX2_nextToken_55 rfl hl (by decide) rfl (fun ls hl => ?_)
        refine lv_iload_n hx hb dX2_nextToken_56 rfl (lv_at hl 0 rfl) ?_
        refine lv_if_ge (tgt := 68) hx hb dX2_nextToken_57 (by decide) (fun c => ?_) (fun c => ?_)
        · replace h := if_t c h
          refine lv_iload_n hx hb dX2_nextToken_68 rfl (lv_at hl 0 rfl) ?_
          obtain ⟨v5, hv5, h⟩ := bd1_some h
          refine r_int (run_s (As := [.int v4]) (rest := []) C (mX2_isDigit hv5) q1723 q1724 q162 q1725 ⟨rfl, rfl⟩ hdX2_isDigit ⟨Nat.le_of_ble_eq_true rfl, Nat.le_of_ble_eq_true rfl⟩ ⟨Nat.zero_le _, Nat.zero_le _⟩ rfl hl.1 rfl (Nat.le_of_ble_eq_true rfl) dX2_nextToken_69) ?_
          refine lv_if_eq (tgt := 144) hx hb dX2_nextToken_72 (by decide) (fun c => ?_) (fun c => ?_)
          · replace h := if_t c h
            refine lv_iload_n hx hb dX2_nextToken_144 rfl (lv_at hl 0 rfl) ?_
            obtain ⟨v6, hv6, h⟩ := bd1_some h
            refine r_int (run_s (As := [.int v4]) (rest := []) C (mX2_isLetter hv6) q1727 q1728 q162 q1729 ⟨rfl, rfl⟩ hdX2_isLetter ⟨Nat.le_of_ble_eq_true rfl, Nat.le_of_ble_eq_true rfl⟩ ⟨Nat.zero_le _, Nat.zero_le _⟩ rfl hl.1 rfl (Nat.le_of_ble_eq_true rfl) dX2_nextToken_145) ?_
            refine lv_if_eq (tgt := 245) hx hb dX2_nextToken_148 (by decide) (fun c => ?_) (fun c => ?_)
            · replace h := if_t c h
              refine lv_aload_n hx hb dX2_nextToken_245 rfl (lv_at hl 1 rfl) ?_
              refine lv_dup hx hb dX2_nextToken_246 rfl ?_
              refine tg11 C hK hT dX2_nextToken_247 ?_
              refine lv_iconst (v := 1) hx hb dX2_nextToken_250 (by decide) ?_
              refine lv_iadd hx hb dX2_nextToken_251 ?_
              refine tp11 C hK hT hS dX2_nextToken_252 (fun t7 H locs et7 hT hS => ?_)
              replace h := lt1_sub et7 h
              refine lv_iload_n hx hb dX2_nextToken_255 rfl (lv_at hl 0 rfl) ?_
              refine lv_bipush (v := 60) hx hb dX2_nextToken_256 (by decide) ?_
              refine lv_icmp_eq (tgt := 327) hx hb dX2_nextToken_258 (by decide) (fun c => ?_) (fun c => ?_)
              · replace h := if_t c h
                exact bX2_nextToken_327 C hK t7 v4 H locs hT hS ls h (lv_sub hl [1, 0] rfl)
              · replace h := if_f c h
                refine lv_iload_n hx hb dX2_nextToken_261 rfl (lv_at hl 0 rfl) ?_
                refine lv_bipush (v := 62) hx hb dX2_nextToken_262 (by decide) ?_
                refine lv_icmp_eq (tgt := 327) hx hb dX2_nextToken_264 (by decide) (fun c => ?_) (fun c => ?_)
                · replace h := if_t c h
                  exact bX2_nextToken_327 C hK t7 v4 H locs hT hS ls h (lv_sub hl [1, 0] rfl)
                · replace h := if_f c h
                  refine lv_iload_n hx hb dX2_nextToken_267 rfl (lv_at hl 0 rfl) ?_
                  refine lv_bipush (v := 61) hx hb dX2_nextToken_268 (by decide) ?_
                  refine lv_icmp_eq (tgt := 327) hx hb dX2_nextToken_270 (by decide) (fun c => ?_) (fun c => ?_)
                  · replace h := if_t c h
                    exact bX2_nextToken_327 C hK t7 v4 H locs hT hS ls h (lv_sub hl [1, 0] rfl)
                  · replace h := if_f c h
                    refine lv_iload_n hx hb dX2_nextToken_273 rfl (lv_at hl 0 rfl) ?_
                    refine lv_bipush (v := 35) hx hb dX2_nextToken_274 (by decide) ?_
                    refine lv_icmp_eq (tgt := 327) hx hb dX2_nextToken_276 (by decide) (fun c => ?_) (fun c => ?_)
                    · replace h := if_t c h
                      exact bX2_nextToken_327 C hK t7 v4 H locs hT hS ls h (lv_sub hl [1, 0] rfl)
                    · replace h := if_f c h
                      refine lv_iload_n hx hb dX2_nextToken_279 rfl (lv_at hl 0 rfl) ?_
                      refine lv_bipush (v := 43) hx hb dX2_nextToken_280 (by decide) ?_
                      refine lv_icmp_eq (tgt := 327) hx hb dX2_nextToken_282 (by decide) (fun c => ?_) (fun c => ?_)
                      · replace h := if_t c h
                        exact bX2_nextToken_327 C hK t7 v4 H locs hT hS ls h (lv_sub hl [1, 0] rfl)
                      · replace h := if_f c h
                        refine lv_iload_n hx hb dX2_nextToken_285 rfl (lv_at hl 0 rfl) ?_
                        refine lv_bipush (v := 45) hx hb dX2_nextToken_286 (by decide) ?_
                        refine lv_icmp_eq (tgt := 327) hx hb dX2_nextToken_288 (by decide) (fun c => ?_) (fun c => ?_)
                        · replace h := if_t c h
                          exact bX2_nextToken_327 C hK t7 v4 H locs hT hS ls h (lv_sub hl [1, 0] rfl)
                        · replace h := if_f c h
                          refine lv_iload_n hx hb dX2_nextToken_291 rfl (lv_at hl 0 rfl) ?_
                          refine lv_bipush (v := 42) hx hb dX2_nextToken_292 (by decide) ?_
                          refine lv_icmp_eq (tgt := 327) hx hb dX2_nextToken_294 (by decide) (fun c => ?_) (fun c => ?_)
                          · replace h := if_t c h
                            exact bX2_nextToken_327 C hK t7 v4 H locs hT hS ls h (lv_sub hl [1, 0] rfl)
                          · replace h := if_f c h
                            refine lv_iload_n hx hb dX2_nextToken_297 rfl (lv_at hl 0 rfl) ?_
                            refine lv_bipush (v := 47) hx hb dX2_nextToken_298 (by decide) ?_
                            refine lv_icmp_eq (tgt := 327) hx hb dX2_nextToken_300 (by decide) (fun c => ?_) (fun c => ?_)
                            · replace h := if_t c h
                              exact bX2_nextToken_327 C hK t7 v4 H locs hT hS ls h (lv_sub hl [1, 0] rfl)
                            · replace h := if_f c h
                              refine lv_iload_n hx hb dX2_nextToken_303 rfl (lv_at hl 0 rfl) ?_
                              refine lv_bipush (v := 44) hx hb dX2_nextToken_304 (by decide) ?_
                              refine lv_icmp_eq (tgt := 327) hx hb dX2_nextToken_306 (by decide) (fun c => ?_) (fun c => ?_)
                              · replace h := if_t c h
                                exact bX2_nextToken_327 C hK t7 v4 H locs hT hS ls h (lv_sub hl [1, 0] rfl)
                              · replace h := if_f c h
                                refine lv_iload_n hx hb dX2_nextToken_309 rfl (lv_at hl 0 rfl) ?_
                                refine lv_bipush (v := 40) hx hb dX2_nextToken_310 (by decide) ?_
                                refine lv_icmp_eq (tgt := 327) hx hb dX2_nextToken_312 (by decide) (fun c => ?_) (fun c => ?_)
                                · replace h := if_t c h
                                  exact bX2_nextToken_327 C hK t7 v4 H locs hT hS ls h (lv_sub hl [1, 0] rfl)
                                · replace h := if_f c h
                                  refine lv_iload_n hx hb dX2_nextToken_315 rfl (lv_at hl 0 rfl) ?_
                                  refine lv_bipush (v := 41) hx hb dX2_nextToken_316 (by decide) ?_
                                  refine lv_icmp_eq (tgt := 327) hx hb dX2_nextToken_318 (by decide) (fun c => ?_) (fun c => ?_)
                                  · replace h := if_t c h
                                    exact bX2_nextToken_327 C hK t7 v4 H locs hT hS ls h (lv_sub hl [1, 0] rfl)
                                  · replace h := if_f c h
                                    refine lv_iload_n hx hb dX2_nextToken_321 rfl (lv_at hl 0 rfl) ?_
                                    refine lv_bipush (v := 59) hx hb dX2_nextToken_322 (by decide) ?_
                                    refine lv_icmp_ne (tgt := 331) hx hb dX2_nextToken_324 (by decide) (fun c => ?_) (fun c => ?_)
                                    · replace h := if_f c h
                                      refine lv_iconst (v := 0) hx hb dX2_nextToken_331 (by decide) ?_
                                      exact bX2_nextToken_332 C hK t7 v4 (0 : Int32) H locs hT hS ls h (lv_sub hl [1, 0] rfl)
                                    · replace h := if_t c h
                                      exact bX2_nextToken_327 C hK t7 v4 H locs hT hS ls h (lv_sub hl [1, 0] rfl)
            · replace h := if_f c h
              refine lv_aload_n hx hb dX2_nextToken_151 rfl (lv_at hl 1 rfl) ?_
              refine lv_iconst (v := 2) hx hb dX2_nextToken_152 (by decide) ?_
              refine tp13 C hK hT hS dX2_nextToken_153 (fun t8 H locs et8 hT hS => ?_)
              replace h := lt1_sub et8 h
              refine lv_aload_n hx hb dX2_nextToken_156 rfl (lv_at hl 1 rfl) ?_
              refine lv_lconst (v := 0) hx hb dX2_nextToken_157 (by decide) ?_
              refine tp15 C hK hT hS dX2_nextToken_158 (fun t9 H locs et9 hT hS => ?_)
              replace h := lt1_sub et9 h
              exact bX2_nextToken_161 C hK fu t9 H locs hT hS ls h (lv_sub hl [1] rfl)
          · replace h := if_f c h
            refine lv_aload_n hx hb dX2_nextToken_75 rfl (lv_at hl 1 rfl) ?_
            refine lv_iconst (v := 1) hx hb dX2_nextToken_76 (by decide) ?_
            refine tp13 C hK hT hS dX2_nextToken_77 (fun t10 H locs et10 hT hS => ?_)
            replace h := lt1_sub et10 h
            refine lv_aload_n hx hb dX2_nextToken_80 rfl (lv_at hl 1 rfl) ?_
            refine lv_iconst (v := 0) hx hb dX2_nextToken_81 (by decide) ?_
            refine tp14 C hK hT hS dX2_nextToken_82 (fun t11 H locs et11 hT hS => ?_)
            replace h := lt1_sub et11 h
            exact bX2_nextToken_85 C hK fu t11 H locs hT hS ls h (lv_sub hl [1] rfl)
        · replace h := if_f c h
          refine lv_aload_n hx hb dX2_nextToken_60 rfl (lv_at hl 1 rfl) ?_
          refine lv_iconst (v := 0) hx hb dX2_nextToken_61 (by decide) ?_
          refine tp13 C hK hT hS dX2_nextToken_62 (fun t12 H locs et12 hT hS => ?_)
          replace h := lt1_sub et12 h
          refine lv_goto (tgt := 396) hx hb dX2_nextToken_65 (by decide) ?_
          exact e_wv C hT hS h dX2_nextToken_396
      · replace h := if_t c h
        exact bX2_nextToken_26 C hK ih t H locs hT hS ls h (lv_sub hl [0] rfl)
theorem bX2_nextToken {p : Program} {l : Launch} {e : Env} {s : State} {m : MethodId} {args : Array Value} {below : List Frame} {meth : Method} {c : Code} {D : va_G} {dA : Nat → ClassId} {b : Nat} {t9 : TS} (C : cx p s m args meth c cX2_nextToken RX2 3 none) (hK : kk D dA s) : ∀ (t : TS) (H : Heap) (locs : List Loc) (hT : wd D (tw dA b t) H) (hS : tS b s.heap H locs) (ls : Array Slot), T_nextToken t = some t9 → lv_has ls 3 [(0, .ref b)] → W p l e rmX2_nextToken s m args below meth c H locs 0 0 (MQ below (tQ D dA b t9 none) args s 0 0 (ta b)) (F0 m 0 ls []) := by
  obtain ⟨hx, hb, hr, hml, hown, hts, hlocks⟩ := id C
  intro t H locs hT hS ls h hl
  unfold T_nextToken at h
  exact bX2_nextToken_0 C hK fu t H locs hT hS ls h (lv_sub hl [0] rfl)
theorem mX2_nextToken {l : Launch} {D : va_G} {dA : Nat → ClassId} {b : Nat} {t : TS} {t9 : TS} (h : T_nextToken t = some t9) : Met l yX2_nextToken (ws_ yX2_nextToken cX2_nextToken 3 none) rmX2_nextToken (tPc D dA b t [.ref b]) (tQ D dA b t9 none) 0 0 (ta b) := en_R (by decide +kernel) rfl (Nat.le_of_ble_eq_true rfl) (fun p e s m below meth c ls C hK hT hl => bX2_nextToken C hK t _ [] hT tS.rf ls h hl)
set_option maxRecDepth 20000 in
abbrev rmX2_figure : Room := { frames := 3, cells := 0, slots := 0, locals := 64 }
theorem hdX2_figure : yX2_figure.cls = RX2 ∧ yX2_figure.cls ≠ "java/lang/invoke/MethodHandle" ∧ yX2_figure.cls ≠ "java/lang/invoke/VarHandle" ∧ (parseMethodDescriptor yX2_figure.desc).map (fun d => d.parameters.length) = some 3 := by decide +kernel
theorem bX2_figure {p : Program} {l : Launch} {e : Env} {s : State} {m : MethodId} {args : Array Value} {below : List Frame} {meth : Method} {c : Code} {D : va_G} {dA : Nat → ClassId} {b : Nat} {r : Int32} {t9 : TS} (C : cx p s m args meth c cX2_figure RX2 4 (some .int)) (hK : kk D dA s) : ∀ (t : TS) (x1 : Int32) (x2 : Int32) (x3 : Int32) (H : Heap) (locs : List Loc) (hT : wd D (tw dA b t) H) (hS : tS b s.heap H locs) (ls : Array Slot), T_figure t x1 x2 x3 = some (r, t9) → lv_has ls 4 [(0, .ref b), (1, .int x1), (2, .int x2), (3, .int x3)] → W p l e rmX2_figure s m args below meth c H locs 0 0 (MQ below (tQ D dA b t9 (some (.int r))) args s 0 0 (ta b)) (F0 m 0 ls []) := by
  obtain ⟨hx, hb, hr, hml, hown, hts, hlocks⟩ := id C
  intro t x1 x2 x3 H locs hT hS ls h hl
  unfold T_figure at h
  refine lv_aload_n hx hb dX2_figure_0 rfl (lv_at hl 0 rfl) ?_
  refine tg13 C hK hT dX2_figure_1 ?_
  refine lv_iconst (v := 1) hx hb dX2_figure_4 (by decide) ?_
  refine lv_icmp_eq (tgt := 10) hx hb dX2_figure_5 (by decide) (fun c => ?_) (fun c => ?_)
  · replace h := if_t c h
    refine lv_aload_n hx hb dX2_figure_10 rfl (lv_at hl 0 rfl) ?_
    refine tg14 C hK hT dX2_figure_11 ?_
    refine lv_iload_n hx hb dX2_figure_14 rfl (lv_at hl 2 rfl) ?_
    refine lv_iload_n hx hb dX2_figure_15 rfl (lv_at hl 3 rfl) ?_
    obtain ⟨v1, hv1, h⟩ := bd1_some h
    refine r_int (run_s (As := [.int (t.1 14 0), .int x2, .int x3]) (rest := []) C (mX2_isIn hv1) q1656 q1657 q162 q1658 ⟨rfl, rfl⟩ hdX2_isIn ⟨Nat.le_of_ble_eq_true rfl, Nat.le_of_ble_eq_true rfl⟩ ⟨Nat.zero_le _, Nat.zero_le _⟩ rfl hl.1 rfl (Nat.le_of_ble_eq_true rfl) dX2_figure_16) ?_
    refine lv_if_ne (tgt := 24) hx hb dX2_figure_19 (by decide) (fun c => ?_) (fun c => ?_)
    · replace h := if_f c h
      refine lv_aload_n hx hb dX2_figure_24 rfl (lv_at hl 0 rfl) ?_
      refine tg2 C hK hT dX2_figure_25 ?_
      refine lv_iload_n hx hb dX2_figure_28 rfl (lv_at hl 1 rfl) ?_
      refine lv_aload_n hx hb dX2_figure_29 rfl (lv_at hl 0 rfl) ?_
      refine tg14 C hK hT dX2_figure_30 ?_
      obtain ⟨hi, h⟩ := ck_some h
      refine ts2 C hK hT hS hi dX2_figure_33 (fun t2 H locs et2 hT hS => ?_)
      replace h := lt1_sub et2 h
      refine lv_aload_n hx hb dX2_figure_34 rfl (lv_at hl 0 rfl) ?_
      obtain ⟨t3, ht3, h⟩ := bd1_some h
      refine w_void hS (run_t (As := []) (rest := []) C hK hT (mX2_nextToken ht3) q1715 q1717 qs76 q162 q1718 ⟨rfl, rfl⟩ hdX2_nextToken ⟨Nat.le_of_ble_eq_true rfl, Nat.le_of_ble_eq_true rfl⟩ ⟨Nat.zero_le _, Nat.zero_le _⟩ rfl hl.1 rfl (Nat.le_of_ble_eq_true rfl) dX2_figure_35) (fun H locs hT hS => ?_)
      refine lv_iconst (v := 0) hx hb dX2_figure_38 (by decide) ?_
      exact e_wi C hT hS h dX2_figure_39
    · replace h := if_t c h
      refine lv_iconst (v := 2) hx hb dX2_figure_22 (by decide) ?_
      exact e_wi C hT hS h dX2_figure_23
  · replace h := if_f c h
    refine lv_iconst (v := 1) hx hb dX2_figure_8 (by decide) ?_
    exact e_wi C hT hS h dX2_figure_9
theorem mX2_figure {l : Launch} {D : va_G} {dA : Nat → ClassId} {b : Nat} {t : TS} {x1 : Int32} {x2 : Int32} {x3 : Int32} {r : Int32} {t9 : TS} (h : T_figure t x1 x2 x3 = some (r, t9)) : Met l yX2_figure (ws_ yX2_figure cX2_figure 4 (some .int)) rmX2_figure (tPc D dA b t [.ref b, .int x1, .int x2, .int x3]) (tQ D dA b t9 (some (.int r))) 0 0 (ta b) := en_R (by decide +kernel) rfl (Nat.le_of_ble_eq_true rfl) (fun p e s m below meth c ls C hK hT hl => bX2_figure C hK t x1 x2 x3 _ [] hT tS.rf ls h hl)
set_option maxRecDepth 20000 in
abbrev rmX2_compareOf : Room := { frames := 0, cells := 0, slots := 0, locals := 0 }
theorem hdX2_compareOf : yX2_compareOf.cls = RX2 ∧ yX2_compareOf.cls ≠ "java/lang/invoke/MethodHandle" ∧ yX2_compareOf.cls ≠ "java/lang/invoke/VarHandle" ∧ (parseMethodDescriptor yX2_compareOf.desc).map (fun d => d.parameters.length) = some 0 := by decide +kernel
theorem bX2_compareOf {p : Program} {l : Launch} {e : Env} {s : State} {m : MethodId} {args : Array Value} {below : List Frame} {meth : Method} {c : Code} {D : va_G} {dA : Nat → ClassId} {b : Nat} {t : TS} {r : Int32} (C : cx p s m args meth c cX2_compareOf RX2 1 (some .int)) (hK : kk D dA s) (hT : wd D (tw dA b t) s.heap) : ∀ (ls : Array Slot), T_compareOf t = some r → lv_has ls 1 [(0, .ref b)] → W p l e rmX2_compareOf s m args below meth c s.heap [] 0 0 (MQ below (rQi r) args s 0 0 nof) (F0 m 0 ls []) := by
  obtain ⟨hx, hb, hr, hml, hown, hts, hlocks⟩ := id C
  intro ls h hl
  unfold T_compareOf at h
  refine lv_aload_n hx hb dX2_compareOf_0 rfl (lv_at hl 0 rfl) ?_
  refine tg13 C hK hT dX2_compareOf_1 ?_
  refine lv_bipush (v := 60) hx hb dX2_compareOf_4 (by decide) ?_
  refine lv_icmp_ne (tgt := 14) hx hb dX2_compareOf_6 (by decide) (fun c => ?_) (fun c => ?_)
  · replace h := if_f c h
    refine lv_aload_n hx hb dX2_compareOf_14 rfl (lv_at hl 0 rfl) ?_
    refine tg13 C hK hT dX2_compareOf_15 ?_
    refine lv_iconst (v := 4) hx hb dX2_compareOf_18 (by decide) ?_
    refine lv_icmp_ne (tgt := 27) hx hb dX2_compareOf_19 (by decide) (fun c => ?_) (fun c => ?_)
    · replace h := if_f c h
      refine lv_aload_n hx hb dX2_compareOf_27 rfl (lv_at hl 0 rfl) ?_
      refine tg13 C hK hT dX2_compareOf_28 ?_
      refine lv_bipush (v := 62) hx hb dX2_compareOf_31 (by decide) ?_
      refine lv_icmp_ne (tgt := 41) hx hb dX2_compareOf_33 (by decide) (fun c => ?_) (fun c => ?_)
      · replace h := if_f c h
        refine lv_aload_n hx hb dX2_compareOf_41 rfl (lv_at hl 0 rfl) ?_
        refine tg13 C hK hT dX2_compareOf_42 ?_
        refine lv_iconst (v := 5) hx hb dX2_compareOf_45 (by decide) ?_
        refine lv_icmp_ne (tgt := 54) hx hb dX2_compareOf_46 (by decide) (fun c => ?_) (fun c => ?_)
        · replace h := if_f c h
          refine lv_aload_n hx hb dX2_compareOf_54 rfl (lv_at hl 0 rfl) ?_
          refine tg13 C hK hT dX2_compareOf_55 ?_
          refine lv_bipush (v := 61) hx hb dX2_compareOf_58 (by decide) ?_
          refine lv_icmp_ne (tgt := 68) hx hb dX2_compareOf_60 (by decide) (fun c => ?_) (fun c => ?_)
          · replace h := if_f c h
            refine lv_aload_n hx hb dX2_compareOf_68 rfl (lv_at hl 0 rfl) ?_
            refine tg13 C hK hT dX2_compareOf_69 ?_
            refine lv_bipush (v := 35) hx hb dX2_compareOf_72 (by decide) ?_
            refine lv_icmp_ne (tgt := 82) hx hb dX2_compareOf_74 (by decide) (fun c => ?_) (fun c => ?_)
            · replace h := if_f c h
              refine lv_iconst (v := -1) hx hb dX2_compareOf_82 (by decide) ?_
              exact e_ri C h dX2_compareOf_83
            · replace h := if_t c h
              refine lv_bipush (v := 15) hx hb dX2_compareOf_77 (by decide) ?_
              refine lv_goto (tgt := 83) hx hb dX2_compareOf_79 (by decide) ?_
              exact e_ri C h dX2_compareOf_83
          · replace h := if_t c h
            refine lv_bipush (v := 14) hx hb dX2_compareOf_63 (by decide) ?_
            refine lv_goto (tgt := 83) hx hb dX2_compareOf_65 (by decide) ?_
            exact e_ri C h dX2_compareOf_83
        · replace h := if_t c h
          refine lv_bipush (v := 13) hx hb dX2_compareOf_49 (by decide) ?_
          refine lv_goto (tgt := 83) hx hb dX2_compareOf_51 (by decide) ?_
          exact e_ri C h dX2_compareOf_83
      · replace h := if_t c h
        refine lv_bipush (v := 12) hx hb dX2_compareOf_36 (by decide) ?_
        refine lv_goto (tgt := 83) hx hb dX2_compareOf_38 (by decide) ?_
        exact e_ri C h dX2_compareOf_83
    · replace h := if_t c h
      refine lv_bipush (v := 11) hx hb dX2_compareOf_22 (by decide) ?_
      refine lv_goto (tgt := 83) hx hb dX2_compareOf_24 (by decide) ?_
      exact e_ri C h dX2_compareOf_83
  · replace h := if_t c h
    refine lv_bipush (v := 10) hx hb dX2_compareOf_9 (by decide) ?_
    refine lv_goto (tgt := 83) hx hb dX2_compareOf_11 (by decide) ?_
    exact e_ri C h dX2_compareOf_83
theorem mX2_compareOf {l : Launch} {D : va_G} {dA : Nat → ClassId} {b : Nat} {t : TS} {r : Int32} (h : T_compareOf t = some r) : Met l yX2_compareOf (ws_ yX2_compareOf cX2_compareOf 1 (some .int)) rmX2_compareOf (tPc D dA b t [.ref b]) (rQi r) 0 0 nof := en_R (by decide +kernel) rfl (Nat.le_of_ble_eq_true rfl) (fun p e s m below meth c ls C hK hT hl => bX2_compareOf C hK hT ls h hl)
set_option maxRecDepth 20000 in
abbrev rmX2_emit : Room := { frames := 0, cells := 0, slots := 0, locals := 0 }
theorem hdX2_emit : yX2_emit.cls = RX2 ∧ yX2_emit.cls ≠ "java/lang/invoke/MethodHandle" ∧ yX2_emit.cls ≠ "java/lang/invoke/VarHandle" ∧ (parseMethodDescriptor yX2_emit.desc).map (fun d => d.parameters.length) = some 2 := by decide +kernel
theorem bX2_emit {p : Program} {l : Launch} {e : Env} {s : State} {m : MethodId} {args : Array Value} {below : List Frame} {meth : Method} {c : Code} {D : va_G} {dA : Nat → ClassId} {b : Nat} {t9 : TS} (C : cx p s m args meth c cX2_emit RX2 3 none) (hK : kk D dA s) : ∀ (t : TS) (x1 : Int32) (x2 : Int32) (H : Heap) (locs : List Loc) (hT : wd D (tw dA b t) H) (hS : tS b s.heap H locs) (ls : Array Slot), T_emit t x1 x2 = some t9 → lv_has ls 3 [(0, .ref b), (1, .int x1), (2, .int x2)] → W p l e rmX2_emit s m args below meth c H locs 0 0 (MQ below (tQ D dA b t9 none) args s 0 0 (ta b)) (F0 m 0 ls []) := by
  obtain ⟨hx, hb, hr, hml, hown, hts, hlocks⟩ := id C
  intro t x1 x2 H locs hT hS ls h hl
  unfold T_emit at h
  refine lv_aload_n hx hb dX2_emit_0 rfl (lv_at hl 0 rfl) ?_
  refine tg2 C hK hT dX2_emit_1 ?_
  refine lv_aload_n hx hb dX2_emit_4 rfl (lv_at hl 0 rfl) ?_
  refine tg16 C hK hT dX2_emit_5 ?_
  refine lv_sipush (v := 265) hx hb dX2_emit_8 (by decide) ?_
  refine lv_iadd hx hb dX2_emit_11 ?_
  refine lv_iconst (v := 2) hx hb dX2_emit_12 (by decide) ?_
  refine lv_aload_n hx hb dX2_emit_13 rfl (lv_at hl 0 rfl) ?_
  refine tg18 C hK hT dX2_emit_14 ?_
  refine lv_imul hx hb dX2_emit_17 ?_
  refine lv_iadd hx hb dX2_emit_18 ?_
  refine lv_iload_n hx hb dX2_emit_19 rfl (lv_at hl 1 rfl) ?_
  obtain ⟨hi, h⟩ := ck_some h
  refine ts2 C hK hT hS hi dX2_emit_20 (fun t1 H locs et1 hT hS => ?_)
  replace h := lt1_sub et1 h
  refine lv_aload_n hx hb dX2_emit_21 rfl (lv_at hl 0 rfl) ?_
  refine tg2 C hK hT dX2_emit_22 ?_
  refine lv_aload_n hx hb dX2_emit_25 rfl (lv_at hl 0 rfl) ?_
  refine tg16 C hK hT dX2_emit_26 ?_
  refine lv_sipush (v := 265) hx hb dX2_emit_29 (by decide) ?_
  refine lv_iadd hx hb dX2_emit_32 ?_
  refine lv_iconst (v := 2) hx hb dX2_emit_33 (by decide) ?_
  refine lv_aload_n hx hb dX2_emit_34 rfl (lv_at hl 0 rfl) ?_
  refine tg18 C hK hT dX2_emit_35 ?_
  refine lv_imul hx hb dX2_emit_38 ?_
  refine lv_iadd hx hb dX2_emit_39 ?_
  refine lv_iconst (v := 1) hx hb dX2_emit_40 (by decide) ?_
  refine lv_iadd hx hb dX2_emit_41 ?_
  refine lv_iload_n hx hb dX2_emit_42 rfl (lv_at hl 2 rfl) ?_
  obtain ⟨hi, h⟩ := ck_some h
  refine ts2 C hK hT hS hi dX2_emit_43 (fun t2 H locs et2 hT hS => ?_)
  replace h := lt1_sub et2 h
  refine lv_aload_n hx hb dX2_emit_44 rfl (lv_at hl 0 rfl) ?_
  refine lv_dup hx hb dX2_emit_45 rfl ?_
  refine tg18 C hK hT dX2_emit_46 ?_
  refine lv_iconst (v := 1) hx hb dX2_emit_49 (by decide) ?_
  refine lv_iadd hx hb dX2_emit_50 ?_
  refine tp18 C hK hT hS dX2_emit_51 (fun t3 H locs et3 hT hS => ?_)
  replace h := lt1_sub et3 h
  exact e_wv C hT hS h dX2_emit_54
theorem mX2_emit {l : Launch} {D : va_G} {dA : Nat → ClassId} {b : Nat} {t : TS} {x1 : Int32} {x2 : Int32} {t9 : TS} (h : T_emit t x1 x2 = some t9) : Met l yX2_emit (ws_ yX2_emit cX2_emit 3 none) rmX2_emit (tPc D dA b t [.ref b, .int x1, .int x2]) (tQ D dA b t9 none) 0 0 (ta b) := en_R (by decide +kernel) rfl (Nat.le_of_ble_eq_true rfl) (fun p e s m below meth c ls C hK hT hl => bX2_emit C hK t x1 x2 _ [] hT tS.rf ls h hl)
set_option maxRecDepth 20000 in
abbrev rmX2_isWord : Room := { frames := 0, cells := 0, slots := 0, locals := 0 }
theorem hdX2_isWord : yX2_isWord.cls = RX2 ∧ yX2_isWord.cls ≠ "java/lang/invoke/MethodHandle" ∧ yX2_isWord.cls ≠ "java/lang/invoke/VarHandle" ∧ (parseMethodDescriptor yX2_isWord.desc).map (fun d => d.parameters.length) = some 1 := by decide +kernel
theorem bX2_isWord {p : Program} {l : Launch} {e : Env} {s : State} {m : MethodId} {args : Array Value} {below : List Frame} {meth : Method} {c : Code} {D : va_G} {dA : Nat → ClassId} {b : Nat} {t : TS} {r : Int32} (C : cx p s m args meth c cX2_isWord RX2 3 (some .boolean)) (hK : kk D dA s) (hT : wd D (tw dA b t) s.heap) : ∀ (x1 : Int64) (ls : Array Slot), T_isWord t x1 = some r → lv_has ls 3 [(0, .ref b), (1, .long x1)] → W p l e rmX2_isWord s m args below meth c s.heap [] 0 0 (MQ below (rQi r) args s 0 0 nof) (F0 m 0 ls []) := by
  obtain ⟨hx, hb, hr, hml, hown, hts, hlocks⟩ := id C
  intro x1 ls h hl
  unfold T_isWord at h
  refine lv_aload_n hx hb dX2_isWord_0 rfl (lv_at hl 0 rfl) ?_
  refine tg13 C hK hT dX2_isWord_1 ?_
  refine lv_iconst (v := 2) hx hb dX2_isWord_4 (by decide) ?_
  refine lv_icmp_ne (tgt := 21) hx hb dX2_isWord_5 (by decide) (fun c => ?_) (fun c => ?_)
  · replace h := if_f c h
    refine lv_iconst (v := 0) hx hb dX2_isWord_21 (by decide) ?_
    exact e_rz C (Or.inl rfl) h dX2_isWord_22
  · replace h := if_t c h
    refine lv_aload_n hx hb dX2_isWord_8 rfl (lv_at hl 0 rfl) ?_
    refine tg15 C hK hT dX2_isWord_9 ?_
    refine lv_lload_n hx hb dX2_isWord_12 rfl (lv_at hl 1 rfl) ?_
    refine W.lcmp hx hb dX2_isWord_13 ?_
    refine lv_if_ne (tgt := 21) hx hb dX2_isWord_14 (by decide) (fun c => ?_) (fun c => ?_)
    · replace h := if_f c h
      refine lv_iconst (v := 0) hx hb dX2_isWord_21 (by decide) ?_
      exact e_rz C (Or.inl rfl) h dX2_isWord_22
    · replace h := if_t c h
      refine lv_iconst (v := 1) hx hb dX2_isWord_17 (by decide) ?_
      refine lv_goto (tgt := 22) hx hb dX2_isWord_18 (by decide) ?_
      exact e_rz C (Or.inr rfl) h dX2_isWord_22
theorem mX2_isWord {l : Launch} {D : va_G} {dA : Nat → ClassId} {b : Nat} {t : TS} {x1 : Int64} {r : Int32} (h : T_isWord t x1 = some r) : Met l yX2_isWord (ws_ yX2_isWord cX2_isWord 3 (some .boolean)) rmX2_isWord (tPc D dA b t [.ref b, .long x1]) (rQi r) 0 0 nof := en_R (by decide +kernel) rfl (Nat.le_of_ble_eq_true rfl) (fun p e s m below meth c ls C hK hT hl => bX2_isWord C hK hT x1 ls h hl)
set_option maxRecDepth 20000 in
abbrev rmX2_isBarred : Room := { frames := 0, cells := 0, slots := 0, locals := 0 }
theorem hdX2_isBarred : yX2_isBarred.cls = RX2 ∧ yX2_isBarred.cls ≠ "java/lang/invoke/MethodHandle" ∧ yX2_isBarred.cls ≠ "java/lang/invoke/VarHandle" ∧ (parseMethodDescriptor yX2_isBarred.desc).map (fun d => d.parameters.length) = some 1 := by decide +kernel
theorem bX2_isBarred_47 {p : Program} {l : Launch} {e : Env} {s : State} {m : MethodId} {args : Array Value} {below : List Frame} {meth : Method} {c : Code} {D : va_G} {dA : Nat → ClassId} {b : Nat} {t : TS} {r : Int32} (C : cx p s m args meth c cX2_isBarred RX2 2 (some .boolean)) (hK : kk D dA s) (hT : wd D (tw dA b t) s.heap) : ∀ (ls : Array Slot), T_isBarred_47 t = some r → lv_has ls 2 [] → W p l e rmX2_isBarred s m args below meth c s.heap [] 0 0 (MQ below (rQi r) args s 0 0 nof) (F0 m 47 ls []) := by
  obtain ⟨hx, hb, hr, hml, hown, hts, hlocks⟩ := id C
  intro ls h hl
  unfold T_isBarred_47 at h
  refine lv_iconst (v := 1) hx hb dX2_isBarred_47 (by decide) ?_
  refine lv_goto (tgt := 52) hx hb dX2_isBarred_48 (by decide) ?_
  exact e_rz C (Or.inr rfl) h dX2_isBarred_52
theorem bX2_isBarred {p : Program} {l : Launch} {e : Env} {s : State} {m : MethodId} {args : Array Value} {below : List Frame} {meth : Method} {c : Code} {D : va_G} {dA : Nat → ClassId} {b : Nat} {t : TS} {r : Int32} (C : cx p s m args meth c cX2_isBarred RX2 2 (some .boolean)) (hK : kk D dA s) (hT : wd D (tw dA b t) s.heap) : ∀ (x1 : Int32) (ls : Array Slot), T_isBarred t x1 = some r → lv_has ls 2 [(0, .ref b), (1, .int x1)] → W p l e rmX2_isBarred s m args below meth c s.heap [] 0 0 (MQ below (rQi r) args s 0 0 nof) (F0 m 0 ls []) := by
  obtain ⟨hx, hb, hr, hml, hown, hts, hlocks⟩ := id C
  intro x1 ls h hl
  unfold T_isBarred at h
  refine lv_iload_n hx hb dX2_isBarred_0 rfl (lv_at hl 1 rfl) ?_
  refine lv_iconst (v := 1) hx hb dX2_isBarred_1 (by decide) ?_
  refine lv_icmp_le (tgt := 51) hx hb dX2_isBarred_2 (by decide) (fun c => ?_) (fun c => ?_)
  · replace h := if_t c h
    refine lv_iconst (v := 0) hx hb dX2_isBarred_51 (by decide) ?_
    exact e_rz C (Or.inl rfl) h dX2_isBarred_52
  · replace h := if_f c h
    refine lv_iload_n hx hb dX2_isBarred_5 rfl (lv_at hl 1 rfl) ?_
    refine lv_bipush (v := 8) hx hb dX2_isBarred_6 (by decide) ?_
    refine lv_icmp_ge (tgt := 22) hx hb dX2_isBarred_8 (by decide) (fun c => ?_) (fun c => ?_)
    · replace h := if_t c h
      refine lv_iload_n hx hb dX2_isBarred_22 rfl (lv_at hl 1 rfl) ?_
      refine lv_bipush (v := 11) hx hb dX2_isBarred_23 (by decide) ?_
      refine lv_icmp_ge (tgt := 39) hx hb dX2_isBarred_25 (by decide) (fun c => ?_) (fun c => ?_)
      · replace h := if_t c h
        refine lv_aload_n hx hb dX2_isBarred_39 rfl (lv_at hl 0 rfl) ?_
        refine tg24 C hK hT dX2_isBarred_40 ?_
        refine lv_iconst (v := 3) hx hb dX2_isBarred_43 (by decide) ?_
        refine lv_icmp_eq (tgt := 51) hx hb dX2_isBarred_44 (by decide) (fun c => ?_) (fun c => ?_)
        · replace h := if_t c h
          refine lv_iconst (v := 0) hx hb dX2_isBarred_51 (by decide) ?_
          exact e_rz C (Or.inl rfl) h dX2_isBarred_52
        · replace h := if_f c h
          exact bX2_isBarred_47 C hK hT  ls h (lv_sub hl [] rfl)
      · replace h := if_f c h
        refine lv_aload_n hx hb dX2_isBarred_28 rfl (lv_at hl 0 rfl) ?_
        refine tg24 C hK hT dX2_isBarred_29 ?_
        refine lv_iconst (v := 2) hx hb dX2_isBarred_32 (by decide) ?_
        refine lv_icmp_eq (tgt := 51) hx hb dX2_isBarred_33 (by decide) (fun c => ?_) (fun c => ?_)
        · replace h := if_t c h
          refine lv_iconst (v := 0) hx hb dX2_isBarred_51 (by decide) ?_
          exact e_rz C (Or.inl rfl) h dX2_isBarred_52
        · replace h := if_f c h
          refine lv_goto (tgt := 47) hx hb dX2_isBarred_36 (by decide) ?_
          exact bX2_isBarred_47 C hK hT  ls h (lv_sub hl [] rfl)
    · replace h := if_f c h
      refine lv_aload_n hx hb dX2_isBarred_11 rfl (lv_at hl 0 rfl) ?_
      refine tg24 C hK hT dX2_isBarred_12 ?_
      refine lv_iconst (v := 1) hx hb dX2_isBarred_15 (by decide) ?_
      refine lv_icmp_le (tgt := 51) hx hb dX2_isBarred_16 (by decide) (fun c => ?_) (fun c => ?_)
      · replace h := if_t c h
        refine lv_iconst (v := 0) hx hb dX2_isBarred_51 (by decide) ?_
        exact e_rz C (Or.inl rfl) h dX2_isBarred_52
      · replace h := if_f c h
        refine lv_goto (tgt := 47) hx hb dX2_isBarred_19 (by decide) ?_
        exact bX2_isBarred_47 C hK hT  ls h (lv_sub hl [] rfl)
theorem mX2_isBarred {l : Launch} {D : va_G} {dA : Nat → ClassId} {b : Nat} {t : TS} {x1 : Int32} {r : Int32} (h : T_isBarred t x1 = some r) : Met l yX2_isBarred (ws_ yX2_isBarred cX2_isBarred 2 (some .boolean)) rmX2_isBarred (tPc D dA b t [.ref b, .int x1]) (rQi r) 0 0 nof := en_R (by decide +kernel) rfl (Nat.le_of_ble_eq_true rfl) (fun p e s m below meth c ls C hK hT hl => bX2_isBarred C hK hT x1 ls h hl)
set_option maxRecDepth 20000 in
abbrev rmX2_w3 : Room := { frames := 0, cells := 0, slots := 0, locals := 0 }
theorem hdX2_w3 : yX2_w3.cls ≠ "java/lang/invoke/MethodHandle" ∧ yX2_w3.cls ≠ "java/lang/invoke/VarHandle" ∧ (parseMethodDescriptor yX2_w3.desc).map (fun d => d.parameters.length) = some 3 := by decide +kernel
theorem bX2_w3 {p : Program} {l : Launch} {e : Env} {s : State} {m : MethodId} {args : Array Value} {below : List Frame} {meth : Method} {c : Code} {r : Int64} (C : cx p s m args meth c cX2_w3 RX2 3 (some .long)) : ∀ (x0 : Int32) (x1 : Int32) (x2 : Int32) (ls : Array Slot), T_w3 x0 x1 x2 = some r → lv_has ls 3 [(0, .int x0), (1, .int x1), (2, .int x2)] → W p l e rmX2_w3 s m args below meth c s.heap [] 0 0 (MQ below (rQl r) args s 0 0 nof) (F0 m 0 ls []) := by
  obtain ⟨hx, hb, hr, hml, hown, hts, hlocks⟩ := id C
  intro x0 x1 x2 ls h hl
  unfold T_w3 at h
  refine lv_iload_n hx hb dX2_w3_0 rfl (lv_at hl 0 rfl) ?_
  refine lv_i2l hx hb dX2_w3_1 rfl ?_
  refine lv_bipush (v := 8) hx hb dX2_w3_2 (by decide) ?_
  refine lv_lshl hx hb dX2_w3_4 rfl ?_
  refine lv_iload_n hx hb dX2_w3_5 rfl (lv_at hl 1 rfl) ?_
  refine lv_i2l hx hb dX2_w3_6 rfl ?_
  refine lv_lor hx hb dX2_w3_7 ?_
  refine lv_bipush (v := 8) hx hb dX2_w3_8 (by decide) ?_
  refine lv_lshl hx hb dX2_w3_10 rfl ?_
  refine lv_iload_n hx hb dX2_w3_11 rfl (lv_at hl 2 rfl) ?_
  refine lv_i2l hx hb dX2_w3_12 rfl ?_
  refine lv_lor hx hb dX2_w3_13 ?_
  exact e_rl C h dX2_w3_14
theorem mX2_w3 {l : Launch} {x0 : Int32} {x1 : Int32} {x2 : Int32} {r : Int64} (h : T_w3 x0 x1 x2 = some r) : Met l yX2_w3 (ws_ yX2_w3 cX2_w3 3 (some .long)) rmX2_w3 (sPc [.int x0, .int x1, .int x2]) (rQl r) 0 0 nof := en_S (by decide +kernel) rfl (Nat.le_of_ble_eq_true rfl) (fun p e s m below meth c ls C hl => bX2_w3 C x0 x1 x2 ls h hl)
set_option maxRecDepth 20000 in
abbrev rmX2_w4 : Room := { frames := 1, cells := 0, slots := 0, locals := 22 }
theorem hdX2_w4 : yX2_w4.cls ≠ "java/lang/invoke/MethodHandle" ∧ yX2_w4.cls ≠ "java/lang/invoke/VarHandle" ∧ (parseMethodDescriptor yX2_w4.desc).map (fun d => d.parameters.length) = some 4 := by decide +kernel
theorem bX2_w4 {p : Program} {l : Launch} {e : Env} {s : State} {m : MethodId} {args : Array Value} {below : List Frame} {meth : Method} {c : Code} {r : Int64} (C : cx p s m args meth c cX2_w4 RX2 4 (some .long)) : ∀ (x0 : Int32) (x1 : Int32) (x2 : Int32) (x3 : Int32) (ls : Array Slot), T_w4 x0 x1 x2 x3 = some r → lv_has ls 4 [(0, .int x0), (1, .int x1), (2, .int x2), (3, .int x3)] → W p l e rmX2_w4 s m args below meth c s.heap [] 0 0 (MQ below (rQl r) args s 0 0 nof) (F0 m 0 ls []) := by
  obtain ⟨hx, hb, hr, hml, hown, hts, hlocks⟩ := id C
  intro x0 x1 x2 x3 ls h hl
  unfold T_w4 at h
  refine lv_iload_n hx hb dX2_w4_0 rfl (lv_at hl 0 rfl) ?_
  refine lv_iload_n hx hb dX2_w4_1 rfl (lv_at hl 1 rfl) ?_
  refine lv_iload_n hx hb dX2_w4_2 rfl (lv_at hl 2 rfl) ?_
  obtain ⟨v1, hv1, h⟩ := bd1_some h
  refine r_long (run_s (As := [.int x0, .int x1, .int x2]) (rest := []) C (mX2_w3 hv1) q1741 q1742 q162 q1743 ⟨rfl, rfl⟩ hdX2_w3 ⟨Nat.le_of_ble_eq_true rfl, Nat.le_of_ble_eq_true rfl⟩ ⟨Nat.zero_le _, Nat.zero_le _⟩ rfl hl.1 rfl (Nat.le_of_ble_eq_true rfl) dX2_w4_3) ?_
  refine lv_bipush (v := 8) hx hb dX2_w4_6 (by decide) ?_
  refine lv_lshl hx hb dX2_w4_8 rfl ?_
  refine lv_iload_n hx hb dX2_w4_9 rfl (lv_at hl 3 rfl) ?_
  refine lv_i2l hx hb dX2_w4_10 rfl ?_
  refine lv_lor hx hb dX2_w4_11 ?_
  exact e_rl C h dX2_w4_12
theorem mX2_w4 {l : Launch} {x0 : Int32} {x1 : Int32} {x2 : Int32} {x3 : Int32} {r : Int64} (h : T_w4 x0 x1 x2 x3 = some r) : Met l yX2_w4 (ws_ yX2_w4 cX2_w4 4 (some .long)) rmX2_w4 (sPc [.int x0, .int x1, .int x2, .int x3]) (rQl r) 0 0 nof := en_S (by decide +kernel) rfl (Nat.le_of_ble_eq_true rfl) (fun p e s m below meth c ls C hl => bX2_w4 C x0 x1 x2 x3 ls h hl)
set_option maxRecDepth 20000 in
abbrev rmX2_w5 : Room := { frames := 1, cells := 0, slots := 0, locals := 22 }
theorem hdX2_w5 : yX2_w5.cls ≠ "java/lang/invoke/MethodHandle" ∧ yX2_w5.cls ≠ "java/lang/invoke/VarHandle" ∧ (parseMethodDescriptor yX2_w5.desc).map (fun d => d.parameters.length) = some 5 := by decide +kernel
theorem bX2_w5 {p : Program} {l : Launch} {e : Env} {s : State} {m : MethodId} {args : Array Value} {below : List Frame} {meth : Method} {c : Code} {r : Int64} (C : cx p s m args meth c cX2_w5 RX2 5 (some .long)) : ∀ (x0 : Int32) (x1 : Int32) (x2 : Int32) (x3 : Int32) (x4 : Int32) (ls : Array Slot), T_w5 x0 x1 x2 x3 x4 = some r → lv_has ls 5 [(0, .int x0), (1, .int x1), (2, .int x2), (3, .int x3), (4, .int x4)] → W p l e rmX2_w5 s m args below meth c s.heap [] 0 0 (MQ below (rQl r) args s 0 0 nof) (F0 m 0 ls []) := by
  obtain ⟨hx, hb, hr, hml, hown, hts, hlocks⟩ := id C
  intro x0 x1 x2 x3 x4 ls h hl
  unfold T_w5 at h
  refine lv_iload_n hx hb dX2_w5_0 rfl (lv_at hl 0 rfl) ?_
  refine lv_iload_n hx hb dX2_w5_1 rfl (lv_at hl 1 rfl) ?_
  refine lv_iload_n hx hb dX2_w5_2 rfl (lv_at hl 2 rfl) ?_
  obtain ⟨v1, hv1, h⟩ := bd1_some h
  refine r_long (run_s (As := [.int x0, .int x1, .int x2]) (rest := []) C (mX2_w3 hv1) q1741 q1742 q162 q1743 ⟨rfl, rfl⟩ hdX2_w3 ⟨Nat.le_of_ble_eq_true rfl, Nat.le_of_ble_eq_true rfl⟩ ⟨Nat.zero_le _, Nat.zero_le _⟩ rfl hl.1 rfl (Nat.le_of_ble_eq_true rfl) dX2_w5_3) ?_
  refine lv_bipush (v := 8) hx hb dX2_w5_6 (by decide) ?_
  refine lv_lshl hx hb dX2_w5_8 rfl ?_
  refine lv_iload_n hx hb dX2_w5_9 rfl (lv_at hl 3 rfl) ?_
  refine lv_i2l hx hb dX2_w5_10 rfl ?_
  refine lv_lor hx hb dX2_w5_11 ?_
  refine lv_bipush (v := 8) hx hb dX2_w5_12 (by decide) ?_
  refine lv_lshl hx hb dX2_w5_14 rfl ?_
  refine lv_iload hx hb dX2_w5_15 (lv_at hl 4 rfl) ?_
  refine lv_i2l hx hb dX2_w5_17 rfl ?_
  refine lv_lor hx hb dX2_w5_18 ?_
  exact e_rl C h dX2_w5_19
theorem mX2_w5 {l : Launch} {x0 : Int32} {x1 : Int32} {x2 : Int32} {x3 : Int32} {x4 : Int32} {r : Int64} (h : T_w5 x0 x1 x2 x3 x4 = some r) : Met l yX2_w5 (ws_ yX2_w5 cX2_w5 5 (some .long)) rmX2_w5 (sPc [.int x0, .int x1, .int x2, .int x3, .int x4]) (rQl r) 0 0 nof := en_S (by decide +kernel) rfl (Nat.le_of_ble_eq_true rfl) (fun p e s m below meth c ls C hl => bX2_w5 C x0 x1 x2 x3 x4 ls h hl)
set_option maxRecDepth 20000 in
abbrev rmX2_w6 : Room := { frames := 2, cells := 0, slots := 0, locals := 46 }
theorem hdX2_w6 : yX2_w6.cls ≠ "java/lang/invoke/MethodHandle" ∧ yX2_w6.cls ≠ "java/lang/invoke/VarHandle" ∧ (parseMethodDescriptor yX2_w6.desc).map (fun d => d.parameters.length) = some 6 := by decide +kernel
theorem bX2_w6 {p : Program} {l : Launch} {e : Env} {s : State} {m : MethodId} {args : Array Value} {below : List Frame} {meth : Method} {c : Code} {r : Int64} (C : cx p s m args meth c cX2_w6 RX2 6 (some .long)) : ∀ (x0 : Int32) (x1 : Int32) (x2 : Int32) (x3 : Int32) (x4 : Int32) (x5 : Int32) (ls : Array Slot), T_w6 x0 x1 x2 x3 x4 x5 = some r → lv_has ls 6 [(0, .int x0), (1, .int x1), (2, .int x2), (3, .int x3), (4, .int x4), (5, .int x5)] → W p l e rmX2_w6 s m args below meth c s.heap [] 0 0 (MQ below (rQl r) args s 0 0 nof) (F0 m 0 ls []) := by
  obtain ⟨hx, hb, hr, hml, hown, hts, hlocks⟩ := id C
  intro x0 x1 x2 x3 x4 x5 ls h hl
  unfold T_w6 at h
  refine lv_iload_n hx hb dX2_w6_0 rfl (lv_at hl 0 rfl) ?_
  refine lv_iload_n hx hb dX2_w6_1 rfl (lv_at hl 1 rfl) ?_
  refine lv_iload_n hx hb dX2_w6_2 rfl (lv_at hl 2 rfl) ?_
  refine lv_iload_n hx hb dX2_w6_3 rfl (lv_at hl 3 rfl) ?_
  refine lv_iload hx hb dX2_w6_4 (lv_at hl 4 rfl) ?_
  obtain ⟨v1, hv1, h⟩ := bd1_some h
  refine r_long (run_s (As := [.int x0, .int x1, .int x2, .int x3, .int x4]) (rest := []) C (mX2_w5 hv1) q1738 q1739 q162 q1740 ⟨rfl, rfl⟩ hdX2_w5 ⟨Nat.le_of_ble_eq_true rfl, Nat.le_of_ble_eq_true rfl⟩ ⟨Nat.zero_le _, Nat.zero_le _⟩ rfl hl.1 rfl (Nat.le_of_ble_eq_true rfl) dX2_w6_6) ?_
  refine lv_bipush (v := 8) hx hb dX2_w6_9 (by decide) ?_
  refine lv_lshl hx hb dX2_w6_11 rfl ?_
  refine lv_iload hx hb dX2_w6_12 (lv_at hl 5 rfl) ?_
  refine lv_i2l hx hb dX2_w6_14 rfl ?_
  refine lv_lor hx hb dX2_w6_15 ?_
  exact e_rl C h dX2_w6_16
theorem mX2_w6 {l : Launch} {x0 : Int32} {x1 : Int32} {x2 : Int32} {x3 : Int32} {x4 : Int32} {x5 : Int32} {r : Int64} (h : T_w6 x0 x1 x2 x3 x4 x5 = some r) : Met l yX2_w6 (ws_ yX2_w6 cX2_w6 6 (some .long)) rmX2_w6 (sPc [.int x0, .int x1, .int x2, .int x3, .int x4, .int x5]) (rQl r) 0 0 nof := en_S (by decide +kernel) rfl (Nat.le_of_ble_eq_true rfl) (fun p e s m below meth c ls C hl => bX2_w6 C x0 x1 x2 x3 x4 x5 ls h hl)
set_option maxRecDepth 20000 in
abbrev rmX2_lawName : Room := { frames := 3, cells := 0, slots := 0, locals := 71 }
theorem hdX2_lawName : yX2_lawName.cls = RX2 ∧ yX2_lawName.cls ≠ "java/lang/invoke/MethodHandle" ∧ yX2_lawName.cls ≠ "java/lang/invoke/VarHandle" ∧ (parseMethodDescriptor yX2_lawName.desc).map (fun d => d.parameters.length) = some 0 := by decide +kernel
theorem bX2_lawName {p : Program} {l : Launch} {e : Env} {s : State} {m : MethodId} {args : Array Value} {below : List Frame} {meth : Method} {c : Code} {D : va_G} {dA : Nat → ClassId} {b : Nat} {t : TS} {r : Int32} (C : cx p s m args meth c cX2_lawName RX2 1 (some .int)) (hK : kk D dA s) (hT : wd D (tw dA b t) s.heap) : ∀ (ls : Array Slot), T_lawName t = some r → lv_has ls 1 [(0, .ref b)] → W p l e rmX2_lawName s m args below meth c s.heap [] 0 0 (MQ below (rQi r) args s 0 0 nof) (F0 m 0 ls []) := by
  obtain ⟨hx, hb, hr, hml, hown, hts, hlocks⟩ := id C
  intro ls h hl
  unfold T_lawName at h
  refine lv_aload_n hx hb dX2_lawName_0 rfl (lv_at hl 0 rfl) ?_
  refine tg15 C hK hT dX2_lawName_1 ?_
  refine lv_bipush (v := 100) hx hb dX2_lawName_4 (by decide) ?_
  refine lv_bipush (v := 97) hx hb dX2_lawName_6 (by decide) ?_
  refine lv_bipush (v := 121) hx hb dX2_lawName_8 (by decide) ?_
  obtain ⟨v1, hv1, h⟩ := bd1_some h
  refine r_long (run_s (As := [.int (100 : Int32), .int (97 : Int32), .int (121 : Int32)]) (rest := [.long (t.2 15 0)]) C (mX2_w3 hv1) q1741 q1742 q162 q1743 ⟨rfl, rfl⟩ hdX2_w3 ⟨Nat.le_of_ble_eq_true rfl, Nat.le_of_ble_eq_true rfl⟩ ⟨Nat.zero_le _, Nat.zero_le _⟩ rfl hl.1 rfl (Nat.le_of_ble_eq_true rfl) dX2_lawName_10) ?_
  refine W.lcmp hx hb dX2_lawName_13 ?_
  refine lv_if_ne (tgt := 19) hx hb dX2_lawName_14 (by decide) (fun c => ?_) (fun c => ?_)
  · replace h := if_f c h
    refine lv_aload_n hx hb dX2_lawName_19 rfl (lv_at hl 0 rfl) ?_
    refine tg15 C hK hT dX2_lawName_20 ?_
    refine lv_bipush (v := 111) hx hb dX2_lawName_23 (by decide) ?_
    refine lv_bipush (v := 117) hx hb dX2_lawName_25 (by decide) ?_
    refine lv_bipush (v := 116) hx hb dX2_lawName_27 (by decide) ?_
    refine lv_bipush (v := 115) hx hb dX2_lawName_29 (by decide) ?_
    obtain ⟨v2, hv2, h⟩ := bd1_some h
    refine r_long (run_s (As := [.int (111 : Int32), .int (117 : Int32), .int (116 : Int32), .int (115 : Int32)]) (rest := [.long (t.2 15 0)]) C (mX2_w4 hv2) q1748 q1749 q162 q1750 ⟨rfl, rfl⟩ hdX2_w4 ⟨Nat.le_of_ble_eq_true rfl, Nat.le_of_ble_eq_true rfl⟩ ⟨Nat.zero_le _, Nat.zero_le _⟩ rfl hl.1 rfl (Nat.le_of_ble_eq_true rfl) dX2_lawName_31) ?_
    refine W.lcmp hx hb dX2_lawName_34 ?_
    refine lv_if_ne (tgt := 40) hx hb dX2_lawName_35 (by decide) (fun c => ?_) (fun c => ?_)
    · replace h := if_f c h
      refine lv_aload_n hx hb dX2_lawName_40 rfl (lv_at hl 0 rfl) ?_
      refine tg15 C hK hT dX2_lawName_41 ?_
      refine lv_bipush (v := 108) hx hb dX2_lawName_44 (by decide) ?_
      refine lv_bipush (v := 101) hx hb dX2_lawName_46 (by decide) ?_
      refine lv_bipush (v := 116) hx hb dX2_lawName_48 (by decide) ?_
      refine lv_bipush (v := 116) hx hb dX2_lawName_50 (by decide) ?_
      refine lv_bipush (v := 101) hx hb dX2_lawName_52 (by decide) ?_
      refine lv_bipush (v := 114) hx hb dX2_lawName_54 (by decide) ?_
      obtain ⟨v3, hv3, h⟩ := bd1_some h
      refine r_long (run_s (As := [.int (108 : Int32), .int (101 : Int32), .int (116 : Int32), .int (116 : Int32), .int (101 : Int32), .int (114 : Int32)]) (rest := [.long (t.2 15 0)]) C (mX2_w6 hv3) q1751 q1752 q162 q1753 ⟨rfl, rfl⟩ hdX2_w6 ⟨Nat.le_of_ble_eq_true rfl, Nat.le_of_ble_eq_true rfl⟩ ⟨Nat.zero_le _, Nat.zero_le _⟩ rfl hl.1 rfl (Nat.le_of_ble_eq_true rfl) dX2_lawName_56) ?_
      refine W.lcmp hx hb dX2_lawName_59 ?_
      refine lv_if_ne (tgt := 65) hx hb dX2_lawName_60 (by decide) (fun c => ?_) (fun c => ?_)
      · replace h := if_f c h
        refine lv_aload_n hx hb dX2_lawName_65 rfl (lv_at hl 0 rfl) ?_
        refine tg15 C hK hT dX2_lawName_66 ?_
        refine lv_bipush (v := 119) hx hb dX2_lawName_69 (by decide) ?_
        refine lv_bipush (v := 97) hx hb dX2_lawName_71 (by decide) ?_
        refine lv_bipush (v := 103) hx hb dX2_lawName_73 (by decide) ?_
        refine lv_bipush (v := 101) hx hb dX2_lawName_75 (by decide) ?_
        obtain ⟨v4, hv4, h⟩ := bd1_some h
        refine r_long (run_s (As := [.int (119 : Int32), .int (97 : Int32), .int (103 : Int32), .int (101 : Int32)]) (rest := [.long (t.2 15 0)]) C (mX2_w4 hv4) q1748 q1749 q162 q1750 ⟨rfl, rfl⟩ hdX2_w4 ⟨Nat.le_of_ble_eq_true rfl, Nat.le_of_ble_eq_true rfl⟩ ⟨Nat.zero_le _, Nat.zero_le _⟩ rfl hl.1 rfl (Nat.le_of_ble_eq_true rfl) dX2_lawName_77) ?_
        refine W.lcmp hx hb dX2_lawName_80 ?_
        refine lv_if_ne (tgt := 86) hx hb dX2_lawName_81 (by decide) (fun c => ?_) (fun c => ?_)
        · replace h := if_f c h
          refine lv_aload_n hx hb dX2_lawName_86 rfl (lv_at hl 0 rfl) ?_
          refine tg15 C hK hT dX2_lawName_87 ?_
          refine lv_bipush (v := 115) hx hb dX2_lawName_90 (by decide) ?_
          refine lv_bipush (v := 105) hx hb dX2_lawName_92 (by decide) ?_
          refine lv_bipush (v := 110) hx hb dX2_lawName_94 (by decide) ?_
          refine lv_bipush (v := 99) hx hb dX2_lawName_96 (by decide) ?_
          refine lv_bipush (v := 101) hx hb dX2_lawName_98 (by decide) ?_
          obtain ⟨v5, hv5, h⟩ := bd1_some h
          refine r_long (run_s (As := [.int (115 : Int32), .int (105 : Int32), .int (110 : Int32), .int (99 : Int32), .int (101 : Int32)]) (rest := [.long (t.2 15 0)]) C (mX2_w5 hv5) q1738 q1739 q162 q1740 ⟨rfl, rfl⟩ hdX2_w5 ⟨Nat.le_of_ble_eq_true rfl, Nat.le_of_ble_eq_true rfl⟩ ⟨Nat.zero_le _, Nat.zero_le _⟩ rfl hl.1 rfl (Nat.le_of_ble_eq_true rfl) dX2_lawName_100) ?_
          refine W.lcmp hx hb dX2_lawName_103 ?_
          refine lv_if_ne (tgt := 109) hx hb dX2_lawName_104 (by decide) (fun c => ?_) (fun c => ?_)
          · replace h := if_f c h
            refine lv_aload_n hx hb dX2_lawName_109 rfl (lv_at hl 0 rfl) ?_
            refine tg15 C hK hT dX2_lawName_110 ?_
            refine lv_bipush (v := 118) hx hb dX2_lawName_113 (by decide) ?_
            refine lv_bipush (v := 111) hx hb dX2_lawName_115 (by decide) ?_
            refine lv_bipush (v := 119) hx hb dX2_lawName_117 (by decide) ?_
            refine lv_bipush (v := 101) hx hb dX2_lawName_119 (by decide) ?_
            refine lv_bipush (v := 108) hx hb dX2_lawName_121 (by decide) ?_
            obtain ⟨v6, hv6, h⟩ := bd1_some h
            refine r_long (run_s (As := [.int (118 : Int32), .int (111 : Int32), .int (119 : Int32), .int (101 : Int32), .int (108 : Int32)]) (rest := [.long (t.2 15 0)]) C (mX2_w5 hv6) q1738 q1739 q162 q1740 ⟨rfl, rfl⟩ hdX2_w5 ⟨Nat.le_of_ble_eq_true rfl, Nat.le_of_ble_eq_true rfl⟩ ⟨Nat.zero_le _, Nat.zero_le _⟩ rfl hl.1 rfl (Nat.le_of_ble_eq_true rfl) dX2_lawName_123) ?_
            refine W.lcmp hx hb dX2_lawName_126 ?_
            refine lv_if_ne (tgt := 132) hx hb dX2_lawName_127 (by decide) (fun c => ?_) (fun c => ?_)
            · replace h := if_f c h
              refine lv_aload_n hx hb dX2_lawName_132 rfl (lv_at hl 0 rfl) ?_
              refine tg15 C hK hT dX2_lawName_133 ?_
              refine lv_bipush (v := 116) hx hb dX2_lawName_136 (by decide) ?_
              refine lv_bipush (v := 105) hx hb dX2_lawName_138 (by decide) ?_
              refine lv_bipush (v := 101) hx hb dX2_lawName_140 (by decide) ?_
              refine lv_bipush (v := 100) hx hb dX2_lawName_142 (by decide) ?_
              obtain ⟨v7, hv7, h⟩ := bd1_some h
              refine r_long (run_s (As := [.int (116 : Int32), .int (105 : Int32), .int (101 : Int32), .int (100 : Int32)]) (rest := [.long (t.2 15 0)]) C (mX2_w4 hv7) q1748 q1749 q162 q1750 ⟨rfl, rfl⟩ hdX2_w4 ⟨Nat.le_of_ble_eq_true rfl, Nat.le_of_ble_eq_true rfl⟩ ⟨Nat.zero_le _, Nat.zero_le _⟩ rfl hl.1 rfl (Nat.le_of_ble_eq_true rfl) dX2_lawName_144) ?_
              refine W.lcmp hx hb dX2_lawName_147 ?_
              refine lv_if_ne (tgt := 156) hx hb dX2_lawName_148 (by decide) (fun c => ?_) (fun c => ?_)
              · replace h := if_f c h
                refine lv_aload_n hx hb dX2_lawName_156 rfl (lv_at hl 0 rfl) ?_
                refine tg15 C hK hT dX2_lawName_157 ?_
                refine lv_bipush (v := 117) hx hb dX2_lawName_160 (by decide) ?_
                refine lv_bipush (v := 115) hx hb dX2_lawName_162 (by decide) ?_
                refine lv_bipush (v := 101) hx hb dX2_lawName_164 (by decide) ?_
                refine lv_bipush (v := 115) hx hb dX2_lawName_166 (by decide) ?_
                obtain ⟨v8, hv8, h⟩ := bd1_some h
                refine r_long (run_s (As := [.int (117 : Int32), .int (115 : Int32), .int (101 : Int32), .int (115 : Int32)]) (rest := [.long (t.2 15 0)]) C (mX2_w4 hv8) q1748 q1749 q162 q1750 ⟨rfl, rfl⟩ hdX2_w4 ⟨Nat.le_of_ble_eq_true rfl, Nat.le_of_ble_eq_true rfl⟩ ⟨Nat.zero_le _, Nat.zero_le _⟩ rfl hl.1 rfl (Nat.le_of_ble_eq_true rfl) dX2_lawName_168) ?_
                refine W.lcmp hx hb dX2_lawName_171 ?_
                refine lv_if_ne (tgt := 180) hx hb dX2_lawName_172 (by decide) (fun c => ?_) (fun c => ?_)
                · replace h := if_f c h
                  refine lv_iconst (v := -1) hx hb dX2_lawName_180 (by decide) ?_
                  exact e_ri C h dX2_lawName_181
                · replace h := if_t c h
                  refine lv_bipush (v := 7) hx hb dX2_lawName_175 (by decide) ?_
                  refine lv_goto (tgt := 181) hx hb dX2_lawName_177 (by decide) ?_
                  exact e_ri C h dX2_lawName_181
              · replace h := if_t c h
                refine lv_bipush (v := 6) hx hb dX2_lawName_151 (by decide) ?_
                refine lv_goto (tgt := 181) hx hb dX2_lawName_153 (by decide) ?_
                exact e_ri C h dX2_lawName_181
            · replace h := if_t c h
              refine lv_iconst (v := 5) hx hb dX2_lawName_130 (by decide) ?_
              exact e_ri C h dX2_lawName_131
          · replace h := if_t c h
            refine lv_iconst (v := 4) hx hb dX2_lawName_107 (by decide) ?_
            exact e_ri C h dX2_lawName_108
        · replace h := if_t c h
          refine lv_iconst (v := 3) hx hb dX2_lawName_84 (by decide) ?_
          exact e_ri C h dX2_lawName_85
      · replace h := if_t c h
        refine lv_iconst (v := 2) hx hb dX2_lawName_63 (by decide) ?_
        exact e_ri C h dX2_lawName_64
    · replace h := if_t c h
      refine lv_iconst (v := 1) hx hb dX2_lawName_38 (by decide) ?_
      exact e_ri C h dX2_lawName_39
  · replace h := if_t c h
    refine lv_iconst (v := 0) hx hb dX2_lawName_17 (by decide) ?_
    exact e_ri C h dX2_lawName_18
theorem mX2_lawName {l : Launch} {D : va_G} {dA : Nat → ClassId} {b : Nat} {t : TS} {r : Int32} (h : T_lawName t = some r) : Met l yX2_lawName (ws_ yX2_lawName cX2_lawName 1 (some .int)) rmX2_lawName (tPc D dA b t [.ref b]) (rQi r) 0 0 nof := en_R (by decide +kernel) rfl (Nat.le_of_ble_eq_true rfl) (fun p e s m below meth c ls C hK hT hl => bX2_lawName C hK hT ls h hl)
set_option maxRecDepth 20000 in
abbrev rmX2_nameOf : Room := { frames := 4, cells := 0, slots := 0, locals := 91 }
theorem hdX2_nameOf : yX2_nameOf.cls = RX2 ∧ yX2_nameOf.cls ≠ "java/lang/invoke/MethodHandle" ∧ yX2_nameOf.cls ≠ "java/lang/invoke/VarHandle" ∧ (parseMethodDescriptor yX2_nameOf.desc).map (fun d => d.parameters.length) = some 0 := by decide +kernel
theorem bX2_nameOf {p : Program} {l : Launch} {e : Env} {s : State} {m : MethodId} {args : Array Value} {below : List Frame} {meth : Method} {c : Code} {D : va_G} {dA : Nat → ClassId} {b : Nat} {t : TS} {r : Int32} (C : cx p s m args meth c cX2_nameOf RX2 1 (some .int)) (hK : kk D dA s) (hT : wd D (tw dA b t) s.heap) : ∀ (ls : Array Slot), T_nameOf t = some r → lv_has ls 1 [(0, .ref b)] → W p l e rmX2_nameOf s m args below meth c s.heap [] 0 0 (MQ below (rQi r) args s 0 0 nof) (F0 m 0 ls []) := by
  obtain ⟨hx, hb, hr, hml, hown, hts, hlocks⟩ := id C
  intro ls h hl
  unfold T_nameOf at h
  refine lv_aload_n hx hb dX2_nameOf_0 rfl (lv_at hl 0 rfl) ?_
  refine tg13 C hK hT dX2_nameOf_1 ?_
  refine lv_iconst (v := 2) hx hb dX2_nameOf_4 (by decide) ?_
  refine lv_icmp_eq (tgt := 10) hx hb dX2_nameOf_5 (by decide) (fun c => ?_) (fun c => ?_)
  · replace h := if_t c h
    refine lv_aload_n hx hb dX2_nameOf_10 rfl (lv_at hl 0 rfl) ?_
    obtain ⟨v1, hv1, h⟩ := bd1_some h
    refine r_int (run_t (As := []) (rest := []) C hK hT (mX2_lawName hv1) q1841 q1843 qs102 q162 q1844 ⟨rfl, rfl⟩ hdX2_lawName ⟨Nat.le_of_ble_eq_true rfl, Nat.le_of_ble_eq_true rfl⟩ ⟨Nat.zero_le _, Nat.zero_le _⟩ rfl hl.1 rfl (Nat.le_of_ble_eq_true rfl) dX2_nameOf_11) ?_
    refine lv_if_lt (tgt := 22) hx hb dX2_nameOf_14 (by decide) (fun c => ?_) (fun c => ?_)
    · replace h := if_t c h
      refine lv_aload_n hx hb dX2_nameOf_22 rfl (lv_at hl 0 rfl) ?_
      refine tg15 C hK hT dX2_nameOf_23 ?_
      refine lv_bipush (v := 108) hx hb dX2_nameOf_26 (by decide) ?_
      refine lv_bipush (v := 101) hx hb dX2_nameOf_28 (by decide) ?_
      refine lv_bipush (v := 110) hx hb dX2_nameOf_30 (by decide) ?_
      refine lv_bipush (v := 103) hx hb dX2_nameOf_32 (by decide) ?_
      refine lv_bipush (v := 116) hx hb dX2_nameOf_34 (by decide) ?_
      refine lv_bipush (v := 104) hx hb dX2_nameOf_36 (by decide) ?_
      obtain ⟨v2, hv2, h⟩ := bd1_some h
      refine r_long (run_s (As := [.int (108 : Int32), .int (101 : Int32), .int (110 : Int32), .int (103 : Int32), .int (116 : Int32), .int (104 : Int32)]) (rest := [.long (t.2 15 0)]) C (mX2_w6 hv2) q1751 q1752 q162 q1753 ⟨rfl, rfl⟩ hdX2_w6 ⟨Nat.le_of_ble_eq_true rfl, Nat.le_of_ble_eq_true rfl⟩ ⟨Nat.zero_le _, Nat.zero_le _⟩ rfl hl.1 rfl (Nat.le_of_ble_eq_true rfl) dX2_nameOf_38) ?_
      refine W.lcmp hx hb dX2_nameOf_41 ?_
      refine lv_if_ne (tgt := 48) hx hb dX2_nameOf_42 (by decide) (fun c => ?_) (fun c => ?_)
      · replace h := if_f c h
        refine lv_aload_n hx hb dX2_nameOf_48 rfl (lv_at hl 0 rfl) ?_
        refine tg15 C hK hT dX2_nameOf_49 ?_
        refine lv_bipush (v := 115) hx hb dX2_nameOf_52 (by decide) ?_
        refine lv_bipush (v := 101) hx hb dX2_nameOf_54 (by decide) ?_
        refine lv_bipush (v := 110) hx hb dX2_nameOf_56 (by decide) ?_
        refine lv_bipush (v := 115) hx hb dX2_nameOf_58 (by decide) ?_
        refine lv_bipush (v := 101) hx hb dX2_nameOf_60 (by decide) ?_
        obtain ⟨v3, hv3, h⟩ := bd1_some h
        refine r_long (run_s (As := [.int (115 : Int32), .int (101 : Int32), .int (110 : Int32), .int (115 : Int32), .int (101 : Int32)]) (rest := [.long (t.2 15 0)]) C (mX2_w5 hv3) q1738 q1739 q162 q1740 ⟨rfl, rfl⟩ hdX2_w5 ⟨Nat.le_of_ble_eq_true rfl, Nat.le_of_ble_eq_true rfl⟩ ⟨Nat.zero_le _, Nat.zero_le _⟩ rfl hl.1 rfl (Nat.le_of_ble_eq_true rfl) dX2_nameOf_62) ?_
        refine W.lcmp hx hb dX2_nameOf_65 ?_
        refine lv_if_ne (tgt := 72) hx hb dX2_nameOf_66 (by decide) (fun c => ?_) (fun c => ?_)
        · replace h := if_f c h
          refine lv_aload_n hx hb dX2_nameOf_72 rfl (lv_at hl 0 rfl) ?_
          refine tg15 C hK hT dX2_nameOf_73 ?_
          refine lv_bipush (v := 115) hx hb dX2_nameOf_76 (by decide) ?_
          refine lv_bipush (v := 105) hx hb dX2_nameOf_78 (by decide) ?_
          refine lv_bipush (v := 103) hx hb dX2_nameOf_80 (by decide) ?_
          refine lv_bipush (v := 110) hx hb dX2_nameOf_82 (by decide) ?_
          refine lv_bipush (v := 115) hx hb dX2_nameOf_84 (by decide) ?_
          obtain ⟨v4, hv4, h⟩ := bd1_some h
          refine r_long (run_s (As := [.int (115 : Int32), .int (105 : Int32), .int (103 : Int32), .int (110 : Int32), .int (115 : Int32)]) (rest := [.long (t.2 15 0)]) C (mX2_w5 hv4) q1738 q1739 q162 q1740 ⟨rfl, rfl⟩ hdX2_w5 ⟨Nat.le_of_ble_eq_true rfl, Nat.le_of_ble_eq_true rfl⟩ ⟨Nat.zero_le _, Nat.zero_le _⟩ rfl hl.1 rfl (Nat.le_of_ble_eq_true rfl) dX2_nameOf_86) ?_
          refine W.lcmp hx hb dX2_nameOf_89 ?_
          refine lv_if_ne (tgt := 96) hx hb dX2_nameOf_90 (by decide) (fun c => ?_) (fun c => ?_)
          · replace h := if_f c h
            refine lv_aload_n hx hb dX2_nameOf_96 rfl (lv_at hl 0 rfl) ?_
            refine tg15 C hK hT dX2_nameOf_97 ?_
            refine lv_bipush (v := 98) hx hb dX2_nameOf_100 (by decide) ?_
            refine lv_bipush (v := 114) hx hb dX2_nameOf_102 (by decide) ?_
            refine lv_bipush (v := 111) hx hb dX2_nameOf_104 (by decide) ?_
            refine lv_bipush (v := 107) hx hb dX2_nameOf_106 (by decide) ?_
            refine lv_bipush (v := 101) hx hb dX2_nameOf_108 (by decide) ?_
            refine lv_bipush (v := 110) hx hb dX2_nameOf_110 (by decide) ?_
            obtain ⟨v5, hv5, h⟩ := bd1_some h
            refine r_long (run_s (As := [.int (98 : Int32), .int (114 : Int32), .int (111 : Int32), .int (107 : Int32), .int (101 : Int32), .int (110 : Int32)]) (rest := [.long (t.2 15 0)]) C (mX2_w6 hv5) q1751 q1752 q162 q1753 ⟨rfl, rfl⟩ hdX2_w6 ⟨Nat.le_of_ble_eq_true rfl, Nat.le_of_ble_eq_true rfl⟩ ⟨Nat.zero_le _, Nat.zero_le _⟩ rfl hl.1 rfl (Nat.le_of_ble_eq_true rfl) dX2_nameOf_112) ?_
            refine W.lcmp hx hb dX2_nameOf_115 ?_
            refine lv_if_ne (tgt := 122) hx hb dX2_nameOf_116 (by decide) (fun c => ?_) (fun c => ?_)
            · replace h := if_f c h
              refine lv_aload_n hx hb dX2_nameOf_122 rfl (lv_at hl 0 rfl) ?_
              refine tg15 C hK hT dX2_nameOf_123 ?_
              refine lv_bipush (v := 109) hx hb dX2_nameOf_126 (by decide) ?_
              refine lv_bipush (v := 97) hx hb dX2_nameOf_128 (by decide) ?_
              refine lv_bipush (v := 110) hx hb dX2_nameOf_130 (by decide) ?_
              refine lv_bipush (v := 121) hx hb dX2_nameOf_132 (by decide) ?_
              obtain ⟨v6, hv6, h⟩ := bd1_some h
              refine r_long (run_s (As := [.int (109 : Int32), .int (97 : Int32), .int (110 : Int32), .int (121 : Int32)]) (rest := [.long (t.2 15 0)]) C (mX2_w4 hv6) q1748 q1749 q162 q1750 ⟨rfl, rfl⟩ hdX2_w4 ⟨Nat.le_of_ble_eq_true rfl, Nat.le_of_ble_eq_true rfl⟩ ⟨Nat.zero_le _, Nat.zero_le _⟩ rfl hl.1 rfl (Nat.le_of_ble_eq_true rfl) dX2_nameOf_134) ?_
              refine W.lcmp hx hb dX2_nameOf_137 ?_
              refine lv_if_ne (tgt := 146) hx hb dX2_nameOf_138 (by decide) (fun c => ?_) (fun c => ?_)
              · replace h := if_f c h
                refine lv_aload_n hx hb dX2_nameOf_146 rfl (lv_at hl 0 rfl) ?_
                refine tg15 C hK hT dX2_nameOf_147 ?_
                refine lv_bipush (v := 100) hx hb dX2_nameOf_150 (by decide) ?_
                refine lv_bipush (v := 97) hx hb dX2_nameOf_152 (by decide) ?_
                refine lv_bipush (v := 121) hx hb dX2_nameOf_154 (by decide) ?_
                refine lv_bipush (v := 115) hx hb dX2_nameOf_156 (by decide) ?_
                obtain ⟨v7, hv7, h⟩ := bd1_some h
                refine r_long (run_s (As := [.int (100 : Int32), .int (97 : Int32), .int (121 : Int32), .int (115 : Int32)]) (rest := [.long (t.2 15 0)]) C (mX2_w4 hv7) q1748 q1749 q162 q1750 ⟨rfl, rfl⟩ hdX2_w4 ⟨Nat.le_of_ble_eq_true rfl, Nat.le_of_ble_eq_true rfl⟩ ⟨Nat.zero_le _, Nat.zero_le _⟩ rfl hl.1 rfl (Nat.le_of_ble_eq_true rfl) dX2_nameOf_158) ?_
                refine W.lcmp hx hb dX2_nameOf_161 ?_
                refine lv_if_ne (tgt := 170) hx hb dX2_nameOf_162 (by decide) (fun c => ?_) (fun c => ?_)
                · replace h := if_f c h
                  refine lv_iconst (v := -1) hx hb dX2_nameOf_170 (by decide) ?_
                  exact e_ri C h dX2_nameOf_171
                · replace h := if_t c h
                  refine lv_bipush (v := 13) hx hb dX2_nameOf_165 (by decide) ?_
                  refine lv_goto (tgt := 171) hx hb dX2_nameOf_167 (by decide) ?_
                  exact e_ri C h dX2_nameOf_171
              · replace h := if_t c h
                refine lv_bipush (v := 12) hx hb dX2_nameOf_141 (by decide) ?_
                refine lv_goto (tgt := 171) hx hb dX2_nameOf_143 (by decide) ?_
                exact e_ri C h dX2_nameOf_171
            · replace h := if_t c h
              refine lv_bipush (v := 11) hx hb dX2_nameOf_119 (by decide) ?_
              exact e_ri C h dX2_nameOf_121
          · replace h := if_t c h
            refine lv_bipush (v := 10) hx hb dX2_nameOf_93 (by decide) ?_
            exact e_ri C h dX2_nameOf_95
        · replace h := if_t c h
          refine lv_bipush (v := 9) hx hb dX2_nameOf_69 (by decide) ?_
          exact e_ri C h dX2_nameOf_71
      · replace h := if_t c h
        refine lv_bipush (v := 8) hx hb dX2_nameOf_45 (by decide) ?_
        exact e_ri C h dX2_nameOf_47
    · replace h := if_f c h
      refine lv_aload_n hx hb dX2_nameOf_17 rfl (lv_at hl 0 rfl) ?_
      obtain ⟨v8, hv8, h⟩ := bd1_some h
      refine r_int (run_t (As := []) (rest := []) C hK hT (mX2_lawName hv8) q1841 q1843 qs102 q162 q1844 ⟨rfl, rfl⟩ hdX2_lawName ⟨Nat.le_of_ble_eq_true rfl, Nat.le_of_ble_eq_true rfl⟩ ⟨Nat.zero_le _, Nat.zero_le _⟩ rfl hl.1 rfl (Nat.le_of_ble_eq_true rfl) dX2_nameOf_18) ?_
      exact e_ri C h dX2_nameOf_21
  · replace h := if_f c h
    refine lv_iconst (v := -1) hx hb dX2_nameOf_8 (by decide) ?_
    exact e_ri C h dX2_nameOf_9
theorem mX2_nameOf {l : Launch} {D : va_G} {dA : Nat → ClassId} {b : Nat} {t : TS} {r : Int32} (h : T_nameOf t = some r) : Met l yX2_nameOf (ws_ yX2_nameOf cX2_nameOf 1 (some .int)) rmX2_nameOf (tPc D dA b t [.ref b]) (rQi r) 0 0 nof := en_R (by decide +kernel) rfl (Nat.le_of_ble_eq_true rfl) (fun p e s m below meth c ls C hK hT hl => bX2_nameOf C hK hT ls h hl)
set_option maxRecDepth 20000 in
abbrev rmX2_push : Room := { frames := 0, cells := 0, slots := 0, locals := 0 }
theorem hdX2_push : yX2_push.cls = RX2 ∧ yX2_push.cls ≠ "java/lang/invoke/MethodHandle" ∧ yX2_push.cls ≠ "java/lang/invoke/VarHandle" ∧ (parseMethodDescriptor yX2_push.desc).map (fun d => d.parameters.length) = some 1 := by decide +kernel
theorem bX2_push {p : Program} {l : Launch} {e : Env} {s : State} {m : MethodId} {args : Array Value} {below : List Frame} {meth : Method} {c : Code} {D : va_G} {dA : Nat → ClassId} {b : Nat} {t9 : TS} (C : cx p s m args meth c cX2_push RX2 2 none) (hK : kk D dA s) : ∀ (t : TS) (x1 : Int32) (H : Heap) (locs : List Loc) (hT : wd D (tw dA b t) H) (hS : tS b s.heap H locs) (ls : Array Slot), T_push t x1 = some t9 → lv_has ls 2 [(0, .ref b), (1, .int x1)] → W p l e rmX2_push s m args below meth c H locs 0 0 (MQ below (tQ D dA b t9 none) args s 0 0 (ta b)) (F0 m 0 ls []) := by
  obtain ⟨hx, hb, hr, hml, hown, hts, hlocks⟩ := id C
  intro t x1 H locs hT hS ls h hl
  unfold T_push at h
  refine lv_aload_n hx hb dX2_push_0 rfl (lv_at hl 0 rfl) ?_
  refine tg20 C hK hT dX2_push_1 ?_
  refine lv_aload_n hx hb dX2_push_4 rfl (lv_at hl 0 rfl) ?_
  refine tg21 C hK hT dX2_push_5 ?_
  refine lv_iload_n hx hb dX2_push_8 rfl (lv_at hl 1 rfl) ?_
  obtain ⟨hi, h⟩ := ck_some h
  refine ts20 C hK hT hS hi dX2_push_9 (fun t1 H locs et1 hT hS => ?_)
  replace h := lt1_sub et1 h
  refine lv_aload_n hx hb dX2_push_10 rfl (lv_at hl 0 rfl) ?_
  refine lv_dup hx hb dX2_push_11 rfl ?_
  refine tg21 C hK hT dX2_push_12 ?_
  refine lv_iconst (v := 1) hx hb dX2_push_15 (by decide) ?_
  refine lv_iadd hx hb dX2_push_16 ?_
  refine tp21 C hK hT hS dX2_push_17 (fun t2 H locs et2 hT hS => ?_)
  replace h := lt1_sub et2 h
  exact e_wv C hT hS h dX2_push_20
theorem mX2_push {l : Launch} {D : va_G} {dA : Nat → ClassId} {b : Nat} {t : TS} {x1 : Int32} {t9 : TS} (h : T_push t x1 = some t9) : Met l yX2_push (ws_ yX2_push cX2_push 2 none) rmX2_push (tPc D dA b t [.ref b, .int x1]) (tQ D dA b t9 none) 0 0 (ta b) := en_R (by decide +kernel) rfl (Nat.le_of_ble_eq_true rfl) (fun p e s m below meth c ls C hK hT hl => bX2_push C hK t x1 _ [] hT tS.rf ls h hl)
set_option maxRecDepth 20000 in
abbrev rmX2_whole : Room := { frames := 1, cells := 0, slots := 0, locals := 22 }
theorem hdX2_whole : yX2_whole.cls = RX2 ∧ yX2_whole.cls ≠ "java/lang/invoke/MethodHandle" ∧ yX2_whole.cls ≠ "java/lang/invoke/VarHandle" ∧ (parseMethodDescriptor yX2_whole.desc).map (fun d => d.parameters.length) = some 0 := by decide +kernel
theorem bX2_whole_5 {p : Program} {l : Launch} {e : Env} {s : State} {m : MethodId} {args : Array Value} {below : List Frame} {meth : Method} {c : Code} {D : va_G} {dA : Nat → ClassId} {b : Nat} {t9 : TS} (C : cx p s m args meth c cX2_whole RX2 1 none) (hK : kk D dA s) : ∀ (n : Nat), ∀ (t : TS) (H : Heap) (locs : List Loc) (hT : wd D (tw dA b t) H) (hS : tS b s.heap H locs) (ls : Array Slot), T_whole_5 n t = some t9 → lv_has ls 1 [(0, .ref b)] → W p l e rmX2_whole s m args below meth c H locs 0 0 (MQ below (tQ D dA b t9 none) args s 0 0 (ta b)) (F0 m 5 ls []) := by
  obtain ⟨hx, hb, hr, hml, hown, hts, hlocks⟩ := id C
  intro n
  induction n with
  | zero =>
    intro t H locs hT hS ls h hl
    have h : none = some _ := h
    cases h
  | succ n ih =>
    intro t H locs hT hS ls h hl
    rw [T_whole_5] at h
    refine lv_aload_n hx hb dX2_whole_5 rfl (lv_at hl 0 rfl) ?_
    refine tg21 C hK hT dX2_whole_6 ?_
    refine lv_if_le (tgt := 56) hx hb dX2_whole_9 (by decide) (fun c => ?_) (fun c => ?_)
    · replace h := if_t c h
      exact e_wv C hT hS h dX2_whole_56
    · replace h := if_f c h
      refine lv_aload_n hx hb dX2_whole_12 rfl (lv_at hl 0 rfl) ?_
      refine tg20 C hK hT dX2_whole_13 ?_
      refine lv_aload_n hx hb dX2_whole_16 rfl (lv_at hl 0 rfl) ?_
      refine tg21 C hK hT dX2_whole_17 ?_
      refine lv_iconst (v := 1) hx hb dX2_whole_20 (by decide) ?_
      refine lv_isub hx hb dX2_whole_21 ?_
      obtain ⟨hi, h⟩ := ck_some h
      refine tl20 C hK hT hi dX2_whole_22 ?_
      refine lv_iconst (v := 2) hx hb dX2_whole_23 (by decide) ?_
      refine lv_icmp_ne (tgt := 56) hx hb dX2_whole_24 (by decide) (fun c => ?_) (fun c => ?_)
      · replace h := if_f c h
        exact e_wv C hT hS h dX2_whole_56
      · replace h := if_t c h
        refine lv_aload_n hx hb dX2_whole_27 rfl (lv_at hl 0 rfl) ?_
        refine lv_dup hx hb dX2_whole_28 rfl ?_
        refine tg21 C hK hT dX2_whole_29 ?_
        refine lv_iconst (v := 1) hx hb dX2_whole_32 (by decide) ?_
        refine lv_isub hx hb dX2_whole_33 ?_
        refine tp21 C hK hT hS dX2_whole_34 (fun t1 H locs et1 hT hS => ?_)
        replace h := lt1_sub et1 h
        refine lv_aload_n hx hb dX2_whole_37 rfl (lv_at hl 0 rfl) ?_
        refine lv_dup hx hb dX2_whole_38 rfl ?_
        refine tg22 C hK hT dX2_whole_39 ?_
        refine lv_iconst (v := 1) hx hb dX2_whole_42 (by decide) ?_
        refine lv_isub hx hb dX2_whole_43 ?_
        refine tp22 C hK hT hS dX2_whole_44 (fun t2 H locs et2 hT hS => ?_)
        replace h := lt1_sub et2 h
        refine lv_aload_n hx hb dX2_whole_47 rfl (lv_at hl 0 rfl) ?_
        refine lv_iconst (v := 2) hx hb dX2_whole_48 (by decide) ?_
        refine lv_iconst (v := 0) hx hb dX2_whole_49 (by decide) ?_
        obtain ⟨t3, ht3, h⟩ := bd1_some h
        refine w_void hS (run_t (As := [.int (2 : Int32), .int (0 : Int32)]) (rest := []) C hK hT (mX2_emit ht3) q1821 q1823 qs97 q162 q1824 ⟨rfl, rfl⟩ hdX2_emit ⟨Nat.le_of_ble_eq_true rfl, Nat.le_of_ble_eq_true rfl⟩ ⟨Nat.zero_le _, Nat.zero_le _⟩ rfl hl.1 rfl (Nat.le_of_ble_eq_true rfl) dX2_whole_50) (fun H locs hT hS => ?_)
        refine lv_goto (tgt := 5) hx hb dX2_whole_53 (by decide) ?_
        exact ih t3 H locs hT hS ls h (lv_sub hl [0] rfl)
theorem bX2_whole {p : Program} {l : Launch} {e : Env} {s : State} {m : MethodId} {args : Array Value} {below : List Frame} {meth : Method} {c : Code} {D : va_G} {dA : Nat → ClassId} {b : Nat} {t9 : TS} (C : cx p s m args meth c cX2_whole RX2 1 none) (hK : kk D dA s) : ∀ (t : TS) (H : Heap) (locs : List Loc) (hT : wd D (tw dA b t) H) (hS : tS b s.heap H locs) (ls : Array Slot), T_whole t = some t9 → lv_has ls 1 [(0, .ref b)] → W p l e rmX2_whole s m args below meth c H locs 0 0 (MQ below (tQ D dA b t9 none) args s 0 0 (ta b)) (F0 m 0 ls []) := by
  obtain ⟨hx, hb, hr, hml, hown, hts, hlocks⟩ := id C
  intro t H locs hT hS ls h hl
  unfold T_whole at h
  refine lv_aload_n hx hb dX2_whole_0 rfl (lv_at hl 0 rfl) ?_
  refine lv_iconst (v := 1) hx hb dX2_whole_1 (by decide) ?_
  refine tp23 C hK hT hS (Or.inr rfl) dX2_whole_2 (fun t1 H locs et1 hT hS => ?_)
  replace h := lt1_sub et1 h
  exact bX2_whole_5 C hK fu t1 H locs hT hS ls h (lv_sub hl [0] rfl)
theorem mX2_whole {l : Launch} {D : va_G} {dA : Nat → ClassId} {b : Nat} {t : TS} {t9 : TS} (h : T_whole t = some t9) : Met l yX2_whole (ws_ yX2_whole cX2_whole 1 none) rmX2_whole (tPc D dA b t [.ref b]) (tQ D dA b t9 none) 0 0 (ta b) := en_R (by decide +kernel) rfl (Nat.le_of_ble_eq_true rfl) (fun p e s m below meth c ls C hK hT hl => bX2_whole C hK t _ [] hT tS.rf ls h hl)
