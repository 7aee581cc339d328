/-! the reference's walks, 6 (written by gen/gen_twin.py) -/
set_option maxRecDepth 20000
set_option maxRecDepth 20000 in
abbrev rmX2_loophole : Room := { frames := 5, cells := 0, slots := 0, locals := 111 }
theorem hdX2_loophole : yX2_loophole.cls = RX2 ∧ yX2_loophole.cls ≠ "java/lang/invoke/MethodHandle" ∧ yX2_loophole.cls ≠ "java/lang/invoke/VarHandle" ∧ (parseMethodDescriptor yX2_loophole.desc).map (fun d => d.parameters.length) = some 1 := by decide +kernel
theorem bX2_loophole_70 {p : Program} {l : Launch} {e : Env} {s : State} {m : MethodId} {args : Array Value} {below : List Frame} {meth : Method} {c : Code} {D : va_G} {dA : Nat → ClassId} {b : Nat} {r : Int32} {t9 : TS} (C : cx p s m args meth c cX2_loophole RX2 5 (some .int)) (hK : kk D dA s) {k23 : TS → Int32 → Int32 → Int32 → Int32 → Option (Int32 × TS)} (hk23 : ∀ (t : TS) (x1 : Int32) (x2 : Int32) (x3 : Int32) (x4 : Int32) (H : Heap) (locs : List Loc) (hT : wd D (tw dA b t) H) (hS : tS b s.heap H locs) (ls : Array Slot), k23 t x1 x2 x3 x4 = some (r, t9) → lv_has ls 5 [(0, .ref b), (1, .int x1), (2, .int x2), (3, .int x3), (4, .int x4)] → W p l e rmX2_loophole s m args below meth c H locs 0 0 (MQ below (tQ D dA b t9 (some (.int r))) args s 0 0 (ta b)) (F0 m 23 ls [])) : ∀ (t : TS) (x1 : Int32) (x2 : Int32) (x3 : Int32) (x4 : Int32) (H : Heap) (locs : List Loc) (hT : wd D (tw dA b t) H) (hS : tS b s.heap H locs) (ls : Array Slot), T_loophole_70 k23 t x1 x2 x3 x4 = some (r, t9) → lv_has ls 5 [(0, .ref b), (1, .int x1), (2, .int x2), (3, .int x3), (4, .int x4)] → W p l e rmX2_loophole s m args below meth c H locs 0 0 (MQ below (tQ D dA b t9 (some (.int r))) args s 0 0 (ta b)) (F0 m 70 ls []) := by
  obtain ⟨hx, hb, hr, hml, hown, hts, hlocks⟩ := id C
  intro t x1 x2 x3 x4 H locs hT hS ls h hl
  unfold T_loophole_70 at h
  obtain ⟨v1, ev1⟩ : ∃ y : Int32, y = x4 + (1 : Int32) := ⟨_, rfl⟩
  replace h := lt1_sub ev1 h
  refine lv_iinc (v := v1) (lv' := [(4, .int v1), (0, .ref b), (1, .int x1), (2, .int x2), (3, .int x3)]) hx hb dX2_loophole_70 hl (k := 4) rfl (by rw [ev1]; rfl) (by decide) rfl (fun ls hl => ?_)
  refine lv_goto (tgt := 23) hx hb dX2_loophole_73 (by decide) ?_
  exact hk23 t x1 x2 x3 v1 H locs hT hS ls h (lv_sub hl [1, 2, 3, 4, 0] rfl)
theorem bX2_loophole_76 {p : Program} {l : Launch} {e : Env} {s : State} {m : MethodId} {args : Array Value} {below : List Frame} {meth : Method} {c : Code} {D : va_G} {dA : Nat → ClassId} {b : Nat} {r : Int32} {t9 : TS} (C : cx p s m args meth c cX2_loophole RX2 5 (some .int)) (hK : kk D dA s) : ∀ (t : TS) (x2 : Int32) (x3 : Int32) (H : Heap) (locs : List Loc) (hT : wd D (tw dA b t) H) (hS : tS b s.heap H locs) (ls : Array Slot), T_loophole_76 t x2 x3 = some (r, t9) → lv_has ls 5 [(0, .ref b), (2, .int x2), (3, .int x3)] → W p l e rmX2_loophole s m args below meth c H locs 0 0 (MQ below (tQ D dA b t9 (some (.int r))) args s 0 0 (ta b)) (F0 m 76 ls []) := by
  obtain ⟨hx, hb, hr, hml, hown, hts, hlocks⟩ := id C
  intro t x2 x3 H locs hT hS ls h hl
  unfold T_loophole_76 at h
  refine lv_aload_n hx hb dX2_loophole_76 rfl (lv_at hl 0 rfl) ?_
  refine tg0 C hK hT dX2_loophole_77 ?_
  refine lv_bipush (v := 7) hx hb dX2_loophole_80 (by decide) ?_
  refine lv_iload_n hx hb dX2_loophole_82 rfl (lv_at hl 2 rfl) ?_
  obtain ⟨hi, h⟩ := ck_some h
  refine ts0 C hK hT hS hi dX2_loophole_83 (fun t1 H locs et1 hT hS => ?_)
  replace h := lt1_sub et1 h
  refine lv_iload_n hx hb dX2_loophole_84 rfl (lv_at hl 1 rfl) ?_
  exact e_wi C hT hS h dX2_loophole_85
theorem bX2_loophole_23 {p : Program} {l : Launch} {e : Env} {s : State} {m : MethodId} {args : Array Value} {below : List Frame} {meth : Method} {c : Code} {D : va_G} {dA : Nat → ClassId} {b : Nat} {r : Int32} {t9 : TS} (C : cx p s m args meth c cX2_loophole RX2 5 (some .int)) (hK : kk D dA s) : ∀ (n : Nat), ∀ (t : TS) (x1 : Int32) (x2 : Int32) (x3 : Int32) (x4 : Int32) (H : Heap) (locs : List Loc) (hT : wd D (tw dA b t) H) (hS : tS b s.heap H locs) (ls : Array Slot), T_loophole_23 n t x1 x2 x3 x4 = some (r, t9) → lv_has ls 5 [(0, .ref b), (1, .int x1), (2, .int x2), (3, .int x3), (4, .int x4)] → W p l e rmX2_loophole s m args below meth c H locs 0 0 (MQ below (tQ D dA b t9 (some (.int r))) args s 0 0 (ta b)) (F0 m 23 ls []) := by
  obtain ⟨hx, hb, hr, hml, hown, hts, hlocks⟩ := id C
  intro n
  induction n with
  | zero =>
    intro t x1 x2 x3 x4 H locs hT hS ls h hl
    have h : none = some _ := h
    cases h
  | succ n ih =>
    intro t x1 x2 x3 x4 H locs hT hS ls h hl
    rw [T_loophole_23] at h
    refine lv_iload hx hb dX2_loophole_23 (lv_at hl 4 rfl) ?_
    refine lv_bipush (v := 26) hx hb dX2_loophole_25 (by decide) ?_
    refine lv_icmp_ge (tgt := 76) hx hb dX2_loophole_27 (by decide) (fun c => ?_) (fun c => ?_)
    · replace h := if_t c h
      exact bX2_loophole_76 C hK t x2 x3 H locs hT hS ls h (lv_sub hl [0, 2, 3] rfl)
    · replace h := if_f c h
      refine lv_iload_n hx hb dX2_loophole_30 rfl (lv_at hl 2 rfl) ?_
      refine lv_if_ge (tgt := 76) hx hb dX2_loophole_31 (by decide) (fun c => ?_) (fun c => ?_)
      · replace h := if_t c h
        exact bX2_loophole_76 C hK t x2 x3 H locs hT hS ls h (lv_sub hl [0, 2, 3] rfl)
      · replace h := if_f c h
        refine lv_iload_n hx hb dX2_loophole_34 rfl (lv_at hl 3 rfl) ?_
        refine lv_iload hx hb dX2_loophole_35 (lv_at hl 4 rfl) ?_
        obtain ⟨v1, hv1, h⟩ := bd1_some h
        refine r_int (run_s (As := [.int x3, .int x4]) (rest := []) C (mX2_has hv1) q1659 q1660 q162 q1661 ⟨rfl, rfl⟩ hdX2_has ⟨Nat.le_of_ble_eq_true rfl, Nat.le_of_ble_eq_true rfl⟩ ⟨Nat.zero_le _, Nat.zero_le _⟩ rfl hl.1 rfl (Nat.le_of_ble_eq_true rfl) dX2_loophole_37) ?_
        refine lv_if_eq (tgt := 46) hx hb dX2_loophole_40 (by decide) (fun c => ?_) (fun c => ?_)
        · replace h := if_t c h
          refine lv_aload_n hx hb dX2_loophole_46 rfl (lv_at hl 0 rfl) ?_
          refine tg0 C hK hT dX2_loophole_47 ?_
          refine lv_bipush (v := 7) hx hb dX2_loophole_50 (by decide) ?_
          refine lv_iload_n hx hb dX2_loophole_52 rfl (lv_at hl 3 rfl) ?_
          refine lv_iconst (v := 1) hx hb dX2_loophole_53 (by decide) ?_
          refine lv_iload hx hb dX2_loophole_54 (lv_at hl 4 rfl) ?_
          refine lv_ishl hx hb dX2_loophole_56 ?_
          refine lv_ior hx hb dX2_loophole_57 ?_
          obtain ⟨hi, h⟩ := ck_some h
          refine ts0 C hK hT hS hi dX2_loophole_58 (fun t2 H locs et2 hT hS => ?_)
          replace h := lt1_sub et2 h
          refine lv_aload_n hx hb dX2_loophole_59 rfl (lv_at hl 0 rfl) ?_
          refine lv_iload_n hx hb dX2_loophole_60 rfl (lv_at hl 1 rfl) ?_
          obtain ⟨v3, t4, ht4, h⟩ := bd2_some h
          refine w_int hS (run_t (As := [.int x1]) (rest := []) C hK hT (mX2_binds ht4) q2212 q2214 qs154 q162 q2215 ⟨rfl, rfl⟩ hdX2_binds ⟨Nat.le_of_ble_eq_true rfl, Nat.le_of_ble_eq_true rfl⟩ ⟨Nat.zero_le _, Nat.zero_le _⟩ rfl hl.1 rfl (Nat.le_of_ble_eq_true rfl) dX2_loophole_61) (fun H locs hT hS => ?_)
          refine lv_if_ne (tgt := 70) hx hb dX2_loophole_64 (by decide) (fun c => ?_) (fun c => ?_)
          · replace h := if_f c h
            exact bX2_loophole_70 C hK ih t4 x1 x2 x3 x4 H locs hT hS ls h (lv_sub hl [0, 1, 2, 3, 4] rfl)
          · replace h := if_t c h
            refine lv_iload hx hb dX2_loophole_67 (lv_at hl 4 rfl) ?_
            refine lv_istore_n (lv' := [(2, .int x4), (0, .ref b), (1, .int x1), (3, .int x3), (4, .int x4)]) hx hb dX2_loophole_69 rfl hl (by decide) rfl (fun ls hl => ?_)
            exact bX2_loophole_70 C hK ih t4 x1 x4 x3 x4 H locs hT hS ls h (lv_sub hl [1, 2, 0, 3, 4] rfl)
        · replace h := if_f c h
          refine lv_goto (tgt := 70) hx hb dX2_loophole_43 (by decide) ?_
          exact bX2_loophole_70 C hK ih t x1 x2 x3 x4 H locs hT hS ls h (lv_sub hl [0, 1, 2, 3, 4] rfl)
theorem bX2_loophole {p : Program} {l : Launch} {e : Env} {s : State} {m : MethodId} {args : Array Value} {below : List Frame} {meth : Method} {c : Code} {D : va_G} {dA : Nat → ClassId} {b : Nat} {r : Int32} {t9 : TS} (C : cx p s m args meth c cX2_loophole RX2 5 (some .int)) (hK : kk D dA s) : ∀ (t : TS) (x1 : Int32) (H : Heap) (locs : List Loc) (hT : wd D (tw dA b t) H) (hS : tS b s.heap H locs) (ls : Array Slot), T_loophole t x1 = some (r, t9) → lv_has ls 5 [(0, .ref b), (1, .int x1)] → W p l e rmX2_loophole s m args below meth c H locs 0 0 (MQ below (tQ D dA b t9 (some (.int r))) args s 0 0 (ta b)) (F0 m 0 ls []) := by
  obtain ⟨hx, hb, hr, hml, hown, hts, hlocks⟩ := id C
  intro t x1 H locs hT hS ls h hl
  unfold T_loophole at h
  refine lv_aload_n hx hb dX2_loophole_0 rfl (lv_at hl 0 rfl) ?_
  refine lv_iload_n hx hb dX2_loophole_1 rfl (lv_at hl 1 rfl) ?_
  obtain ⟨v1, t2, ht2, h⟩ := bd2_some h
  refine w_int hS (run_t (As := [.int x1]) (rest := []) C hK hT (mX2_binds ht2) q2212 q2214 qs154 q162 q2215 ⟨rfl, rfl⟩ hdX2_binds ⟨Nat.le_of_ble_eq_true rfl, Nat.le_of_ble_eq_true rfl⟩ ⟨Nat.zero_le _, Nat.zero_le _⟩ rfl hl.1 rfl (Nat.le_of_ble_eq_true rfl) dX2_loophole_2) (fun H locs hT hS => ?_)
  refine lv_if_ne (tgt := 10) hx hb dX2_loophole_5 (by decide) (fun c => ?_) (fun c => ?_)
  · replace h := if_f c h
    refine lv_iconst (v := -1) hx hb dX2_loophole_10 (by decide) ?_
    refine lv_istore_n (lv' := [(2, .int (-1 : Int32)), (0, .ref b), (1, .int x1)]) hx hb dX2_loophole_11 rfl hl (by decide) rfl (fun ls hl => ?_)
    refine lv_aload_n hx hb dX2_loophole_12 rfl (lv_at hl 1 rfl) ?_
    refine tg0 C hK hT dX2_loophole_13 ?_
    refine lv_bipush (v := 7) hx hb dX2_loophole_16 (by decide) ?_
    obtain ⟨hi, h⟩ := ck_some h
    refine tl0 C hK hT hi dX2_loophole_18 ?_
    refine lv_topi (fun v3 ev3 => ?_)
    replace h := lt1_sub ev3 h
    refine lv_istore_n (lv' := [(3, .int v3), (2, .int (-1 : Int32)), (0, .ref b), (1, .int x1)]) hx hb dX2_loophole_19 rfl hl (by decide) rfl (fun ls hl => ?_)
    refine lv_iconst (v := 0) hx hb dX2_loophole_20 (by decide) ?_
    refine lv_istore (lv' := [(4, .int (0 : Int32)), (3, .int v3), (2, .int (-1 : Int32)), (0, .ref b), (1, .int x1)]) hx hb dX2_loophole_21 hl (by decide) rfl (fun ls hl => ?_)
    exact bX2_loophole_23 C hK fu t2 x1 (-1 : Int32) v3 (0 : Int32) H locs hT hS ls h (lv_sub hl [3, 4, 2, 1, 0] rfl)
  · replace h := if_t c h
    refine lv_iconst (v := -1) hx hb dX2_loophole_8 (by decide) ?_
    exact e_wi C hT hS h dX2_loophole_9
theorem mX2_loophole {l : Launch} {D : va_G} {dA : Nat → ClassId} {b : Nat} {t : TS} {x1 : Int32} {r : Int32} {t9 : TS} (h : T_loophole t x1 = some (r, t9)) : Met l yX2_loophole (ws_ yX2_loophole cX2_loophole 5 (some .int)) rmX2_loophole (tPc D dA b t [.ref b, .int x1]) (tQ D dA b t9 (some (.int r))) 0 0 (ta b) := en_R (by decide +kernel) rfl (Nat.le_of_ble_eq_true rfl) (fun p e s m below meth c ls C hK hT hl => bX2_loophole C hK t x1 _ [] hT tS.rf ls h hl)
set_option maxRecDepth 20000 in
abbrev rmX2_signed : Room := { frames := 6, cells := 0, slots := 0, locals := 135 }
theorem hdX2_signed : yX2_signed.cls = RX2 ∧ yX2_signed.cls ≠ "java/lang/invoke/MethodHandle" ∧ yX2_signed.cls ≠ "java/lang/invoke/VarHandle" ∧ (parseMethodDescriptor yX2_signed.desc).map (fun d => d.parameters.length) = some 2 := by decide +kernel
theorem bX2_signed {p : Program} {l : Launch} {e : Env} {s : State} {m : MethodId} {args : Array Value} {below : List Frame} {meth : Method} {c : Code} {D : va_G} {dA : Nat → ClassId} {b : Nat} {r : Int32} {t9 : TS} (C : cx p s m args meth c cX2_signed RX2 4 (some .int)) (hK : kk D dA s) : ∀ (t : TS) (x1 : Int32) (x2 : Int32) (H : Heap) (locs : List Loc) (hT : wd D (tw dA b t) H) (hS : tS b s.heap H locs) (ls : Array Slot), T_signed t x1 x2 = some (r, t9) → lv_has ls 4 [(0, .ref b), (1, .int x1), (2, .int x2)] → W p l e rmX2_signed s m args below meth c H locs 0 0 (MQ below (tQ D dA b t9 (some (.int r))) args s 0 0 (ta b)) (F0 m 0 ls []) := by
  obtain ⟨hx, hb, hr, hml, hown, hts, hlocks⟩ := id C
  intro t x1 x2 H locs hT hS ls h hl
  unfold T_signed at h
  refine lv_iload_n hx hb dX2_signed_0 rfl (lv_at hl 1 rfl) ?_
  refine lv_iconst (v := -1) hx hb dX2_signed_1 (by decide) ?_
  refine lv_icmp_ne (tgt := 13) hx hb dX2_signed_2 (by decide) (fun c => ?_) (fun c => ?_)
  · replace h := if_f c h
    refine lv_iload_n hx hb dX2_signed_13 rfl (lv_at hl 1 rfl) ?_
    refine lv_iconst (v := 0) hx hb dX2_signed_14 (by decide) ?_
    refine lv_aload_n hx hb dX2_signed_15 rfl (lv_at hl 0 rfl) ?_
    refine tg0 C hK hT dX2_signed_16 ?_
    refine lv_bipush (v := 10) hx hb dX2_signed_19 (by decide) ?_
    obtain ⟨hi, h⟩ := ck_some h
    refine tl0 C hK hT hi dX2_signed_21 ?_
    refine lv_iconst (v := 1) hx hb dX2_signed_22 (by decide) ?_
    refine lv_isub hx hb dX2_signed_23 ?_
    obtain ⟨v1, hv1, h⟩ := bd1_some h
    refine r_int (run_s (As := [.int x1, .int (0 : Int32), .int ((t.1 0 (10 : Int32).toNatClampNeg) - (1 : Int32))]) (rest := []) C (mX2_isIn hv1) q1656 q1657 q162 q1658 ⟨rfl, rfl⟩ hdX2_isIn ⟨Nat.le_of_ble_eq_true rfl, Nat.le_of_ble_eq_true rfl⟩ ⟨Nat.zero_le _, Nat.zero_le _⟩ rfl hl.1 rfl (Nat.le_of_ble_eq_true rfl) dX2_signed_24) ?_
    refine lv_if_ne (tgt := 33) hx hb dX2_signed_27 (by decide) (fun c => ?_) (fun c => ?_)
    · replace h := if_f c h
      refine lv_sipush (v := 428) hx hb dX2_signed_33 (by decide) ?_
      refine lv_bipush (v := 11) hx hb dX2_signed_36 (by decide) ?_
      refine lv_iload_n hx hb dX2_signed_38 rfl (lv_at hl 1 rfl) ?_
      refine lv_imul hx hb dX2_signed_39 ?_
      refine lv_iadd hx hb dX2_signed_40 ?_
      refine lv_topi (fun v2 ev2 => ?_)
      replace h := lt1_sub ev2 h
      refine lv_istore_n (lv' := [(3, .int v2), (0, .ref b), (1, .int x1), (2, .int x2)]) hx hb dX2_signed_41 rfl hl (by decide) rfl (fun ls hl => ?_)
      refine lv_iload_n hx hb dX2_signed_42 rfl (lv_at hl 3 rfl) ?_
      refine lv_bipush (v := 10) hx hb dX2_signed_43 (by decide) ?_
      refine lv_bipush (v := 9) hx hb dX2_signed_45 (by decide) ?_
      refine lv_aload_n hx hb dX2_signed_47 rfl (lv_at hl 1 rfl) ?_
      refine tg0 C hK hT dX2_signed_48 ?_
      refine lv_iload_n hx hb dX2_signed_51 rfl (lv_at hl 0 rfl) ?_
      refine lv_iconst (v := 2) hx hb dX2_signed_52 (by decide) ?_
      refine lv_iadd hx hb dX2_signed_53 ?_
      obtain ⟨hi, h⟩ := ck_some h
      refine tl0 C hK hT hi dX2_signed_54 ?_
      refine lv_iadd hx hb dX2_signed_55 ?_
      obtain ⟨v3, hv3, h⟩ := bd1_some h
      refine r_int (run_s (As := [.int x2, .int (10 : Int32), .int ((9 : Int32) + (t.1 0 (v2 + (2 : Int32)).toNatClampNeg))]) (rest := []) C (mX2_isIn hv3) q1656 q1657 q162 q1658 ⟨rfl, rfl⟩ hdX2_isIn ⟨Nat.le_of_ble_eq_true rfl, Nat.le_of_ble_eq_true rfl⟩ ⟨Nat.zero_le _, Nat.zero_le _⟩ rfl hl.1 rfl (Nat.le_of_ble_eq_true rfl) dX2_signed_56) ?_
      refine lv_if_eq (tgt := 76) hx hb dX2_signed_59 (by decide) (fun c => ?_) (fun c => ?_)
      · replace h := if_t c h
        refine lv_iload_n hx hb dX2_signed_76 rfl (lv_at hl 3 rfl) ?_
        by_cases c : x2 = (3 : Int32)
        · replace h := if_t c h
          rw [c]
          refine lv_tableIn (off := 27) (tgt := 104) hx hb dX2_signed_77 (by decide) (by decide) rfl (by decide) ?_
          refine lv_aload_n hx hb dX2_signed_104 rfl (lv_at hl 1 rfl) ?_
          refine lv_iload_n hx hb dX2_signed_105 rfl (lv_at hl 2 rfl) ?_
          obtain ⟨v4, t5, ht5, h⟩ := bd2_some h
          refine w_int hS (run_t (As := [.int x1]) (rest := []) C hK hT (mX2_binds ht5) q2212 q2214 qs154 q162 q2215 ⟨rfl, rfl⟩ hdX2_binds ⟨Nat.le_of_ble_eq_true rfl, Nat.le_of_ble_eq_true rfl⟩ ⟨Nat.zero_le _, Nat.zero_le _⟩ rfl hl.1 rfl (Nat.le_of_ble_eq_true rfl) dX2_signed_106) (fun H locs hT hS => ?_)
          refine lv_if_eq (tgt := 116) hx hb dX2_signed_109 (by decide) (fun c => ?_) (fun c => ?_)
          · replace h := if_t c h
            refine lv_iconst (v := 0) hx hb dX2_signed_116 (by decide) ?_
            exact e_wi C hT hS h dX2_signed_117
          · replace h := if_f c h
            refine lv_iconst (v := 1) hx hb dX2_signed_112 (by decide) ?_
            refine lv_goto (tgt := 117) hx hb dX2_signed_113 (by decide) ?_
            exact e_wi C hT hS h dX2_signed_117
        replace h := if_f c h
        have g0 := tI_ne (k := 3) (by decide) c
        by_cases c : x2 = (4 : Int32)
        · replace h := if_t c h
          rw [c]
          refine lv_tableIn (off := 41) (tgt := 118) hx hb dX2_signed_77 (by decide) (by decide) rfl (by decide) ?_
          refine lv_aload_n hx hb dX2_signed_118 rfl (lv_at hl 1 rfl) ?_
          refine lv_iload_n hx hb dX2_signed_119 rfl (lv_at hl 2 rfl) ?_
          obtain ⟨v6, hv6, h⟩ := bd1_some h
          refine r_int (run_t (As := [.int x1]) (rest := []) C hK hT (mX2_brokenOf hv6) q2216 q2218 qs155 q162 q2219 ⟨rfl, rfl⟩ hdX2_brokenOf ⟨Nat.le_of_ble_eq_true rfl, Nat.le_of_ble_eq_true rfl⟩ ⟨Nat.zero_le _, Nat.zero_le _⟩ rfl hl.1 rfl (Nat.le_of_ble_eq_true rfl) dX2_signed_120) ?_
          exact e_wi C hT hS h dX2_signed_123
        replace h := if_f c h
        have g1 := tI_ne (k := 4) (by decide) c
        by_cases c : x2 = (5 : Int32)
        · replace h := if_t c h
          rw [c]
          refine lv_tableIn (off := 47) (tgt := 124) hx hb dX2_signed_77 (by decide) (by decide) rfl (by decide) ?_
          refine lv_aload_n hx hb dX2_signed_124 rfl (lv_at hl 1 rfl) ?_
          refine lv_iload_n hx hb dX2_signed_125 rfl (lv_at hl 2 rfl) ?_
          obtain ⟨v7, t8, ht8, h⟩ := bd2_some h
          refine w_int hS (run_t (As := [.int x1]) (rest := []) C hK hT (mX2_loophole ht8) q2220 q2222 qs156 q162 q2223 ⟨rfl, rfl⟩ hdX2_loophole ⟨Nat.le_of_ble_eq_true rfl, Nat.le_of_ble_eq_true rfl⟩ ⟨Nat.zero_le _, Nat.zero_le _⟩ rfl hl.1 rfl (Nat.le_of_ble_eq_true rfl) dX2_signed_126) (fun H locs hT hS => ?_)
          exact e_wi C hT hS h dX2_signed_129
        replace h := if_f c h
        have g2 := tI_ne (k := 5) (by decide) c
        refine lv_tableOut (tgt := 130) hx hb dX2_signed_77 (by omega) (by decide) ?_
        refine lv_iload_n hx hb dX2_signed_130 rfl (lv_at hl 3 rfl) ?_
        refine lv_iconst (v := 0) hx hb dX2_signed_131 (by decide) ?_
        refine lv_iconst (v := 2) hx hb dX2_signed_132 (by decide) ?_
        obtain ⟨v9, hv9, h⟩ := bd1_some h
        refine r_int (run_s (As := [.int x2, .int (0 : Int32), .int (2 : Int32)]) (rest := []) C (mX2_isIn hv9) q1656 q1657 q162 q1658 ⟨rfl, rfl⟩ hdX2_isIn ⟨Nat.le_of_ble_eq_true rfl, Nat.le_of_ble_eq_true rfl⟩ ⟨Nat.zero_le _, Nat.zero_le _⟩ rfl hl.1 rfl (Nat.le_of_ble_eq_true rfl) dX2_signed_133) ?_
        refine lv_if_eq (tgt := 150) hx hb dX2_signed_136 (by decide) (fun c => ?_) (fun c => ?_)
        · replace h := if_t c h
          refine lv_bipush (v := -2) hx hb dX2_signed_150 (by decide) ?_
          exact e_wi C hT hS h dX2_signed_152
        · replace h := if_f c h
          refine lv_aload_n hx hb dX2_signed_139 rfl (lv_at hl 1 rfl) ?_
          refine tg0 C hK hT dX2_signed_140 ?_
          refine lv_iload_n hx hb dX2_signed_143 rfl (lv_at hl 0 rfl) ?_
          refine lv_iload_n hx hb dX2_signed_144 rfl (lv_at hl 3 rfl) ?_
          refine lv_iadd hx hb dX2_signed_145 ?_
          obtain ⟨hi, h⟩ := ck_some h
          refine tl0 C hK hT hi dX2_signed_146 ?_
          refine lv_goto (tgt := 152) hx hb dX2_signed_147 (by decide) ?_
          exact e_wi C hT hS h dX2_signed_152
      · replace h := if_f c h
        refine lv_aload_n hx hb dX2_signed_62 rfl (lv_at hl 1 rfl) ?_
        refine tg0 C hK hT dX2_signed_63 ?_
        refine lv_iload_n hx hb dX2_signed_66 rfl (lv_at hl 0 rfl) ?_
        refine lv_iconst (v := 3) hx hb dX2_signed_67 (by decide) ?_
        refine lv_iadd hx hb dX2_signed_68 ?_
        refine lv_iload_n hx hb dX2_signed_69 rfl (lv_at hl 3 rfl) ?_
        refine lv_iadd hx hb dX2_signed_70 ?_
        refine lv_bipush (v := 10) hx hb dX2_signed_71 (by decide) ?_
        refine lv_isub hx hb dX2_signed_73 ?_
        obtain ⟨hi, h⟩ := ck_some h
        refine tl0 C hK hT hi dX2_signed_74 ?_
        exact e_wi C hT hS h dX2_signed_75
    · replace h := if_t c h
      refine lv_bipush (v := -2) hx hb dX2_signed_30 (by decide) ?_
      exact e_wi C hT hS h dX2_signed_32
  · replace h := if_t c h
    refine lv_aload_n hx hb dX2_signed_5 rfl (lv_at hl 0 rfl) ?_
    refine tg0 C hK hT dX2_signed_6 ?_
    refine lv_bipush (v := 10) hx hb dX2_signed_9 (by decide) ?_
    obtain ⟨hi, h⟩ := ck_some h
    refine tl0 C hK hT hi dX2_signed_11 ?_
    exact e_wi C hT hS h dX2_signed_12
theorem mX2_signed {l : Launch} {D : va_G} {dA : Nat → ClassId} {b : Nat} {t : TS} {x1 : Int32} {x2 : Int32} {r : Int32} {t9 : TS} (h : T_signed t x1 x2 = some (r, t9)) : Met l yX2_signed (ws_ yX2_signed cX2_signed 4 (some .int)) rmX2_signed (tPc D dA b t [.ref b, .int x1, .int x2]) (tQ D dA b t9 (some (.int r))) 0 0 (ta b) := en_R (by decide +kernel) rfl (Nat.le_of_ble_eq_true rfl) (fun p e s m below meth c ls C hK hT hl => bX2_signed C hK t x1 x2 _ [] hT tS.rf ls h hl)
set_option maxRecDepth 20000 in
abbrev rmX2_image : Room := { frames := 1, cells := 0, slots := 0, locals := 22 }
theorem hdX2_image : yX2_image.cls = RX2 ∧ yX2_image.cls ≠ "java/lang/invoke/MethodHandle" ∧ yX2_image.cls ≠ "java/lang/invoke/VarHandle" ∧ (parseMethodDescriptor yX2_image.desc).map (fun d => d.parameters.length) = some 0 := by decide +kernel
theorem bX2_image {p : Program} {l : Launch} {e : Env} {s : State} {m : MethodId} {args : Array Value} {below : List Frame} {meth : Method} {c : Code} {D : va_G} {dA : Nat → ClassId} {b : Nat} {r : Int32} {t9 : TS} (C : cx p s m args meth c cX2_image RX2 1 (some .int)) (hK : kk D dA s) : ∀ (t : TS) (H : Heap) (locs : List Loc) (hT : wd D (tw dA b t) H) (hS : tS b s.heap H locs) (ls : Array Slot), T_image t = some (r, t9) → lv_has ls 1 [(0, .ref b)] → W p l e rmX2_image s m args below meth c H locs 0 0 (MQ below (tQ D dA b t9 (some (.int r))) args s 0 0 (ta b)) (F0 m 0 ls []) := by
  obtain ⟨hx, hb, hr, hml, hown, hts, hlocks⟩ := id C
  intro t H locs hT hS ls h hl
  unfold T_image at h
  refine lv_aload_n hx hb dX2_image_0 rfl (lv_at hl 0 rfl) ?_
  refine tg0 C hK hT dX2_image_1 ?_
  refine lv_aload_n hx hb dX2_image_4 rfl (lv_at hl 0 rfl) ?_
  refine tg1 C hK hT dX2_image_5 ?_
  refine copy_0_1 C hK hT hS dX2_image_8 ⟨Nat.le_of_ble_eq_true rfl, Nat.le_of_ble_eq_true rfl⟩ ⟨Nat.zero_le _, Nat.zero_le _⟩ (Nat.le_of_ble_eq_true rfl) hl.1 (fun t1 H locs et1 hT hS => ?_)
  replace h := lt1_sub et1 h
  refine lv_aload_n hx hb dX2_image_11 rfl (lv_at hl 0 rfl) ?_
  refine tg0 C hK hT dX2_image_12 ?_
  refine lv_iconst (v := 2) hx hb dX2_image_15 (by decide) ?_
  obtain ⟨hi, h⟩ := ck_some h
  refine tl0 C hK hT hi dX2_image_16 ?_
  exact e_wi C hT hS h dX2_image_17
theorem mX2_image {l : Launch} {D : va_G} {dA : Nat → ClassId} {b : Nat} {t : TS} {r : Int32} {t9 : TS} (h : T_image t = some (r, t9)) : Met l yX2_image (ws_ yX2_image cX2_image 1 (some .int)) rmX2_image (tPc D dA b t [.ref b]) (tQ D dA b t9 (some (.int r))) 0 0 (ta b) := en_R (by decide +kernel) rfl (Nat.le_of_ble_eq_true rfl) (fun p e s m below meth c ls C hK hT hl => bX2_image C hK t _ [] hT tS.rf ls h hl)
set_option maxRecDepth 20000 in
abbrev rmX2_back : Room := { frames := 1, cells := 0, slots := 0, locals := 22 }
theorem hdX2_back : yX2_back.cls = RX2 ∧ yX2_back.cls ≠ "java/lang/invoke/MethodHandle" ∧ yX2_back.cls ≠ "java/lang/invoke/VarHandle" ∧ (parseMethodDescriptor yX2_back.desc).map (fun d => d.parameters.length) = some 0 := by decide +kernel
theorem bX2_back {p : Program} {l : Launch} {e : Env} {s : State} {m : MethodId} {args : Array Value} {below : List Frame} {meth : Method} {c : Code} {D : va_G} {dA : Nat → ClassId} {b : Nat} {r : Int32} {t9 : TS} (C : cx p s m args meth c cX2_back RX2 1 (some .int)) (hK : kk D dA s) : ∀ (t : TS) (H : Heap) (locs : List Loc) (hT : wd D (tw dA b t) H) (hS : tS b s.heap H locs) (ls : Array Slot), T_back t = some (r, t9) → lv_has ls 1 [(0, .ref b)] → W p l e rmX2_back s m args below meth c H locs 0 0 (MQ below (tQ D dA b t9 (some (.int r))) args s 0 0 (ta b)) (F0 m 0 ls []) := by
  obtain ⟨hx, hb, hr, hml, hown, hts, hlocks⟩ := id C
  intro t H locs hT hS ls h hl
  unfold T_back at h
  refine lv_aload_n hx hb dX2_back_0 rfl (lv_at hl 0 rfl) ?_
  refine tg1 C hK hT dX2_back_1 ?_
  refine lv_aload_n hx hb dX2_back_4 rfl (lv_at hl 0 rfl) ?_
  refine tg0 C hK hT dX2_back_5 ?_
  refine copy_1_0 C hK hT hS dX2_back_8 ⟨Nat.le_of_ble_eq_true rfl, Nat.le_of_ble_eq_true rfl⟩ ⟨Nat.zero_le _, Nat.zero_le _⟩ (Nat.le_of_ble_eq_true rfl) hl.1 (fun t1 H locs et1 hT hS => ?_)
  replace h := lt1_sub et1 h
  refine lv_aload_n hx hb dX2_back_11 rfl (lv_at hl 0 rfl) ?_
  refine tg0 C hK hT dX2_back_12 ?_
  refine lv_iconst (v := 2) hx hb dX2_back_15 (by decide) ?_
  obtain ⟨hi, h⟩ := ck_some h
  refine tl0 C hK hT hi dX2_back_16 ?_
  exact e_wi C hT hS h dX2_back_17
theorem mX2_back {l : Launch} {D : va_G} {dA : Nat → ClassId} {b : Nat} {t : TS} {r : Int32} {t9 : TS} (h : T_back t = some (r, t9)) : Met l yX2_back (ws_ yX2_back cX2_back 1 (some .int)) rmX2_back (tPc D dA b t [.ref b]) (tQ D dA b t9 (some (.int r))) 0 0 (ta b) := en_R (by decide +kernel) rfl (Nat.le_of_ble_eq_true rfl) (fun p e s m below meth c ls C hK hT hl => bX2_back C hK t _ [] hT tS.rf ls h hl)
set_option maxRecDepth 20000 in
abbrev rmX2_about : Room := { frames := 1, cells := 0, slots := 0, locals := 22 }
theorem hdX2_about : yX2_about.cls = RX2 ∧ yX2_about.cls ≠ "java/lang/invoke/MethodHandle" ∧ yX2_about.cls ≠ "java/lang/invoke/VarHandle" ∧ (parseMethodDescriptor yX2_about.desc).map (fun d => d.parameters.length) = some 1 := by decide +kernel
theorem bX2_about {p : Program} {l : Launch} {e : Env} {s : State} {m : MethodId} {args : Array Value} {below : List Frame} {meth : Method} {c : Code} {D : va_G} {dA : Nat → ClassId} {b : Nat} {t : TS} {r : Int32} (C : cx p s m args meth c cX2_about RX2 2 (some .int)) (hK : kk D dA s) (hT : wd D (tw dA b t) s.heap) : ∀ (x1 : Int32) (ls : Array Slot), T_about t x1 = some r → lv_has ls 2 [(0, .ref b), (1, .int x1)] → W p l e rmX2_about s m args below meth c s.heap [] 0 0 (MQ below (rQi r) args s 0 0 nof) (F0 m 0 ls []) := by
  obtain ⟨hx, hb, hr, hml, hown, hts, hlocks⟩ := id C
  intro x1 ls h hl
  unfold T_about at h
  refine lv_iload_n hx hb dX2_about_0 rfl (lv_at hl 1 rfl) ?_
  refine lv_iconst (v := 0) hx hb dX2_about_1 (by decide) ?_
  refine lv_bipush (v := 9) hx hb dX2_about_2 (by decide) ?_
  obtain ⟨v1, hv1, h⟩ := bd1_some h
  refine r_int (run_s (As := [.int x1, .int (0 : Int32), .int (9 : Int32)]) (rest := []) C (mX2_isIn hv1) q1656 q1657 q162 q1658 ⟨rfl, rfl⟩ hdX2_isIn ⟨Nat.le_of_ble_eq_true rfl, Nat.le_of_ble_eq_true rfl⟩ ⟨Nat.zero_le _, Nat.zero_le _⟩ rfl hl.1 rfl (Nat.le_of_ble_eq_true rfl) dX2_about_4) ?_
  refine lv_if_eq (tgt := 19) hx hb dX2_about_7 (by decide) (fun c => ?_) (fun c => ?_)
  · replace h := if_t c h
    refine lv_iload_n hx hb dX2_about_19 rfl (lv_at hl 1 rfl) ?_
    refine lv_bipush (v := 10) hx hb dX2_about_20 (by decide) ?_
    refine lv_icmp_ne (tgt := 32) hx hb dX2_about_22 (by decide) (fun c => ?_) (fun c => ?_)
    · replace h := if_f c h
      refine lv_iload_n hx hb dX2_about_32 rfl (lv_at hl 1 rfl) ?_
      refine lv_bipush (v := 11) hx hb dX2_about_33 (by decide) ?_
      refine lv_icmp_ne (tgt := 51) hx hb dX2_about_35 (by decide) (fun c => ?_) (fun c => ?_)
      · replace h := if_f c h
        refine lv_bipush (v := -2) hx hb dX2_about_51 (by decide) ?_
        exact e_ri C h dX2_about_53
      · replace h := if_t c h
        refine lv_aload_n hx hb dX2_about_38 rfl (lv_at hl 0 rfl) ?_
        refine tg0 C hK hT dX2_about_39 ?_
        refine lv_bipush (v := 7) hx hb dX2_about_42 (by decide) ?_
        obtain ⟨hi, h⟩ := ck_some h
        refine tl0 C hK hT hi dX2_about_44 ?_
        obtain ⟨v2, hv2, h⟩ := bd1_some h
        refine r_int (run_s (As := [.int (t.1 0 (7 : Int32).toNatClampNeg)]) (rest := []) C (mX2_bits hv2) q1902 q1903 q162 q1904 ⟨rfl, rfl⟩ hdX2_bits ⟨Nat.le_of_ble_eq_true rfl, Nat.le_of_ble_eq_true rfl⟩ ⟨Nat.zero_le _, Nat.zero_le _⟩ rfl hl.1 rfl (Nat.le_of_ble_eq_true rfl) dX2_about_45) ?_
        refine lv_goto (tgt := 53) hx hb dX2_about_48 (by decide) ?_
        exact e_ri C h dX2_about_53
    · replace h := if_t c h
      refine lv_aload_n hx hb dX2_about_25 rfl (lv_at hl 0 rfl) ?_
      refine tg8 C hK hT dX2_about_26 ?_
      refine lv_goto (tgt := 53) hx hb dX2_about_29 (by decide) ?_
      exact e_ri C h dX2_about_53
  · replace h := if_f c h
    refine lv_aload_n hx hb dX2_about_10 rfl (lv_at hl 0 rfl) ?_
    refine tg0 C hK hT dX2_about_11 ?_
    refine lv_iload_n hx hb dX2_about_14 rfl (lv_at hl 1 rfl) ?_
    obtain ⟨hi, h⟩ := ck_some h
    refine tl0 C hK hT hi dX2_about_15 ?_
    refine lv_goto (tgt := 53) hx hb dX2_about_16 (by decide) ?_
    exact e_ri C h dX2_about_53
theorem mX2_about {l : Launch} {D : va_G} {dA : Nat → ClassId} {b : Nat} {t : TS} {x1 : Int32} {r : Int32} (h : T_about t x1 = some r) : Met l yX2_about (ws_ yX2_about cX2_about 2 (some .int)) rmX2_about (tPc D dA b t [.ref b, .int x1]) (rQi r) 0 0 nof := en_R (by decide +kernel) rfl (Nat.le_of_ble_eq_true rfl) (fun p e s m below meth c ls C hK hT hl => bX2_about C hK hT x1 ls h hl)
