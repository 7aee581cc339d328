/-! the reference's walks, 1 (written by gen/gen_twin.py) -/
set_option maxRecDepth 20000
set_option maxRecDepth 20000 in
abbrev rmX2_beginOne : Room := { frames := 5, cells := 0, slots := 0, locals := 111 }
theorem hdX2_beginOne : yX2_beginOne.cls = RX2 ∧ yX2_beginOne.cls ≠ "java/lang/invoke/MethodHandle" ∧ yX2_beginOne.cls ≠ "java/lang/invoke/VarHandle" ∧ (parseMethodDescriptor yX2_beginOne.desc).map (fun d => d.parameters.length) = some 0 := by decide +kernel
theorem bX2_beginOne_106 {p : Program} {l : Launch} {e : Env} {s : State} {m : MethodId} {args : Array Value} {below : List Frame} {meth : Method} {c : Code} {D : va_G} {dA : Nat → ClassId} {b : Nat} {r : Int32} {t9 : TS} (C : cx p s m args meth c cX2_beginOne RX2 2 (some .int)) (hK : kk D dA s) : ∀ (t : TS) (y0 : Int32) (H : Heap) (locs : List Loc) (hT : wd D (tw dA b t) H) (hS : tS b s.heap H locs) (ls : Array Slot), T_beginOne_106 t y0 = some (r, t9) → lv_has ls 2 [(0, .ref b)] → W p l e rmX2_beginOne s m args below meth c H locs 0 0 (MQ below (tQ D dA b t9 (some (.int r))) args s 0 0 (ta b)) (F0 m 106 ls [.int y0]) := by
  obtain ⟨hx, hb, hr, hml, hown, hts, hlocks⟩ := id C
  intro t y0 H locs hT hS ls h hl
  unfold T_beginOne_106 at h
  refine lv_istore_n (lv' := [(1, .int y0), (0, .ref b)]) hx hb dX2_beginOne_106 rfl hl (by decide) rfl (fun ls hl => ?_)
  refine lv_iload_n hx hb dX2_beginOne_107 rfl (lv_at hl 0 rfl) ?_
  refine lv_if_ne (tgt := 113) hx hb dX2_beginOne_108 (by decide) (fun c => ?_) (fun c => ?_)
  · replace h := if_f c h
    refine lv_aload_n hx hb dX2_beginOne_113 rfl (lv_at hl 1 rfl) ?_
    refine tg22 C hK hT dX2_beginOne_114 ?_
    refine lv_bipush (v := 8) hx hb dX2_beginOne_117 (by decide) ?_
    refine lv_icmp_ne (tgt := 124) hx hb dX2_beginOne_119 (by decide) (fun c => ?_) (fun c => ?_)
    · replace h := if_f c h
      refine lv_aload_n hx hb dX2_beginOne_124 rfl (lv_at hl 1 rfl) ?_
      refine lv_dup hx hb dX2_beginOne_125 rfl ?_
      refine tg22 C hK hT dX2_beginOne_126 ?_
      refine lv_iconst (v := 1) hx hb dX2_beginOne_129 (by decide) ?_
      refine lv_iadd hx hb dX2_beginOne_130 ?_
      refine tp22 C hK hT hS dX2_beginOne_131 (fun t1 H locs et1 hT hS => ?_)
      replace h := lt1_sub et1 h
      refine lv_aload_n hx hb dX2_beginOne_134 rfl (lv_at hl 1 rfl) ?_
      refine lv_iload_n hx hb dX2_beginOne_135 rfl (lv_at hl 0 rfl) ?_
      obtain ⟨t2, ht2, h⟩ := bd1_some h
      refine w_void hS (run_t (As := [.int y0]) (rest := []) C hK hT (mX2_push ht2) q1825 q1827 qs98 q162 q1828 ⟨rfl, rfl⟩ hdX2_push ⟨Nat.le_of_ble_eq_true rfl, Nat.le_of_ble_eq_true rfl⟩ ⟨Nat.zero_le _, Nat.zero_le _⟩ rfl hl.1 rfl (Nat.le_of_ble_eq_true rfl) dX2_beginOne_136) (fun H locs hT hS => ?_)
      refine lv_aload_n hx hb dX2_beginOne_139 rfl (lv_at hl 1 rfl) ?_
      obtain ⟨t3, ht3, h⟩ := bd1_some h
      refine w_void hS (run_t (As := []) (rest := []) C hK hT (mX2_nextToken ht3) q1715 q1717 qs76 q162 q1718 ⟨rfl, rfl⟩ hdX2_nextToken ⟨Nat.le_of_ble_eq_true rfl, Nat.le_of_ble_eq_true rfl⟩ ⟨Nat.zero_le _, Nat.zero_le _⟩ rfl hl.1 rfl (Nat.le_of_ble_eq_true rfl) dX2_beginOne_140) (fun H locs hT hS => ?_)
      refine lv_iconst (v := 0) hx hb dX2_beginOne_143 (by decide) ?_
      exact e_wi C hT hS h dX2_beginOne_144
    · replace h := if_t c h
      refine lv_iconst (v := 3) hx hb dX2_beginOne_122 (by decide) ?_
      exact e_wi C hT hS h dX2_beginOne_123
  · replace h := if_t c h
    refine lv_iconst (v := 1) hx hb dX2_beginOne_111 (by decide) ?_
    exact e_wi C hT hS h dX2_beginOne_112
theorem bX2_beginOne {p : Program} {l : Launch} {e : Env} {s : State} {m : MethodId} {args : Array Value} {below : List Frame} {meth : Method} {c : Code} {D : va_G} {dA : Nat → ClassId} {b : Nat} {r : Int32} {t9 : TS} (C : cx p s m args meth c cX2_beginOne RX2 2 (some .int)) (hK : kk D dA s) : ∀ (t : TS) (H : Heap) (locs : List Loc) (hT : wd D (tw dA b t) H) (hS : tS b s.heap H locs) (ls : Array Slot), T_beginOne t = some (r, t9) → lv_has ls 2 [(0, .ref b)] → W p l e rmX2_beginOne s m args below meth c H locs 0 0 (MQ below (tQ D dA b t9 (some (.int r))) args s 0 0 (ta b)) (F0 m 0 ls []) := by
  obtain ⟨hx, hb, hr, hml, hown, hts, hlocks⟩ := id C
  intro t H locs hT hS ls h hl
  unfold T_beginOne at h
  refine lv_aload_n hx hb dX2_beginOne_0 rfl (lv_at hl 0 rfl) ?_
  refine tg13 C hK hT dX2_beginOne_1 ?_
  refine lv_iconst (v := 1) hx hb dX2_beginOne_4 (by decide) ?_
  refine lv_icmp_ne (tgt := 39) hx hb dX2_beginOne_5 (by decide) (fun c => ?_) (fun c => ?_)
  · replace h := if_f c h
    refine lv_aload_n hx hb dX2_beginOne_39 rfl (lv_at hl 0 rfl) ?_
    obtain ⟨v1, hv1, h⟩ := bd1_some h
    refine r_int (run_t (As := []) (rest := []) C hK hT (mX2_nameOf hv1) q1837 q1839 qs101 q162 q1840 ⟨rfl, rfl⟩ hdX2_nameOf ⟨Nat.le_of_ble_eq_true rfl, Nat.le_of_ble_eq_true rfl⟩ ⟨Nat.zero_le _, Nat.zero_le _⟩ rfl hl.1 rfl (Nat.le_of_ble_eq_true rfl) dX2_beginOne_40) ?_
    refine lv_if_lt (tgt := 78) hx hb dX2_beginOne_43 (by decide) (fun c => ?_) (fun c => ?_)
    · replace h := if_t c h
      refine lv_aload_n hx hb dX2_beginOne_78 rfl (lv_at hl 0 rfl) ?_
      refine tg13 C hK hT dX2_beginOne_79 ?_
      refine lv_bipush (v := 40) hx hb dX2_beginOne_82 (by decide) ?_
      refine lv_icmp_ne (tgt := 92) hx hb dX2_beginOne_84 (by decide) (fun c => ?_) (fun c => ?_)
      · replace h := if_f c h
        refine lv_aload_n hx hb dX2_beginOne_92 rfl (lv_at hl 0 rfl) ?_
        refine tg13 C hK hT dX2_beginOne_93 ?_
        refine lv_bipush (v := 45) hx hb dX2_beginOne_96 (by decide) ?_
        refine lv_icmp_ne (tgt := 105) hx hb dX2_beginOne_98 (by decide) (fun c => ?_) (fun c => ?_)
        · replace h := if_f c h
          refine lv_iconst (v := 0) hx hb dX2_beginOne_105 (by decide) ?_
          exact bX2_beginOne_106 C hK t (0 : Int32) H locs hT hS ls h (lv_sub hl [0] rfl)
        · replace h := if_t c h
          refine lv_iconst (v := 2) hx hb dX2_beginOne_101 (by decide) ?_
          refine lv_goto (tgt := 106) hx hb dX2_beginOne_102 (by decide) ?_
          exact bX2_beginOne_106 C hK t (2 : Int32) H locs hT hS ls h (lv_sub hl [0] rfl)
      · replace h := if_t c h
        refine lv_bipush (v := 40) hx hb dX2_beginOne_87 (by decide) ?_
        refine lv_goto (tgt := 106) hx hb dX2_beginOne_89 (by decide) ?_
        exact bX2_beginOne_106 C hK t (40 : Int32) H locs hT hS ls h (lv_sub hl [0] rfl)
    · replace h := if_f c h
      refine lv_aload_n hx hb dX2_beginOne_46 rfl (lv_at hl 0 rfl) ?_
      refine lv_aload_n hx hb dX2_beginOne_47 rfl (lv_at hl 0 rfl) ?_
      obtain ⟨v2, hv2, h⟩ := bd1_some h
      refine r_int (run_t (As := []) (rest := [.ref b]) C hK hT (mX2_nameOf hv2) q1837 q1839 qs101 q162 q1840 ⟨rfl, rfl⟩ hdX2_nameOf ⟨Nat.le_of_ble_eq_true rfl, Nat.le_of_ble_eq_true rfl⟩ ⟨Nat.zero_le _, Nat.zero_le _⟩ rfl hl.1 rfl (Nat.le_of_ble_eq_true rfl) dX2_beginOne_48) ?_
      obtain ⟨v3, hv3, h⟩ := bd1_some h
      refine r_int (run_t (As := [.int v2]) (rest := []) C hK hT (mX2_isBarred hv3) q1845 q1847 qs103 q162 q1848 ⟨rfl, rfl⟩ hdX2_isBarred ⟨Nat.le_of_ble_eq_true rfl, Nat.le_of_ble_eq_true rfl⟩ ⟨Nat.zero_le _, Nat.zero_le _⟩ rfl hl.1 rfl (Nat.le_of_ble_eq_true rfl) dX2_beginOne_51) ?_
      refine lv_if_eq (tgt := 59) hx hb dX2_beginOne_54 (by decide) (fun c => ?_) (fun c => ?_)
      · replace h := if_t c h
        refine lv_aload_n hx hb dX2_beginOne_59 rfl (lv_at hl 0 rfl) ?_
        refine lv_iconst (v := 1) hx hb dX2_beginOne_60 (by decide) ?_
        refine lv_aload_n hx hb dX2_beginOne_61 rfl (lv_at hl 0 rfl) ?_
        obtain ⟨v4, hv4, h⟩ := bd1_some h
        refine r_int (run_t (As := []) (rest := [.int (1 : Int32), .ref b]) C hK hT (mX2_nameOf hv4) q1837 q1839 qs101 q162 q1840 ⟨rfl, rfl⟩ hdX2_nameOf ⟨Nat.le_of_ble_eq_true rfl, Nat.le_of_ble_eq_true rfl⟩ ⟨Nat.zero_le _, Nat.zero_le _⟩ rfl hl.1 rfl (Nat.le_of_ble_eq_true rfl) dX2_beginOne_62) ?_
        obtain ⟨t5, ht5, h⟩ := bd1_some h
        refine w_void hS (run_t (As := [.int (1 : Int32), .int v4]) (rest := []) C hK hT (mX2_emit ht5) q1821 q1823 qs97 q162 q1824 ⟨rfl, rfl⟩ hdX2_emit ⟨Nat.le_of_ble_eq_true rfl, Nat.le_of_ble_eq_true rfl⟩ ⟨Nat.zero_le _, Nat.zero_le _⟩ rfl hl.1 rfl (Nat.le_of_ble_eq_true rfl) dX2_beginOne_65) (fun H locs hT hS => ?_)
        refine lv_aload_n hx hb dX2_beginOne_68 rfl (lv_at hl 0 rfl) ?_
        obtain ⟨t6, ht6, h⟩ := bd1_some h
        refine w_void hS (run_t (As := []) (rest := []) C hK hT (mX2_nextToken ht6) q1715 q1717 qs76 q162 q1718 ⟨rfl, rfl⟩ hdX2_nextToken ⟨Nat.le_of_ble_eq_true rfl, Nat.le_of_ble_eq_true rfl⟩ ⟨Nat.zero_le _, Nat.zero_le _⟩ rfl hl.1 rfl (Nat.le_of_ble_eq_true rfl) dX2_beginOne_69) (fun H locs hT hS => ?_)
        refine lv_aload_n hx hb dX2_beginOne_72 rfl (lv_at hl 0 rfl) ?_
        obtain ⟨t7, ht7, h⟩ := bd1_some h
        refine w_void hS (run_t (As := []) (rest := []) C hK hT (mX2_whole ht7) q1829 q1831 qs99 q162 q1832 ⟨rfl, rfl⟩ hdX2_whole ⟨Nat.le_of_ble_eq_true rfl, Nat.le_of_ble_eq_true rfl⟩ ⟨Nat.zero_le _, Nat.zero_le _⟩ rfl hl.1 rfl (Nat.le_of_ble_eq_true rfl) dX2_beginOne_73) (fun H locs hT hS => ?_)
        refine lv_iconst (v := 0) hx hb dX2_beginOne_76 (by decide) ?_
        exact e_wi C hT hS h dX2_beginOne_77
      · replace h := if_f c h
        refine lv_iconst (v := 5) hx hb dX2_beginOne_57 (by decide) ?_
        exact e_wi C hT hS h dX2_beginOne_58
  · replace h := if_t c h
    refine lv_aload_n hx hb dX2_beginOne_8 rfl (lv_at hl 0 rfl) ?_
    refine tg14 C hK hT dX2_beginOne_9 ?_
    refine lv_sipush (v := 9999) hx hb dX2_beginOne_12 (by decide) ?_
    refine lv_icmp_le (tgt := 20) hx hb dX2_beginOne_15 (by decide) (fun c => ?_) (fun c => ?_)
    · replace h := if_t c h
      refine lv_aload_n hx hb dX2_beginOne_20 rfl (lv_at hl 0 rfl) ?_
      refine lv_iconst (v := 0) hx hb dX2_beginOne_21 (by decide) ?_
      refine lv_aload_n hx hb dX2_beginOne_22 rfl (lv_at hl 0 rfl) ?_
      refine tg14 C hK hT dX2_beginOne_23 ?_
      obtain ⟨t8, ht8, h⟩ := bd1_some h
      refine w_void hS (run_t (As := [.int (0 : Int32), .int (t.1 14 0)]) (rest := []) C hK hT (mX2_emit ht8) q1821 q1823 qs97 q162 q1824 ⟨rfl, rfl⟩ hdX2_emit ⟨Nat.le_of_ble_eq_true rfl, Nat.le_of_ble_eq_true rfl⟩ ⟨Nat.zero_le _, Nat.zero_le _⟩ rfl hl.1 rfl (Nat.le_of_ble_eq_true rfl) dX2_beginOne_26) (fun H locs hT hS => ?_)
      refine lv_aload_n hx hb dX2_beginOne_29 rfl (lv_at hl 0 rfl) ?_
      obtain ⟨t9, ht9, h⟩ := bd1_some h
      refine w_void hS (run_t (As := []) (rest := []) C hK hT (mX2_nextToken ht9) q1715 q1717 qs76 q162 q1718 ⟨rfl, rfl⟩ hdX2_nextToken ⟨Nat.le_of_ble_eq_true rfl, Nat.le_of_ble_eq_true rfl⟩ ⟨Nat.zero_le _, Nat.zero_le _⟩ rfl hl.1 rfl (Nat.le_of_ble_eq_true rfl) dX2_beginOne_30) (fun H locs hT hS => ?_)
      refine lv_aload_n hx hb dX2_beginOne_33 rfl (lv_at hl 0 rfl) ?_
      obtain ⟨t10, ht10, h⟩ := bd1_some h
      refine w_void hS (run_t (As := []) (rest := []) C hK hT (mX2_whole ht10) q1829 q1831 qs99 q162 q1832 ⟨rfl, rfl⟩ hdX2_whole ⟨Nat.le_of_ble_eq_true rfl, Nat.le_of_ble_eq_true rfl⟩ ⟨Nat.zero_le _, Nat.zero_le _⟩ rfl hl.1 rfl (Nat.le_of_ble_eq_true rfl) dX2_beginOne_34) (fun H locs hT hS => ?_)
      refine lv_iconst (v := 0) hx hb dX2_beginOne_37 (by decide) ?_
      exact e_wi C hT hS h dX2_beginOne_38
    · replace h := if_f c h
      refine lv_iconst (v := 2) hx hb dX2_beginOne_18 (by decide) ?_
      exact e_wi C hT hS h dX2_beginOne_19
theorem mX2_beginOne {l : Launch} {D : va_G} {dA : Nat → ClassId} {b : Nat} {t : TS} {r : Int32} {t9 : TS} (h : T_beginOne t = some (r, t9)) : Met l yX2_beginOne (ws_ yX2_beginOne cX2_beginOne 2 (some .int)) rmX2_beginOne (tPc D dA b t [.ref b]) (tQ D dA b t9 (some (.int r))) 0 0 (ta b) := en_R (by decide +kernel) rfl (Nat.le_of_ble_eq_true rfl) (fun p e s m below meth c ls C hK hT hl => bX2_beginOne C hK t _ [] hT tS.rf ls h hl)
set_option maxRecDepth 20000 in
abbrev rmX2_settle : Room := { frames := 1, cells := 0, slots := 0, locals := 22 }
theorem hdX2_settle : yX2_settle.cls = RX2 ∧ yX2_settle.cls ≠ "java/lang/invoke/MethodHandle" ∧ yX2_settle.cls ≠ "java/lang/invoke/VarHandle" ∧ (parseMethodDescriptor yX2_settle.desc).map (fun d => d.parameters.length) = some 1 := by decide +kernel
theorem bX2_settle_0 {p : Program} {l : Launch} {e : Env} {s : State} {m : MethodId} {args : Array Value} {below : List Frame} {meth : Method} {c : Code} {D : va_G} {dA : Nat → ClassId} {b : Nat} {t9 : TS} (C : cx p s m args meth c cX2_settle RX2 2 none) (hK : kk D dA s) : ∀ (n : Nat), ∀ (t : TS) (x1 : Int32) (H : Heap) (locs : List Loc) (hT : wd D (tw dA b t) H) (hS : tS b s.heap H locs) (ls : Array Slot), T_settle_0 n t x1 = some t9 → lv_has ls 2 [(0, .ref b), (1, .int x1)] → W p l e rmX2_settle s m args below meth c H locs 0 0 (MQ below (tQ D dA b t9 none) args s 0 0 (ta b)) (F0 m 0 ls []) := by
  obtain ⟨hx, hb, hr, hml, hown, hts, hlocks⟩ := id C
  intro n
  induction n with
  | zero =>
    intro t x1 H locs hT hS ls h hl
    have h : none = some _ := h
    cases h
  | succ n ih =>
    intro t x1 H locs hT hS ls h hl
    rw [T_settle_0] at h
    refine lv_aload_n hx hb dX2_settle_0 rfl (lv_at hl 0 rfl) ?_
    refine tg21 C hK hT dX2_settle_1 ?_
    refine lv_if_le (tgt := 65) hx hb dX2_settle_4 (by decide) (fun c => ?_) (fun c => ?_)
    · replace h := if_t c h
      exact e_wv C hT hS h dX2_settle_65
    · replace h := if_f c h
      refine lv_aload_n hx hb dX2_settle_7 rfl (lv_at hl 0 rfl) ?_
      refine tg20 C hK hT dX2_settle_8 ?_
      refine lv_aload_n hx hb dX2_settle_11 rfl (lv_at hl 0 rfl) ?_
      refine tg21 C hK hT dX2_settle_12 ?_
      refine lv_iconst (v := 1) hx hb dX2_settle_15 (by decide) ?_
      refine lv_isub hx hb dX2_settle_16 ?_
      obtain ⟨hi, h⟩ := ck_some h
      refine tl20 C hK hT hi dX2_settle_17 ?_
      refine lv_bipush (v := 40) hx hb dX2_settle_18 (by decide) ?_
      refine lv_icmp_ge (tgt := 65) hx hb dX2_settle_20 (by decide) (fun c => ?_) (fun c => ?_)
      · replace h := if_t c h
        exact e_wv C hT hS h dX2_settle_65
      · replace h := if_f c h
        refine lv_aload_n hx hb dX2_settle_23 rfl (lv_at hl 0 rfl) ?_
        refine tg20 C hK hT dX2_settle_24 ?_
        refine lv_aload_n hx hb dX2_settle_27 rfl (lv_at hl 0 rfl) ?_
        refine tg21 C hK hT dX2_settle_28 ?_
        refine lv_iconst (v := 1) hx hb dX2_settle_31 (by decide) ?_
        refine lv_isub hx hb dX2_settle_32 ?_
        obtain ⟨hi, h⟩ := ck_some h
        refine tl20 C hK hT hi dX2_settle_33 ?_
        refine lv_iload_n hx hb dX2_settle_34 rfl (lv_at hl 1 rfl) ?_
        refine lv_icmp_lt (tgt := 65) hx hb dX2_settle_35 (by decide) (fun c => ?_) (fun c => ?_)
        · replace h := if_t c h
          exact e_wv C hT hS h dX2_settle_65
        · replace h := if_f c h
          refine lv_aload_n hx hb dX2_settle_38 rfl (lv_at hl 0 rfl) ?_
          refine lv_dup hx hb dX2_settle_39 rfl ?_
          refine tg21 C hK hT dX2_settle_40 ?_
          refine lv_iconst (v := 1) hx hb dX2_settle_43 (by decide) ?_
          refine lv_isub hx hb dX2_settle_44 ?_
          refine tp21 C hK hT hS dX2_settle_45 (fun t1 H locs et1 hT hS => ?_)
          replace h := lt1_sub et1 h
          refine lv_aload_n hx hb dX2_settle_48 rfl (lv_at hl 0 rfl) ?_
          refine lv_aload_n hx hb dX2_settle_49 rfl (lv_at hl 0 rfl) ?_
          refine tg20 C hK hT dX2_settle_50 ?_
          refine lv_aload_n hx hb dX2_settle_53 rfl (lv_at hl 0 rfl) ?_
          refine tg21 C hK hT dX2_settle_54 ?_
          obtain ⟨hi, h⟩ := ck_some h
          refine tl20 C hK hT hi dX2_settle_57 ?_
          refine lv_iconst (v := 0) hx hb dX2_settle_58 (by decide) ?_
          obtain ⟨t2, ht2, h⟩ := bd1_some h
          refine w_void hS (run_t (As := [.int (t1.1 20 (t1.1 21 0).toNatClampNeg), .int (0 : Int32)]) (rest := []) C hK hT (mX2_emit ht2) q1821 q1823 qs97 q162 q1824 ⟨rfl, rfl⟩ hdX2_emit ⟨Nat.le_of_ble_eq_true rfl, Nat.le_of_ble_eq_true rfl⟩ ⟨Nat.zero_le _, Nat.zero_le _⟩ rfl hl.1 rfl (Nat.le_of_ble_eq_true rfl) dX2_settle_59) (fun H locs hT hS => ?_)
          refine lv_goto (tgt := 0) hx hb dX2_settle_62 (by decide) ?_
          exact ih t2 x1 H locs hT hS ls h (lv_sub hl [0, 1] rfl)
theorem bX2_settle {p : Program} {l : Launch} {e : Env} {s : State} {m : MethodId} {args : Array Value} {below : List Frame} {meth : Method} {c : Code} {D : va_G} {dA : Nat → ClassId} {b : Nat} {t9 : TS} (C : cx p s m args meth c cX2_settle RX2 2 none) (hK : kk D dA s) : ∀ (t : TS) (x1 : Int32) (H : Heap) (locs : List Loc) (hT : wd D (tw dA b t) H) (hS : tS b s.heap H locs) (ls : Array Slot), T_settle t x1 = some t9 → lv_has ls 2 [(0, .ref b), (1, .int x1)] → W p l e rmX2_settle s m args below meth c H locs 0 0 (MQ below (tQ D dA b t9 none) args s 0 0 (ta b)) (F0 m 0 ls []) := by
  obtain ⟨hx, hb, hr, hml, hown, hts, hlocks⟩ := id C
  intro t x1 H locs hT hS ls h hl
  unfold T_settle at h
  exact bX2_settle_0 C hK fu t x1 H locs hT hS ls h (lv_sub hl [0, 1] rfl)
theorem mX2_settle {l : Launch} {D : va_G} {dA : Nat → ClassId} {b : Nat} {t : TS} {x1 : Int32} {t9 : TS} (h : T_settle t x1 = some t9) : Met l yX2_settle (ws_ yX2_settle cX2_settle 2 none) rmX2_settle (tPc D dA b t [.ref b, .int x1]) (tQ D dA b t9 none) 0 0 (ta b) := en_R (by decide +kernel) rfl (Nat.le_of_ble_eq_true rfl) (fun p e s m below meth c ls C hK hT hl => bX2_settle C hK t x1 _ [] hT tS.rf ls h hl)
set_option maxRecDepth 20000 in
abbrev rmX2_behindOne : Room := { frames := 3, cells := 0, slots := 0, locals := 64 }
theorem hdX2_behindOne : yX2_behindOne.cls = RX2 ∧ yX2_behindOne.cls ≠ "java/lang/invoke/MethodHandle" ∧ yX2_behindOne.cls ≠ "java/lang/invoke/VarHandle" ∧ (parseMethodDescriptor yX2_behindOne.desc).map (fun d => d.parameters.length) = some 0 := by decide +kernel
theorem bX2_behindOne_115 {p : Program} {l : Launch} {e : Env} {s : State} {m : MethodId} {args : Array Value} {below : List Frame} {meth : Method} {c : Code} {D : va_G} {dA : Nat → ClassId} {b : Nat} {r : Int32} {t9 : TS} (C : cx p s m args meth c cX2_behindOne RX2 2 (some .int)) (hK : kk D dA s) : ∀ (t : TS) (H : Heap) (locs : List Loc) (hT : wd D (tw dA b t) H) (hS : tS b s.heap H locs) (ls : Array Slot), T_behindOne_115 t = some (r, t9) → lv_has ls 2 [(0, .ref b)] → W p l e rmX2_behindOne s m args below meth c H locs 0 0 (MQ below (tQ D dA b t9 (some (.int r))) args s 0 0 (ta b)) (F0 m 115 ls []) := by
  obtain ⟨hx, hb, hr, hml, hown, hts, hlocks⟩ := id C
  intro t H locs hT hS ls h hl
  unfold T_behindOne_115 at h
  refine lv_aload_n hx hb dX2_behindOne_115 rfl (lv_at hl 0 rfl) ?_
  obtain ⟨t1, ht1, h⟩ := bd1_some h
  refine w_void hS (run_t (As := []) (rest := []) C hK hT (mX2_nextToken ht1) q1715 q1717 qs76 q162 q1718 ⟨rfl, rfl⟩ hdX2_nextToken ⟨Nat.le_of_ble_eq_true rfl, Nat.le_of_ble_eq_true rfl⟩ ⟨Nat.zero_le _, Nat.zero_le _⟩ rfl hl.1 rfl (Nat.le_of_ble_eq_true rfl) dX2_behindOne_116) (fun H locs hT hS => ?_)
  refine lv_iconst (v := 0) hx hb dX2_behindOne_119 (by decide) ?_
  exact e_wi C hT hS h dX2_behindOne_120
theorem bX2_behindOne_34 {p : Program} {l : Launch} {e : Env} {s : State} {m : MethodId} {args : Array Value} {below : List Frame} {meth : Method} {c : Code} {D : va_G} {dA : Nat → ClassId} {b : Nat} {r : Int32} {t9 : TS} (C : cx p s m args meth c cX2_behindOne RX2 2 (some .int)) (hK : kk D dA s) : ∀ (t : TS) (y1 : Int32) (H : Heap) (locs : List Loc) (hT : wd D (tw dA b t) H) (hS : tS b s.heap H locs) (ls : Array Slot), T_behindOne_34 t y1 = some (r, t9) → lv_has ls 2 [(0, .ref b)] → W p l e rmX2_behindOne s m args below meth c H locs 0 0 (MQ below (tQ D dA b t9 (some (.int r))) args s 0 0 (ta b)) (F0 m 34 ls [.int y1, .ref b]) := by
  obtain ⟨hx, hb, hr, hml, hown, hts, hlocks⟩ := id C
  intro t y1 H locs hT hS ls h hl
  unfold T_behindOne_34 at h
  obtain ⟨t1, ht1, h⟩ := bd1_some h
  refine w_void hS (run_t (As := [.int y1]) (rest := []) C hK hT (mX2_push ht1) q1825 q1827 qs98 q162 q1828 ⟨rfl, rfl⟩ hdX2_push ⟨Nat.le_of_ble_eq_true rfl, Nat.le_of_ble_eq_true rfl⟩ ⟨Nat.zero_le _, Nat.zero_le _⟩ rfl hl.1 rfl (Nat.le_of_ble_eq_true rfl) dX2_behindOne_34) (fun H locs hT hS => ?_)
  refine lv_aload_n hx hb dX2_behindOne_37 rfl (lv_at hl 0 rfl) ?_
  refine lv_iconst (v := 0) hx hb dX2_behindOne_38 (by decide) ?_
  refine tp23 C hK hT hS (Or.inl rfl) dX2_behindOne_39 (fun t2 H locs et2 hT hS => ?_)
  replace h := lt1_sub et2 h
  refine lv_goto (tgt := 115) hx hb dX2_behindOne_42 (by decide) ?_
  exact bX2_behindOne_115 C hK t2 H locs hT hS ls h (lv_sub hl [0] rfl)
theorem bX2_behindOne_17 {p : Program} {l : Launch} {e : Env} {s : State} {m : MethodId} {args : Array Value} {below : List Frame} {meth : Method} {c : Code} {D : va_G} {dA : Nat → ClassId} {b : Nat} {r : Int32} {t9 : TS} (C : cx p s m args meth c cX2_behindOne RX2 2 (some .int)) (hK : kk D dA s) : ∀ (t : TS) (x1 : Int32) (H : Heap) (locs : List Loc) (hT : wd D (tw dA b t) H) (hS : tS b s.heap H locs) (ls : Array Slot), T_behindOne_17 t x1 = some (r, t9) → lv_has ls 2 [(0, .ref b), (1, .int x1)] → W p l e rmX2_behindOne s m args below meth c H locs 0 0 (MQ below (tQ D dA b t9 (some (.int r))) args s 0 0 (ta b)) (F0 m 17 ls []) := by
  obtain ⟨hx, hb, hr, hml, hown, hts, hlocks⟩ := id C
  intro t x1 H locs hT hS ls h hl
  unfold T_behindOne_17 at h
  refine lv_aload_n hx hb dX2_behindOne_17 rfl (lv_at hl 0 rfl) ?_
  refine lv_iconst (v := 3) hx hb dX2_behindOne_18 (by decide) ?_
  obtain ⟨t1, ht1, h⟩ := bd1_some h
  refine w_void hS (run_t (As := [.int (3 : Int32)]) (rest := []) C hK hT (mX2_settle ht1) q1817 q1819 qs96 q162 q1820 ⟨rfl, rfl⟩ hdX2_settle ⟨Nat.le_of_ble_eq_true rfl, Nat.le_of_ble_eq_true rfl⟩ ⟨Nat.zero_le _, Nat.zero_le _⟩ rfl hl.1 rfl (Nat.le_of_ble_eq_true rfl) dX2_behindOne_19) (fun H locs hT hS => ?_)
  refine lv_aload_n hx hb dX2_behindOne_22 rfl (lv_at hl 0 rfl) ?_
  refine lv_iload_n hx hb dX2_behindOne_23 rfl (lv_at hl 1 rfl) ?_
  refine lv_bipush (v := 43) hx hb dX2_behindOne_24 (by decide) ?_
  refine lv_icmp_ne (tgt := 33) hx hb dX2_behindOne_26 (by decide) (fun c => ?_) (fun c => ?_)
  · replace h := if_f c h
    refine lv_iconst (v := 4) hx hb dX2_behindOne_33 (by decide) ?_
    exact bX2_behindOne_34 C hK t1 (4 : Int32) H locs hT hS ls h (lv_sub hl [0] rfl)
  · replace h := if_t c h
    refine lv_iconst (v := 3) hx hb dX2_behindOne_29 (by decide) ?_
    refine lv_goto (tgt := 34) hx hb dX2_behindOne_30 (by decide) ?_
    exact bX2_behindOne_34 C hK t1 (3 : Int32) H locs hT hS ls h (lv_sub hl [0] rfl)
theorem bX2_behindOne_75 {p : Program} {l : Launch} {e : Env} {s : State} {m : MethodId} {args : Array Value} {below : List Frame} {meth : Method} {c : Code} {D : va_G} {dA : Nat → ClassId} {b : Nat} {r : Int32} {t9 : TS} (C : cx p s m args meth c cX2_behindOne RX2 2 (some .int)) (hK : kk D dA s) : ∀ (t : TS) (y1 : Int32) (H : Heap) (locs : List Loc) (hT : wd D (tw dA b t) H) (hS : tS b s.heap H locs) (ls : Array Slot), T_behindOne_75 t y1 = some (r, t9) → lv_has ls 2 [(0, .ref b)] → W p l e rmX2_behindOne s m args below meth c H locs 0 0 (MQ below (tQ D dA b t9 (some (.int r))) args s 0 0 (ta b)) (F0 m 75 ls [.int y1, .ref b]) := by
  obtain ⟨hx, hb, hr, hml, hown, hts, hlocks⟩ := id C
  intro t y1 H locs hT hS ls h hl
  unfold T_behindOne_75 at h
  obtain ⟨t1, ht1, h⟩ := bd1_some h
  refine w_void hS (run_t (As := [.int y1]) (rest := []) C hK hT (mX2_push ht1) q1825 q1827 qs98 q162 q1828 ⟨rfl, rfl⟩ hdX2_push ⟨Nat.le_of_ble_eq_true rfl, Nat.le_of_ble_eq_true rfl⟩ ⟨Nat.zero_le _, Nat.zero_le _⟩ rfl hl.1 rfl (Nat.le_of_ble_eq_true rfl) dX2_behindOne_75) (fun H locs hT hS => ?_)
  refine lv_aload_n hx hb dX2_behindOne_78 rfl (lv_at hl 0 rfl) ?_
  refine lv_iconst (v := 0) hx hb dX2_behindOne_79 (by decide) ?_
  refine tp23 C hK hT hS (Or.inl rfl) dX2_behindOne_80 (fun t2 H locs et2 hT hS => ?_)
  replace h := lt1_sub et2 h
  refine lv_goto (tgt := 115) hx hb dX2_behindOne_83 (by decide) ?_
  exact bX2_behindOne_115 C hK t2 H locs hT hS ls h (lv_sub hl [0] rfl)
theorem bX2_behindOne_57 {p : Program} {l : Launch} {e : Env} {s : State} {m : MethodId} {args : Array Value} {below : List Frame} {meth : Method} {c : Code} {D : va_G} {dA : Nat → ClassId} {b : Nat} {r : Int32} {t9 : TS} (C : cx p s m args meth c cX2_behindOne RX2 2 (some .int)) (hK : kk D dA s) : ∀ (t : TS) (x1 : Int32) (H : Heap) (locs : List Loc) (hT : wd D (tw dA b t) H) (hS : tS b s.heap H locs) (ls : Array Slot), T_behindOne_57 t x1 = some (r, t9) → lv_has ls 2 [(0, .ref b), (1, .int x1)] → W p l e rmX2_behindOne s m args below meth c H locs 0 0 (MQ below (tQ D dA b t9 (some (.int r))) args s 0 0 (ta b)) (F0 m 57 ls []) := by
  obtain ⟨hx, hb, hr, hml, hown, hts, hlocks⟩ := id C
  intro t x1 H locs hT hS ls h hl
  unfold T_behindOne_57 at h
  refine lv_aload_n hx hb dX2_behindOne_57 rfl (lv_at hl 0 rfl) ?_
  refine lv_iconst (v := 5) hx hb dX2_behindOne_58 (by decide) ?_
  obtain ⟨t1, ht1, h⟩ := bd1_some h
  refine w_void hS (run_t (As := [.int (5 : Int32)]) (rest := []) C hK hT (mX2_settle ht1) q1817 q1819 qs96 q162 q1820 ⟨rfl, rfl⟩ hdX2_settle ⟨Nat.le_of_ble_eq_true rfl, Nat.le_of_ble_eq_true rfl⟩ ⟨Nat.zero_le _, Nat.zero_le _⟩ rfl hl.1 rfl (Nat.le_of_ble_eq_true rfl) dX2_behindOne_59) (fun H locs hT hS => ?_)
  refine lv_aload_n hx hb dX2_behindOne_62 rfl (lv_at hl 0 rfl) ?_
  refine lv_iload_n hx hb dX2_behindOne_63 rfl (lv_at hl 1 rfl) ?_
  refine lv_bipush (v := 42) hx hb dX2_behindOne_64 (by decide) ?_
  refine lv_icmp_ne (tgt := 73) hx hb dX2_behindOne_66 (by decide) (fun c => ?_) (fun c => ?_)
  · replace h := if_f c h
    refine lv_bipush (v := 6) hx hb dX2_behindOne_73 (by decide) ?_
    exact bX2_behindOne_75 C hK t1 (6 : Int32) H locs hT hS ls h (lv_sub hl [0] rfl)
  · replace h := if_t c h
    refine lv_iconst (v := 5) hx hb dX2_behindOne_69 (by decide) ?_
    refine lv_goto (tgt := 75) hx hb dX2_behindOne_70 (by decide) ?_
    exact bX2_behindOne_75 C hK t1 (5 : Int32) H locs hT hS ls h (lv_sub hl [0] rfl)
theorem bX2_behindOne {p : Program} {l : Launch} {e : Env} {s : State} {m : MethodId} {args : Array Value} {below : List Frame} {meth : Method} {c : Code} {D : va_G} {dA : Nat → ClassId} {b : Nat} {r : Int32} {t9 : TS} (C : cx p s m args meth c cX2_behindOne RX2 2 (some .int)) (hK : kk D dA s) : ∀ (t : TS) (H : Heap) (locs : List Loc) (hT : wd D (tw dA b t) H) (hS : tS b s.heap H locs) (ls : Array Slot), T_behindOne t = some (r, t9) → lv_has ls 2 [(0, .ref b)] → W p l e rmX2_behindOne s m args below meth c H locs 0 0 (MQ below (tQ D dA b t9 (some (.int r))) args s 0 0 (ta b)) (F0 m 0 ls []) := by
  obtain ⟨hx, hb, hr, hml, hown, hts, hlocks⟩ := id C
  intro t H locs hT hS ls h hl
  unfold T_behindOne at h
  refine lv_aload_n hx hb dX2_behindOne_0 rfl (lv_at hl 0 rfl) ?_
  refine tg13 C hK hT dX2_behindOne_1 ?_
  refine lv_topi (fun v1 ev1 => ?_)
  replace h := lt1_sub ev1 h
  refine lv_istore_n (lv' := [(1, .int v1), (0, .ref b)]) hx hb dX2_behindOne_4 rfl hl (by decide) rfl (fun ls hl => ?_)
  refine lv_iload_n hx hb dX2_behindOne_5 rfl (lv_at hl 0 rfl) ?_
  refine lv_bipush (v := 43) hx hb dX2_behindOne_6 (by decide) ?_
  refine lv_icmp_eq (tgt := 17) hx hb dX2_behindOne_8 (by decide) (fun c => ?_) (fun c => ?_)
  · replace h := if_t c h
    exact bX2_behindOne_17 C hK t v1 H locs hT hS ls h (lv_sub hl [1, 0] rfl)
  · replace h := if_f c h
    refine lv_iload_n hx hb dX2_behindOne_11 rfl (lv_at hl 0 rfl) ?_
    refine lv_bipush (v := 45) hx hb dX2_behindOne_12 (by decide) ?_
    refine lv_icmp_ne (tgt := 45) hx hb dX2_behindOne_14 (by decide) (fun c => ?_) (fun c => ?_)
    · replace h := if_f c h
      refine lv_iload_n hx hb dX2_behindOne_45 rfl (lv_at hl 0 rfl) ?_
      refine lv_bipush (v := 42) hx hb dX2_behindOne_46 (by decide) ?_
      refine lv_icmp_eq (tgt := 57) hx hb dX2_behindOne_48 (by decide) (fun c => ?_) (fun c => ?_)
      · replace h := if_t c h
        exact bX2_behindOne_57 C hK t v1 H locs hT hS ls h (lv_sub hl [1, 0] rfl)
      · replace h := if_f c h
        refine lv_iload_n hx hb dX2_behindOne_51 rfl (lv_at hl 0 rfl) ?_
        refine lv_bipush (v := 47) hx hb dX2_behindOne_52 (by decide) ?_
        refine lv_icmp_ne (tgt := 86) hx hb dX2_behindOne_54 (by decide) (fun c => ?_) (fun c => ?_)
        · replace h := if_f c h
          refine lv_aload_n hx hb dX2_behindOne_86 rfl (lv_at hl 1 rfl) ?_
          refine lv_iconst (v := 3) hx hb dX2_behindOne_87 (by decide) ?_
          obtain ⟨t2, ht2, h⟩ := bd1_some h
          refine w_void hS (run_t (As := [.int (3 : Int32)]) (rest := []) C hK hT (mX2_settle ht2) q1817 q1819 qs96 q162 q1820 ⟨rfl, rfl⟩ hdX2_settle ⟨Nat.le_of_ble_eq_true rfl, Nat.le_of_ble_eq_true rfl⟩ ⟨Nat.zero_le _, Nat.zero_le _⟩ rfl hl.1 rfl (Nat.le_of_ble_eq_true rfl) dX2_behindOne_88) (fun H locs hT hS => ?_)
          refine lv_aload_n hx hb dX2_behindOne_91 rfl (lv_at hl 1 rfl) ?_
          refine lv_dup hx hb dX2_behindOne_92 rfl ?_
          refine tg21 C hK hT dX2_behindOne_93 ?_
          refine lv_iconst (v := 1) hx hb dX2_behindOne_96 (by decide) ?_
          refine lv_isub hx hb dX2_behindOne_97 ?_
          refine tp21 C hK hT hS dX2_behindOne_98 (fun t3 H locs et3 hT hS => ?_)
          replace h := lt1_sub et3 h
          refine lv_aload_n hx hb dX2_behindOne_101 rfl (lv_at hl 1 rfl) ?_
          refine lv_dup hx hb dX2_behindOne_102 rfl ?_
          refine tg22 C hK hT dX2_behindOne_103 ?_
          refine lv_iconst (v := 1) hx hb dX2_behindOne_106 (by decide) ?_
          refine lv_isub hx hb dX2_behindOne_107 ?_
          refine tp22 C hK hT hS dX2_behindOne_108 (fun t4 H locs et4 hT hS => ?_)
          replace h := lt1_sub et4 h
          refine lv_aload_n hx hb dX2_behindOne_111 rfl (lv_at hl 1 rfl) ?_
          obtain ⟨t5, ht5, h⟩ := bd1_some h
          refine w_void hS (run_t (As := []) (rest := []) C hK hT (mX2_whole ht5) q1829 q1831 qs99 q162 q1832 ⟨rfl, rfl⟩ hdX2_whole ⟨Nat.le_of_ble_eq_true rfl, Nat.le_of_ble_eq_true rfl⟩ ⟨Nat.zero_le _, Nat.zero_le _⟩ rfl hl.1 rfl (Nat.le_of_ble_eq_true rfl) dX2_behindOne_112) (fun H locs hT hS => ?_)
          exact bX2_behindOne_115 C hK t5 H locs hT hS ls h (lv_sub hl [1] rfl)
        · replace h := if_t c h
          exact bX2_behindOne_57 C hK t v1 H locs hT hS ls h (lv_sub hl [1, 0] rfl)
    · replace h := if_t c h
      exact bX2_behindOne_17 C hK t v1 H locs hT hS ls h (lv_sub hl [1, 0] rfl)
theorem mX2_behindOne {l : Launch} {D : va_G} {dA : Nat → ClassId} {b : Nat} {t : TS} {r : Int32} {t9 : TS} (h : T_behindOne t = some (r, t9)) : Met l yX2_behindOne (ws_ yX2_behindOne cX2_behindOne 2 (some .int)) rmX2_behindOne (tPc D dA b t [.ref b]) (tQ D dA b t9 (some (.int r))) 0 0 (ta b) := en_R (by decide +kernel) rfl (Nat.le_of_ble_eq_true rfl) (fun p e s m below meth c ls C hK hT hl => bX2_behindOne C hK t _ [] hT tS.rf ls h hl)
set_option maxRecDepth 20000 in
abbrev rmX2_hasParen : Room := { frames := 0, cells := 0, slots := 0, locals := 0 }
theorem hdX2_hasParen : yX2_hasParen.cls = RX2 ∧ yX2_hasParen.cls ≠ "java/lang/invoke/MethodHandle" ∧ yX2_hasParen.cls ≠ "java/lang/invoke/VarHandle" ∧ (parseMethodDescriptor yX2_hasParen.desc).map (fun d => d.parameters.length) = some 0 := by decide +kernel
theorem bX2_hasParen_2 {p : Program} {l : Launch} {e : Env} {s : State} {m : MethodId} {args : Array Value} {below : List Frame} {meth : Method} {c : Code} {D : va_G} {dA : Nat → ClassId} {b : Nat} {t : TS} {r : Int32} (C : cx p s m args meth c cX2_hasParen RX2 2 (some .boolean)) (hK : kk D dA s) (hT : wd D (tw dA b t) s.heap) : ∀ (n : Nat), ∀ (x1 : Int32) (ls : Array Slot), T_hasParen_2 t n x1 = some r → lv_has ls 2 [(0, .ref b), (1, .int x1)] → W p l e rmX2_hasParen s m args below meth c s.heap [] 0 0 (MQ below (rQi r) args s 0 0 nof) (F0 m 2 ls []) := by
  obtain ⟨hx, hb, hr, hml, hown, hts, hlocks⟩ := id C
  intro n
  induction n with
  | zero =>
    intro x1 ls h hl
    have h : none = some _ := h
    cases h
  | succ n ih =>
    intro x1 ls h hl
    rw [T_hasParen_2] at h
    refine lv_iload_n hx hb dX2_hasParen_2 rfl (lv_at hl 1 rfl) ?_
    refine lv_aload_n hx hb dX2_hasParen_3 rfl (lv_at hl 0 rfl) ?_
    refine tg21 C hK hT dX2_hasParen_4 ?_
    refine lv_icmp_ge (tgt := 29) hx hb dX2_hasParen_7 (by decide) (fun c => ?_) (fun c => ?_)
    · replace h := if_t c h
      refine lv_iconst (v := 0) hx hb dX2_hasParen_29 (by decide) ?_
      exact e_rz C (Or.inl rfl) h dX2_hasParen_30
    · replace h := if_f c h
      refine lv_aload_n hx hb dX2_hasParen_10 rfl (lv_at hl 0 rfl) ?_
      refine tg20 C hK hT dX2_hasParen_11 ?_
      refine lv_iload_n hx hb dX2_hasParen_14 rfl (lv_at hl 1 rfl) ?_
      obtain ⟨hi, h⟩ := ck_some h
      refine tl20 C hK hT hi dX2_hasParen_15 ?_
      refine lv_bipush (v := 40) hx hb dX2_hasParen_16 (by decide) ?_
      refine lv_icmp_ne (tgt := 23) hx hb dX2_hasParen_18 (by decide) (fun c => ?_) (fun c => ?_)
      · replace h := if_f c h
        obtain ⟨v1, ev1⟩ : ∃ y : Int32, y = x1 + (1 : Int32) := ⟨_, rfl⟩
        replace h := lt1_sub ev1 h
        refine lv_iinc (v := v1) (lv' := [(1, .int v1), (0, .ref b)]) hx hb dX2_hasParen_23 hl (k := 1) rfl (by rw [ev1]; rfl) (by decide) rfl (fun ls hl => ?_)
        refine lv_goto (tgt := 2) hx hb dX2_hasParen_26 (by decide) ?_
        exact ih v1 ls h (lv_sub hl [1, 0] rfl)
      · replace h := if_t c h
        refine lv_iconst (v := 1) hx hb dX2_hasParen_21 (by decide) ?_
        exact e_rz C (Or.inr rfl) h dX2_hasParen_22
theorem bX2_hasParen {p : Program} {l : Launch} {e : Env} {s : State} {m : MethodId} {args : Array Value} {below : List Frame} {meth : Method} {c : Code} {D : va_G} {dA : Nat → ClassId} {b : Nat} {t : TS} {r : Int32} (C : cx p s m args meth c cX2_hasParen RX2 2 (some .boolean)) (hK : kk D dA s) (hT : wd D (tw dA b t) s.heap) : ∀ (ls : Array Slot), T_hasParen t = some r → lv_has ls 2 [(0, .ref b)] → W p l e rmX2_hasParen s m args below meth c s.heap [] 0 0 (MQ below (rQi r) args s 0 0 nof) (F0 m 0 ls []) := by
  obtain ⟨hx, hb, hr, hml, hown, hts, hlocks⟩ := id C
  intro ls h hl
  unfold T_hasParen at h
  refine lv_iconst (v := 0) hx hb dX2_hasParen_0 (by decide) ?_
  refine lv_istore_n (lv' := [(1, .int (0 : Int32)), (0, .ref b)]) hx hb dX2_hasParen_1 rfl hl (by decide) rfl (fun ls hl => ?_)
  exact bX2_hasParen_2 C hK hT fu (0 : Int32) ls h (lv_sub hl [1, 0] rfl)
theorem mX2_hasParen {l : Launch} {D : va_G} {dA : Nat → ClassId} {b : Nat} {t : TS} {r : Int32} (h : T_hasParen t = some r) : Met l yX2_hasParen (ws_ yX2_hasParen cX2_hasParen 2 (some .boolean)) rmX2_hasParen (tPc D dA b t [.ref b]) (rQi r) 0 0 nof := en_R (by decide +kernel) rfl (Nat.le_of_ble_eq_true rfl) (fun p e s m below meth c ls C hK hT hl => bX2_hasParen C hK hT ls h hl)
set_option maxRecDepth 20000 in
abbrev rmX2_goesOn : Room := { frames := 1, cells := 0, slots := 0, locals := 21 }
theorem hdX2_goesOn : yX2_goesOn.cls = RX2 ∧ yX2_goesOn.cls ≠ "java/lang/invoke/MethodHandle" ∧ yX2_goesOn.cls ≠ "java/lang/invoke/VarHandle" ∧ (parseMethodDescriptor yX2_goesOn.desc).map (fun d => d.parameters.length) = some 0 := by decide +kernel
theorem bX2_goesOn_52 {p : Program} {l : Launch} {e : Env} {s : State} {m : MethodId} {args : Array Value} {below : List Frame} {meth : Method} {c : Code} {D : va_G} {dA : Nat → ClassId} {b : Nat} {t : TS} {r : Int32} (C : cx p s m args meth c cX2_goesOn RX2 1 (some .boolean)) (hK : kk D dA s) (hT : wd D (tw dA b t) s.heap) : ∀ (ls : Array Slot), T_goesOn_52 t = some r → lv_has ls 1 [] → W p l e rmX2_goesOn s m args below meth c s.heap [] 0 0 (MQ below (rQi r) args s 0 0 nof) (F0 m 52 ls []) := by
  obtain ⟨hx, hb, hr, hml, hown, hts, hlocks⟩ := id C
  intro ls h hl
  unfold T_goesOn_52 at h
  refine lv_iconst (v := 1) hx hb dX2_goesOn_52 (by decide) ?_
  refine lv_goto (tgt := 57) hx hb dX2_goesOn_53 (by decide) ?_
  exact e_rz C (Or.inr rfl) h dX2_goesOn_57
theorem bX2_goesOn {p : Program} {l : Launch} {e : Env} {s : State} {m : MethodId} {args : Array Value} {below : List Frame} {meth : Method} {c : Code} {D : va_G} {dA : Nat → ClassId} {b : Nat} {t : TS} {r : Int32} (C : cx p s m args meth c cX2_goesOn RX2 1 (some .boolean)) (hK : kk D dA s) (hT : wd D (tw dA b t) s.heap) : ∀ (ls : Array Slot), T_goesOn t = some r → lv_has ls 1 [(0, .ref b)] → W p l e rmX2_goesOn s m args below meth c s.heap [] 0 0 (MQ below (rQi r) args s 0 0 nof) (F0 m 0 ls []) := by
  obtain ⟨hx, hb, hr, hml, hown, hts, hlocks⟩ := id C
  intro ls h hl
  unfold T_goesOn at h
  refine lv_aload_n hx hb dX2_goesOn_0 rfl (lv_at hl 0 rfl) ?_
  refine tg13 C hK hT dX2_goesOn_1 ?_
  refine lv_bipush (v := 43) hx hb dX2_goesOn_4 (by decide) ?_
  refine lv_icmp_eq (tgt := 52) hx hb dX2_goesOn_6 (by decide) (fun c => ?_) (fun c => ?_)
  · replace h := if_t c h
    exact bX2_goesOn_52 C hK hT  ls h (lv_sub hl [] rfl)
  · replace h := if_f c h
    refine lv_aload_n hx hb dX2_goesOn_9 rfl (lv_at hl 0 rfl) ?_
    refine tg13 C hK hT dX2_goesOn_10 ?_
    refine lv_bipush (v := 45) hx hb dX2_goesOn_13 (by decide) ?_
    refine lv_icmp_eq (tgt := 52) hx hb dX2_goesOn_15 (by decide) (fun c => ?_) (fun c => ?_)
    · replace h := if_t c h
      exact bX2_goesOn_52 C hK hT  ls h (lv_sub hl [] rfl)
    · replace h := if_f c h
      refine lv_aload_n hx hb dX2_goesOn_18 rfl (lv_at hl 0 rfl) ?_
      refine tg13 C hK hT dX2_goesOn_19 ?_
      refine lv_bipush (v := 42) hx hb dX2_goesOn_22 (by decide) ?_
      refine lv_icmp_eq (tgt := 52) hx hb dX2_goesOn_24 (by decide) (fun c => ?_) (fun c => ?_)
      · replace h := if_t c h
        exact bX2_goesOn_52 C hK hT  ls h (lv_sub hl [] rfl)
      · replace h := if_f c h
        refine lv_aload_n hx hb dX2_goesOn_27 rfl (lv_at hl 0 rfl) ?_
        refine tg13 C hK hT dX2_goesOn_28 ?_
        refine lv_bipush (v := 47) hx hb dX2_goesOn_31 (by decide) ?_
        refine lv_icmp_eq (tgt := 52) hx hb dX2_goesOn_33 (by decide) (fun c => ?_) (fun c => ?_)
        · replace h := if_t c h
          exact bX2_goesOn_52 C hK hT  ls h (lv_sub hl [] rfl)
        · replace h := if_f c h
          refine lv_aload_n hx hb dX2_goesOn_36 rfl (lv_at hl 0 rfl) ?_
          refine tg13 C hK hT dX2_goesOn_37 ?_
          refine lv_bipush (v := 41) hx hb dX2_goesOn_40 (by decide) ?_
          refine lv_icmp_ne (tgt := 56) hx hb dX2_goesOn_42 (by decide) (fun c => ?_) (fun c => ?_)
          · replace h := if_f c h
            refine lv_iconst (v := 0) hx hb dX2_goesOn_56 (by decide) ?_
            exact e_rz C (Or.inl rfl) h dX2_goesOn_57
          · replace h := if_t c h
            refine lv_aload_n hx hb dX2_goesOn_45 rfl (lv_at hl 0 rfl) ?_
            obtain ⟨v1, hv1, h⟩ := bd1_some h
            refine r_int (run_t (As := []) (rest := []) C hK hT (mX2_hasParen hv1) q1809 q1811 qs94 q162 q1812 ⟨rfl, rfl⟩ hdX2_hasParen ⟨Nat.le_of_ble_eq_true rfl, Nat.le_of_ble_eq_true rfl⟩ ⟨Nat.zero_le _, Nat.zero_le _⟩ rfl hl.1 rfl (Nat.le_of_ble_eq_true rfl) dX2_goesOn_46) ?_
            refine lv_if_eq (tgt := 56) hx hb dX2_goesOn_49 (by decide) (fun c => ?_) (fun c => ?_)
            · replace h := if_t c h
              refine lv_iconst (v := 0) hx hb dX2_goesOn_56 (by decide) ?_
              exact e_rz C (Or.inl rfl) h dX2_goesOn_57
            · replace h := if_f c h
              exact bX2_goesOn_52 C hK hT  ls h (lv_sub hl [] rfl)
theorem mX2_goesOn {l : Launch} {D : va_G} {dA : Nat → ClassId} {b : Nat} {t : TS} {r : Int32} (h : T_goesOn t = some r) : Met l yX2_goesOn (ws_ yX2_goesOn cX2_goesOn 1 (some .boolean)) rmX2_goesOn (tPc D dA b t [.ref b]) (rQi r) 0 0 nof := en_R (by decide +kernel) rfl (Nat.le_of_ble_eq_true rfl) (fun p e s m below meth c ls C hK hT hl => bX2_goesOn C hK hT ls h hl)
set_option maxRecDepth 20000 in
abbrev rmX2_summed : Room := { frames := 6, cells := 0, slots := 0, locals := 132 }
theorem hdX2_summed : yX2_summed.cls = RX2 ∧ yX2_summed.cls ≠ "java/lang/invoke/MethodHandle" ∧ yX2_summed.cls ≠ "java/lang/invoke/VarHandle" ∧ (parseMethodDescriptor yX2_summed.desc).map (fun d => d.parameters.length) = some 0 := by decide +kernel
theorem bX2_summed_42 {p : Program} {l : Launch} {e : Env} {s : State} {m : MethodId} {args : Array Value} {below : List Frame} {meth : Method} {c : Code} {D : va_G} {dA : Nat → ClassId} {b : Nat} {r : Int32} {t9 : TS} (C : cx p s m args meth c cX2_summed RX2 2 (some .int)) (hK : kk D dA s) {k10 : TS → Option (Int32 × TS)} (hk10 : ∀ (t : TS) (H : Heap) (locs : List Loc) (hT : wd D (tw dA b t) H) (hS : tS b s.heap H locs) (ls : Array Slot), k10 t = some (r, t9) → lv_has ls 2 [(0, .ref b)] → W p l e rmX2_summed s m args below meth c H locs 0 0 (MQ below (tQ D dA b t9 (some (.int r))) args s 0 0 (ta b)) (F0 m 10 ls [])) : ∀ (t : TS) (y0 : Int32) (H : Heap) (locs : List Loc) (hT : wd D (tw dA b t) H) (hS : tS b s.heap H locs) (ls : Array Slot), T_summed_42 k10 t y0 = some (r, t9) → lv_has ls 2 [(0, .ref b)] → W p l e rmX2_summed s m args below meth c H locs 0 0 (MQ below (tQ D dA b t9 (some (.int r))) args s 0 0 (ta b)) (F0 m 42 ls [.int y0]) := by
  obtain ⟨hx, hb, hr, hml, hown, hts, hlocks⟩ := id C
  intro t y0 H locs hT hS ls h hl
  unfold T_summed_42 at h
  refine lv_istore_n (lv' := [(1, .int y0), (0, .ref b)]) hx hb dX2_summed_42 rfl hl (by decide) rfl (fun ls hl => ?_)
  refine lv_iload_n hx hb dX2_summed_43 rfl (lv_at hl 0 rfl) ?_
  refine lv_if_eq (tgt := 49) hx hb dX2_summed_44 (by decide) (fun c => ?_) (fun c => ?_)
  · replace h := if_t c h
    refine lv_goto (tgt := 10) hx hb dX2_summed_49 (by decide) ?_
    exact hk10 t H locs hT hS ls h (lv_sub hl [1] rfl)
  · replace h := if_f c h
    refine lv_iload_n hx hb dX2_summed_47 rfl (lv_at hl 0 rfl) ?_
    exact e_wi C hT hS h dX2_summed_48
theorem bX2_summed_24 {p : Program} {l : Launch} {e : Env} {s : State} {m : MethodId} {args : Array Value} {below : List Frame} {meth : Method} {c : Code} {D : va_G} {dA : Nat → ClassId} {b : Nat} {r : Int32} {t9 : TS} (C : cx p s m args meth c cX2_summed RX2 2 (some .int)) (hK : kk D dA s) {k10 : TS → Option (Int32 × TS)} (hk10 : ∀ (t : TS) (H : Heap) (locs : List Loc) (hT : wd D (tw dA b t) H) (hS : tS b s.heap H locs) (ls : Array Slot), k10 t = some (r, t9) → lv_has ls 2 [(0, .ref b)] → W p l e rmX2_summed s m args below meth c H locs 0 0 (MQ below (tQ D dA b t9 (some (.int r))) args s 0 0 (ta b)) (F0 m 10 ls [])) : ∀ (t : TS) (H : Heap) (locs : List Loc) (hT : wd D (tw dA b t) H) (hS : tS b s.heap H locs) (ls : Array Slot), T_summed_24 k10 t = some (r, t9) → lv_has ls 2 [(0, .ref b)] → W p l e rmX2_summed s m args below meth c H locs 0 0 (MQ below (tQ D dA b t9 (some (.int r))) args s 0 0 (ta b)) (F0 m 24 ls []) := by
  obtain ⟨hx, hb, hr, hml, hown, hts, hlocks⟩ := id C
  intro t H locs hT hS ls h hl
  unfold T_summed_24 at h
  refine lv_aload_n hx hb dX2_summed_24 rfl (lv_at hl 0 rfl) ?_
  refine tg23 C hK hT dX2_summed_25 ?_
  refine lv_if_eq (tgt := 38) hx hb dX2_summed_28 (by decide) (fun c => ?_) (fun c => ?_)
  · replace h := if_t c h
    refine lv_aload_n hx hb dX2_summed_38 rfl (lv_at hl 0 rfl) ?_
    obtain ⟨v1, t2, ht2, h⟩ := bd2_some h
    refine w_int hS (run_t (As := []) (rest := []) C hK hT (mX2_beginOne ht2) q1833 q1835 qs100 q162 q1836 ⟨rfl, rfl⟩ hdX2_beginOne ⟨Nat.le_of_ble_eq_true rfl, Nat.le_of_ble_eq_true rfl⟩ ⟨Nat.zero_le _, Nat.zero_le _⟩ rfl hl.1 rfl (Nat.le_of_ble_eq_true rfl) dX2_summed_39) (fun H locs hT hS => ?_)
    exact bX2_summed_42 C hK hk10 t2 v1 H locs hT hS ls h (lv_sub hl [0] rfl)
  · replace h := if_f c h
    refine lv_aload_n hx hb dX2_summed_31 rfl (lv_at hl 0 rfl) ?_
    obtain ⟨v3, t4, ht4, h⟩ := bd2_some h
    refine w_int hS (run_t (As := []) (rest := []) C hK hT (mX2_behindOne ht4) q1813 q1815 qs95 q162 q1816 ⟨rfl, rfl⟩ hdX2_behindOne ⟨Nat.le_of_ble_eq_true rfl, Nat.le_of_ble_eq_true rfl⟩ ⟨Nat.zero_le _, Nat.zero_le _⟩ rfl hl.1 rfl (Nat.le_of_ble_eq_true rfl) dX2_summed_32) (fun H locs hT hS => ?_)
    refine lv_goto (tgt := 42) hx hb dX2_summed_35 (by decide) ?_
    exact bX2_summed_42 C hK hk10 t4 v3 H locs hT hS ls h (lv_sub hl [0] rfl)
theorem bX2_summed_10 {p : Program} {l : Launch} {e : Env} {s : State} {m : MethodId} {args : Array Value} {below : List Frame} {meth : Method} {c : Code} {D : va_G} {dA : Nat → ClassId} {b : Nat} {r : Int32} {t9 : TS} (C : cx p s m args meth c cX2_summed RX2 2 (some .int)) (hK : kk D dA s) : ∀ (n : Nat), ∀ (t : TS) (H : Heap) (locs : List Loc) (hT : wd D (tw dA b t) H) (hS : tS b s.heap H locs) (ls : Array Slot), T_summed_10 n t = some (r, t9) → lv_has ls 2 [(0, .ref b)] → W p l e rmX2_summed s m args below meth c H locs 0 0 (MQ below (tQ D dA b t9 (some (.int r))) args s 0 0 (ta b)) (F0 m 10 ls []) := by
  obtain ⟨hx, hb, hr, hml, hown, hts, hlocks⟩ := id C
  intro n
  induction n with
  | zero =>
    intro t H locs hT hS ls h hl
    have h : none = some _ := h
    cases h
  | succ n ih =>
    intro t H locs hT hS ls h hl
    rw [T_summed_10] at h
    refine lv_aload_n hx hb dX2_summed_10 rfl (lv_at hl 0 rfl) ?_
    refine tg23 C hK hT dX2_summed_11 ?_
    refine lv_if_eq (tgt := 24) hx hb dX2_summed_14 (by decide) (fun c => ?_) (fun c => ?_)
    · replace h := if_t c h
      exact bX2_summed_24 C hK ih t H locs hT hS ls h (lv_sub hl [0] rfl)
    · replace h := if_f c h
      refine lv_aload_n hx hb dX2_summed_17 rfl (lv_at hl 0 rfl) ?_
      obtain ⟨v1, hv1, h⟩ := bd1_some h
      refine r_int (run_t (As := []) (rest := []) C hK hT (mX2_goesOn hv1) q1805 q1807 qs93 q162 q1808 ⟨rfl, rfl⟩ hdX2_goesOn ⟨Nat.le_of_ble_eq_true rfl, Nat.le_of_ble_eq_true rfl⟩ ⟨Nat.zero_le _, Nat.zero_le _⟩ rfl hl.1 rfl (Nat.le_of_ble_eq_true rfl) dX2_summed_18) ?_
      refine lv_if_eq (tgt := 52) hx hb dX2_summed_21 (by decide) (fun c => ?_) (fun c => ?_)
      · replace h := if_t c h
        refine lv_aload_n hx hb dX2_summed_52 rfl (lv_at hl 0 rfl) ?_
        refine lv_iconst (v := 3) hx hb dX2_summed_53 (by decide) ?_
        obtain ⟨t2, ht2, h⟩ := bd1_some h
        refine w_void hS (run_t (As := [.int (3 : Int32)]) (rest := []) C hK hT (mX2_settle ht2) q1817 q1819 qs96 q162 q1820 ⟨rfl, rfl⟩ hdX2_settle ⟨Nat.le_of_ble_eq_true rfl, Nat.le_of_ble_eq_true rfl⟩ ⟨Nat.zero_le _, Nat.zero_le _⟩ rfl hl.1 rfl (Nat.le_of_ble_eq_true rfl) dX2_summed_54) (fun H locs hT hS => ?_)
        refine lv_aload_n hx hb dX2_summed_57 rfl (lv_at hl 0 rfl) ?_
        refine tg21 C hK hT dX2_summed_58 ?_
        refine lv_if_le (tgt := 68) hx hb dX2_summed_61 (by decide) (fun c => ?_) (fun c => ?_)
        · replace h := if_t c h
          refine lv_iconst (v := 0) hx hb dX2_summed_68 (by decide) ?_
          exact e_wi C hT hS h dX2_summed_69
        · replace h := if_f c h
          refine lv_iconst (v := 1) hx hb dX2_summed_64 (by decide) ?_
          refine lv_goto (tgt := 69) hx hb dX2_summed_65 (by decide) ?_
          exact e_wi C hT hS h dX2_summed_69
      · replace h := if_f c h
        exact bX2_summed_24 C hK ih t H locs hT hS ls h (lv_sub hl [0] rfl)
theorem bX2_summed {p : Program} {l : Launch} {e : Env} {s : State} {m : MethodId} {args : Array Value} {below : List Frame} {meth : Method} {c : Code} {D : va_G} {dA : Nat → ClassId} {b : Nat} {r : Int32} {t9 : TS} (C : cx p s m args meth c cX2_summed RX2 2 (some .int)) (hK : kk D dA s) : ∀ (t : TS) (H : Heap) (locs : List Loc) (hT : wd D (tw dA b t) H) (hS : tS b s.heap H locs) (ls : Array Slot), T_summed t = some (r, t9) → lv_has ls 2 [(0, .ref b)] → W p l e rmX2_summed s m args below meth c H locs 0 0 (MQ below (tQ D dA b t9 (some (.int r))) args s 0 0 (ta b)) (F0 m 0 ls []) := by
  obtain ⟨hx, hb, hr, hml, hown, hts, hlocks⟩ := id C
  intro t H locs hT hS ls h hl
  unfold T_summed at h
  refine lv_aload_n hx hb dX2_summed_0 rfl (lv_at hl 0 rfl) ?_
  refine lv_iconst (v := 0) hx hb dX2_summed_1 (by decide) ?_
  refine tp21 C hK hT hS dX2_summed_2 (fun t1 H locs et1 hT hS => ?_)
  replace h := lt1_sub et1 h
  refine lv_aload_n hx hb dX2_summed_5 rfl (lv_at hl 0 rfl) ?_
  refine lv_iconst (v := 0) hx hb dX2_summed_6 (by decide) ?_
  refine tp23 C hK hT hS (Or.inl rfl) dX2_summed_7 (fun t2 H locs et2 hT hS => ?_)
  replace h := lt1_sub et2 h
  exact bX2_summed_10 C hK fu t2 H locs hT hS ls h (lv_sub hl [0] rfl)
theorem mX2_summed {l : Launch} {D : va_G} {dA : Nat → ClassId} {b : Nat} {t : TS} {r : Int32} {t9 : TS} (h : T_summed t = some (r, t9)) : Met l yX2_summed (ws_ yX2_summed cX2_summed 2 (some .int)) rmX2_summed (tPc D dA b t [.ref b]) (tQ D dA b t9 (some (.int r))) 0 0 (ta b) := en_R (by decide +kernel) rfl (Nat.le_of_ble_eq_true rfl) (fun p e s m below meth c ls C hK hT hl => bX2_summed C hK t _ [] hT tS.rf ls h hl)
set_option maxRecDepth 20000 in
abbrev rmX2_asks : Room := { frames := 7, cells := 0, slots := 0, locals := 153 }
theorem hdX2_asks : yX2_asks.cls = RX2 ∧ yX2_asks.cls ≠ "java/lang/invoke/MethodHandle" ∧ yX2_asks.cls ≠ "java/lang/invoke/VarHandle" ∧ (parseMethodDescriptor yX2_asks.desc).map (fun d => d.parameters.length) = some 0 := by decide +kernel
theorem bX2_asks_105 {p : Program} {l : Launch} {e : Env} {s : State} {m : MethodId} {args : Array Value} {below : List Frame} {meth : Method} {c : Code} {D : va_G} {dA : Nat → ClassId} {b : Nat} {r : Int32} {t9 : TS} (C : cx p s m args meth c cX2_asks RX2 5 (some .int)) (hK : kk D dA s) : ∀ (n : Nat), ∀ (t : TS) (x1 : Int32) (x4 : Int32) (H : Heap) (locs : List Loc) (hT : wd D (tw dA b t) H) (hS : tS b s.heap H locs) (ls : Array Slot), T_asks_105 n t x1 x4 = some (r, t9) → lv_has ls 5 [(0, .ref b), (1, .int x1), (4, .int x4)] → W p l e rmX2_asks s m args below meth c H locs 0 0 (MQ below (tQ D dA b t9 (some (.int r))) args s 0 0 (ta b)) (F0 m 105 ls []) := by
  obtain ⟨hx, hb, hr, hml, hown, hts, hlocks⟩ := id C
  intro n
  induction n with
  | zero =>
    intro t x1 x4 H locs hT hS ls h hl
    have h : none = some _ := h
    cases h
  | succ n ih =>
    intro t x1 x4 H locs hT hS ls h hl
    rw [T_asks_105] at h
    refine lv_iload hx hb dX2_asks_105 (lv_at hl 2 rfl) ?_
    refine lv_iload_n hx hb dX2_asks_107 rfl (lv_at hl 1 rfl) ?_
    refine lv_icmp_ge (tgt := 124) hx hb dX2_asks_108 (by decide) (fun c => ?_) (fun c => ?_)
    · replace h := if_t c h
      refine lv_iconst (v := 0) hx hb dX2_asks_124 (by decide) ?_
      exact e_wi C hT hS h dX2_asks_125
    · replace h := if_f c h
      refine lv_aload_n hx hb dX2_asks_111 rfl (lv_at hl 0 rfl) ?_
      refine lv_bipush (v := 20) hx hb dX2_asks_112 (by decide) ?_
      refine lv_iconst (v := 0) hx hb dX2_asks_114 (by decide) ?_
      obtain ⟨t1, ht1, h⟩ := bd1_some h
      refine w_void hS (run_t (As := [.int (20 : Int32), .int (0 : Int32)]) (rest := []) C hK hT (mX2_emit ht1) q1821 q1823 qs97 q162 q1824 ⟨rfl, rfl⟩ hdX2_emit ⟨Nat.le_of_ble_eq_true rfl, Nat.le_of_ble_eq_true rfl⟩ ⟨Nat.zero_le _, Nat.zero_le _⟩ rfl hl.1 rfl (Nat.le_of_ble_eq_true rfl) dX2_asks_115) (fun H locs hT hS => ?_)
      obtain ⟨v2, ev2⟩ : ∃ y : Int32, y = x4 + (1 : Int32) := ⟨_, rfl⟩
      replace h := lt1_sub ev2 h
      refine lv_iinc (v := v2) (lv' := [(4, .int v2), (0, .ref b), (1, .int x1)]) hx hb dX2_asks_118 hl (k := 2) rfl (by rw [ev2]; rfl) (by decide) rfl (fun ls hl => ?_)
      refine lv_goto (tgt := 105) hx hb dX2_asks_121 (by decide) ?_
      exact ih t1 x1 v2 H locs hT hS ls h (lv_sub hl [1, 2, 0] rfl)
theorem bX2_asks_2 {p : Program} {l : Launch} {e : Env} {s : State} {m : MethodId} {args : Array Value} {below : List Frame} {meth : Method} {c : Code} {D : va_G} {dA : Nat → ClassId} {b : Nat} {r : Int32} {t9 : TS} (C : cx p s m args meth c cX2_asks RX2 5 (some .int)) (hK : kk D dA s) : ∀ (n : Nat), ∀ (t : TS) (x1 : Int32) (H : Heap) (locs : List Loc) (hT : wd D (tw dA b t) H) (hS : tS b s.heap H locs) (ls : Array Slot), T_asks_2 n t x1 = some (r, t9) → lv_has ls 5 [(0, .ref b), (1, .int x1)] → W p l e rmX2_asks s m args below meth c H locs 0 0 (MQ below (tQ D dA b t9 (some (.int r))) args s 0 0 (ta b)) (F0 m 2 ls []) := by
  obtain ⟨hx, hb, hr, hml, hown, hts, hlocks⟩ := id C
  intro n
  induction n with
  | zero =>
    intro t x1 H locs hT hS ls h hl
    have h : none = some _ := h
    cases h
  | succ n ih =>
    intro t x1 H locs hT hS ls h hl
    rw [T_asks_2] at h
    refine lv_aload_n hx hb dX2_asks_2 rfl (lv_at hl 0 rfl) ?_
    refine lv_bipush (v := 110) hx hb dX2_asks_3 (by decide) ?_
    refine lv_bipush (v := 111) hx hb dX2_asks_5 (by decide) ?_
    refine lv_bipush (v := 116) hx hb dX2_asks_7 (by decide) ?_
    obtain ⟨v1, hv1, h⟩ := bd1_some h
    refine r_long (run_s (As := [.int (110 : Int32), .int (111 : Int32), .int (116 : Int32)]) (rest := [.ref b]) C (mX2_w3 hv1) q1741 q1742 q162 q1743 ⟨rfl, rfl⟩ hdX2_w3 ⟨Nat.le_of_ble_eq_true rfl, Nat.le_of_ble_eq_true rfl⟩ ⟨Nat.zero_le _, Nat.zero_le _⟩ rfl hl.1 rfl (Nat.le_of_ble_eq_true rfl) dX2_asks_9) ?_
    obtain ⟨v2, hv2, h⟩ := bd1_some h
    refine r_int (run_t (As := [.long v1]) (rest := []) C hK hT (mX2_isWord hv2) q1744 q1746 qs80 q162 q1747 ⟨rfl, rfl⟩ hdX2_isWord ⟨Nat.le_of_ble_eq_true rfl, Nat.le_of_ble_eq_true rfl⟩ ⟨Nat.zero_le _, Nat.zero_le _⟩ rfl hl.1 rfl (Nat.le_of_ble_eq_true rfl) dX2_asks_12) ?_
    refine lv_if_eq (tgt := 49) hx hb dX2_asks_15 (by decide) (fun c => ?_) (fun c => ?_)
    · replace h := if_t c h
      refine lv_aload_n hx hb dX2_asks_49 rfl (lv_at hl 0 rfl) ?_
      obtain ⟨v3, t4, ht4, h⟩ := bd2_some h
      refine w_int hS (run_t (As := []) (rest := []) C hK hT (mX2_summed ht4) q1801 q1803 qs92 q162 q1804 ⟨rfl, rfl⟩ hdX2_summed ⟨Nat.le_of_ble_eq_true rfl, Nat.le_of_ble_eq_true rfl⟩ ⟨Nat.zero_le _, Nat.zero_le _⟩ rfl hl.1 rfl (Nat.le_of_ble_eq_true rfl) dX2_asks_50) (fun H locs hT hS => ?_)
      refine lv_istore_n (lv' := [(2, .int v3), (0, .ref b), (1, .int x1)]) hx hb dX2_asks_53 rfl hl (by decide) rfl (fun ls hl => ?_)
      refine lv_iload_n hx hb dX2_asks_54 rfl (lv_at hl 0 rfl) ?_
      refine lv_if_eq (tgt := 60) hx hb dX2_asks_55 (by decide) (fun c => ?_) (fun c => ?_)
      · replace h := if_t c h
        refine lv_aload_n hx hb dX2_asks_60 rfl (lv_at hl 1 rfl) ?_
        obtain ⟨v5, hv5, h⟩ := bd1_some h
        refine r_int (run_t (As := []) (rest := []) C hK hT (mX2_compareOf hv5) q1857 q1859 qs106 q162 q1860 ⟨rfl, rfl⟩ hdX2_compareOf ⟨Nat.le_of_ble_eq_true rfl, Nat.le_of_ble_eq_true rfl⟩ ⟨Nat.zero_le _, Nat.zero_le _⟩ rfl hl.1 rfl (Nat.le_of_ble_eq_true rfl) dX2_asks_61) ?_
        refine lv_istore_n (lv' := [(3, .int v5), (2, .int v3), (0, .ref b), (1, .int x1)]) hx hb dX2_asks_64 rfl hl (by decide) rfl (fun ls hl => ?_)
        refine lv_iload_n hx hb dX2_asks_65 rfl (lv_at hl 0 rfl) ?_
        refine lv_if_ge (tgt := 71) hx hb dX2_asks_66 (by decide) (fun c => ?_) (fun c => ?_)
        · replace h := if_t c h
          refine lv_aload_n hx hb dX2_asks_71 rfl (lv_at hl 2 rfl) ?_
          obtain ⟨t6, ht6, h⟩ := bd1_some h
          refine w_void hS (run_t (As := []) (rest := []) C hK hT (mX2_nextToken ht6) q1715 q1717 qs76 q162 q1718 ⟨rfl, rfl⟩ hdX2_nextToken ⟨Nat.le_of_ble_eq_true rfl, Nat.le_of_ble_eq_true rfl⟩ ⟨Nat.zero_le _, Nat.zero_le _⟩ rfl hl.1 rfl (Nat.le_of_ble_eq_true rfl) dX2_asks_72) (fun H locs hT hS => ?_)
          refine lv_aload_n hx hb dX2_asks_75 rfl (lv_at hl 2 rfl) ?_
          obtain ⟨v7, t8, ht8, h⟩ := bd2_some h
          refine w_int hS (run_t (As := []) (rest := []) C hK hT (mX2_summed ht8) q1801 q1803 qs92 q162 q1804 ⟨rfl, rfl⟩ hdX2_summed ⟨Nat.le_of_ble_eq_true rfl, Nat.le_of_ble_eq_true rfl⟩ ⟨Nat.zero_le _, Nat.zero_le _⟩ rfl hl.1 rfl (Nat.le_of_ble_eq_true rfl) dX2_asks_76) (fun H locs hT hS => ?_)
          refine lv_istore_n (lv' := [(2, .int v7), (3, .int v5), (0, .ref b), (1, .int x1)]) hx hb dX2_asks_79 rfl hl (by decide) rfl (fun ls hl => ?_)
          refine lv_iload_n hx hb dX2_asks_80 rfl (lv_at hl 0 rfl) ?_
          refine lv_if_eq (tgt := 86) hx hb dX2_asks_81 (by decide) (fun c => ?_) (fun c => ?_)
          · replace h := if_t c h
            refine lv_aload_n hx hb dX2_asks_86 rfl (lv_at hl 2 rfl) ?_
            refine lv_iload_n hx hb dX2_asks_87 rfl (lv_at hl 1 rfl) ?_
            refine lv_iconst (v := 0) hx hb dX2_asks_88 (by decide) ?_
            obtain ⟨t9, ht9, h⟩ := bd1_some h
            refine w_void hS (run_t (As := [.int v5, .int (0 : Int32)]) (rest := []) C hK hT (mX2_emit ht9) q1821 q1823 qs97 q162 q1824 ⟨rfl, rfl⟩ hdX2_emit ⟨Nat.le_of_ble_eq_true rfl, Nat.le_of_ble_eq_true rfl⟩ ⟨Nat.zero_le _, Nat.zero_le _⟩ rfl hl.1 rfl (Nat.le_of_ble_eq_true rfl) dX2_asks_89) (fun H locs hT hS => ?_)
            refine lv_aload_n hx hb dX2_asks_92 rfl (lv_at hl 2 rfl) ?_
            refine lv_dup hx hb dX2_asks_93 rfl ?_
            refine tg22 C hK hT dX2_asks_94 ?_
            refine lv_iload_n hx hb dX2_asks_97 rfl (lv_at hl 3 rfl) ?_
            refine lv_isub hx hb dX2_asks_98 ?_
            refine tp22 C hK hT hS dX2_asks_99 (fun t10 H locs et10 hT hS => ?_)
            replace h := lt1_sub et10 h
            refine lv_iconst (v := 0) hx hb dX2_asks_102 (by decide) ?_
            refine lv_istore (lv' := [(4, .int (0 : Int32)), (2, .int v7), (3, .int v5), (0, .ref b), (1, .int x1)]) hx hb dX2_asks_103 hl (by decide) rfl (fun ls hl => ?_)
            exact bX2_asks_105 C hK fu t10 x1 (0 : Int32) H locs hT hS ls h (lv_sub hl [3, 4, 0] rfl)
          · replace h := if_f c h
            refine lv_iload_n hx hb dX2_asks_84 rfl (lv_at hl 0 rfl) ?_
            exact e_wi C hT hS h dX2_asks_85
        · replace h := if_f c h
          refine lv_iconst (v := 1) hx hb dX2_asks_69 (by decide) ?_
          exact e_wi C hT hS h dX2_asks_70
      · replace h := if_f c h
        refine lv_iload_n hx hb dX2_asks_58 rfl (lv_at hl 0 rfl) ?_
        exact e_wi C hT hS h dX2_asks_59
    · replace h := if_f c h
      refine lv_aload_n hx hb dX2_asks_18 rfl (lv_at hl 0 rfl) ?_
      refine tg22 C hK hT dX2_asks_19 ?_
      refine lv_bipush (v := 8) hx hb dX2_asks_22 (by decide) ?_
      refine lv_icmp_ne (tgt := 29) hx hb dX2_asks_24 (by decide) (fun c => ?_) (fun c => ?_)
      · replace h := if_f c h
        refine lv_aload_n hx hb dX2_asks_29 rfl (lv_at hl 0 rfl) ?_
        refine lv_dup hx hb dX2_asks_30 rfl ?_
        refine tg22 C hK hT dX2_asks_31 ?_
        refine lv_iconst (v := 1) hx hb dX2_asks_34 (by decide) ?_
        refine lv_iadd hx hb dX2_asks_35 ?_
        refine tp22 C hK hT hS dX2_asks_36 (fun t11 H locs et11 hT hS => ?_)
        replace h := lt1_sub et11 h
        obtain ⟨v12, ev12⟩ : ∃ y : Int32, y = x1 + (1 : Int32) := ⟨_, rfl⟩
        replace h := lt1_sub ev12 h
        refine lv_iinc (v := v12) (lv' := [(1, .int v12), (0, .ref b)]) hx hb dX2_asks_39 hl (k := 1) rfl (by rw [ev12]; rfl) (by decide) rfl (fun ls hl => ?_)
        refine lv_aload_n hx hb dX2_asks_42 rfl (lv_at hl 1 rfl) ?_
        obtain ⟨t13, ht13, h⟩ := bd1_some h
        refine w_void hS (run_t (As := []) (rest := []) C hK hT (mX2_nextToken ht13) q1715 q1717 qs76 q162 q1718 ⟨rfl, rfl⟩ hdX2_nextToken ⟨Nat.le_of_ble_eq_true rfl, Nat.le_of_ble_eq_true rfl⟩ ⟨Nat.zero_le _, Nat.zero_le _⟩ rfl hl.1 rfl (Nat.le_of_ble_eq_true rfl) dX2_asks_43) (fun H locs hT hS => ?_)
        refine lv_goto (tgt := 2) hx hb dX2_asks_46 (by decide) ?_
        exact ih t13 v12 H locs hT hS ls h (lv_sub hl [1, 0] rfl)
      · replace h := if_t c h
        refine lv_iconst (v := 3) hx hb dX2_asks_27 (by decide) ?_
        exact e_wi C hT hS h dX2_asks_28
theorem bX2_asks {p : Program} {l : Launch} {e : Env} {s : State} {m : MethodId} {args : Array Value} {below : List Frame} {meth : Method} {c : Code} {D : va_G} {dA : Nat → ClassId} {b : Nat} {r : Int32} {t9 : TS} (C : cx p s m args meth c cX2_asks RX2 5 (some .int)) (hK : kk D dA s) : ∀ (t : TS) (H : Heap) (locs : List Loc) (hT : wd D (tw dA b t) H) (hS : tS b s.heap H locs) (ls : Array Slot), T_asks t = some (r, t9) → lv_has ls 5 [(0, .ref b)] → W p l e rmX2_asks s m args below meth c H locs 0 0 (MQ below (tQ D dA b t9 (some (.int r))) args s 0 0 (ta b)) (F0 m 0 ls []) := by
  obtain ⟨hx, hb, hr, hml, hown, hts, hlocks⟩ := id C
  intro t H locs hT hS ls h hl
  unfold T_asks at h
  refine lv_iconst (v := 0) hx hb dX2_asks_0 (by decide) ?_
  refine lv_istore_n (lv' := [(1, .int (0 : Int32)), (0, .ref b)]) hx hb dX2_asks_1 rfl hl (by decide) rfl (fun ls hl => ?_)
  exact bX2_asks_2 C hK fu t (0 : Int32) H locs hT hS ls h (lv_sub hl [1, 0] rfl)
theorem mX2_asks {l : Launch} {D : va_G} {dA : Nat → ClassId} {b : Nat} {t : TS} {r : Int32} {t9 : TS} (h : T_asks t = some (r, t9)) : Met l yX2_asks (ws_ yX2_asks cX2_asks 5 (some .int)) rmX2_asks (tPc D dA b t [.ref b]) (tQ D dA b t9 (some (.int r))) 0 0 (ta b) := en_R (by decide +kernel) rfl (Nat.le_of_ble_eq_true rfl) (fun p e s m below meth c ls C hK hT hl => bX2_asks C hK t _ [] hT tS.rf ls h hl)
set_option maxRecDepth 20000 in
abbrev rmX2_either : Room := { frames := 8, cells := 0, slots := 0, locals := 177 }
theorem hdX2_either : yX2_either.cls = RX2 ∧ yX2_either.cls ≠ "java/lang/invoke/MethodHandle" ∧ yX2_either.cls ≠ "java/lang/invoke/VarHandle" ∧ (parseMethodDescriptor yX2_either.desc).map (fun d => d.parameters.length) = some 0 := by decide +kernel
theorem bX2_either_116 {p : Program} {l : Launch} {e : Env} {s : State} {m : MethodId} {args : Array Value} {below : List Frame} {meth : Method} {c : Code} {D : va_G} {dA : Nat → ClassId} {b : Nat} {r : Int32} {t9 : TS} (C : cx p s m args meth c cX2_either RX2 6 (some .int)) (hK : kk D dA s) {k6 : TS → Int32 → Int32 → Int32 → Option (Int32 × TS)} (hk6 : ∀ (t : TS) (x1 : Int32) (x2 : Int32) (x3 : Int32) (H : Heap) (locs : List Loc) (hT : wd D (tw dA b t) H) (hS : tS b s.heap H locs) (ls : Array Slot), k6 t x1 x2 x3 = some (r, t9) → lv_has ls 6 [(0, .ref b), (1, .int x1), (2, .int x2), (3, .int x3)] → W p l e rmX2_either s m args below meth c H locs 0 0 (MQ below (tQ D dA b t9 (some (.int r))) args s 0 0 (ta b)) (F0 m 6 ls [])) : ∀ (t : TS) (x1 : Int32) (x2 : Int32) (x3 : Int32) (H : Heap) (locs : List Loc) (hT : wd D (tw dA b t) H) (hS : tS b s.heap H locs) (ls : Array Slot), T_either_116 k6 t x1 x2 x3 = some (r, t9) → lv_has ls 6 [(0, .ref b), (1, .int x1), (2, .int x2), (3, .int x3)] → W p l e rmX2_either s m args below meth c H locs 0 0 (MQ below (tQ D dA b t9 (some (.int r))) args s 0 0 (ta b)) (F0 m 116 ls []) := by
  obtain ⟨hx, hb, hr, hml, hown, hts, hlocks⟩ := id C
  intro t x1 x2 x3 H locs hT hS ls h hl
  unfold T_either_116 at h
  refine lv_goto (tgt := 6) hx hb dX2_either_116 (by decide) ?_
  exact hk6 t x1 x2 x3 H locs hT hS ls h (lv_sub hl [0, 1, 2, 3] rfl)
theorem bX2_either_107 {p : Program} {l : Launch} {e : Env} {s : State} {m : MethodId} {args : Array Value} {below : List Frame} {meth : Method} {c : Code} {D : va_G} {dA : Nat → ClassId} {b : Nat} {r : Int32} {t9 : TS} (C : cx p s m args meth c cX2_either RX2 6 (some .int)) (hK : kk D dA s) {k6 : TS → Int32 → Int32 → Int32 → Option (Int32 × TS)} (hk6 : ∀ (t : TS) (x1 : Int32) (x2 : Int32) (x3 : Int32) (H : Heap) (locs : List Loc) (hT : wd D (tw dA b t) H) (hS : tS b s.heap H locs) (ls : Array Slot), k6 t x1 x2 x3 = some (r, t9) → lv_has ls 6 [(0, .ref b), (1, .int x1), (2, .int x2), (3, .int x3)] → W p l e rmX2_either s m args below meth c H locs 0 0 (MQ below (tQ D dA b t9 (some (.int r))) args s 0 0 (ta b)) (F0 m 6 ls [])) : ∀ (t : TS) (x1 : Int32) (x2 : Int32) (y0 : Int32) (H : Heap) (locs : List Loc) (hT : wd D (tw dA b t) H) (hS : tS b s.heap H locs) (ls : Array Slot), T_either_107 k6 t x1 x2 y0 = some (r, t9) → lv_has ls 6 [(0, .ref b), (1, .int x1), (2, .int x2)] → W p l e rmX2_either s m args below meth c H locs 0 0 (MQ below (tQ D dA b t9 (some (.int r))) args s 0 0 (ta b)) (F0 m 107 ls [.int y0]) := by
  obtain ⟨hx, hb, hr, hml, hown, hts, hlocks⟩ := id C
  intro t x1 x2 y0 H locs hT hS ls h hl
  unfold T_either_107 at h
  refine lv_istore_n (lv' := [(3, .int y0), (0, .ref b), (1, .int x1), (2, .int x2)]) hx hb dX2_either_107 rfl hl (by decide) rfl (fun ls hl => ?_)
  refine lv_iload_n hx hb dX2_either_108 rfl (lv_at hl 0 rfl) ?_
  refine lv_if_eq (tgt := 116) hx hb dX2_either_109 (by decide) (fun c => ?_) (fun c => ?_)
  · replace h := if_t c h
    exact bX2_either_116 C hK hk6 t x1 x2 y0 H locs hT hS ls h (lv_sub hl [1, 2, 3, 0] rfl)
  · replace h := if_f c h
    refine lv_aload_n hx hb dX2_either_112 rfl (lv_at hl 1 rfl) ?_
    obtain ⟨t1, ht1, h⟩ := bd1_some h
    refine w_void hS (run_t (As := []) (rest := []) C hK hT (mX2_nextToken ht1) q1715 q1717 qs76 q162 q1718 ⟨rfl, rfl⟩ hdX2_nextToken ⟨Nat.le_of_ble_eq_true rfl, Nat.le_of_ble_eq_true rfl⟩ ⟨Nat.zero_le _, Nat.zero_le _⟩ rfl hl.1 rfl (Nat.le_of_ble_eq_true rfl) dX2_either_113) (fun H locs hT hS => ?_)
    exact bX2_either_116 C hK hk6 t1 x1 x2 y0 H locs hT hS ls h (lv_sub hl [1, 2, 3, 0] rfl)
theorem bX2_either_102 {p : Program} {l : Launch} {e : Env} {s : State} {m : MethodId} {args : Array Value} {below : List Frame} {meth : Method} {c : Code} {D : va_G} {dA : Nat → ClassId} {b : Nat} {r : Int32} {t9 : TS} (C : cx p s m args meth c cX2_either RX2 6 (some .int)) (hK : kk D dA s) {k6 : TS → Int32 → Int32 → Int32 → Option (Int32 × TS)} (hk6 : ∀ (t : TS) (x1 : Int32) (x2 : Int32) (x3 : Int32) (H : Heap) (locs : List Loc) (hT : wd D (tw dA b t) H) (hS : tS b s.heap H locs) (ls : Array Slot), k6 t x1 x2 x3 = some (r, t9) → lv_has ls 6 [(0, .ref b), (1, .int x1), (2, .int x2), (3, .int x3)] → W p l e rmX2_either s m args below meth c H locs 0 0 (MQ below (tQ D dA b t9 (some (.int r))) args s 0 0 (ta b)) (F0 m 6 ls [])) : ∀ (t : TS) (x1 : Int32) (x2 : Int32) (H : Heap) (locs : List Loc) (hT : wd D (tw dA b t) H) (hS : tS b s.heap H locs) (ls : Array Slot), T_either_102 k6 t x1 x2 = some (r, t9) → lv_has ls 6 [(0, .ref b), (1, .int x1), (2, .int x2)] → W p l e rmX2_either s m args below meth c H locs 0 0 (MQ below (tQ D dA b t9 (some (.int r))) args s 0 0 (ta b)) (F0 m 102 ls []) := by
  obtain ⟨hx, hb, hr, hml, hown, hts, hlocks⟩ := id C
  intro t x1 x2 H locs hT hS ls h hl
  unfold T_either_102 at h
  refine lv_iconst (v := 1) hx hb dX2_either_102 (by decide) ?_
  refine lv_goto (tgt := 107) hx hb dX2_either_103 (by decide) ?_
  exact bX2_either_107 C hK hk6 t x1 x2 (1 : Int32) H locs hT hS ls h (lv_sub hl [0, 1, 2] rfl)
theorem bX2_either_93 {p : Program} {l : Launch} {e : Env} {s : State} {m : MethodId} {args : Array Value} {below : List Frame} {meth : Method} {c : Code} {D : va_G} {dA : Nat → ClassId} {b : Nat} {r : Int32} {t9 : TS} (C : cx p s m args meth c cX2_either RX2 6 (some .int)) (hK : kk D dA s) {k6 : TS → Int32 → Int32 → Int32 → Option (Int32 × TS)} (hk6 : ∀ (t : TS) (x1 : Int32) (x2 : Int32) (x3 : Int32) (H : Heap) (locs : List Loc) (hT : wd D (tw dA b t) H) (hS : tS b s.heap H locs) (ls : Array Slot), k6 t x1 x2 x3 = some (r, t9) → lv_has ls 6 [(0, .ref b), (1, .int x1), (2, .int x2), (3, .int x3)] → W p l e rmX2_either s m args below meth c H locs 0 0 (MQ below (tQ D dA b t9 (some (.int r))) args s 0 0 (ta b)) (F0 m 6 ls [])) : ∀ (t : TS) (x1 : Int32) (x2 : Int32) (x5 : Int32) (H : Heap) (locs : List Loc) (hT : wd D (tw dA b t) H) (hS : tS b s.heap H locs) (ls : Array Slot), T_either_93 k6 t x1 x2 x5 = some (r, t9) → lv_has ls 6 [(0, .ref b), (1, .int x1), (2, .int x2), (5, .int x5)] → W p l e rmX2_either s m args below meth c H locs 0 0 (MQ below (tQ D dA b t9 (some (.int r))) args s 0 0 (ta b)) (F0 m 93 ls []) := by
  obtain ⟨hx, hb, hr, hml, hown, hts, hlocks⟩ := id C
  intro t x1 x2 x5 H locs hT hS ls h hl
  unfold T_either_93 at h
  refine lv_iload_n hx hb dX2_either_93 rfl (lv_at hl 1 rfl) ?_
  refine lv_if_ne (tgt := 102) hx hb dX2_either_94 (by decide) (fun c => ?_) (fun c => ?_)
  · replace h := if_f c h
    exact bX2_either_102 C hK hk6 t x1 x2 H locs hT hS ls h (lv_sub hl [0, 1, 2] rfl)
  · replace h := if_t c h
    refine lv_iload hx hb dX2_either_97 (lv_at hl 3 rfl) ?_
    refine lv_if_eq (tgt := 106) hx hb dX2_either_99 (by decide) (fun c => ?_) (fun c => ?_)
    · replace h := if_t c h
      refine lv_iconst (v := 0) hx hb dX2_either_106 (by decide) ?_
      exact bX2_either_107 C hK hk6 t x1 x2 (0 : Int32) H locs hT hS ls h (lv_sub hl [0, 1, 2] rfl)
    · replace h := if_f c h
      exact bX2_either_102 C hK hk6 t x1 x2 H locs hT hS ls h (lv_sub hl [0, 1, 2] rfl)
theorem bX2_either_90 {p : Program} {l : Launch} {e : Env} {s : State} {m : MethodId} {args : Array Value} {below : List Frame} {meth : Method} {c : Code} {D : va_G} {dA : Nat → ClassId} {b : Nat} {r : Int32} {t9 : TS} (C : cx p s m args meth c cX2_either RX2 6 (some .int)) (hK : kk D dA s) {k6 : TS → Int32 → Int32 → Int32 → Option (Int32 × TS)} (hk6 : ∀ (t : TS) (x1 : Int32) (x2 : Int32) (x3 : Int32) (H : Heap) (locs : List Loc) (hT : wd D (tw dA b t) H) (hS : tS b s.heap H locs) (ls : Array Slot), k6 t x1 x2 x3 = some (r, t9) → lv_has ls 6 [(0, .ref b), (1, .int x1), (2, .int x2), (3, .int x3)] → W p l e rmX2_either s m args below meth c H locs 0 0 (MQ below (tQ D dA b t9 (some (.int r))) args s 0 0 (ta b)) (F0 m 6 ls [])) : ∀ (t : TS) (x1 : Int32) (x5 : Int32) (H : Heap) (locs : List Loc) (hT : wd D (tw dA b t) H) (hS : tS b s.heap H locs) (ls : Array Slot), T_either_90 k6 t x1 x5 = some (r, t9) → lv_has ls 6 [(0, .ref b), (1, .int x1), (5, .int x5)] → W p l e rmX2_either s m args below meth c H locs 0 0 (MQ below (tQ D dA b t9 (some (.int r))) args s 0 0 (ta b)) (F0 m 90 ls []) := by
  obtain ⟨hx, hb, hr, hml, hown, hts, hlocks⟩ := id C
  intro t x1 x5 H locs hT hS ls h hl
  unfold T_either_90 at h
  refine lv_iload hx hb dX2_either_90 (lv_at hl 2 rfl) ?_
  refine lv_istore_n (lv' := [(2, .int x5), (0, .ref b), (1, .int x1), (5, .int x5)]) hx hb dX2_either_92 rfl hl (by decide) rfl (fun ls hl => ?_)
  exact bX2_either_93 C hK hk6 t x1 x5 x5 H locs hT hS ls h (lv_sub hl [1, 2, 0, 3] rfl)
theorem bX2_either_73 {p : Program} {l : Launch} {e : Env} {s : State} {m : MethodId} {args : Array Value} {below : List Frame} {meth : Method} {c : Code} {D : va_G} {dA : Nat → ClassId} {b : Nat} {r : Int32} {t9 : TS} (C : cx p s m args meth c cX2_either RX2 6 (some .int)) (hK : kk D dA s) {k6 : TS → Int32 → Int32 → Int32 → Option (Int32 × TS)} (hk6 : ∀ (t : TS) (x1 : Int32) (x2 : Int32) (x3 : Int32) (H : Heap) (locs : List Loc) (hT : wd D (tw dA b t) H) (hS : tS b s.heap H locs) (ls : Array Slot), k6 t x1 x2 x3 = some (r, t9) → lv_has ls 6 [(0, .ref b), (1, .int x1), (2, .int x2), (3, .int x3)] → W p l e rmX2_either s m args below meth c H locs 0 0 (MQ below (tQ D dA b t9 (some (.int r))) args s 0 0 (ta b)) (F0 m 6 ls [])) : ∀ (t : TS) (x1 : Int32) (x2 : Int32) (y0 : Int32) (H : Heap) (locs : List Loc) (hT : wd D (tw dA b t) H) (hS : tS b s.heap H locs) (ls : Array Slot), T_either_73 k6 t x1 x2 y0 = some (r, t9) → lv_has ls 6 [(0, .ref b), (1, .int x1), (2, .int x2)] → W p l e rmX2_either s m args below meth c H locs 0 0 (MQ below (tQ D dA b t9 (some (.int r))) args s 0 0 (ta b)) (F0 m 73 ls [.int y0]) := by
  obtain ⟨hx, hb, hr, hml, hown, hts, hlocks⟩ := id C
  intro t x1 x2 y0 H locs hT hS ls h hl
  unfold T_either_73 at h
  refine lv_istore (lv' := [(5, .int y0), (0, .ref b), (1, .int x1), (2, .int x2)]) hx hb dX2_either_73 hl (by decide) rfl (fun ls hl => ?_)
  refine lv_iload_n hx hb dX2_either_75 rfl (lv_at hl 2 rfl) ?_
  refine lv_if_ne (tgt := 93) hx hb dX2_either_76 (by decide) (fun c => ?_) (fun c => ?_)
  · replace h := if_f c h
    exact bX2_either_93 C hK hk6 t x1 x2 y0 H locs hT hS ls h (lv_sub hl [1, 2, 3, 0] rfl)
  · replace h := if_t c h
    refine lv_iload_n hx hb dX2_either_79 rfl (lv_at hl 3 rfl) ?_
    refine lv_if_eq (tgt := 90) hx hb dX2_either_80 (by decide) (fun c => ?_) (fun c => ?_)
    · replace h := if_t c h
      exact bX2_either_90 C hK hk6 t x1 y0 H locs hT hS ls h (lv_sub hl [1, 2, 0] rfl)
    · replace h := if_f c h
      refine lv_aload_n hx hb dX2_either_83 rfl (lv_at hl 1 rfl) ?_
      refine lv_bipush (v := 22) hx hb dX2_either_84 (by decide) ?_
      refine lv_iconst (v := 0) hx hb dX2_either_86 (by decide) ?_
      obtain ⟨t1, ht1, h⟩ := bd1_some h
      refine w_void hS (run_t (As := [.int (22 : Int32), .int (0 : Int32)]) (rest := []) C hK hT (mX2_emit ht1) q1821 q1823 qs97 q162 q1824 ⟨rfl, rfl⟩ hdX2_emit ⟨Nat.le_of_ble_eq_true rfl, Nat.le_of_ble_eq_true rfl⟩ ⟨Nat.zero_le _, Nat.zero_le _⟩ rfl hl.1 rfl (Nat.le_of_ble_eq_true rfl) dX2_either_87) (fun H locs hT hS => ?_)
      exact bX2_either_90 C hK hk6 t1 x1 y0 H locs hT hS ls h (lv_sub hl [1, 2, 0] rfl)
theorem bX2_either_72 {p : Program} {l : Launch} {e : Env} {s : State} {m : MethodId} {args : Array Value} {below : List Frame} {meth : Method} {c : Code} {D : va_G} {dA : Nat → ClassId} {b : Nat} {r : Int32} {t9 : TS} (C : cx p s m args meth c cX2_either RX2 6 (some .int)) (hK : kk D dA s) {k6 : TS → Int32 → Int32 → Int32 → Option (Int32 × TS)} (hk6 : ∀ (t : TS) (x1 : Int32) (x2 : Int32) (x3 : Int32) (H : Heap) (locs : List Loc) (hT : wd D (tw dA b t) H) (hS : tS b s.heap H locs) (ls : Array Slot), k6 t x1 x2 x3 = some (r, t9) → lv_has ls 6 [(0, .ref b), (1, .int x1), (2, .int x2), (3, .int x3)] → W p l e rmX2_either s m args below meth c H locs 0 0 (MQ below (tQ D dA b t9 (some (.int r))) args s 0 0 (ta b)) (F0 m 6 ls [])) : ∀ (t : TS) (x1 : Int32) (x2 : Int32) (H : Heap) (locs : List Loc) (hT : wd D (tw dA b t) H) (hS : tS b s.heap H locs) (ls : Array Slot), T_either_72 k6 t x1 x2 = some (r, t9) → lv_has ls 6 [(0, .ref b), (1, .int x1), (2, .int x2)] → W p l e rmX2_either s m args below meth c H locs 0 0 (MQ below (tQ D dA b t9 (some (.int r))) args s 0 0 (ta b)) (F0 m 72 ls []) := by
  obtain ⟨hx, hb, hr, hml, hown, hts, hlocks⟩ := id C
  intro t x1 x2 H locs hT hS ls h hl
  unfold T_either_72 at h
  refine lv_iconst (v := 0) hx hb dX2_either_72 (by decide) ?_
  exact bX2_either_73 C hK hk6 t x1 x2 (0 : Int32) H locs hT hS ls h (lv_sub hl [0, 1, 2] rfl)
theorem bX2_either_35 {p : Program} {l : Launch} {e : Env} {s : State} {m : MethodId} {args : Array Value} {below : List Frame} {meth : Method} {c : Code} {D : va_G} {dA : Nat → ClassId} {b : Nat} {r : Int32} {t9 : TS} (C : cx p s m args meth c cX2_either RX2 6 (some .int)) (hK : kk D dA s) {k6 : TS → Int32 → Int32 → Int32 → Option (Int32 × TS)} (hk6 : ∀ (t : TS) (x1 : Int32) (x2 : Int32) (x3 : Int32) (H : Heap) (locs : List Loc) (hT : wd D (tw dA b t) H) (hS : tS b s.heap H locs) (ls : Array Slot), k6 t x1 x2 x3 = some (r, t9) → lv_has ls 6 [(0, .ref b), (1, .int x1), (2, .int x2), (3, .int x3)] → W p l e rmX2_either s m args below meth c H locs 0 0 (MQ below (tQ D dA b t9 (some (.int r))) args s 0 0 (ta b)) (F0 m 6 ls [])) : ∀ (t : TS) (x2 : Int32) (H : Heap) (locs : List Loc) (hT : wd D (tw dA b t) H) (hS : tS b s.heap H locs) (ls : Array Slot), T_either_35 k6 t x2 = some (r, t9) → lv_has ls 6 [(0, .ref b), (2, .int x2)] → W p l e rmX2_either s m args below meth c H locs 0 0 (MQ below (tQ D dA b t9 (some (.int r))) args s 0 0 (ta b)) (F0 m 35 ls []) := by
  obtain ⟨hx, hb, hr, hml, hown, hts, hlocks⟩ := id C
  intro t x2 H locs hT hS ls h hl
  unfold T_either_35 at h
  refine lv_aload_n hx hb dX2_either_35 rfl (lv_at hl 0 rfl) ?_
  refine lv_bipush (v := 97) hx hb dX2_either_36 (by decide) ?_
  refine lv_bipush (v := 110) hx hb dX2_either_38 (by decide) ?_
  refine lv_bipush (v := 100) hx hb dX2_either_40 (by decide) ?_
  obtain ⟨v1, hv1, h⟩ := bd1_some h
  refine r_long (run_s (As := [.int (97 : Int32), .int (110 : Int32), .int (100 : Int32)]) (rest := [.ref b]) C (mX2_w3 hv1) q1741 q1742 q162 q1743 ⟨rfl, rfl⟩ hdX2_w3 ⟨Nat.le_of_ble_eq_true rfl, Nat.le_of_ble_eq_true rfl⟩ ⟨Nat.zero_le _, Nat.zero_le _⟩ rfl hl.1 rfl (Nat.le_of_ble_eq_true rfl) dX2_either_42) ?_
  obtain ⟨v2, hv2, h⟩ := bd1_some h
  refine r_int (run_t (As := [.long v1]) (rest := []) C hK hT (mX2_isWord hv2) q1744 q1746 qs80 q162 q1747 ⟨rfl, rfl⟩ hdX2_isWord ⟨Nat.le_of_ble_eq_true rfl, Nat.le_of_ble_eq_true rfl⟩ ⟨Nat.zero_le _, Nat.zero_le _⟩ rfl hl.1 rfl (Nat.le_of_ble_eq_true rfl) dX2_either_45) ?_
  refine lv_istore_n (lv' := [(1, .int v2), (0, .ref b), (2, .int x2)]) hx hb dX2_either_48 rfl hl (by decide) rfl (fun ls hl => ?_)
  refine lv_aload_n hx hb dX2_either_49 rfl (lv_at hl 1 rfl) ?_
  refine tg13 C hK hT dX2_either_50 ?_
  refine lv_iconst (v := 2) hx hb dX2_either_53 (by decide) ?_
  refine lv_icmp_ne (tgt := 72) hx hb dX2_either_54 (by decide) (fun c => ?_) (fun c => ?_)
  · replace h := if_f c h
    exact bX2_either_72 C hK hk6 t v2 x2 H locs hT hS ls h (lv_sub hl [1, 0, 2] rfl)
  · replace h := if_t c h
    refine lv_aload_n hx hb dX2_either_57 rfl (lv_at hl 1 rfl) ?_
    refine tg15 C hK hT dX2_either_58 ?_
    refine lv_ldc2 hx hb hown (hts _ q1861) dX2_either_61 ?_
    refine W.lcmp hx hb dX2_either_64 ?_
    refine lv_if_ne (tgt := 72) hx hb dX2_either_65 (by decide) (fun c => ?_) (fun c => ?_)
    · replace h := if_f c h
      exact bX2_either_72 C hK hk6 t v2 x2 H locs hT hS ls h (lv_sub hl [1, 0, 2] rfl)
    · replace h := if_t c h
      refine lv_iconst (v := 1) hx hb dX2_either_68 (by decide) ?_
      refine lv_goto (tgt := 73) hx hb dX2_either_69 (by decide) ?_
      exact bX2_either_73 C hK hk6 t v2 x2 (1 : Int32) H locs hT hS ls h (lv_sub hl [1, 0, 2] rfl)
theorem bX2_either_6 {p : Program} {l : Launch} {e : Env} {s : State} {m : MethodId} {args : Array Value} {below : List Frame} {meth : Method} {c : Code} {D : va_G} {dA : Nat → ClassId} {b : Nat} {r : Int32} {t9 : TS} (C : cx p s m args meth c cX2_either RX2 6 (some .int)) (hK : kk D dA s) : ∀ (n : Nat), ∀ (t : TS) (x1 : Int32) (x2 : Int32) (x3 : Int32) (H : Heap) (locs : List Loc) (hT : wd D (tw dA b t) H) (hS : tS b s.heap H locs) (ls : Array Slot), T_either_6 n t x1 x2 x3 = some (r, t9) → lv_has ls 6 [(0, .ref b), (1, .int x1), (2, .int x2), (3, .int x3)] → W p l e rmX2_either s m args below meth c H locs 0 0 (MQ below (tQ D dA b t9 (some (.int r))) args s 0 0 (ta b)) (F0 m 6 ls []) := by
  obtain ⟨hx, hb, hr, hml, hown, hts, hlocks⟩ := id C
  intro n
  induction n with
  | zero =>
    intro t x1 x2 x3 H locs hT hS ls h hl
    have h : none = some _ := h
    cases h
  | succ n ih =>
    intro t x1 x2 x3 H locs hT hS ls h hl
    rw [T_either_6] at h
    refine lv_iload_n hx hb dX2_either_6 rfl (lv_at hl 3 rfl) ?_
    refine lv_if_eq (tgt := 119) hx hb dX2_either_7 (by decide) (fun c => ?_) (fun c => ?_)
    · replace h := if_t c h
      refine lv_iconst (v := 0) hx hb dX2_either_119 (by decide) ?_
      exact e_wi C hT hS h dX2_either_120
    · replace h := if_f c h
      refine lv_aload_n hx hb dX2_either_10 rfl (lv_at hl 0 rfl) ?_
      obtain ⟨v1, t2, ht2, h⟩ := bd2_some h
      refine w_int hS (run_t (As := []) (rest := []) C hK hT (mX2_asks ht2) q1853 q1855 qs105 q162 q1856 ⟨rfl, rfl⟩ hdX2_asks ⟨Nat.le_of_ble_eq_true rfl, Nat.le_of_ble_eq_true rfl⟩ ⟨Nat.zero_le _, Nat.zero_le _⟩ rfl hl.1 rfl (Nat.le_of_ble_eq_true rfl) dX2_either_11) (fun H locs hT hS => ?_)
      refine lv_istore (lv' := [(4, .int v1), (0, .ref b), (1, .int x1), (2, .int x2), (3, .int x3)]) hx hb dX2_either_14 hl (by decide) rfl (fun ls hl => ?_)
      refine lv_iload hx hb dX2_either_16 (lv_at hl 0 rfl) ?_
      refine lv_if_eq (tgt := 24) hx hb dX2_either_18 (by decide) (fun c => ?_) (fun c => ?_)
      · replace h := if_t c h
        refine lv_iload_n hx hb dX2_either_24 rfl (lv_at hl 2 rfl) ?_
        refine lv_if_eq (tgt := 35) hx hb dX2_either_25 (by decide) (fun c => ?_) (fun c => ?_)
        · replace h := if_t c h
          exact bX2_either_35 C hK ih t2 x2 H locs hT hS ls h (lv_sub hl [1, 3] rfl)
        · replace h := if_f c h
          refine lv_aload_n hx hb dX2_either_28 rfl (lv_at hl 1 rfl) ?_
          refine lv_bipush (v := 21) hx hb dX2_either_29 (by decide) ?_
          refine lv_iconst (v := 0) hx hb dX2_either_31 (by decide) ?_
          obtain ⟨t3, ht3, h⟩ := bd1_some h
          refine w_void hS (run_t (As := [.int (21 : Int32), .int (0 : Int32)]) (rest := []) C hK hT (mX2_emit ht3) q1821 q1823 qs97 q162 q1824 ⟨rfl, rfl⟩ hdX2_emit ⟨Nat.le_of_ble_eq_true rfl, Nat.le_of_ble_eq_true rfl⟩ ⟨Nat.zero_le _, Nat.zero_le _⟩ rfl hl.1 rfl (Nat.le_of_ble_eq_true rfl) dX2_either_32) (fun H locs hT hS => ?_)
          exact bX2_either_35 C hK ih t3 x2 H locs hT hS ls h (lv_sub hl [1, 3] rfl)
      · replace h := if_f c h
        refine lv_iload hx hb dX2_either_21 (lv_at hl 0 rfl) ?_
        exact e_wi C hT hS h dX2_either_23
theorem bX2_either {p : Program} {l : Launch} {e : Env} {s : State} {m : MethodId} {args : Array Value} {below : List Frame} {meth : Method} {c : Code} {D : va_G} {dA : Nat → ClassId} {b : Nat} {r : Int32} {t9 : TS} (C : cx p s m args meth c cX2_either RX2 6 (some .int)) (hK : kk D dA s) : ∀ (t : TS) (H : Heap) (locs : List Loc) (hT : wd D (tw dA b t) H) (hS : tS b s.heap H locs) (ls : Array Slot), T_either t = some (r, t9) → lv_has ls 6 [(0, .ref b)] → W p l e rmX2_either s m args below meth c H locs 0 0 (MQ below (tQ D dA b t9 (some (.int r))) args s 0 0 (ta b)) (F0 m 0 ls []) := by
  obtain ⟨hx, hb, hr, hml, hown, hts, hlocks⟩ := id C
  intro t H locs hT hS ls h hl
  unfold T_either at h
  refine lv_iconst (v := 0) hx hb dX2_either_0 (by decide) ?_
  refine lv_istore_n (lv' := [(1, .int (0 : Int32)), (0, .ref b)]) hx hb dX2_either_1 rfl hl (by decide) rfl (fun ls hl => ?_)
  refine lv_iconst (v := 0) hx hb dX2_either_2 (by decide) ?_
  refine lv_istore_n (lv' := [(2, .int (0 : Int32)), (1, .int (0 : Int32)), (0, .ref b)]) hx hb dX2_either_3 rfl hl (by decide) rfl (fun ls hl => ?_)
  refine lv_iconst (v := 1) hx hb dX2_either_4 (by decide) ?_
  refine lv_istore_n (lv' := [(3, .int (1 : Int32)), (2, .int (0 : Int32)), (1, .int (0 : Int32)), (0, .ref b)]) hx hb dX2_either_5 rfl hl (by decide) rfl (fun ls hl => ?_)
  exact bX2_either_6 C hK fu t (0 : Int32) (0 : Int32) (1 : Int32) H locs hT hS ls h (lv_sub hl [3, 2, 1, 0] rfl)
theorem mX2_either {l : Launch} {D : va_G} {dA : Nat → ClassId} {b : Nat} {t : TS} {r : Int32} {t9 : TS} (h : T_either t = some (r, t9)) : Met l yX2_either (ws_ yX2_either cX2_either 6 (some .int)) rmX2_either (tPc D dA b t [.ref b]) (tQ D dA b t9 (some (.int r))) 0 0 (ta b) := en_R (by decide +kernel) rfl (Nat.le_of_ble_eq_true rfl) (fun p e s m below meth c ls C hK hT hl => bX2_either C hK t _ [] hT tS.rf ls h hl)
set_option maxRecDepth 20000 in
abbrev rmX2_lawClause : Room := { frames := 9, cells := 0, slots := 0, locals := 202 }
theorem hdX2_lawClause : yX2_lawClause.cls = RX2 ∧ yX2_lawClause.cls ≠ "java/lang/invoke/MethodHandle" ∧ yX2_lawClause.cls ≠ "java/lang/invoke/VarHandle" ∧ (parseMethodDescriptor yX2_lawClause.desc).map (fun d => d.parameters.length) = some 2 := by decide +kernel
theorem bX2_lawClause_28 {p : Program} {l : Launch} {e : Env} {s : State} {m : MethodId} {args : Array Value} {below : List Frame} {meth : Method} {c : Code} {D : va_G} {dA : Nat → ClassId} {b : Nat} {r : Int32} {t9 : TS} (C : cx p s m args meth c cX2_lawClause RX2 4 (some .int)) (hK : kk D dA s) : ∀ (t : TS) (x2 : Int32) (y0 : Int32) (H : Heap) (locs : List Loc) (hT : wd D (tw dA b t) H) (hS : tS b s.heap H locs) (ls : Array Slot), T_lawClause_28 t x2 y0 = some (r, t9) → lv_has ls 4 [(0, .ref b), (2, .int x2)] → W p l e rmX2_lawClause s m args below meth c H locs 0 0 (MQ below (tQ D dA b t9 (some (.int r))) args s 0 0 (ta b)) (F0 m 28 ls [.int y0]) := by
  obtain ⟨hx, hb, hr, hml, hown, hts, hlocks⟩ := id C
  intro t x2 y0 H locs hT hS ls h hl
  unfold T_lawClause_28 at h
  refine lv_istore_n (lv' := [(3, .int y0), (0, .ref b), (2, .int x2)]) hx hb dX2_lawClause_28 rfl hl (by decide) rfl (fun ls hl => ?_)
  refine lv_aload_n hx hb dX2_lawClause_29 rfl (lv_at hl 1 rfl) ?_
  refine tg2 C hK hT dX2_lawClause_30 ?_
  refine lv_iload_n hx hb dX2_lawClause_33 rfl (lv_at hl 2 rfl) ?_
  refine lv_iconst (v := 2) hx hb dX2_lawClause_34 (by decide) ?_
  refine lv_iadd hx hb dX2_lawClause_35 ?_
  refine lv_aload_n hx hb dX2_lawClause_36 rfl (lv_at hl 1 rfl) ?_
  refine tg18 C hK hT dX2_lawClause_37 ?_
  obtain ⟨hi, h⟩ := ck_some h
  refine ts2 C hK hT hS hi dX2_lawClause_40 (fun t1 H locs et1 hT hS => ?_)
  replace h := lt1_sub et1 h
  refine lv_iload_n hx hb dX2_lawClause_41 rfl (lv_at hl 0 rfl) ?_
  exact e_wi C hT hS h dX2_lawClause_42
theorem bX2_lawClause {p : Program} {l : Launch} {e : Env} {s : State} {m : MethodId} {args : Array Value} {below : List Frame} {meth : Method} {c : Code} {D : va_G} {dA : Nat → ClassId} {b : Nat} {r : Int32} {t9 : TS} (C : cx p s m args meth c cX2_lawClause RX2 4 (some .int)) (hK : kk D dA s) : ∀ (t : TS) (x1 : Int32) (x2 : Int32) (H : Heap) (locs : List Loc) (hT : wd D (tw dA b t) H) (hS : tS b s.heap H locs) (ls : Array Slot), T_lawClause t x1 x2 = some (r, t9) → lv_has ls 4 [(0, .ref b), (1, .int x1), (2, .int x2)] → W p l e rmX2_lawClause s m args below meth c H locs 0 0 (MQ below (tQ D dA b t9 (some (.int r))) args s 0 0 (ta b)) (F0 m 0 ls []) := by
  obtain ⟨hx, hb, hr, hml, hown, hts, hlocks⟩ := id C
  intro t x1 x2 H locs hT hS ls h hl
  unfold T_lawClause at h
  refine lv_aload_n hx hb dX2_lawClause_0 rfl (lv_at hl 0 rfl) ?_
  refine tg2 C hK hT dX2_lawClause_1 ?_
  refine lv_iload_n hx hb dX2_lawClause_4 rfl (lv_at hl 2 rfl) ?_
  refine lv_iconst (v := 1) hx hb dX2_lawClause_5 (by decide) ?_
  refine lv_iadd hx hb dX2_lawClause_6 ?_
  refine lv_aload_n hx hb dX2_lawClause_7 rfl (lv_at hl 0 rfl) ?_
  refine tg18 C hK hT dX2_lawClause_8 ?_
  obtain ⟨hi, h⟩ := ck_some h
  refine ts2 C hK hT hS hi dX2_lawClause_11 (fun t1 H locs et1 hT hS => ?_)
  replace h := lt1_sub et1 h
  refine lv_iload_n hx hb dX2_lawClause_12 rfl (lv_at hl 1 rfl) ?_
  refine lv_iconst (v := 2) hx hb dX2_lawClause_13 (by decide) ?_
  refine lv_icmp_ne (tgt := 24) hx hb dX2_lawClause_14 (by decide) (fun c => ?_) (fun c => ?_)
  · replace h := if_f c h
    refine lv_aload_n hx hb dX2_lawClause_24 rfl (lv_at hl 0 rfl) ?_
    obtain ⟨v2, t3, ht3, h⟩ := bd2_some h
    refine w_int hS (run_t (As := []) (rest := []) C hK hT (mX2_either ht3) q1849 q1851 qs104 q162 q1852 ⟨rfl, rfl⟩ hdX2_either ⟨Nat.le_of_ble_eq_true rfl, Nat.le_of_ble_eq_true rfl⟩ ⟨Nat.zero_le _, Nat.zero_le _⟩ rfl hl.1 rfl (Nat.le_of_ble_eq_true rfl) dX2_lawClause_25) (fun H locs hT hS => ?_)
    exact bX2_lawClause_28 C hK t3 x2 v2 H locs hT hS ls h (lv_sub hl [0, 2] rfl)
  · replace h := if_t c h
    refine lv_aload_n hx hb dX2_lawClause_17 rfl (lv_at hl 0 rfl) ?_
    obtain ⟨v4, t5, ht5, h⟩ := bd2_some h
    refine w_int hS (run_t (As := []) (rest := []) C hK hT (mX2_summed ht5) q1801 q1803 qs92 q162 q1804 ⟨rfl, rfl⟩ hdX2_summed ⟨Nat.le_of_ble_eq_true rfl, Nat.le_of_ble_eq_true rfl⟩ ⟨Nat.zero_le _, Nat.zero_le _⟩ rfl hl.1 rfl (Nat.le_of_ble_eq_true rfl) dX2_lawClause_18) (fun H locs hT hS => ?_)
    refine lv_goto (tgt := 28) hx hb dX2_lawClause_21 (by decide) ?_
    exact bX2_lawClause_28 C hK t5 x2 v4 H locs hT hS ls h (lv_sub hl [0, 2] rfl)
theorem mX2_lawClause {l : Launch} {D : va_G} {dA : Nat → ClassId} {b : Nat} {t : TS} {x1 : Int32} {x2 : Int32} {r : Int32} {t9 : TS} (h : T_lawClause t x1 x2 = some (r, t9)) : Met l yX2_lawClause (ws_ yX2_lawClause cX2_lawClause 4 (some .int)) rmX2_lawClause (tPc D dA b t [.ref b, .int x1, .int x2]) (tQ D dA b t9 (some (.int r))) 0 0 (ta b) := en_R (by decide +kernel) rfl (Nat.le_of_ble_eq_true rfl) (fun p e s m below meth c ls C hK hT hl => bX2_lawClause C hK t x1 x2 _ [] hT tS.rf ls h hl)
set_option maxRecDepth 20000 in
abbrev rmX2_letters : Room := { frames := 3, cells := 0, slots := 0, locals := 64 }
theorem hdX2_letters : yX2_letters.cls = RX2 ∧ yX2_letters.cls ≠ "java/lang/invoke/MethodHandle" ∧ yX2_letters.cls ≠ "java/lang/invoke/VarHandle" ∧ (parseMethodDescriptor yX2_letters.desc).map (fun d => d.parameters.length) = some 1 := by decide +kernel
theorem bX2_letters_75 {p : Program} {l : Launch} {e : Env} {s : State} {m : MethodId} {args : Array Value} {below : List Frame} {meth : Method} {c : Code} {D : va_G} {dA : Nat → ClassId} {b : Nat} {r : Int32} {t9 : TS} (C : cx p s m args meth c cX2_letters RX2 5 (some .int)) (hK : kk D dA s) : ∀ (n : Nat), ∀ (t : TS) (x1 : Int32) (x2 : Int32) (x3 : Int32) (x4 : Int32) (H : Heap) (locs : List Loc) (hT : wd D (tw dA b t) H) (hS : tS b s.heap H locs) (ls : Array Slot), T_letters_75 n t x1 x2 x3 x4 = some (r, t9) → lv_has ls 5 [(0, .ref b), (1, .int x1), (2, .int x2), (3, .int x3), (4, .int x4)] → W p l e rmX2_letters s m args below meth c H locs 0 0 (MQ below (tQ D dA b t9 (some (.int r))) args s 0 0 (ta b)) (F0 m 75 ls []) := by
  obtain ⟨hx, hb, hr, hml, hown, hts, hlocks⟩ := id C
  intro n
  induction n with
  | zero =>
    intro t x1 x2 x3 x4 H locs hT hS ls h hl
    have h : none = some _ := h
    cases h
  | succ n ih =>
    intro t x1 x2 x3 x4 H locs hT hS ls h hl
    rw [T_letters_75] at h
    refine lv_iload hx hb dX2_letters_75 (lv_at hl 4 rfl) ?_
    refine lv_iload_n hx hb dX2_letters_77 rfl (lv_at hl 2 rfl) ?_
    refine lv_icmp_ge (tgt := 120) hx hb dX2_letters_78 (by decide) (fun c => ?_) (fun c => ?_)
    · replace h := if_t c h
      refine lv_aload_n hx hb dX2_letters_120 rfl (lv_at hl 0 rfl) ?_
      refine tg2 C hK hT dX2_letters_121 ?_
      refine lv_iload_n hx hb dX2_letters_124 rfl (lv_at hl 1 rfl) ?_
      refine lv_iload_n hx hb dX2_letters_125 rfl (lv_at hl 3 rfl) ?_
      obtain ⟨hi, h⟩ := ck_some h
      refine ts2 C hK hT hS hi dX2_letters_126 (fun t1 H locs et1 hT hS => ?_)
      replace h := lt1_sub et1 h
      refine lv_aload_n hx hb dX2_letters_127 rfl (lv_at hl 0 rfl) ?_
      obtain ⟨t2, ht2, h⟩ := bd1_some h
      refine w_void hS (run_t (As := []) (rest := []) C hK hT (mX2_nextToken ht2) q1715 q1717 qs76 q162 q1718 ⟨rfl, rfl⟩ hdX2_nextToken ⟨Nat.le_of_ble_eq_true rfl, Nat.le_of_ble_eq_true rfl⟩ ⟨Nat.zero_le _, Nat.zero_le _⟩ rfl hl.1 rfl (Nat.le_of_ble_eq_true rfl) dX2_letters_128) (fun H locs hT hS => ?_)
      refine lv_iconst (v := 0) hx hb dX2_letters_131 (by decide) ?_
      exact e_wi C hT hS h dX2_letters_132
    · replace h := if_f c h
      refine lv_aload_n hx hb dX2_letters_81 rfl (lv_at hl 0 rfl) ?_
      refine tg3 C hK hT dX2_letters_82 ?_
      refine lv_iload hx hb dX2_letters_85 (lv_at hl 4 rfl) ?_
      refine lv_aload_n hx hb dX2_letters_87 rfl (lv_at hl 0 rfl) ?_
      refine lv_aload_n hx hb dX2_letters_88 rfl (lv_at hl 0 rfl) ?_
      refine tg12 C hK hT dX2_letters_89 ?_
      refine lv_iload hx hb dX2_letters_92 (lv_at hl 4 rfl) ?_
      refine lv_iadd hx hb dX2_letters_94 ?_
      obtain ⟨v3, hv3, h⟩ := bd1_some h
      refine r_int (run_t (As := [.int ((t.1 12 0) + x4)]) (rest := [.int x4, .ref (b + 4)]) C hK hT (mX2_byteAt hv3) q1719 q1721 qs77 q162 q1722 ⟨rfl, rfl⟩ hdX2_byteAt ⟨Nat.le_of_ble_eq_true rfl, Nat.le_of_ble_eq_true rfl⟩ ⟨Nat.zero_le _, Nat.zero_le _⟩ rfl hl.1 rfl (Nat.le_of_ble_eq_true rfl) dX2_letters_95) ?_
      refine lv_bipush (v := 97) hx hb dX2_letters_98 (by decide) ?_
      refine lv_isub hx hb dX2_letters_100 ?_
      obtain ⟨hi, h⟩ := ck_some h
      refine ts3 C hK hT hS hi dX2_letters_101 (fun t4 H locs et4 hT hS => ?_)
      replace h := lt1_sub et4 h
      refine lv_iload_n hx hb dX2_letters_102 rfl (lv_at hl 3 rfl) ?_
      refine lv_iconst (v := 1) hx hb dX2_letters_103 (by decide) ?_
      refine lv_aload_n hx hb dX2_letters_104 rfl (lv_at hl 0 rfl) ?_
      refine tg3 C hK hT dX2_letters_105 ?_
      refine lv_iload hx hb dX2_letters_108 (lv_at hl 4 rfl) ?_
      obtain ⟨hi, h⟩ := ck_some h
      refine tl3 C hK hT hi dX2_letters_110 ?_
      refine lv_ishl hx hb dX2_letters_111 ?_
      refine lv_ior hx hb dX2_letters_112 ?_
      refine lv_topi (fun v5 ev5 => ?_)
      replace h := lt1_sub ev5 h
      refine lv_istore_n (lv' := [(3, .int v5), (0, .ref b), (1, .int x1), (2, .int x2), (4, .int x4)]) hx hb dX2_letters_113 rfl hl (by decide) rfl (fun ls hl => ?_)
      obtain ⟨v6, ev6⟩ : ∃ y : Int32, y = x4 + (1 : Int32) := ⟨_, rfl⟩
      replace h := lt1_sub ev6 h
      refine lv_iinc (v := v6) (lv' := [(4, .int v6), (3, .int v5), (0, .ref b), (1, .int x1), (2, .int x2)]) hx hb dX2_letters_114 hl (k := 4) rfl (by rw [ev6]; rfl) (by decide) rfl (fun ls hl => ?_)
      refine lv_goto (tgt := 75) hx hb dX2_letters_117 (by decide) ?_
      exact ih t4 x1 x2 v5 v6 H locs hT hS ls h (lv_sub hl [2, 3, 4, 1, 0] rfl)
theorem bX2_letters_22 {p : Program} {l : Launch} {e : Env} {s : State} {m : MethodId} {args : Array Value} {below : List Frame} {meth : Method} {c : Code} {D : va_G} {dA : Nat → ClassId} {b : Nat} {r : Int32} {t9 : TS} (C : cx p s m args meth c cX2_letters RX2 5 (some .int)) (hK : kk D dA s) : ∀ (n : Nat), ∀ (t : TS) (x1 : Int32) (x2 : Int32) (x3 : Int32) (H : Heap) (locs : List Loc) (hT : wd D (tw dA b t) H) (hS : tS b s.heap H locs) (ls : Array Slot), T_letters_22 n t x1 x2 x3 = some (r, t9) → lv_has ls 5 [(0, .ref b), (1, .int x1), (2, .int x2), (3, .int x3)] → W p l e rmX2_letters s m args below meth c H locs 0 0 (MQ below (tQ D dA b t9 (some (.int r))) args s 0 0 (ta b)) (F0 m 22 ls []) := by
  obtain ⟨hx, hb, hr, hml, hown, hts, hlocks⟩ := id C
  intro n
  induction n with
  | zero =>
    intro t x1 x2 x3 H locs hT hS ls h hl
    have h : none = some _ := h
    cases h
  | succ n ih =>
    intro t x1 x2 x3 H locs hT hS ls h hl
    rw [T_letters_22] at h
    refine lv_iload_n hx hb dX2_letters_22 rfl (lv_at hl 3 rfl) ?_
    refine lv_iload_n hx hb dX2_letters_23 rfl (lv_at hl 2 rfl) ?_
    refine lv_icmp_ge (tgt := 56) hx hb dX2_letters_24 (by decide) (fun c => ?_) (fun c => ?_)
    · replace h := if_t c h
      refine lv_iload_n hx hb dX2_letters_56 rfl (lv_at hl 2 rfl) ?_
      refine lv_bipush (v := 8) hx hb dX2_letters_57 (by decide) ?_
      refine lv_icmp_le (tgt := 65) hx hb dX2_letters_59 (by decide) (fun c => ?_) (fun c => ?_)
      · replace h := if_t c h
        refine lv_aload_n hx hb dX2_letters_65 rfl (lv_at hl 0 rfl) ?_
        refine lv_iload_n hx hb dX2_letters_66 rfl (lv_at hl 2 rfl) ?_
        refine tp4 C hK hT hS dX2_letters_67 (fun t1 H locs et1 hT hS => ?_)
        replace h := lt1_sub et1 h
        refine lv_iconst (v := 0) hx hb dX2_letters_70 (by decide) ?_
        refine lv_istore_n (lv' := [(3, .int (0 : Int32)), (0, .ref b), (1, .int x1), (2, .int x2)]) hx hb dX2_letters_71 rfl hl (by decide) rfl (fun ls hl => ?_)
        refine lv_iconst (v := 0) hx hb dX2_letters_72 (by decide) ?_
        refine lv_istore (lv' := [(4, .int (0 : Int32)), (3, .int (0 : Int32)), (0, .ref b), (1, .int x1), (2, .int x2)]) hx hb dX2_letters_73 hl (by decide) rfl (fun ls hl => ?_)
        exact bX2_letters_75 C hK fu t1 x1 x2 (0 : Int32) (0 : Int32) H locs hT hS ls h (lv_sub hl [2, 3, 4, 1, 0] rfl)
      · replace h := if_f c h
        refine lv_bipush (v := 7) hx hb dX2_letters_62 (by decide) ?_
        exact e_wi C hT hS h dX2_letters_64
    · replace h := if_f c h
      refine lv_aload_n hx hb dX2_letters_27 rfl (lv_at hl 0 rfl) ?_
      refine lv_aload_n hx hb dX2_letters_28 rfl (lv_at hl 0 rfl) ?_
      refine tg12 C hK hT dX2_letters_29 ?_
      refine lv_iload_n hx hb dX2_letters_32 rfl (lv_at hl 3 rfl) ?_
      refine lv_iadd hx hb dX2_letters_33 ?_
      obtain ⟨v2, hv2, h⟩ := bd1_some h
      refine r_int (run_t (As := [.int ((t.1 12 0) + x3)]) (rest := []) C hK hT (mX2_byteAt hv2) q1719 q1721 qs77 q162 q1722 ⟨rfl, rfl⟩ hdX2_byteAt ⟨Nat.le_of_ble_eq_true rfl, Nat.le_of_ble_eq_true rfl⟩ ⟨Nat.zero_le _, Nat.zero_le _⟩ rfl hl.1 rfl (Nat.le_of_ble_eq_true rfl) dX2_letters_34) ?_
      refine lv_bipush (v := 97) hx hb dX2_letters_37 (by decide) ?_
      refine lv_bipush (v := 122) hx hb dX2_letters_39 (by decide) ?_
      obtain ⟨v3, hv3, h⟩ := bd1_some h
      refine r_int (run_s (As := [.int v2, .int (97 : Int32), .int (122 : Int32)]) (rest := []) C (mX2_isIn hv3) q1656 q1657 q162 q1658 ⟨rfl, rfl⟩ hdX2_isIn ⟨Nat.le_of_ble_eq_true rfl, Nat.le_of_ble_eq_true rfl⟩ ⟨Nat.zero_le _, Nat.zero_le _⟩ rfl hl.1 rfl (Nat.le_of_ble_eq_true rfl) dX2_letters_41) ?_
      refine lv_if_ne (tgt := 50) hx hb dX2_letters_44 (by decide) (fun c => ?_) (fun c => ?_)
      · replace h := if_f c h
        obtain ⟨v4, ev4⟩ : ∃ y : Int32, y = x3 + (1 : Int32) := ⟨_, rfl⟩
        replace h := lt1_sub ev4 h
        refine lv_iinc (v := v4) (lv' := [(3, .int v4), (0, .ref b), (1, .int x1), (2, .int x2)]) hx hb dX2_letters_50 hl (k := 3) rfl (by rw [ev4]; rfl) (by decide) rfl (fun ls hl => ?_)
        refine lv_goto (tgt := 22) hx hb dX2_letters_53 (by decide) ?_
        exact ih t x1 x2 v4 H locs hT hS ls h (lv_sub hl [1, 2, 3, 0] rfl)
      · replace h := if_t c h
        refine lv_bipush (v := 7) hx hb dX2_letters_47 (by decide) ?_
        exact e_wi C hT hS h dX2_letters_49
theorem bX2_letters {p : Program} {l : Launch} {e : Env} {s : State} {m : MethodId} {args : Array Value} {below : List Frame} {meth : Method} {c : Code} {D : va_G} {dA : Nat → ClassId} {b : Nat} {r : Int32} {t9 : TS} (C : cx p s m args meth c cX2_letters RX2 5 (some .int)) (hK : kk D dA s) : ∀ (t : TS) (x1 : Int32) (H : Heap) (locs : List Loc) (hT : wd D (tw dA b t) H) (hS : tS b s.heap H locs) (ls : Array Slot), T_letters t x1 = some (r, t9) → lv_has ls 5 [(0, .ref b), (1, .int x1)] → W p l e rmX2_letters s m args below meth c H locs 0 0 (MQ below (tQ D dA b t9 (some (.int r))) args s 0 0 (ta b)) (F0 m 0 ls []) := by
  obtain ⟨hx, hb, hr, hml, hown, hts, hlocks⟩ := id C
  intro t x1 H locs hT hS ls h hl
  unfold T_letters at h
  refine lv_aload_n hx hb dX2_letters_0 rfl (lv_at hl 0 rfl) ?_
  refine tg13 C hK hT dX2_letters_1 ?_
  refine lv_iconst (v := 2) hx hb dX2_letters_4 (by decide) ?_
  refine lv_icmp_eq (tgt := 10) hx hb dX2_letters_5 (by decide) (fun c => ?_) (fun c => ?_)
  · replace h := if_t c h
    refine lv_aload_n hx hb dX2_letters_10 rfl (lv_at hl 0 rfl) ?_
    refine tg11 C hK hT dX2_letters_11 ?_
    refine lv_aload_n hx hb dX2_letters_14 rfl (lv_at hl 0 rfl) ?_
    refine tg12 C hK hT dX2_letters_15 ?_
    refine lv_isub hx hb dX2_letters_18 ?_
    refine lv_topi (fun v1 ev1 => ?_)
    replace h := lt1_sub ev1 h
    refine lv_istore_n (lv' := [(2, .int v1), (0, .ref b), (1, .int x1)]) hx hb dX2_letters_19 rfl hl (by decide) rfl (fun ls hl => ?_)
    refine lv_iconst (v := 0) hx hb dX2_letters_20 (by decide) ?_
    refine lv_istore_n (lv' := [(3, .int (0 : Int32)), (2, .int v1), (0, .ref b), (1, .int x1)]) hx hb dX2_letters_21 rfl hl (by decide) rfl (fun ls hl => ?_)
    exact bX2_letters_22 C hK fu t x1 v1 (0 : Int32) H locs hT hS ls h (lv_sub hl [2, 3, 1, 0] rfl)
  · replace h := if_f c h
    refine lv_iconst (v := 1) hx hb dX2_letters_8 (by decide) ?_
    exact e_wi C hT hS h dX2_letters_9
theorem mX2_letters {l : Launch} {D : va_G} {dA : Nat → ClassId} {b : Nat} {t : TS} {x1 : Int32} {r : Int32} {t9 : TS} (h : T_letters t x1 = some (r, t9)) : Met l yX2_letters (ws_ yX2_letters cX2_letters 5 (some .int)) rmX2_letters (tPc D dA b t [.ref b, .int x1]) (tQ D dA b t9 (some (.int r))) 0 0 (ta b) := en_R (by decide +kernel) rfl (Nat.le_of_ble_eq_true rfl) (fun p e s m below meth c ls C hK hT hl => bX2_letters C hK t x1 _ [] hT tS.rf ls h hl)
set_option maxRecDepth 20000 in
abbrev rmX2_need : Room := { frames := 3, cells := 0, slots := 0, locals := 64 }
theorem hdX2_need : yX2_need.cls = RX2 ∧ yX2_need.cls ≠ "java/lang/invoke/MethodHandle" ∧ yX2_need.cls ≠ "java/lang/invoke/VarHandle" ∧ (parseMethodDescriptor yX2_need.desc).map (fun d => d.parameters.length) = some 1 := by decide +kernel
theorem bX2_need {p : Program} {l : Launch} {e : Env} {s : State} {m : MethodId} {args : Array Value} {below : List Frame} {meth : Method} {c : Code} {D : va_G} {dA : Nat → ClassId} {b : Nat} {r : Int32} {t9 : TS} (C : cx p s m args meth c cX2_need RX2 3 (some .int)) (hK : kk D dA s) : ∀ (t : TS) (x1 : Int64) (H : Heap) (locs : List Loc) (hT : wd D (tw dA b t) H) (hS : tS b s.heap H locs) (ls : Array Slot), T_need t x1 = some (r, t9) → lv_has ls 3 [(0, .ref b), (1, .long x1)] → W p l e rmX2_need s m args below meth c H locs 0 0 (MQ below (tQ D dA b t9 (some (.int r))) args s 0 0 (ta b)) (F0 m 0 ls []) := by
  obtain ⟨hx, hb, hr, hml, hown, hts, hlocks⟩ := id C
  intro t x1 H locs hT hS ls h hl
  unfold T_need at h
  refine lv_aload_n hx hb dX2_need_0 rfl (lv_at hl 0 rfl) ?_
  refine lv_lload_n hx hb dX2_need_1 rfl (lv_at hl 1 rfl) ?_
  obtain ⟨v1, hv1, h⟩ := bd1_some h
  refine r_int (run_t (As := [.long x1]) (rest := []) C hK hT (mX2_isWord hv1) q1744 q1746 qs80 q162 q1747 ⟨rfl, rfl⟩ hdX2_isWord ⟨Nat.le_of_ble_eq_true rfl, Nat.le_of_ble_eq_true rfl⟩ ⟨Nat.zero_le _, Nat.zero_le _⟩ rfl hl.1 rfl (Nat.le_of_ble_eq_true rfl) dX2_need_2) ?_
  refine lv_if_ne (tgt := 10) hx hb dX2_need_5 (by decide) (fun c => ?_) (fun c => ?_)
  · replace h := if_f c h
    refine lv_aload_n hx hb dX2_need_10 rfl (lv_at hl 0 rfl) ?_
    obtain ⟨t2, ht2, h⟩ := bd1_some h
    refine w_void hS (run_t (As := []) (rest := []) C hK hT (mX2_nextToken ht2) q1715 q1717 qs76 q162 q1718 ⟨rfl, rfl⟩ hdX2_nextToken ⟨Nat.le_of_ble_eq_true rfl, Nat.le_of_ble_eq_true rfl⟩ ⟨Nat.zero_le _, Nat.zero_le _⟩ rfl hl.1 rfl (Nat.le_of_ble_eq_true rfl) dX2_need_11) (fun H locs hT hS => ?_)
    refine lv_iconst (v := 0) hx hb dX2_need_14 (by decide) ?_
    exact e_wi C hT hS h dX2_need_15
  · replace h := if_t c h
    refine lv_iconst (v := 1) hx hb dX2_need_8 (by decide) ?_
    exact e_wi C hT hS h dX2_need_9
theorem mX2_need {l : Launch} {D : va_G} {dA : Nat → ClassId} {b : Nat} {t : TS} {x1 : Int64} {r : Int32} {t9 : TS} (h : T_need t x1 = some (r, t9)) : Met l yX2_need (ws_ yX2_need cX2_need 3 (some .int)) rmX2_need (tPc D dA b t [.ref b, .long x1]) (tQ D dA b t9 (some (.int r))) 0 0 (ta b) := en_R (by decide +kernel) rfl (Nat.le_of_ble_eq_true rfl) (fun p e s m below meth c ls C hK hT hl => bX2_need C hK t x1 _ [] hT tS.rf ls h hl)
set_option maxRecDepth 20000 in
abbrev rmX2_raiseClause : Room := { frames := 4, cells := 0, slots := 0, locals := 88 }
theorem hdX2_raiseClause : yX2_raiseClause.cls = RX2 ∧ yX2_raiseClause.cls ≠ "java/lang/invoke/MethodHandle" ∧ yX2_raiseClause.cls ≠ "java/lang/invoke/VarHandle" ∧ (parseMethodDescriptor yX2_raiseClause.desc).map (fun d => d.parameters.length) = some 1 := by decide +kernel
theorem bX2_raiseClause_20 {p : Program} {l : Launch} {e : Env} {s : State} {m : MethodId} {args : Array Value} {below : List Frame} {meth : Method} {c : Code} {D : va_G} {dA : Nat → ClassId} {b : Nat} {r : Int32} {t9 : TS} (C : cx p s m args meth c cX2_raiseClause RX2 3 (some .int)) (hK : kk D dA s) : ∀ (t : TS) (x1 : Int32) (x2 : Int32) (H : Heap) (locs : List Loc) (hT : wd D (tw dA b t) H) (hS : tS b s.heap H locs) (ls : Array Slot), T_raiseClause_20 t x1 x2 = some (r, t9) → lv_has ls 3 [(0, .ref b), (1, .int x1), (2, .int x2)] → W p l e rmX2_raiseClause s m args below meth c H locs 0 0 (MQ below (tQ D dA b t9 (some (.int r))) args s 0 0 (ta b)) (F0 m 20 ls []) := by
  obtain ⟨hx, hb, hr, hml, hown, hts, hlocks⟩ := id C
  intro t x1 x2 H locs hT hS ls h hl
  unfold T_raiseClause_20 at h
  refine lv_iload_n hx hb dX2_raiseClause_20 rfl (lv_at hl 2 rfl) ?_
  refine lv_if_eq (tgt := 28) hx hb dX2_raiseClause_21 (by decide) (fun c => ?_) (fun c => ?_)
  · replace h := if_t c h
    refine lv_aload_n hx hb dX2_raiseClause_28 rfl (lv_at hl 0 rfl) ?_
    refine lv_iload_n hx hb dX2_raiseClause_29 rfl (lv_at hl 1 rfl) ?_
    refine lv_iconst (v := 2) hx hb dX2_raiseClause_30 (by decide) ?_
    refine lv_iadd hx hb dX2_raiseClause_31 ?_
    refine lv_iconst (v := 1) hx hb dX2_raiseClause_32 (by decide) ?_
    refine lv_bipush (v := 99) hx hb dX2_raiseClause_33 (by decide) ?_
    obtain ⟨v1, t2, ht2, h⟩ := bd2_some h
    refine w_int hS (run_t (As := [.int (x1 + (2 : Int32)), .int (1 : Int32), .int (99 : Int32)]) (rest := []) C hK hT (mX2_figure ht2) q1774 q1776 qs86 q162 q1777 ⟨rfl, rfl⟩ hdX2_figure ⟨Nat.le_of_ble_eq_true rfl, Nat.le_of_ble_eq_true rfl⟩ ⟨Nat.zero_le _, Nat.zero_le _⟩ rfl hl.1 rfl (Nat.le_of_ble_eq_true rfl) dX2_raiseClause_35) (fun H locs hT hS => ?_)
    exact e_wi C hT hS h dX2_raiseClause_38
  · replace h := if_f c h
    refine lv_iload_n hx hb dX2_raiseClause_24 rfl (lv_at hl 2 rfl) ?_
    refine lv_goto (tgt := 38) hx hb dX2_raiseClause_25 (by decide) ?_
    exact e_wi C hT hS h dX2_raiseClause_38
theorem bX2_raiseClause {p : Program} {l : Launch} {e : Env} {s : State} {m : MethodId} {args : Array Value} {below : List Frame} {meth : Method} {c : Code} {D : va_G} {dA : Nat → ClassId} {b : Nat} {r : Int32} {t9 : TS} (C : cx p s m args meth c cX2_raiseClause RX2 3 (some .int)) (hK : kk D dA s) : ∀ (t : TS) (x1 : Int32) (H : Heap) (locs : List Loc) (hT : wd D (tw dA b t) H) (hS : tS b s.heap H locs) (ls : Array Slot), T_raiseClause t x1 = some (r, t9) → lv_has ls 3 [(0, .ref b), (1, .int x1)] → W p l e rmX2_raiseClause s m args below meth c H locs 0 0 (MQ below (tQ D dA b t9 (some (.int r))) args s 0 0 (ta b)) (F0 m 0 ls []) := by
  obtain ⟨hx, hb, hr, hml, hown, hts, hlocks⟩ := id C
  intro t x1 H locs hT hS ls h hl
  unfold T_raiseClause at h
  refine lv_aload_n hx hb dX2_raiseClause_0 rfl (lv_at hl 0 rfl) ?_
  refine lv_iload_n hx hb dX2_raiseClause_1 rfl (lv_at hl 1 rfl) ?_
  refine lv_iconst (v := 1) hx hb dX2_raiseClause_2 (by decide) ?_
  refine lv_iadd hx hb dX2_raiseClause_3 ?_
  obtain ⟨v1, t2, ht2, h⟩ := bd2_some h
  refine w_int hS (run_t (As := [.int (x1 + (1 : Int32))]) (rest := []) C hK hT (mX2_letters ht2) q1766 q1768 qs84 q162 q1769 ⟨rfl, rfl⟩ hdX2_letters ⟨Nat.le_of_ble_eq_true rfl, Nat.le_of_ble_eq_true rfl⟩ ⟨Nat.zero_le _, Nat.zero_le _⟩ rfl hl.1 rfl (Nat.le_of_ble_eq_true rfl) dX2_raiseClause_4) (fun H locs hT hS => ?_)
  refine lv_istore_n (lv' := [(2, .int v1), (0, .ref b), (1, .int x1)]) hx hb dX2_raiseClause_7 rfl hl (by decide) rfl (fun ls hl => ?_)
  refine lv_iload_n hx hb dX2_raiseClause_8 rfl (lv_at hl 0 rfl) ?_
  refine lv_if_ne (tgt := 20) hx hb dX2_raiseClause_9 (by decide) (fun c => ?_) (fun c => ?_)
  · replace h := if_f c h
    exact bX2_raiseClause_20 C hK t2 x1 v1 H locs hT hS ls h (lv_sub hl [1, 2, 0] rfl)
  · replace h := if_t c h
    refine lv_aload_n hx hb dX2_raiseClause_12 rfl (lv_at hl 1 rfl) ?_
    refine lv_ldc2 hx hb hown (hts _ q1791) dX2_raiseClause_13 ?_
    obtain ⟨v3, t4, ht4, h⟩ := bd2_some h
    refine w_int hS (run_t (As := [.long (25209 : Int64)]) (rest := []) C hK hT (mX2_need ht4) q1770 q1772 qs85 q162 q1773 ⟨rfl, rfl⟩ hdX2_need ⟨Nat.le_of_ble_eq_true rfl, Nat.le_of_ble_eq_true rfl⟩ ⟨Nat.zero_le _, Nat.zero_le _⟩ rfl hl.1 rfl (Nat.le_of_ble_eq_true rfl) dX2_raiseClause_16) (fun H locs hT hS => ?_)
    refine lv_istore_n (lv' := [(2, .int v3), (0, .ref b), (1, .int x1)]) hx hb dX2_raiseClause_19 rfl hl (by decide) rfl (fun ls hl => ?_)
    exact bX2_raiseClause_20 C hK t4 x1 v3 H locs hT hS ls h (lv_sub hl [1, 2, 0] rfl)
theorem mX2_raiseClause {l : Launch} {D : va_G} {dA : Nat → ClassId} {b : Nat} {t : TS} {x1 : Int32} {r : Int32} {t9 : TS} (h : T_raiseClause t x1 = some (r, t9)) : Met l yX2_raiseClause (ws_ yX2_raiseClause cX2_raiseClause 3 (some .int)) rmX2_raiseClause (tPc D dA b t [.ref b, .int x1]) (tQ D dA b t9 (some (.int r))) 0 0 (ta b) := en_R (by decide +kernel) rfl (Nat.le_of_ble_eq_true rfl) (fun p e s m below meth c ls C hK hT hl => bX2_raiseClause C hK t x1 _ [] hT tS.rf ls h hl)
set_option maxRecDepth 20000 in
abbrev rmX2_sayClause : Room := { frames := 4, cells := 0, slots := 0, locals := 87 }
theorem hdX2_sayClause : yX2_sayClause.cls = RX2 ∧ yX2_sayClause.cls ≠ "java/lang/invoke/MethodHandle" ∧ yX2_sayClause.cls ≠ "java/lang/invoke/VarHandle" ∧ (parseMethodDescriptor yX2_sayClause.desc).map (fun d => d.parameters.length) = some 1 := by decide +kernel
theorem bX2_sayClause_83 {p : Program} {l : Launch} {e : Env} {s : State} {m : MethodId} {args : Array Value} {below : List Frame} {meth : Method} {c : Code} {D : va_G} {dA : Nat → ClassId} {b : Nat} {r : Int32} {t9 : TS} (C : cx p s m args meth c cX2_sayClause RX2 4 (some .int)) (hK : kk D dA s) : ∀ (t : TS) (x1 : Int32) (x2 : Int32) (x3 : Int32) (H : Heap) (locs : List Loc) (hT : wd D (tw dA b t) H) (hS : tS b s.heap H locs) (ls : Array Slot), T_sayClause_83 t x1 x2 x3 = some (r, t9) → lv_has ls 4 [(0, .ref b), (1, .int x1), (2, .int x2), (3, .int x3)] → W p l e rmX2_sayClause s m args below meth c H locs 0 0 (MQ below (tQ D dA b t9 (some (.int r))) args s 0 0 (ta b)) (F0 m 83 ls []) := by
  obtain ⟨hx, hb, hr, hml, hown, hts, hlocks⟩ := id C
  intro t x1 x2 x3 H locs hT hS ls h hl
  unfold T_sayClause_83 at h
  refine lv_aload_n hx hb dX2_sayClause_83 rfl (lv_at hl 0 rfl) ?_
  refine tg2 C hK hT dX2_sayClause_84 ?_
  refine lv_iload_n hx hb dX2_sayClause_87 rfl (lv_at hl 1 rfl) ?_
  refine lv_iconst (v := 1) hx hb dX2_sayClause_88 (by decide) ?_
  refine lv_iadd hx hb dX2_sayClause_89 ?_
  refine lv_iload_n hx hb dX2_sayClause_90 rfl (lv_at hl 3 rfl) ?_
  obtain ⟨hi, h⟩ := ck_some h
  refine ts2 C hK hT hS hi dX2_sayClause_91 (fun t1 H locs et1 hT hS => ?_)
  replace h := lt1_sub et1 h
  refine lv_iload_n hx hb dX2_sayClause_92 rfl (lv_at hl 2 rfl) ?_
  exact e_wi C hT hS h dX2_sayClause_93
theorem bX2_sayClause_13 {p : Program} {l : Launch} {e : Env} {s : State} {m : MethodId} {args : Array Value} {below : List Frame} {meth : Method} {c : Code} {D : va_G} {dA : Nat → ClassId} {b : Nat} {r : Int32} {t9 : TS} (C : cx p s m args meth c cX2_sayClause RX2 4 (some .int)) (hK : kk D dA s) : ∀ (n : Nat), ∀ (t : TS) (x1 : Int32) (x2 : Int32) (x3 : Int32) (H : Heap) (locs : List Loc) (hT : wd D (tw dA b t) H) (hS : tS b s.heap H locs) (ls : Array Slot), T_sayClause_13 n t x1 x2 x3 = some (r, t9) → lv_has ls 4 [(0, .ref b), (1, .int x1), (2, .int x2), (3, .int x3)] → W p l e rmX2_sayClause s m args below meth c H locs 0 0 (MQ below (tQ D dA b t9 (some (.int r))) args s 0 0 (ta b)) (F0 m 13 ls []) := by
  obtain ⟨hx, hb, hr, hml, hown, hts, hlocks⟩ := id C
  intro n
  induction n with
  | zero =>
    intro t x1 x2 x3 H locs hT hS ls h hl
    have h : none = some _ := h
    cases h
  | succ n ih =>
    intro t x1 x2 x3 H locs hT hS ls h hl
    rw [T_sayClause_13] at h
    refine lv_iload_n hx hb dX2_sayClause_13 rfl (lv_at hl 2 rfl) ?_
    refine lv_if_ne (tgt := 83) hx hb dX2_sayClause_14 (by decide) (fun c => ?_) (fun c => ?_)
    · replace h := if_f c h
      exact bX2_sayClause_83 C hK t x1 x2 x3 H locs hT hS ls h (lv_sub hl [0, 1, 2, 3] rfl)
    · replace h := if_t c h
      refine lv_aload_n hx hb dX2_sayClause_17 rfl (lv_at hl 0 rfl) ?_
      refine tg13 C hK hT dX2_sayClause_18 ?_
      refine lv_bipush (v := 44) hx hb dX2_sayClause_21 (by decide) ?_
      refine lv_icmp_ne (tgt := 83) hx hb dX2_sayClause_23 (by decide) (fun c => ?_) (fun c => ?_)
      · replace h := if_f c h
        exact bX2_sayClause_83 C hK t x1 x2 x3 H locs hT hS ls h (lv_sub hl [0, 1, 2, 3] rfl)
      · replace h := if_t c h
        refine lv_aload_n hx hb dX2_sayClause_26 rfl (lv_at hl 0 rfl) ?_
        obtain ⟨t1, ht1, h⟩ := bd1_some h
        refine w_void hS (run_t (As := []) (rest := []) C hK hT (mX2_nextToken ht1) q1715 q1717 qs76 q162 q1718 ⟨rfl, rfl⟩ hdX2_nextToken ⟨Nat.le_of_ble_eq_true rfl, Nat.le_of_ble_eq_true rfl⟩ ⟨Nat.zero_le _, Nat.zero_le _⟩ rfl hl.1 rfl (Nat.le_of_ble_eq_true rfl) dX2_sayClause_27) (fun H locs hT hS => ?_)
        refine lv_iload_n hx hb dX2_sayClause_30 rfl (lv_at hl 3 rfl) ?_
        refine lv_bipush (v := 8) hx hb dX2_sayClause_31 (by decide) ?_
        refine lv_icmp_ne (tgt := 64) hx hb dX2_sayClause_33 (by decide) (fun c => ?_) (fun c => ?_)
        · replace h := if_f c h
          refine lv_aload_n hx hb dX2_sayClause_64 rfl (lv_at hl 0 rfl) ?_
          refine lv_iload_n hx hb dX2_sayClause_65 rfl (lv_at hl 1 rfl) ?_
          refine lv_iconst (v := 2) hx hb dX2_sayClause_66 (by decide) ?_
          refine lv_iadd hx hb dX2_sayClause_67 ?_
          refine lv_iload_n hx hb dX2_sayClause_68 rfl (lv_at hl 3 rfl) ?_
          refine lv_iadd hx hb dX2_sayClause_69 ?_
          refine lv_iconst (v := 0) hx hb dX2_sayClause_70 (by decide) ?_
          refine lv_bipush (v := 9) hx hb dX2_sayClause_71 (by decide) ?_
          obtain ⟨v2, t3, ht3, h⟩ := bd2_some h
          refine w_int hS (run_t (As := [.int ((x1 + (2 : Int32)) + x3), .int (0 : Int32), .int (9 : Int32)]) (rest := []) C hK hT (mX2_figure ht3) q1774 q1776 qs86 q162 q1777 ⟨rfl, rfl⟩ hdX2_figure ⟨Nat.le_of_ble_eq_true rfl, Nat.le_of_ble_eq_true rfl⟩ ⟨Nat.zero_le _, Nat.zero_le _⟩ rfl hl.1 rfl (Nat.le_of_ble_eq_true rfl) dX2_sayClause_73) (fun H locs hT hS => ?_)
          refine lv_istore_n (lv' := [(2, .int v2), (0, .ref b), (1, .int x1), (3, .int x3)]) hx hb dX2_sayClause_76 rfl hl (by decide) rfl (fun ls hl => ?_)
          obtain ⟨v4, ev4⟩ : ∃ y : Int32, y = x3 + (1 : Int32) := ⟨_, rfl⟩
          replace h := lt1_sub ev4 h
          refine lv_iinc (v := v4) (lv' := [(3, .int v4), (2, .int v2), (0, .ref b), (1, .int x1)]) hx hb dX2_sayClause_77 hl (k := 3) rfl (by rw [ev4]; rfl) (by decide) rfl (fun ls hl => ?_)
          refine lv_goto (tgt := 13) hx hb dX2_sayClause_80 (by decide) ?_
          exact ih t3 x1 v2 v4 H locs hT hS ls h (lv_sub hl [2, 3, 1, 0] rfl)
        · replace h := if_t c h
          refine lv_aload_n hx hb dX2_sayClause_36 rfl (lv_at hl 0 rfl) ?_
          refine tg13 C hK hT dX2_sayClause_37 ?_
          refine lv_iconst (v := 1) hx hb dX2_sayClause_40 (by decide) ?_
          refine lv_icmp_eq (tgt := 48) hx hb dX2_sayClause_41 (by decide) (fun c => ?_) (fun c => ?_)
          · replace h := if_t c h
            refine lv_aload_n hx hb dX2_sayClause_48 rfl (lv_at hl 0 rfl) ?_
            refine tg14 C hK hT dX2_sayClause_49 ?_
            refine lv_bipush (v := 9) hx hb dX2_sayClause_52 (by decide) ?_
            refine lv_icmp_le (tgt := 61) hx hb dX2_sayClause_54 (by decide) (fun c => ?_) (fun c => ?_)
            · replace h := if_t c h
              refine lv_bipush (v := 8) hx hb dX2_sayClause_61 (by decide) ?_
              exact e_wi C hT hS h dX2_sayClause_63
            · replace h := if_f c h
              refine lv_iconst (v := 2) hx hb dX2_sayClause_57 (by decide) ?_
              refine lv_goto (tgt := 63) hx hb dX2_sayClause_58 (by decide) ?_
              exact e_wi C hT hS h dX2_sayClause_63
          · replace h := if_f c h
            refine lv_iconst (v := 1) hx hb dX2_sayClause_44 (by decide) ?_
            refine lv_goto (tgt := 63) hx hb dX2_sayClause_45 (by decide) ?_
            exact e_wi C hT hS h dX2_sayClause_63
theorem bX2_sayClause {p : Program} {l : Launch} {e : Env} {s : State} {m : MethodId} {args : Array Value} {below : List Frame} {meth : Method} {c : Code} {D : va_G} {dA : Nat → ClassId} {b : Nat} {r : Int32} {t9 : TS} (C : cx p s m args meth c cX2_sayClause RX2 4 (some .int)) (hK : kk D dA s) : ∀ (t : TS) (x1 : Int32) (H : Heap) (locs : List Loc) (hT : wd D (tw dA b t) H) (hS : tS b s.heap H locs) (ls : Array Slot), T_sayClause t x1 = some (r, t9) → lv_has ls 4 [(0, .ref b), (1, .int x1)] → W p l e rmX2_sayClause s m args below meth c H locs 0 0 (MQ below (tQ D dA b t9 (some (.int r))) args s 0 0 (ta b)) (F0 m 0 ls []) := by
  obtain ⟨hx, hb, hr, hml, hown, hts, hlocks⟩ := id C
  intro t x1 H locs hT hS ls h hl
  unfold T_sayClause at h
  refine lv_aload_n hx hb dX2_sayClause_0 rfl (lv_at hl 0 rfl) ?_
  refine lv_iload_n hx hb dX2_sayClause_1 rfl (lv_at hl 1 rfl) ?_
  refine lv_iconst (v := 2) hx hb dX2_sayClause_2 (by decide) ?_
  refine lv_iadd hx hb dX2_sayClause_3 ?_
  refine lv_iconst (v := 0) hx hb dX2_sayClause_4 (by decide) ?_
  refine lv_bipush (v := 9) hx hb dX2_sayClause_5 (by decide) ?_
  obtain ⟨v1, t2, ht2, h⟩ := bd2_some h
  refine w_int hS (run_t (As := [.int (x1 + (2 : Int32)), .int (0 : Int32), .int (9 : Int32)]) (rest := []) C hK hT (mX2_figure ht2) q1774 q1776 qs86 q162 q1777 ⟨rfl, rfl⟩ hdX2_figure ⟨Nat.le_of_ble_eq_true rfl, Nat.le_of_ble_eq_true rfl⟩ ⟨Nat.zero_le _, Nat.zero_le _⟩ rfl hl.1 rfl (Nat.le_of_ble_eq_true rfl) dX2_sayClause_7) (fun H locs hT hS => ?_)
  refine lv_istore_n (lv' := [(2, .int v1), (0, .ref b), (1, .int x1)]) hx hb dX2_sayClause_10 rfl hl (by decide) rfl (fun ls hl => ?_)
  refine lv_iconst (v := 1) hx hb dX2_sayClause_11 (by decide) ?_
  refine lv_istore_n (lv' := [(3, .int (1 : Int32)), (2, .int v1), (0, .ref b), (1, .int x1)]) hx hb dX2_sayClause_12 rfl hl (by decide) rfl (fun ls hl => ?_)
  exact bX2_sayClause_13 C hK fu t2 x1 v1 (1 : Int32) H locs hT hS ls h (lv_sub hl [2, 3, 1, 0] rfl)
theorem mX2_sayClause {l : Launch} {D : va_G} {dA : Nat → ClassId} {b : Nat} {t : TS} {x1 : Int32} {r : Int32} {t9 : TS} (h : T_sayClause t x1 = some (r, t9)) : Met l yX2_sayClause (ws_ yX2_sayClause cX2_sayClause 4 (some .int)) rmX2_sayClause (tPc D dA b t [.ref b, .int x1]) (tQ D dA b t9 (some (.int r))) 0 0 (ta b) := en_R (by decide +kernel) rfl (Nat.le_of_ble_eq_true rfl) (fun p e s m below meth c ls C hK hT hl => bX2_sayClause C hK t x1 _ [] hT tS.rf ls h hl)
set_option maxRecDepth 20000 in
abbrev rmX2_signClause : Room := { frames := 4, cells := 0, slots := 0, locals := 88 }
theorem hdX2_signClause : yX2_signClause.cls = RX2 ∧ yX2_signClause.cls ≠ "java/lang/invoke/MethodHandle" ∧ yX2_signClause.cls ≠ "java/lang/invoke/VarHandle" ∧ (parseMethodDescriptor yX2_signClause.desc).map (fun d => d.parameters.length) = some 1 := by decide +kernel
theorem bX2_signClause_37 {p : Program} {l : Launch} {e : Env} {s : State} {m : MethodId} {args : Array Value} {below : List Frame} {meth : Method} {c : Code} {D : va_G} {dA : Nat → ClassId} {b : Nat} {r : Int32} {t9 : TS} (C : cx p s m args meth c cX2_signClause RX2 3 (some .int)) (hK : kk D dA s) : ∀ (t : TS) (x1 : Int32) (x2 : Int32) (H : Heap) (locs : List Loc) (hT : wd D (tw dA b t) H) (hS : tS b s.heap H locs) (ls : Array Slot), T_signClause_37 t x1 x2 = some (r, t9) → lv_has ls 3 [(0, .ref b), (1, .int x1), (2, .int x2)] → W p l e rmX2_signClause s m args below meth c H locs 0 0 (MQ below (tQ D dA b t9 (some (.int r))) args s 0 0 (ta b)) (F0 m 37 ls []) := by
  obtain ⟨hx, hb, hr, hml, hown, hts, hlocks⟩ := id C
  intro t x1 x2 H locs hT hS ls h hl
  unfold T_signClause_37 at h
  refine lv_iload_n hx hb dX2_signClause_37 rfl (lv_at hl 2 rfl) ?_
  refine lv_if_eq (tgt := 43) hx hb dX2_signClause_38 (by decide) (fun c => ?_) (fun c => ?_)
  · replace h := if_t c h
    refine lv_aload_n hx hb dX2_signClause_43 rfl (lv_at hl 0 rfl) ?_
    obtain ⟨t1, ht1, h⟩ := bd1_some h
    refine w_void hS (run_t (As := []) (rest := []) C hK hT (mX2_nextToken ht1) q1715 q1717 qs76 q162 q1718 ⟨rfl, rfl⟩ hdX2_nextToken ⟨Nat.le_of_ble_eq_true rfl, Nat.le_of_ble_eq_true rfl⟩ ⟨Nat.zero_le _, Nat.zero_le _⟩ rfl hl.1 rfl (Nat.le_of_ble_eq_true rfl) dX2_signClause_44) (fun H locs hT hS => ?_)
    refine lv_aload_n hx hb dX2_signClause_47 rfl (lv_at hl 0 rfl) ?_
    refine tg2 C hK hT dX2_signClause_48 ?_
    refine lv_iload_n hx hb dX2_signClause_51 rfl (lv_at hl 1 rfl) ?_
    refine lv_iconst (v := 2) hx hb dX2_signClause_52 (by decide) ?_
    refine lv_iadd hx hb dX2_signClause_53 ?_
    refine lv_iconst (v := -1) hx hb dX2_signClause_54 (by decide) ?_
    obtain ⟨hi, h⟩ := ck_some h
    refine ts2 C hK hT hS hi dX2_signClause_55 (fun t2 H locs et2 hT hS => ?_)
    replace h := lt1_sub et2 h
    refine lv_aload_n hx hb dX2_signClause_56 rfl (lv_at hl 0 rfl) ?_
    refine lv_bipush (v := 110) hx hb dX2_signClause_57 (by decide) ?_
    refine lv_bipush (v := 111) hx hb dX2_signClause_59 (by decide) ?_
    refine lv_bipush (v := 110) hx hb dX2_signClause_61 (by decide) ?_
    refine lv_bipush (v := 101) hx hb dX2_signClause_63 (by decide) ?_
    obtain ⟨v3, hv3, h⟩ := bd1_some h
    refine r_long (run_s (As := [.int (110 : Int32), .int (111 : Int32), .int (110 : Int32), .int (101 : Int32)]) (rest := [.ref b]) C (mX2_w4 hv3) q1748 q1749 q162 q1750 ⟨rfl, rfl⟩ hdX2_w4 ⟨Nat.le_of_ble_eq_true rfl, Nat.le_of_ble_eq_true rfl⟩ ⟨Nat.zero_le _, Nat.zero_le _⟩ rfl hl.1 rfl (Nat.le_of_ble_eq_true rfl) dX2_signClause_65) ?_
    obtain ⟨v4, hv4, h⟩ := bd1_some h
    refine r_int (run_t (As := [.long v3]) (rest := []) C hK hT (mX2_isWord hv4) q1744 q1746 qs80 q162 q1747 ⟨rfl, rfl⟩ hdX2_isWord ⟨Nat.le_of_ble_eq_true rfl, Nat.le_of_ble_eq_true rfl⟩ ⟨Nat.zero_le _, Nat.zero_le _⟩ rfl hl.1 rfl (Nat.le_of_ble_eq_true rfl) dX2_signClause_68) ?_
    refine lv_if_eq (tgt := 92) hx hb dX2_signClause_71 (by decide) (fun c => ?_) (fun c => ?_)
    · replace h := if_t c h
      refine lv_aload_n hx hb dX2_signClause_92 rfl (lv_at hl 0 rfl) ?_
      refine lv_iload_n hx hb dX2_signClause_93 rfl (lv_at hl 1 rfl) ?_
      refine lv_iconst (v := 2) hx hb dX2_signClause_94 (by decide) ?_
      refine lv_iadd hx hb dX2_signClause_95 ?_
      refine lv_iconst (v := 0) hx hb dX2_signClause_96 (by decide) ?_
      refine lv_bipush (v := 9) hx hb dX2_signClause_97 (by decide) ?_
      obtain ⟨v5, t6, ht6, h⟩ := bd2_some h
      refine w_int hS (run_t (As := [.int (x1 + (2 : Int32)), .int (0 : Int32), .int (9 : Int32)]) (rest := []) C hK hT (mX2_figure ht6) q1774 q1776 qs86 q162 q1777 ⟨rfl, rfl⟩ hdX2_figure ⟨Nat.le_of_ble_eq_true rfl, Nat.le_of_ble_eq_true rfl⟩ ⟨Nat.zero_le _, Nat.zero_le _⟩ rfl hl.1 rfl (Nat.le_of_ble_eq_true rfl) dX2_signClause_99) (fun H locs hT hS => ?_)
      exact e_wi C hT hS h dX2_signClause_102
    · replace h := if_f c h
      refine lv_aload_n hx hb dX2_signClause_74 rfl (lv_at hl 0 rfl) ?_
      refine lv_bipush (v := 110) hx hb dX2_signClause_75 (by decide) ?_
      refine lv_bipush (v := 111) hx hb dX2_signClause_77 (by decide) ?_
      refine lv_bipush (v := 110) hx hb dX2_signClause_79 (by decide) ?_
      refine lv_bipush (v := 101) hx hb dX2_signClause_81 (by decide) ?_
      obtain ⟨v7, hv7, h⟩ := bd1_some h
      refine r_long (run_s (As := [.int (110 : Int32), .int (111 : Int32), .int (110 : Int32), .int (101 : Int32)]) (rest := [.ref b]) C (mX2_w4 hv7) q1748 q1749 q162 q1750 ⟨rfl, rfl⟩ hdX2_w4 ⟨Nat.le_of_ble_eq_true rfl, Nat.le_of_ble_eq_true rfl⟩ ⟨Nat.zero_le _, Nat.zero_le _⟩ rfl hl.1 rfl (Nat.le_of_ble_eq_true rfl) dX2_signClause_83) ?_
      obtain ⟨v8, t9, ht9, h⟩ := bd2_some h
      refine w_int hS (run_t (As := [.long v7]) (rest := []) C hK hT (mX2_need ht9) q1770 q1772 qs85 q162 q1773 ⟨rfl, rfl⟩ hdX2_need ⟨Nat.le_of_ble_eq_true rfl, Nat.le_of_ble_eq_true rfl⟩ ⟨Nat.zero_le _, Nat.zero_le _⟩ rfl hl.1 rfl (Nat.le_of_ble_eq_true rfl) dX2_signClause_86) (fun H locs hT hS => ?_)
      refine lv_goto (tgt := 102) hx hb dX2_signClause_89 (by decide) ?_
      exact e_wi C hT hS h dX2_signClause_102
  · replace h := if_f c h
    refine lv_iload_n hx hb dX2_signClause_41 rfl (lv_at hl 2 rfl) ?_
    exact e_wi C hT hS h dX2_signClause_42
theorem bX2_signClause_36 {p : Program} {l : Launch} {e : Env} {s : State} {m : MethodId} {args : Array Value} {below : List Frame} {meth : Method} {c : Code} {D : va_G} {dA : Nat → ClassId} {b : Nat} {r : Int32} {t9 : TS} (C : cx p s m args meth c cX2_signClause RX2 3 (some .int)) (hK : kk D dA s) : ∀ (t : TS) (x1 : Int32) (y0 : Int32) (H : Heap) (locs : List Loc) (hT : wd D (tw dA b t) H) (hS : tS b s.heap H locs) (ls : Array Slot), T_signClause_36 t x1 y0 = some (r, t9) → lv_has ls 3 [(0, .ref b), (1, .int x1)] → W p l e rmX2_signClause s m args below meth c H locs 0 0 (MQ below (tQ D dA b t9 (some (.int r))) args s 0 0 (ta b)) (F0 m 36 ls [.int y0]) := by
  obtain ⟨hx, hb, hr, hml, hown, hts, hlocks⟩ := id C
  intro t x1 y0 H locs hT hS ls h hl
  unfold T_signClause_36 at h
  refine lv_istore_n (lv' := [(2, .int y0), (0, .ref b), (1, .int x1)]) hx hb dX2_signClause_36 rfl hl (by decide) rfl (fun ls hl => ?_)
  exact bX2_signClause_37 C hK t x1 y0 H locs hT hS ls h (lv_sub hl [1, 2, 0] rfl)
theorem bX2_signClause_35 {p : Program} {l : Launch} {e : Env} {s : State} {m : MethodId} {args : Array Value} {below : List Frame} {meth : Method} {c : Code} {D : va_G} {dA : Nat → ClassId} {b : Nat} {r : Int32} {t9 : TS} (C : cx p s m args meth c cX2_signClause RX2 3 (some .int)) (hK : kk D dA s) : ∀ (t : TS) (x1 : Int32) (H : Heap) (locs : List Loc) (hT : wd D (tw dA b t) H) (hS : tS b s.heap H locs) (ls : Array Slot), T_signClause_35 t x1 = some (r, t9) → lv_has ls 3 [(0, .ref b), (1, .int x1)] → W p l e rmX2_signClause s m args below meth c H locs 0 0 (MQ below (tQ D dA b t9 (some (.int r))) args s 0 0 (ta b)) (F0 m 35 ls []) := by
  obtain ⟨hx, hb, hr, hml, hown, hts, hlocks⟩ := id C
  intro t x1 H locs hT hS ls h hl
  unfold T_signClause_35 at h
  refine lv_iconst (v := 1) hx hb dX2_signClause_35 (by decide) ?_
  exact bX2_signClause_36 C hK t x1 (1 : Int32) H locs hT hS ls h (lv_sub hl [0, 1] rfl)
theorem bX2_signClause {p : Program} {l : Launch} {e : Env} {s : State} {m : MethodId} {args : Array Value} {below : List Frame} {meth : Method} {c : Code} {D : va_G} {dA : Nat → ClassId} {b : Nat} {r : Int32} {t9 : TS} (C : cx p s m args meth c cX2_signClause RX2 3 (some .int)) (hK : kk D dA s) : ∀ (t : TS) (x1 : Int32) (H : Heap) (locs : List Loc) (hT : wd D (tw dA b t) H) (hS : tS b s.heap H locs) (ls : Array Slot), T_signClause t x1 = some (r, t9) → lv_has ls 3 [(0, .ref b), (1, .int x1)] → W p l e rmX2_signClause s m args below meth c H locs 0 0 (MQ below (tQ D dA b t9 (some (.int r))) args s 0 0 (ta b)) (F0 m 0 ls []) := by
  obtain ⟨hx, hb, hr, hml, hown, hts, hlocks⟩ := id C
  intro t x1 H locs hT hS ls h hl
  unfold T_signClause at h
  refine lv_aload_n hx hb dX2_signClause_0 rfl (lv_at hl 0 rfl) ?_
  refine lv_iload_n hx hb dX2_signClause_1 rfl (lv_at hl 1 rfl) ?_
  refine lv_iconst (v := 1) hx hb dX2_signClause_2 (by decide) ?_
  refine lv_iadd hx hb dX2_signClause_3 ?_
  obtain ⟨v1, t2, ht2, h⟩ := bd2_some h
  refine w_int hS (run_t (As := [.int (x1 + (1 : Int32))]) (rest := []) C hK hT (mX2_letters ht2) q1766 q1768 qs84 q162 q1769 ⟨rfl, rfl⟩ hdX2_letters ⟨Nat.le_of_ble_eq_true rfl, Nat.le_of_ble_eq_true rfl⟩ ⟨Nat.zero_le _, Nat.zero_le _⟩ rfl hl.1 rfl (Nat.le_of_ble_eq_true rfl) dX2_signClause_4) (fun H locs hT hS => ?_)
  refine lv_istore_n (lv' := [(2, .int v1), (0, .ref b), (1, .int x1)]) hx hb dX2_signClause_7 rfl hl (by decide) rfl (fun ls hl => ?_)
  refine lv_iload_n hx hb dX2_signClause_8 rfl (lv_at hl 0 rfl) ?_
  refine lv_if_ne (tgt := 37) hx hb dX2_signClause_9 (by decide) (fun c => ?_) (fun c => ?_)
  · replace h := if_f c h
    exact bX2_signClause_37 C hK t2 x1 v1 H locs hT hS ls h (lv_sub hl [1, 2, 0] rfl)
  · replace h := if_t c h
    refine lv_aload_n hx hb dX2_signClause_12 rfl (lv_at hl 1 rfl) ?_
    refine tg13 C hK hT dX2_signClause_13 ?_
    refine lv_iconst (v := 2) hx hb dX2_signClause_16 (by decide) ?_
    refine lv_icmp_ne (tgt := 35) hx hb dX2_signClause_17 (by decide) (fun c => ?_) (fun c => ?_)
    · replace h := if_f c h
      exact bX2_signClause_35 C hK t2 x1 H locs hT hS ls h (lv_sub hl [1, 2] rfl)
    · replace h := if_t c h
      refine lv_aload_n hx hb dX2_signClause_20 rfl (lv_at hl 1 rfl) ?_
      refine tg15 C hK hT dX2_signClause_21 ?_
      refine lv_ldc2 hx hb hown (hts _ q1796) dX2_signClause_24 ?_
      refine W.lcmp hx hb dX2_signClause_27 ?_
      refine lv_if_ne (tgt := 35) hx hb dX2_signClause_28 (by decide) (fun c => ?_) (fun c => ?_)
      · replace h := if_f c h
        exact bX2_signClause_35 C hK t2 x1 H locs hT hS ls h (lv_sub hl [1, 2] rfl)
      · replace h := if_t c h
        refine lv_iconst (v := 0) hx hb dX2_signClause_31 (by decide) ?_
        refine lv_goto (tgt := 36) hx hb dX2_signClause_32 (by decide) ?_
        exact bX2_signClause_36 C hK t2 x1 (0 : Int32) H locs hT hS ls h (lv_sub hl [1, 2] rfl)
theorem mX2_signClause {l : Launch} {D : va_G} {dA : Nat → ClassId} {b : Nat} {t : TS} {x1 : Int32} {r : Int32} {t9 : TS} (h : T_signClause t x1 = some (r, t9)) : Met l yX2_signClause (ws_ yX2_signClause cX2_signClause 3 (some .int)) rmX2_signClause (tPc D dA b t [.ref b, .int x1]) (tQ D dA b t9 (some (.int r))) 0 0 (ta b) := en_R (by decide +kernel) rfl (Nat.le_of_ble_eq_true rfl) (fun p e s m below meth c ls C hK hT hl => bX2_signClause C hK t x1 _ [] hT tS.rf ls h hl)
set_option maxRecDepth 20000 in
abbrev rmX2_tieClause : Room := { frames := 4, cells := 0, slots := 0, locals := 88 }
theorem hdX2_tieClause : yX2_tieClause.cls = RX2 ∧ yX2_tieClause.cls ≠ "java/lang/invoke/MethodHandle" ∧ yX2_tieClause.cls ≠ "java/lang/invoke/VarHandle" ∧ (parseMethodDescriptor yX2_tieClause.desc).map (fun d => d.parameters.length) = some 1 := by decide +kernel
theorem bX2_tieClause_20 {p : Program} {l : Launch} {e : Env} {s : State} {m : MethodId} {args : Array Value} {below : List Frame} {meth : Method} {c : Code} {D : va_G} {dA : Nat → ClassId} {b : Nat} {r : Int32} {t9 : TS} (C : cx p s m args meth c cX2_tieClause RX2 3 (some .int)) (hK : kk D dA s) : ∀ (t : TS) (x1 : Int32) (x2 : Int32) (H : Heap) (locs : List Loc) (hT : wd D (tw dA b t) H) (hS : tS b s.heap H locs) (ls : Array Slot), T_tieClause_20 t x1 x2 = some (r, t9) → lv_has ls 3 [(0, .ref b), (1, .int x1), (2, .int x2)] → W p l e rmX2_tieClause s m args below meth c H locs 0 0 (MQ below (tQ D dA b t9 (some (.int r))) args s 0 0 (ta b)) (F0 m 20 ls []) := by
  obtain ⟨hx, hb, hr, hml, hown, hts, hlocks⟩ := id C
  intro t x1 x2 H locs hT hS ls h hl
  unfold T_tieClause_20 at h
  refine lv_iload_n hx hb dX2_tieClause_20 rfl (lv_at hl 2 rfl) ?_
  refine lv_if_eq (tgt := 28) hx hb dX2_tieClause_21 (by decide) (fun c => ?_) (fun c => ?_)
  · replace h := if_t c h
    refine lv_aload_n hx hb dX2_tieClause_28 rfl (lv_at hl 0 rfl) ?_
    refine lv_iload_n hx hb dX2_tieClause_29 rfl (lv_at hl 1 rfl) ?_
    refine lv_iconst (v := 2) hx hb dX2_tieClause_30 (by decide) ?_
    refine lv_iadd hx hb dX2_tieClause_31 ?_
    obtain ⟨v1, t2, ht2, h⟩ := bd2_some h
    refine w_int hS (run_t (As := [.int (x1 + (2 : Int32))]) (rest := []) C hK hT (mX2_letters ht2) q1766 q1768 qs84 q162 q1769 ⟨rfl, rfl⟩ hdX2_letters ⟨Nat.le_of_ble_eq_true rfl, Nat.le_of_ble_eq_true rfl⟩ ⟨Nat.zero_le _, Nat.zero_le _⟩ rfl hl.1 rfl (Nat.le_of_ble_eq_true rfl) dX2_tieClause_32) (fun H locs hT hS => ?_)
    exact e_wi C hT hS h dX2_tieClause_35
  · replace h := if_f c h
    refine lv_iload_n hx hb dX2_tieClause_24 rfl (lv_at hl 2 rfl) ?_
    refine lv_goto (tgt := 35) hx hb dX2_tieClause_25 (by decide) ?_
    exact e_wi C hT hS h dX2_tieClause_35
theorem bX2_tieClause {p : Program} {l : Launch} {e : Env} {s : State} {m : MethodId} {args : Array Value} {below : List Frame} {meth : Method} {c : Code} {D : va_G} {dA : Nat → ClassId} {b : Nat} {r : Int32} {t9 : TS} (C : cx p s m args meth c cX2_tieClause RX2 3 (some .int)) (hK : kk D dA s) : ∀ (t : TS) (x1 : Int32) (H : Heap) (locs : List Loc) (hT : wd D (tw dA b t) H) (hS : tS b s.heap H locs) (ls : Array Slot), T_tieClause t x1 = some (r, t9) → lv_has ls 3 [(0, .ref b), (1, .int x1)] → W p l e rmX2_tieClause s m args below meth c H locs 0 0 (MQ below (tQ D dA b t9 (some (.int r))) args s 0 0 (ta b)) (F0 m 0 ls []) := by
  obtain ⟨hx, hb, hr, hml, hown, hts, hlocks⟩ := id C
  intro t x1 H locs hT hS ls h hl
  unfold T_tieClause at h
  refine lv_aload_n hx hb dX2_tieClause_0 rfl (lv_at hl 0 rfl) ?_
  refine lv_iload_n hx hb dX2_tieClause_1 rfl (lv_at hl 1 rfl) ?_
  refine lv_iconst (v := 1) hx hb dX2_tieClause_2 (by decide) ?_
  refine lv_iadd hx hb dX2_tieClause_3 ?_
  obtain ⟨v1, t2, ht2, h⟩ := bd2_some h
  refine w_int hS (run_t (As := [.int (x1 + (1 : Int32))]) (rest := []) C hK hT (mX2_letters ht2) q1766 q1768 qs84 q162 q1769 ⟨rfl, rfl⟩ hdX2_letters ⟨Nat.le_of_ble_eq_true rfl, Nat.le_of_ble_eq_true rfl⟩ ⟨Nat.zero_le _, Nat.zero_le _⟩ rfl hl.1 rfl (Nat.le_of_ble_eq_true rfl) dX2_tieClause_4) (fun H locs hT hS => ?_)
  refine lv_istore_n (lv' := [(2, .int v1), (0, .ref b), (1, .int x1)]) hx hb dX2_tieClause_7 rfl hl (by decide) rfl (fun ls hl => ?_)
  refine lv_iload_n hx hb dX2_tieClause_8 rfl (lv_at hl 0 rfl) ?_
  refine lv_if_ne (tgt := 20) hx hb dX2_tieClause_9 (by decide) (fun c => ?_) (fun c => ?_)
  · replace h := if_f c h
    exact bX2_tieClause_20 C hK t2 x1 v1 H locs hT hS ls h (lv_sub hl [1, 2, 0] rfl)
  · replace h := if_t c h
    refine lv_aload_n hx hb dX2_tieClause_12 rfl (lv_at hl 1 rfl) ?_
    refine lv_ldc2 hx hb hown (hts _ q1786) dX2_tieClause_13 ?_
    obtain ⟨v3, t4, ht4, h⟩ := bd2_some h
    refine w_int hS (run_t (As := [.long (29807 : Int64)]) (rest := []) C hK hT (mX2_need ht4) q1770 q1772 qs85 q162 q1773 ⟨rfl, rfl⟩ hdX2_need ⟨Nat.le_of_ble_eq_true rfl, Nat.le_of_ble_eq_true rfl⟩ ⟨Nat.zero_le _, Nat.zero_le _⟩ rfl hl.1 rfl (Nat.le_of_ble_eq_true rfl) dX2_tieClause_16) (fun H locs hT hS => ?_)
    refine lv_istore_n (lv' := [(2, .int v3), (0, .ref b), (1, .int x1)]) hx hb dX2_tieClause_19 rfl hl (by decide) rfl (fun ls hl => ?_)
    exact bX2_tieClause_20 C hK t4 x1 v3 H locs hT hS ls h (lv_sub hl [1, 2, 0] rfl)
theorem mX2_tieClause {l : Launch} {D : va_G} {dA : Nat → ClassId} {b : Nat} {t : TS} {x1 : Int32} {r : Int32} {t9 : TS} (h : T_tieClause t x1 = some (r, t9)) : Met l yX2_tieClause (ws_ yX2_tieClause cX2_tieClause 3 (some .int)) rmX2_tieClause (tPc D dA b t [.ref b, .int x1]) (tQ D dA b t9 (some (.int r))) 0 0 (ta b) := en_R (by decide +kernel) rfl (Nat.le_of_ble_eq_true rfl) (fun p e s m below meth c ls C hK hT hl => bX2_tieClause C hK t x1 _ [] hT tS.rf ls h hl)
set_option maxRecDepth 20000 in
abbrev rmX2_wordClause : Room := { frames := 4, cells := 0, slots := 0, locals := 88 }
theorem hdX2_wordClause : yX2_wordClause.cls = RX2 ∧ yX2_wordClause.cls ≠ "java/lang/invoke/MethodHandle" ∧ yX2_wordClause.cls ≠ "java/lang/invoke/VarHandle" ∧ (parseMethodDescriptor yX2_wordClause.desc).map (fun d => d.parameters.length) = some 1 := by decide +kernel
theorem bX2_wordClause_49 {p : Program} {l : Launch} {e : Env} {s : State} {m : MethodId} {args : Array Value} {below : List Frame} {meth : Method} {c : Code} {D : va_G} {dA : Nat → ClassId} {b : Nat} {r : Int32} {t9 : TS} (C : cx p s m args meth c cX2_wordClause RX2 4 (some .int)) (hK : kk D dA s) {k16 : TS → Int32 → Int32 → Option (Int32 × TS)} (hk16 : ∀ (t : TS) (x1 : Int32) (x3 : Int32) (H : Heap) (locs : List Loc) (hT : wd D (tw dA b t) H) (hS : tS b s.heap H locs) (ls : Array Slot), k16 t x1 x3 = some (r, t9) → lv_has ls 4 [(0, .ref b), (1, .int x1), (3, .int x3)] → W p l e rmX2_wordClause s m args below meth c H locs 0 0 (MQ below (tQ D dA b t9 (some (.int r))) args s 0 0 (ta b)) (F0 m 16 ls [])) : ∀ (t : TS) (x1 : Int32) (x3 : Int32) (y1 : Int32) (y2 : Int32) (H : Heap) (locs : List Loc) (hT : wd D (tw dA b t) H) (hS : tS b s.heap H locs) (ls : Array Slot), T_wordClause_49 k16 t x1 x3 y1 y2 = some (r, t9) → lv_has ls 4 [(0, .ref b), (1, .int x1), (3, .int x3)] → W p l e rmX2_wordClause s m args below meth c H locs 0 0 (MQ below (tQ D dA b t9 (some (.int r))) args s 0 0 (ta b)) (F0 m 49 ls [.int y2, .int y1, .ref (b + 3)]) := by
  obtain ⟨hx, hb, hr, hml, hown, hts, hlocks⟩ := id C
  intro t x1 x3 y1 y2 H locs hT hS ls h hl
  unfold T_wordClause_49 at h
  obtain ⟨hi, h⟩ := ck_some h
  refine ts2 C hK hT hS hi dX2_wordClause_49 (fun t1 H locs et1 hT hS => ?_)
  replace h := lt1_sub et1 h
  obtain ⟨v2, ev2⟩ : ∃ y : Int32, y = x3 + (1 : Int32) := ⟨_, rfl⟩
  replace h := lt1_sub ev2 h
  refine lv_iinc (v := v2) (lv' := [(3, .int v2), (0, .ref b), (1, .int x1)]) hx hb dX2_wordClause_50 hl (k := 2) rfl (by rw [ev2]; rfl) (by decide) rfl (fun ls hl => ?_)
  refine lv_goto (tgt := 16) hx hb dX2_wordClause_53 (by decide) ?_
  exact hk16 t1 x1 v2 H locs hT hS ls h (lv_sub hl [1, 2, 0] rfl)
theorem bX2_wordClause_16 {p : Program} {l : Launch} {e : Env} {s : State} {m : MethodId} {args : Array Value} {below : List Frame} {meth : Method} {c : Code} {D : va_G} {dA : Nat → ClassId} {b : Nat} {r : Int32} {t9 : TS} (C : cx p s m args meth c cX2_wordClause RX2 4 (some .int)) (hK : kk D dA s) : ∀ (n : Nat), ∀ (t : TS) (x1 : Int32) (x3 : Int32) (H : Heap) (locs : List Loc) (hT : wd D (tw dA b t) H) (hS : tS b s.heap H locs) (ls : Array Slot), T_wordClause_16 n t x1 x3 = some (r, t9) → lv_has ls 4 [(0, .ref b), (1, .int x1), (3, .int x3)] → W p l e rmX2_wordClause s m args below meth c H locs 0 0 (MQ below (tQ D dA b t9 (some (.int r))) args s 0 0 (ta b)) (F0 m 16 ls []) := by
  obtain ⟨hx, hb, hr, hml, hown, hts, hlocks⟩ := id C
  intro n
  induction n with
  | zero =>
    intro t x1 x3 H locs hT hS ls h hl
    have h : none = some _ := h
    cases h
  | succ n ih =>
    intro t x1 x3 H locs hT hS ls h hl
    rw [T_wordClause_16] at h
    refine lv_iload_n hx hb dX2_wordClause_16 rfl (lv_at hl 2 rfl) ?_
    refine lv_bipush (v := 8) hx hb dX2_wordClause_17 (by decide) ?_
    refine lv_icmp_ge (tgt := 56) hx hb dX2_wordClause_19 (by decide) (fun c => ?_) (fun c => ?_)
    · replace h := if_t c h
      refine lv_aload_n hx hb dX2_wordClause_56 rfl (lv_at hl 0 rfl) ?_
      refine lv_bipush (v := 109) hx hb dX2_wordClause_57 (by decide) ?_
      refine lv_bipush (v := 101) hx hb dX2_wordClause_59 (by decide) ?_
      refine lv_bipush (v := 97) hx hb dX2_wordClause_61 (by decide) ?_
      refine lv_bipush (v := 110) hx hb dX2_wordClause_63 (by decide) ?_
      refine lv_bipush (v := 115) hx hb dX2_wordClause_65 (by decide) ?_
      obtain ⟨v1, hv1, h⟩ := bd1_some h
      refine r_long (run_s (As := [.int (109 : Int32), .int (101 : Int32), .int (97 : Int32), .int (110 : Int32), .int (115 : Int32)]) (rest := [.ref b]) C (mX2_w5 hv1) q1738 q1739 q162 q1740 ⟨rfl, rfl⟩ hdX2_w5 ⟨Nat.le_of_ble_eq_true rfl, Nat.le_of_ble_eq_true rfl⟩ ⟨Nat.zero_le _, Nat.zero_le _⟩ rfl hl.1 rfl (Nat.le_of_ble_eq_true rfl) dX2_wordClause_67) ?_
      obtain ⟨v2, t3, ht3, h⟩ := bd2_some h
      refine w_int hS (run_t (As := [.long v1]) (rest := []) C hK hT (mX2_need ht3) q1770 q1772 qs85 q162 q1773 ⟨rfl, rfl⟩ hdX2_need ⟨Nat.le_of_ble_eq_true rfl, Nat.le_of_ble_eq_true rfl⟩ ⟨Nat.zero_le _, Nat.zero_le _⟩ rfl hl.1 rfl (Nat.le_of_ble_eq_true rfl) dX2_wordClause_70) (fun H locs hT hS => ?_)
      refine lv_istore_n (lv' := [(2, .int v2), (0, .ref b), (1, .int x1), (3, .int x3)]) hx hb dX2_wordClause_73 rfl hl (by decide) rfl (fun ls hl => ?_)
      refine lv_iload_n hx hb dX2_wordClause_74 rfl (lv_at hl 0 rfl) ?_
      refine lv_if_eq (tgt := 82) hx hb dX2_wordClause_75 (by decide) (fun c => ?_) (fun c => ?_)
      · replace h := if_t c h
        refine lv_aload_n hx hb dX2_wordClause_82 rfl (lv_at hl 1 rfl) ?_
        refine lv_iload_n hx hb dX2_wordClause_83 rfl (lv_at hl 2 rfl) ?_
        refine lv_iconst (v := 2) hx hb dX2_wordClause_84 (by decide) ?_
        refine lv_iadd hx hb dX2_wordClause_85 ?_
        refine lv_iconst (v := 0) hx hb dX2_wordClause_86 (by decide) ?_
        refine lv_bipush (v := 9) hx hb dX2_wordClause_87 (by decide) ?_
        obtain ⟨v4, t5, ht5, h⟩ := bd2_some h
        refine w_int hS (run_t (As := [.int (x1 + (2 : Int32)), .int (0 : Int32), .int (9 : Int32)]) (rest := []) C hK hT (mX2_figure ht5) q1774 q1776 qs86 q162 q1777 ⟨rfl, rfl⟩ hdX2_figure ⟨Nat.le_of_ble_eq_true rfl, Nat.le_of_ble_eq_true rfl⟩ ⟨Nat.zero_le _, Nat.zero_le _⟩ rfl hl.1 rfl (Nat.le_of_ble_eq_true rfl) dX2_wordClause_89) (fun H locs hT hS => ?_)
        exact e_wi C hT hS h dX2_wordClause_92
      · replace h := if_f c h
        refine lv_iload_n hx hb dX2_wordClause_78 rfl (lv_at hl 0 rfl) ?_
        refine lv_goto (tgt := 92) hx hb dX2_wordClause_79 (by decide) ?_
        exact e_wi C hT hS h dX2_wordClause_92
    · replace h := if_f c h
      refine lv_aload_n hx hb dX2_wordClause_22 rfl (lv_at hl 0 rfl) ?_
      refine tg2 C hK hT dX2_wordClause_23 ?_
      refine lv_iload_n hx hb dX2_wordClause_26 rfl (lv_at hl 1 rfl) ?_
      refine lv_iconst (v := 3) hx hb dX2_wordClause_27 (by decide) ?_
      refine lv_iadd hx hb dX2_wordClause_28 ?_
      refine lv_iload_n hx hb dX2_wordClause_29 rfl (lv_at hl 2 rfl) ?_
      refine lv_iadd hx hb dX2_wordClause_30 ?_
      refine lv_iload_n hx hb dX2_wordClause_31 rfl (lv_at hl 2 rfl) ?_
      refine lv_aload_n hx hb dX2_wordClause_32 rfl (lv_at hl 0 rfl) ?_
      refine tg4 C hK hT dX2_wordClause_33 ?_
      refine lv_icmp_ge (tgt := 48) hx hb dX2_wordClause_36 (by decide) (fun c => ?_) (fun c => ?_)
      · replace h := if_t c h
        refine lv_iconst (v := -1) hx hb dX2_wordClause_48 (by decide) ?_
        exact bX2_wordClause_49 C hK ih t x1 x3 ((x1 + (3 : Int32)) + x3) (-1 : Int32) H locs hT hS ls h (lv_sub hl [0, 1, 2] rfl)
      · replace h := if_f c h
        refine lv_aload_n hx hb dX2_wordClause_39 rfl (lv_at hl 0 rfl) ?_
        refine tg3 C hK hT dX2_wordClause_40 ?_
        refine lv_iload_n hx hb dX2_wordClause_43 rfl (lv_at hl 2 rfl) ?_
        obtain ⟨hi, h⟩ := ck_some h
        refine tl3 C hK hT hi dX2_wordClause_44 ?_
        refine lv_goto (tgt := 49) hx hb dX2_wordClause_45 (by decide) ?_
        exact bX2_wordClause_49 C hK ih t x1 x3 ((x1 + (3 : Int32)) + x3) (t.1 3 x3.toNatClampNeg) H locs hT hS ls h (lv_sub hl [0, 1, 2] rfl)
theorem bX2_wordClause {p : Program} {l : Launch} {e : Env} {s : State} {m : MethodId} {args : Array Value} {below : List Frame} {meth : Method} {c : Code} {D : va_G} {dA : Nat → ClassId} {b : Nat} {r : Int32} {t9 : TS} (C : cx p s m args meth c cX2_wordClause RX2 4 (some .int)) (hK : kk D dA s) : ∀ (t : TS) (x1 : Int32) (H : Heap) (locs : List Loc) (hT : wd D (tw dA b t) H) (hS : tS b s.heap H locs) (ls : Array Slot), T_wordClause t x1 = some (r, t9) → lv_has ls 4 [(0, .ref b), (1, .int x1)] → W p l e rmX2_wordClause s m args below meth c H locs 0 0 (MQ below (tQ D dA b t9 (some (.int r))) args s 0 0 (ta b)) (F0 m 0 ls []) := by
  obtain ⟨hx, hb, hr, hml, hown, hts, hlocks⟩ := id C
  intro t x1 H locs hT hS ls h hl
  unfold T_wordClause at h
  refine lv_aload_n hx hb dX2_wordClause_0 rfl (lv_at hl 0 rfl) ?_
  refine lv_iload_n hx hb dX2_wordClause_1 rfl (lv_at hl 1 rfl) ?_
  refine lv_iconst (v := 1) hx hb dX2_wordClause_2 (by decide) ?_
  refine lv_iadd hx hb dX2_wordClause_3 ?_
  obtain ⟨v1, t2, ht2, h⟩ := bd2_some h
  refine w_int hS (run_t (As := [.int (x1 + (1 : Int32))]) (rest := []) C hK hT (mX2_letters ht2) q1766 q1768 qs84 q162 q1769 ⟨rfl, rfl⟩ hdX2_letters ⟨Nat.le_of_ble_eq_true rfl, Nat.le_of_ble_eq_true rfl⟩ ⟨Nat.zero_le _, Nat.zero_le _⟩ rfl hl.1 rfl (Nat.le_of_ble_eq_true rfl) dX2_wordClause_4) (fun H locs hT hS => ?_)
  refine lv_istore_n (lv' := [(2, .int v1), (0, .ref b), (1, .int x1)]) hx hb dX2_wordClause_7 rfl hl (by decide) rfl (fun ls hl => ?_)
  refine lv_iload_n hx hb dX2_wordClause_8 rfl (lv_at hl 0 rfl) ?_
  refine lv_if_eq (tgt := 14) hx hb dX2_wordClause_9 (by decide) (fun c => ?_) (fun c => ?_)
  · replace h := if_t c h
    refine lv_iconst (v := 0) hx hb dX2_wordClause_14 (by decide) ?_
    refine lv_istore_n (lv' := [(3, .int (0 : Int32)), (2, .int v1), (0, .ref b), (1, .int x1)]) hx hb dX2_wordClause_15 rfl hl (by decide) rfl (fun ls hl => ?_)
    exact bX2_wordClause_16 C hK fu t2 x1 (0 : Int32) H locs hT hS ls h (lv_sub hl [2, 3, 0] rfl)
  · replace h := if_f c h
    refine lv_iload_n hx hb dX2_wordClause_12 rfl (lv_at hl 0 rfl) ?_
    exact e_wi C hT hS h dX2_wordClause_13
theorem mX2_wordClause {l : Launch} {D : va_G} {dA : Nat → ClassId} {b : Nat} {t : TS} {x1 : Int32} {r : Int32} {t9 : TS} (h : T_wordClause t x1 = some (r, t9)) : Met l yX2_wordClause (ws_ yX2_wordClause cX2_wordClause 4 (some .int)) rmX2_wordClause (tPc D dA b t [.ref b, .int x1]) (tQ D dA b t9 (some (.int r))) 0 0 (ta b) := en_R (by decide +kernel) rfl (Nat.le_of_ble_eq_true rfl) (fun p e s m below meth c ls C hK hT hl => bX2_wordClause C hK t x1 _ [] hT tS.rf ls h hl)
set_option maxRecDepth 20000 in
abbrev rmX2_body : Room := { frames := 10, cells := 0, slots := 0, locals := 225 }
theorem hdX2_body : yX2_body.cls = RX2 ∧ yX2_body.cls ≠ "java/lang/invoke/MethodHandle" ∧ yX2_body.cls ≠ "java/lang/invoke/VarHandle" ∧ (parseMethodDescriptor yX2_body.desc).map (fun d => d.parameters.length) = some 2 := by decide +kernel
theorem bX2_body {p : Program} {l : Launch} {e : Env} {s : State} {m : MethodId} {args : Array Value} {below : List Frame} {meth : Method} {c : Code} {D : va_G} {dA : Nat → ClassId} {b : Nat} {r : Int32} {t9 : TS} (C : cx p s m args meth c cX2_body RX2 3 (some .int)) (hK : kk D dA s) : ∀ (t : TS) (x1 : Int32) (x2 : Int32) (H : Heap) (locs : List Loc) (hT : wd D (tw dA b t) H) (hS : tS b s.heap H locs) (ls : Array Slot), T_body t x1 x2 = some (r, t9) → lv_has ls 3 [(0, .ref b), (1, .int x1), (2, .int x2)] → W p l e rmX2_body s m args below meth c H locs 0 0 (MQ below (tQ D dA b t9 (some (.int r))) args s 0 0 (ta b)) (F0 m 0 ls []) := by
  obtain ⟨hx, hb, hr, hml, hown, hts, hlocks⟩ := id C
  intro t x1 x2 H locs hT hS ls h hl
  unfold T_body at h
  refine lv_iload_n hx hb dX2_body_0 rfl (lv_at hl 1 rfl) ?_
  by_cases c : x1 = (4 : Int32)
  · replace h := if_t c h
    rw [c]
    refine lv_tableIn (off := 51) (tgt := 52) hx hb dX2_body_1 (by decide) (by decide) rfl (by decide) ?_
    refine lv_aload_n hx hb dX2_body_52 rfl (lv_at hl 0 rfl) ?_
    refine lv_iload_n hx hb dX2_body_53 rfl (lv_at hl 2 rfl) ?_
    obtain ⟨v1, t2, ht2, h⟩ := bd2_some h
    refine w_int hS (run_t (As := [.int x2]) (rest := []) C hK hT (mX2_wordClause ht2) q1762 q1764 qs83 q162 q1765 ⟨rfl, rfl⟩ hdX2_wordClause ⟨Nat.le_of_ble_eq_true rfl, Nat.le_of_ble_eq_true rfl⟩ ⟨Nat.zero_le _, Nat.zero_le _⟩ rfl hl.1 rfl (Nat.le_of_ble_eq_true rfl) dX2_body_54) (fun H locs hT hS => ?_)
    exact e_wi C hT hS h dX2_body_57
  replace h := if_f c h
  have g0 := tI_ne (k := 4) (by decide) c
  by_cases c : x1 = (5 : Int32)
  · replace h := if_t c h
    rw [c]
    refine lv_tableIn (off := 57) (tgt := 58) hx hb dX2_body_1 (by decide) (by decide) rfl (by decide) ?_
    refine lv_aload_n hx hb dX2_body_58 rfl (lv_at hl 0 rfl) ?_
    refine lv_iload_n hx hb dX2_body_59 rfl (lv_at hl 2 rfl) ?_
    obtain ⟨v3, t4, ht4, h⟩ := bd2_some h
    refine w_int hS (run_t (As := [.int x2]) (rest := []) C hK hT (mX2_sayClause ht4) q1778 q1780 qs87 q162 q1781 ⟨rfl, rfl⟩ hdX2_sayClause ⟨Nat.le_of_ble_eq_true rfl, Nat.le_of_ble_eq_true rfl⟩ ⟨Nat.zero_le _, Nat.zero_le _⟩ rfl hl.1 rfl (Nat.le_of_ble_eq_true rfl) dX2_body_60) (fun H locs hT hS => ?_)
    exact e_wi C hT hS h dX2_body_63
  replace h := if_f c h
  have g1 := tI_ne (k := 5) (by decide) c
  by_cases c : x1 = (6 : Int32)
  · replace h := if_t c h
    rw [c]
    refine lv_tableIn (off := 63) (tgt := 64) hx hb dX2_body_1 (by decide) (by decide) rfl (by decide) ?_
    refine lv_aload_n hx hb dX2_body_64 rfl (lv_at hl 0 rfl) ?_
    refine lv_iload_n hx hb dX2_body_65 rfl (lv_at hl 2 rfl) ?_
    obtain ⟨v5, t6, ht6, h⟩ := bd2_some h
    refine w_int hS (run_t (As := [.int x2]) (rest := []) C hK hT (mX2_tieClause ht6) q1782 q1784 qs88 q162 q1785 ⟨rfl, rfl⟩ hdX2_tieClause ⟨Nat.le_of_ble_eq_true rfl, Nat.le_of_ble_eq_true rfl⟩ ⟨Nat.zero_le _, Nat.zero_le _⟩ rfl hl.1 rfl (Nat.le_of_ble_eq_true rfl) dX2_body_66) (fun H locs hT hS => ?_)
    exact e_wi C hT hS h dX2_body_69
  replace h := if_f c h
  have g2 := tI_ne (k := 6) (by decide) c
  by_cases c : x1 = (7 : Int32)
  · replace h := if_t c h
    rw [c]
    refine lv_tableIn (off := 69) (tgt := 70) hx hb dX2_body_1 (by decide) (by decide) rfl (by decide) ?_
    refine lv_aload_n hx hb dX2_body_70 rfl (lv_at hl 0 rfl) ?_
    refine lv_iload_n hx hb dX2_body_71 rfl (lv_at hl 2 rfl) ?_
    refine lv_iconst (v := 1) hx hb dX2_body_72 (by decide) ?_
    refine lv_iadd hx hb dX2_body_73 ?_
    obtain ⟨v7, t8, ht8, h⟩ := bd2_some h
    refine w_int hS (run_t (As := [.int (x2 + (1 : Int32))]) (rest := []) C hK hT (mX2_letters ht8) q1766 q1768 qs84 q162 q1769 ⟨rfl, rfl⟩ hdX2_letters ⟨Nat.le_of_ble_eq_true rfl, Nat.le_of_ble_eq_true rfl⟩ ⟨Nat.zero_le _, Nat.zero_le _⟩ rfl hl.1 rfl (Nat.le_of_ble_eq_true rfl) dX2_body_74) (fun H locs hT hS => ?_)
    exact e_wi C hT hS h dX2_body_77
  replace h := if_f c h
  have g3 := tI_ne (k := 7) (by decide) c
  by_cases c : x1 = (8 : Int32)
  · replace h := if_t c h
    rw [c]
    refine lv_tableIn (off := 77) (tgt := 78) hx hb dX2_body_1 (by decide) (by decide) rfl (by decide) ?_
    refine lv_aload_n hx hb dX2_body_78 rfl (lv_at hl 0 rfl) ?_
    refine lv_iload_n hx hb dX2_body_79 rfl (lv_at hl 2 rfl) ?_
    refine lv_iconst (v := 1) hx hb dX2_body_80 (by decide) ?_
    refine lv_iadd hx hb dX2_body_81 ?_
    obtain ⟨v9, t10, ht10, h⟩ := bd2_some h
    refine w_int hS (run_t (As := [.int (x2 + (1 : Int32))]) (rest := []) C hK hT (mX2_letters ht10) q1766 q1768 qs84 q162 q1769 ⟨rfl, rfl⟩ hdX2_letters ⟨Nat.le_of_ble_eq_true rfl, Nat.le_of_ble_eq_true rfl⟩ ⟨Nat.zero_le _, Nat.zero_le _⟩ rfl hl.1 rfl (Nat.le_of_ble_eq_true rfl) dX2_body_82) (fun H locs hT hS => ?_)
    exact e_wi C hT hS h dX2_body_85
  replace h := if_f c h
  have g4 := tI_ne (k := 8) (by decide) c
  by_cases c : x1 = (9 : Int32)
  · replace h := if_t c h
    rw [c]
    refine lv_tableIn (off := 85) (tgt := 86) hx hb dX2_body_1 (by decide) (by decide) rfl (by decide) ?_
    refine lv_aload_n hx hb dX2_body_86 rfl (lv_at hl 0 rfl) ?_
    refine lv_iload_n hx hb dX2_body_87 rfl (lv_at hl 2 rfl) ?_
    obtain ⟨v11, t12, ht12, h⟩ := bd2_some h
    refine w_int hS (run_t (As := [.int x2]) (rest := []) C hK hT (mX2_raiseClause ht12) q1787 q1789 qs89 q162 q1790 ⟨rfl, rfl⟩ hdX2_raiseClause ⟨Nat.le_of_ble_eq_true rfl, Nat.le_of_ble_eq_true rfl⟩ ⟨Nat.zero_le _, Nat.zero_le _⟩ rfl hl.1 rfl (Nat.le_of_ble_eq_true rfl) dX2_body_88) (fun H locs hT hS => ?_)
    exact e_wi C hT hS h dX2_body_91
  replace h := if_f c h
  have g5 := tI_ne (k := 9) (by decide) c
  by_cases c : x1 = (10 : Int32)
  · replace h := if_t c h
    rw [c]
    refine lv_tableIn (off := 91) (tgt := 92) hx hb dX2_body_1 (by decide) (by decide) rfl (by decide) ?_
    refine lv_aload_n hx hb dX2_body_92 rfl (lv_at hl 0 rfl) ?_
    refine lv_iload_n hx hb dX2_body_93 rfl (lv_at hl 2 rfl) ?_
    obtain ⟨v13, t14, ht14, h⟩ := bd2_some h
    refine w_int hS (run_t (As := [.int x2]) (rest := []) C hK hT (mX2_signClause ht14) q1792 q1794 qs90 q162 q1795 ⟨rfl, rfl⟩ hdX2_signClause ⟨Nat.le_of_ble_eq_true rfl, Nat.le_of_ble_eq_true rfl⟩ ⟨Nat.zero_le _, Nat.zero_le _⟩ rfl hl.1 rfl (Nat.le_of_ble_eq_true rfl) dX2_body_94) (fun H locs hT hS => ?_)
    exact e_wi C hT hS h dX2_body_97
  replace h := if_f c h
  have g6 := tI_ne (k := 10) (by decide) c
  by_cases c : x1 = (11 : Int32)
  · replace h := if_t c h
    rw [c]
    refine lv_tableIn (off := 97) (tgt := 98) hx hb dX2_body_1 (by decide) (by decide) rfl (by decide) ?_
    refine lv_aload_n hx hb dX2_body_98 rfl (lv_at hl 0 rfl) ?_
    refine lv_iload_n hx hb dX2_body_99 rfl (lv_at hl 2 rfl) ?_
    refine lv_iconst (v := 1) hx hb dX2_body_100 (by decide) ?_
    refine lv_iadd hx hb dX2_body_101 ?_
    refine lv_iconst (v := 0) hx hb dX2_body_102 (by decide) ?_
    refine lv_bipush (v := 7) hx hb dX2_body_103 (by decide) ?_
    obtain ⟨v15, t16, ht16, h⟩ := bd2_some h
    refine w_int hS (run_t (As := [.int (x2 + (1 : Int32)), .int (0 : Int32), .int (7 : Int32)]) (rest := []) C hK hT (mX2_figure ht16) q1774 q1776 qs86 q162 q1777 ⟨rfl, rfl⟩ hdX2_figure ⟨Nat.le_of_ble_eq_true rfl, Nat.le_of_ble_eq_true rfl⟩ ⟨Nat.zero_le _, Nat.zero_le _⟩ rfl hl.1 rfl (Nat.le_of_ble_eq_true rfl) dX2_body_105) (fun H locs hT hS => ?_)
    exact e_wi C hT hS h dX2_body_108
  replace h := if_f c h
  have g7 := tI_ne (k := 11) (by decide) c
  by_cases c : x1 = (12 : Int32)
  · replace h := if_t c h
    rw [c]
    refine lv_tableIn (off := 108) (tgt := 109) hx hb dX2_body_1 (by decide) (by decide) rfl (by decide) ?_
    refine lv_aload_n hx hb dX2_body_109 rfl (lv_at hl 0 rfl) ?_
    refine lv_iload_n hx hb dX2_body_110 rfl (lv_at hl 2 rfl) ?_
    refine lv_iconst (v := 1) hx hb dX2_body_111 (by decide) ?_
    refine lv_iadd hx hb dX2_body_112 ?_
    refine lv_iconst (v := 1) hx hb dX2_body_113 (by decide) ?_
    refine lv_bipush (v := 99) hx hb dX2_body_114 (by decide) ?_
    obtain ⟨v17, t18, ht18, h⟩ := bd2_some h
    refine w_int hS (run_t (As := [.int (x2 + (1 : Int32)), .int (1 : Int32), .int (99 : Int32)]) (rest := []) C hK hT (mX2_figure ht18) q1774 q1776 qs86 q162 q1777 ⟨rfl, rfl⟩ hdX2_figure ⟨Nat.le_of_ble_eq_true rfl, Nat.le_of_ble_eq_true rfl⟩ ⟨Nat.zero_le _, Nat.zero_le _⟩ rfl hl.1 rfl (Nat.le_of_ble_eq_true rfl) dX2_body_116) (fun H locs hT hS => ?_)
    exact e_wi C hT hS h dX2_body_119
  replace h := if_f c h
  have g8 := tI_ne (k := 12) (by decide) c
  refine lv_tableOut (tgt := 120) hx hb dX2_body_1 (by omega) (by decide) ?_
  refine lv_aload_n hx hb dX2_body_120 rfl (lv_at hl 0 rfl) ?_
  refine lv_iload_n hx hb dX2_body_121 rfl (lv_at hl 1 rfl) ?_
  refine lv_iload_n hx hb dX2_body_122 rfl (lv_at hl 2 rfl) ?_
  obtain ⟨v19, t20, ht20, h⟩ := bd2_some h
  refine w_int hS (run_t (As := [.int x1, .int x2]) (rest := []) C hK hT (mX2_lawClause ht20) q1797 q1799 qs91 q162 q1800 ⟨rfl, rfl⟩ hdX2_lawClause ⟨Nat.le_of_ble_eq_true rfl, Nat.le_of_ble_eq_true rfl⟩ ⟨Nat.zero_le _, Nat.zero_le _⟩ rfl hl.1 rfl (Nat.le_of_ble_eq_true rfl) dX2_body_123) (fun H locs hT hS => ?_)
  exact e_wi C hT hS h dX2_body_126
theorem mX2_body {l : Launch} {D : va_G} {dA : Nat → ClassId} {b : Nat} {t : TS} {x1 : Int32} {x2 : Int32} {r : Int32} {t9 : TS} (h : T_body t x1 x2 = some (r, t9)) : Met l yX2_body (ws_ yX2_body cX2_body 3 (some .int)) rmX2_body (tPc D dA b t [.ref b, .int x1, .int x2]) (tQ D dA b t9 (some (.int r))) 0 0 (ta b) := en_R (by decide +kernel) rfl (Nat.le_of_ble_eq_true rfl) (fun p e s m below meth c ls C hK hT hl => bX2_body C hK t x1 x2 _ [] hT tS.rf ls h hl)
set_option maxRecDepth 20000 in
abbrev rmX2_isAct : Room := { frames := 2, cells := 0, slots := 0, locals := 45 }
theorem hdX2_isAct : yX2_isAct.cls = RX2 ∧ yX2_isAct.cls ≠ "java/lang/invoke/MethodHandle" ∧ yX2_isAct.cls ≠ "java/lang/invoke/VarHandle" ∧ (parseMethodDescriptor yX2_isAct.desc).map (fun d => d.parameters.length) = some 0 := by decide +kernel
theorem bX2_isAct_131 {p : Program} {l : Launch} {e : Env} {s : State} {m : MethodId} {args : Array Value} {below : List Frame} {meth : Method} {c : Code} {D : va_G} {dA : Nat → ClassId} {b : Nat} {t : TS} {r : Int32} (C : cx p s m args meth c cX2_isAct RX2 2 (some .int)) (hK : kk D dA s) (hT : wd D (tw dA b t) s.heap) : ∀ (y0 : Int32) (ls : Array Slot), T_isAct_131 t y0 = some r → lv_has ls 2 [(0, .ref b)] → W p l e rmX2_isAct s m args below meth c s.heap [] 0 0 (MQ below (rQi r) args s 0 0 nof) (F0 m 131 ls [.int y0]) := by
  obtain ⟨hx, hb, hr, hml, hown, hts, hlocks⟩ := id C
  intro y0 ls h hl
  unfold T_isAct_131 at h
  refine lv_istore_n (lv' := [(1, .int y0), (0, .ref b)]) hx hb dX2_isAct_131 rfl hl (by decide) rfl (fun ls hl => ?_)
  refine lv_iload_n hx hb dX2_isAct_132 rfl (lv_at hl 0 rfl) ?_
  refine lv_if_eq (tgt := 203) hx hb dX2_isAct_133 (by decide) (fun c => ?_) (fun c => ?_)
  · replace h := if_t c h
    refine lv_iconst (v := -1) hx hb dX2_isAct_203 (by decide) ?_
    exact e_ri C h dX2_isAct_204
  · replace h := if_f c h
    refine lv_aload_n hx hb dX2_isAct_136 rfl (lv_at hl 1 rfl) ?_
    refine lv_aload_n hx hb dX2_isAct_137 rfl (lv_at hl 1 rfl) ?_
    refine tg12 C hK hT dX2_isAct_138 ?_
    refine lv_iconst (v := 4) hx hb dX2_isAct_141 (by decide) ?_
    refine lv_iadd hx hb dX2_isAct_142 ?_
    obtain ⟨v1, hv1, h⟩ := bd1_some h
    refine r_int (run_t (As := [.int ((t.1 12 0) + (4 : Int32))]) (rest := []) C hK hT (mX2_byteAt hv1) q1719 q1721 qs77 q162 q1722 ⟨rfl, rfl⟩ hdX2_byteAt ⟨Nat.le_of_ble_eq_true rfl, Nat.le_of_ble_eq_true rfl⟩ ⟨Nat.zero_le _, Nat.zero_le _⟩ rfl hl.1 rfl (Nat.le_of_ble_eq_true rfl) dX2_isAct_143) ?_
    refine lv_bipush (v := 114) hx hb dX2_isAct_146 (by decide) ?_
    refine lv_icmp_ne (tgt := 203) hx hb dX2_isAct_148 (by decide) (fun c => ?_) (fun c => ?_)
    · replace h := if_f c h
      refine lv_iconst (v := -1) hx hb dX2_isAct_203 (by decide) ?_
      exact e_ri C h dX2_isAct_204
    · replace h := if_t c h
      refine lv_aload_n hx hb dX2_isAct_151 rfl (lv_at hl 1 rfl) ?_
      refine lv_aload_n hx hb dX2_isAct_152 rfl (lv_at hl 1 rfl) ?_
      refine tg12 C hK hT dX2_isAct_153 ?_
      refine lv_iconst (v := 5) hx hb dX2_isAct_156 (by decide) ?_
      refine lv_iadd hx hb dX2_isAct_157 ?_
      obtain ⟨v2, hv2, h⟩ := bd1_some h
      refine r_int (run_t (As := [.int ((t.1 12 0) + (5 : Int32))]) (rest := []) C hK hT (mX2_byteAt hv2) q1719 q1721 qs77 q162 q1722 ⟨rfl, rfl⟩ hdX2_byteAt ⟨Nat.le_of_ble_eq_true rfl, Nat.le_of_ble_eq_true rfl⟩ ⟨Nat.zero_le _, Nat.zero_le _⟩ rfl hl.1 rfl (Nat.le_of_ble_eq_true rfl) dX2_isAct_158) ?_
      refine lv_bipush (v := 97) hx hb dX2_isAct_161 (by decide) ?_
      refine lv_icmp_ne (tgt := 203) hx hb dX2_isAct_163 (by decide) (fun c => ?_) (fun c => ?_)
      · replace h := if_f c h
        refine lv_iconst (v := -1) hx hb dX2_isAct_203 (by decide) ?_
        exact e_ri C h dX2_isAct_204
      · replace h := if_t c h
        refine lv_aload_n hx hb dX2_isAct_166 rfl (lv_at hl 1 rfl) ?_
        refine lv_aload_n hx hb dX2_isAct_167 rfl (lv_at hl 1 rfl) ?_
        refine tg12 C hK hT dX2_isAct_168 ?_
        refine lv_bipush (v := 6) hx hb dX2_isAct_171 (by decide) ?_
        refine lv_iadd hx hb dX2_isAct_173 ?_
        obtain ⟨v3, hv3, h⟩ := bd1_some h
        refine r_int (run_t (As := [.int ((t.1 12 0) + (6 : Int32))]) (rest := []) C hK hT (mX2_byteAt hv3) q1719 q1721 qs77 q162 q1722 ⟨rfl, rfl⟩ hdX2_byteAt ⟨Nat.le_of_ble_eq_true rfl, Nat.le_of_ble_eq_true rfl⟩ ⟨Nat.zero_le _, Nat.zero_le _⟩ rfl hl.1 rfl (Nat.le_of_ble_eq_true rfl) dX2_isAct_174) ?_
        refine lv_bipush (v := 99) hx hb dX2_isAct_177 (by decide) ?_
        refine lv_icmp_ne (tgt := 203) hx hb dX2_isAct_179 (by decide) (fun c => ?_) (fun c => ?_)
        · replace h := if_f c h
          refine lv_iconst (v := -1) hx hb dX2_isAct_203 (by decide) ?_
          exact e_ri C h dX2_isAct_204
        · replace h := if_t c h
          refine lv_aload_n hx hb dX2_isAct_182 rfl (lv_at hl 1 rfl) ?_
          refine lv_aload_n hx hb dX2_isAct_183 rfl (lv_at hl 1 rfl) ?_
          refine tg12 C hK hT dX2_isAct_184 ?_
          refine lv_bipush (v := 7) hx hb dX2_isAct_187 (by decide) ?_
          refine lv_iadd hx hb dX2_isAct_189 ?_
          obtain ⟨v4, hv4, h⟩ := bd1_some h
          refine r_int (run_t (As := [.int ((t.1 12 0) + (7 : Int32))]) (rest := []) C hK hT (mX2_byteAt hv4) q1719 q1721 qs77 q162 q1722 ⟨rfl, rfl⟩ hdX2_byteAt ⟨Nat.le_of_ble_eq_true rfl, Nat.le_of_ble_eq_true rfl⟩ ⟨Nat.zero_le _, Nat.zero_le _⟩ rfl hl.1 rfl (Nat.le_of_ble_eq_true rfl) dX2_isAct_190) ?_
          refine lv_bipush (v := 116) hx hb dX2_isAct_193 (by decide) ?_
          refine lv_icmp_ne (tgt := 203) hx hb dX2_isAct_195 (by decide) (fun c => ?_) (fun c => ?_)
          · replace h := if_f c h
            refine lv_iconst (v := -1) hx hb dX2_isAct_203 (by decide) ?_
            exact e_ri C h dX2_isAct_204
          · replace h := if_t c h
            refine lv_bipush (v := 11) hx hb dX2_isAct_198 (by decide) ?_
            refine lv_goto (tgt := 204) hx hb dX2_isAct_200 (by decide) ?_
            exact e_ri C h dX2_isAct_204
theorem bX2_isAct_130 {p : Program} {l : Launch} {e : Env} {s : State} {m : MethodId} {args : Array Value} {below : List Frame} {meth : Method} {c : Code} {D : va_G} {dA : Nat → ClassId} {b : Nat} {t : TS} {r : Int32} (C : cx p s m args meth c cX2_isAct RX2 2 (some .int)) (hK : kk D dA s) (hT : wd D (tw dA b t) s.heap) : ∀ (ls : Array Slot), T_isAct_130 t = some r → lv_has ls 2 [(0, .ref b)] → W p l e rmX2_isAct s m args below meth c s.heap [] 0 0 (MQ below (rQi r) args s 0 0 nof) (F0 m 130 ls []) := by
  obtain ⟨hx, hb, hr, hml, hown, hts, hlocks⟩ := id C
  intro ls h hl
  unfold T_isAct_130 at h
  refine lv_iconst (v := 0) hx hb dX2_isAct_130 (by decide) ?_
  exact bX2_isAct_131 C hK hT (0 : Int32) ls h (lv_sub hl [0] rfl)
theorem bX2_isAct_63 {p : Program} {l : Launch} {e : Env} {s : State} {m : MethodId} {args : Array Value} {below : List Frame} {meth : Method} {c : Code} {D : va_G} {dA : Nat → ClassId} {b : Nat} {t : TS} {r : Int32} (C : cx p s m args meth c cX2_isAct RX2 2 (some .int)) (hK : kk D dA s) (hT : wd D (tw dA b t) s.heap) : ∀ (y0 : Int32) (ls : Array Slot), T_isAct_63 t y0 = some r → lv_has ls 2 [(0, .ref b)] → W p l e rmX2_isAct s m args below meth c s.heap [] 0 0 (MQ below (rQi r) args s 0 0 nof) (F0 m 63 ls [.int y0]) := by
  obtain ⟨hx, hb, hr, hml, hown, hts, hlocks⟩ := id C
  intro y0 ls h hl
  unfold T_isAct_63 at h
  refine lv_istore_n (lv' := [(1, .int y0), (0, .ref b)]) hx hb dX2_isAct_63 rfl hl (by decide) rfl (fun ls hl => ?_)
  refine lv_iload_n hx hb dX2_isAct_64 rfl (lv_at hl 0 rfl) ?_
  refine lv_if_eq (tgt := 130) hx hb dX2_isAct_65 (by decide) (fun c => ?_) (fun c => ?_)
  · replace h := if_t c h
    exact bX2_isAct_130 C hK hT  ls h (lv_sub hl [1] rfl)
  · replace h := if_f c h
    refine lv_aload_n hx hb dX2_isAct_68 rfl (lv_at hl 1 rfl) ?_
    refine lv_aload_n hx hb dX2_isAct_69 rfl (lv_at hl 1 rfl) ?_
    refine tg12 C hK hT dX2_isAct_70 ?_
    obtain ⟨v1, hv1, h⟩ := bd1_some h
    refine r_int (run_t (As := [.int (t.1 12 0)]) (rest := []) C hK hT (mX2_byteAt hv1) q1719 q1721 qs77 q162 q1722 ⟨rfl, rfl⟩ hdX2_byteAt ⟨Nat.le_of_ble_eq_true rfl, Nat.le_of_ble_eq_true rfl⟩ ⟨Nat.zero_le _, Nat.zero_le _⟩ rfl hl.1 rfl (Nat.le_of_ble_eq_true rfl) dX2_isAct_73) ?_
    refine lv_bipush (v := 99) hx hb dX2_isAct_76 (by decide) ?_
    refine lv_icmp_ne (tgt := 130) hx hb dX2_isAct_78 (by decide) (fun c => ?_) (fun c => ?_)
    · replace h := if_f c h
      exact bX2_isAct_130 C hK hT  ls h (lv_sub hl [1] rfl)
    · replace h := if_t c h
      refine lv_aload_n hx hb dX2_isAct_81 rfl (lv_at hl 1 rfl) ?_
      refine lv_aload_n hx hb dX2_isAct_82 rfl (lv_at hl 1 rfl) ?_
      refine tg12 C hK hT dX2_isAct_83 ?_
      refine lv_iconst (v := 1) hx hb dX2_isAct_86 (by decide) ?_
      refine lv_iadd hx hb dX2_isAct_87 ?_
      obtain ⟨v2, hv2, h⟩ := bd1_some h
      refine r_int (run_t (As := [.int ((t.1 12 0) + (1 : Int32))]) (rest := []) C hK hT (mX2_byteAt hv2) q1719 q1721 qs77 q162 q1722 ⟨rfl, rfl⟩ hdX2_byteAt ⟨Nat.le_of_ble_eq_true rfl, Nat.le_of_ble_eq_true rfl⟩ ⟨Nat.zero_le _, Nat.zero_le _⟩ rfl hl.1 rfl (Nat.le_of_ble_eq_true rfl) dX2_isAct_88) ?_
      refine lv_bipush (v := 111) hx hb dX2_isAct_91 (by decide) ?_
      refine lv_icmp_ne (tgt := 130) hx hb dX2_isAct_93 (by decide) (fun c => ?_) (fun c => ?_)
      · replace h := if_f c h
        exact bX2_isAct_130 C hK hT  ls h (lv_sub hl [1] rfl)
      · replace h := if_t c h
        refine lv_aload_n hx hb dX2_isAct_96 rfl (lv_at hl 1 rfl) ?_
        refine lv_aload_n hx hb dX2_isAct_97 rfl (lv_at hl 1 rfl) ?_
        refine tg12 C hK hT dX2_isAct_98 ?_
        refine lv_iconst (v := 2) hx hb dX2_isAct_101 (by decide) ?_
        refine lv_iadd hx hb dX2_isAct_102 ?_
        obtain ⟨v3, hv3, h⟩ := bd1_some h
        refine r_int (run_t (As := [.int ((t.1 12 0) + (2 : Int32))]) (rest := []) C hK hT (mX2_byteAt hv3) q1719 q1721 qs77 q162 q1722 ⟨rfl, rfl⟩ hdX2_byteAt ⟨Nat.le_of_ble_eq_true rfl, Nat.le_of_ble_eq_true rfl⟩ ⟨Nat.zero_le _, Nat.zero_le _⟩ rfl hl.1 rfl (Nat.le_of_ble_eq_true rfl) dX2_isAct_103) ?_
        refine lv_bipush (v := 110) hx hb dX2_isAct_106 (by decide) ?_
        refine lv_icmp_ne (tgt := 130) hx hb dX2_isAct_108 (by decide) (fun c => ?_) (fun c => ?_)
        · replace h := if_f c h
          exact bX2_isAct_130 C hK hT  ls h (lv_sub hl [1] rfl)
        · replace h := if_t c h
          refine lv_aload_n hx hb dX2_isAct_111 rfl (lv_at hl 1 rfl) ?_
          refine lv_aload_n hx hb dX2_isAct_112 rfl (lv_at hl 1 rfl) ?_
          refine tg12 C hK hT dX2_isAct_113 ?_
          refine lv_iconst (v := 3) hx hb dX2_isAct_116 (by decide) ?_
          refine lv_iadd hx hb dX2_isAct_117 ?_
          obtain ⟨v4, hv4, h⟩ := bd1_some h
          refine r_int (run_t (As := [.int ((t.1 12 0) + (3 : Int32))]) (rest := []) C hK hT (mX2_byteAt hv4) q1719 q1721 qs77 q162 q1722 ⟨rfl, rfl⟩ hdX2_byteAt ⟨Nat.le_of_ble_eq_true rfl, Nat.le_of_ble_eq_true rfl⟩ ⟨Nat.zero_le _, Nat.zero_le _⟩ rfl hl.1 rfl (Nat.le_of_ble_eq_true rfl) dX2_isAct_118) ?_
          refine lv_bipush (v := 116) hx hb dX2_isAct_121 (by decide) ?_
          refine lv_icmp_ne (tgt := 130) hx hb dX2_isAct_123 (by decide) (fun c => ?_) (fun c => ?_)
          · replace h := if_f c h
            exact bX2_isAct_130 C hK hT  ls h (lv_sub hl [1] rfl)
          · replace h := if_t c h
            refine lv_iconst (v := 1) hx hb dX2_isAct_126 (by decide) ?_
            refine lv_goto (tgt := 131) hx hb dX2_isAct_127 (by decide) ?_
            exact bX2_isAct_131 C hK hT (1 : Int32) ls h (lv_sub hl [1] rfl)
theorem bX2_isAct {p : Program} {l : Launch} {e : Env} {s : State} {m : MethodId} {args : Array Value} {below : List Frame} {meth : Method} {c : Code} {D : va_G} {dA : Nat → ClassId} {b : Nat} {t : TS} {r : Int32} (C : cx p s m args meth c cX2_isAct RX2 2 (some .int)) (hK : kk D dA s) (hT : wd D (tw dA b t) s.heap) : ∀ (ls : Array Slot), T_isAct t = some r → lv_has ls 2 [(0, .ref b)] → W p l e rmX2_isAct s m args below meth c s.heap [] 0 0 (MQ below (rQi r) args s 0 0 nof) (F0 m 0 ls []) := by
  obtain ⟨hx, hb, hr, hml, hown, hts, hlocks⟩ := id C
  intro ls h hl
  unfold T_isAct at h
  refine lv_aload_n hx hb dX2_isAct_0 rfl (lv_at hl 0 rfl) ?_
  refine tg13 C hK hT dX2_isAct_1 ?_
  refine lv_iconst (v := 2) hx hb dX2_isAct_4 (by decide) ?_
  refine lv_icmp_eq (tgt := 10) hx hb dX2_isAct_5 (by decide) (fun c => ?_) (fun c => ?_)
  · replace h := if_t c h
    refine lv_aload_n hx hb dX2_isAct_10 rfl (lv_at hl 0 rfl) ?_
    refine lv_bipush (v := 109) hx hb dX2_isAct_11 (by decide) ?_
    refine lv_bipush (v := 111) hx hb dX2_isAct_13 (by decide) ?_
    refine lv_bipush (v := 114) hx hb dX2_isAct_15 (by decide) ?_
    obtain ⟨v1, hv1, h⟩ := bd1_some h
    refine r_long (run_s (As := [.int (109 : Int32), .int (111 : Int32), .int (114 : Int32)]) (rest := [.ref b]) C (mX2_w3 hv1) q1741 q1742 q162 q1743 ⟨rfl, rfl⟩ hdX2_w3 ⟨Nat.le_of_ble_eq_true rfl, Nat.le_of_ble_eq_true rfl⟩ ⟨Nat.zero_le _, Nat.zero_le _⟩ rfl hl.1 rfl (Nat.le_of_ble_eq_true rfl) dX2_isAct_17) ?_
    refine lv_bipush (v := 32) hx hb dX2_isAct_20 (by decide) ?_
    refine lv_lshl hx hb dX2_isAct_22 rfl ?_
    refine lv_bipush (v := 110) hx hb dX2_isAct_23 (by decide) ?_
    refine lv_bipush (v := 105) hx hb dX2_isAct_25 (by decide) ?_
    refine lv_bipush (v := 110) hx hb dX2_isAct_27 (by decide) ?_
    refine lv_bipush (v := 103) hx hb dX2_isAct_29 (by decide) ?_
    obtain ⟨v2, hv2, h⟩ := bd1_some h
    refine r_long (run_s (As := [.int (110 : Int32), .int (105 : Int32), .int (110 : Int32), .int (103 : Int32)]) (rest := [.long (v1 <<< ((32 : Int32).toInt64 &&& (63 : Int64))), .ref b]) C (mX2_w4 hv2) q1748 q1749 q162 q1750 ⟨rfl, rfl⟩ hdX2_w4 ⟨Nat.le_of_ble_eq_true rfl, Nat.le_of_ble_eq_true rfl⟩ ⟨Nat.zero_le _, Nat.zero_le _⟩ rfl hl.1 rfl (Nat.le_of_ble_eq_true rfl) dX2_isAct_31) ?_
    refine lv_lor hx hb dX2_isAct_34 ?_
    obtain ⟨v3, hv3, h⟩ := bd1_some h
    refine r_int (run_t (As := [.long ((v1 <<< ((32 : Int32).toInt64 &&& (63 : Int64))) ||| v2)]) (rest := []) C hK hT (mX2_isWord hv3) q1744 q1746 qs80 q162 q1747 ⟨rfl, rfl⟩ hdX2_isWord ⟨Nat.le_of_ble_eq_true rfl, Nat.le_of_ble_eq_true rfl⟩ ⟨Nat.zero_le _, Nat.zero_le _⟩ rfl hl.1 rfl (Nat.le_of_ble_eq_true rfl) dX2_isAct_35) ?_
    refine lv_if_eq (tgt := 44) hx hb dX2_isAct_38 (by decide) (fun c => ?_) (fun c => ?_)
    · replace h := if_t c h
      refine lv_aload_n hx hb dX2_isAct_44 rfl (lv_at hl 0 rfl) ?_
      refine tg11 C hK hT dX2_isAct_45 ?_
      refine lv_aload_n hx hb dX2_isAct_48 rfl (lv_at hl 0 rfl) ?_
      refine tg12 C hK hT dX2_isAct_49 ?_
      refine lv_isub hx hb dX2_isAct_52 ?_
      refine lv_bipush (v := 8) hx hb dX2_isAct_53 (by decide) ?_
      refine lv_icmp_ne (tgt := 62) hx hb dX2_isAct_55 (by decide) (fun c => ?_) (fun c => ?_)
      · replace h := if_f c h
        refine lv_iconst (v := 0) hx hb dX2_isAct_62 (by decide) ?_
        exact bX2_isAct_63 C hK hT (0 : Int32) ls h (lv_sub hl [0] rfl)
      · replace h := if_t c h
        refine lv_iconst (v := 1) hx hb dX2_isAct_58 (by decide) ?_
        refine lv_goto (tgt := 63) hx hb dX2_isAct_59 (by decide) ?_
        exact bX2_isAct_63 C hK hT (1 : Int32) ls h (lv_sub hl [0] rfl)
    · replace h := if_f c h
      refine lv_bipush (v := 12) hx hb dX2_isAct_41 (by decide) ?_
      exact e_ri C h dX2_isAct_43
  · replace h := if_f c h
    refine lv_iconst (v := -1) hx hb dX2_isAct_8 (by decide) ?_
    exact e_ri C h dX2_isAct_9
theorem mX2_isAct {l : Launch} {D : va_G} {dA : Nat → ClassId} {b : Nat} {t : TS} {r : Int32} (h : T_isAct t = some r) : Met l yX2_isAct (ws_ yX2_isAct cX2_isAct 2 (some .int)) rmX2_isAct (tPc D dA b t [.ref b]) (rQi r) 0 0 nof := en_R (by decide +kernel) rfl (Nat.le_of_ble_eq_true rfl) (fun p e s m below meth c ls C hK hT hl => bX2_isAct C hK hT ls h hl)
set_option maxRecDepth 20000 in
abbrev rmX2_sortOf : Room := { frames := 3, cells := 0, slots := 0, locals := 71 }
theorem hdX2_sortOf : yX2_sortOf.cls = RX2 ∧ yX2_sortOf.cls ≠ "java/lang/invoke/MethodHandle" ∧ yX2_sortOf.cls ≠ "java/lang/invoke/VarHandle" ∧ (parseMethodDescriptor yX2_sortOf.desc).map (fun d => d.parameters.length) = some 0 := by decide +kernel
theorem bX2_sortOf {p : Program} {l : Launch} {e : Env} {s : State} {m : MethodId} {args : Array Value} {below : List Frame} {meth : Method} {c : Code} {D : va_G} {dA : Nat → ClassId} {b : Nat} {t : TS} {r : Int32} (C : cx p s m args meth c cX2_sortOf RX2 1 (some .int)) (hK : kk D dA s) (hT : wd D (tw dA b t) s.heap) : ∀ (ls : Array Slot), T_sortOf t = some r → lv_has ls 1 [(0, .ref b)] → W p l e rmX2_sortOf s m args below meth c s.heap [] 0 0 (MQ below (rQi r) args s 0 0 nof) (F0 m 0 ls []) := by
  obtain ⟨hx, hb, hr, hml, hown, hts, hlocks⟩ := id C
  intro ls h hl
  unfold T_sortOf at h
  refine lv_aload_n hx hb dX2_sortOf_0 rfl (lv_at hl 0 rfl) ?_
  refine lv_bipush (v := 106) hx hb dX2_sortOf_1 (by decide) ?_
  refine lv_bipush (v := 111) hx hb dX2_sortOf_3 (by decide) ?_
  refine lv_bipush (v := 105) hx hb dX2_sortOf_5 (by decide) ?_
  refine lv_bipush (v := 110) hx hb dX2_sortOf_7 (by decide) ?_
  refine lv_bipush (v := 115) hx hb dX2_sortOf_9 (by decide) ?_
  obtain ⟨v1, hv1, h⟩ := bd1_some h
  refine r_long (run_s (As := [.int (106 : Int32), .int (111 : Int32), .int (105 : Int32), .int (110 : Int32), .int (115 : Int32)]) (rest := [.ref b]) C (mX2_w5 hv1) q1738 q1739 q162 q1740 ⟨rfl, rfl⟩ hdX2_w5 ⟨Nat.le_of_ble_eq_true rfl, Nat.le_of_ble_eq_true rfl⟩ ⟨Nat.zero_le _, Nat.zero_le _⟩ rfl hl.1 rfl (Nat.le_of_ble_eq_true rfl) dX2_sortOf_11) ?_
  obtain ⟨v2, hv2, h⟩ := bd1_some h
  refine r_int (run_t (As := [.long v1]) (rest := []) C hK hT (mX2_isWord hv2) q1744 q1746 qs80 q162 q1747 ⟨rfl, rfl⟩ hdX2_isWord ⟨Nat.le_of_ble_eq_true rfl, Nat.le_of_ble_eq_true rfl⟩ ⟨Nat.zero_le _, Nat.zero_le _⟩ rfl hl.1 rfl (Nat.le_of_ble_eq_true rfl) dX2_sortOf_14) ?_
  refine lv_if_eq (tgt := 22) hx hb dX2_sortOf_17 (by decide) (fun c => ?_) (fun c => ?_)
  · replace h := if_t c h
    refine lv_aload_n hx hb dX2_sortOf_22 rfl (lv_at hl 0 rfl) ?_
    refine lv_bipush (v := 114) hx hb dX2_sortOf_23 (by decide) ?_
    refine lv_bipush (v := 101) hx hb dX2_sortOf_25 (by decide) ?_
    refine lv_bipush (v := 116) hx hb dX2_sortOf_27 (by decide) ?_
    obtain ⟨v3, hv3, h⟩ := bd1_some h
    refine r_long (run_s (As := [.int (114 : Int32), .int (101 : Int32), .int (116 : Int32)]) (rest := [.ref b]) C (mX2_w3 hv3) q1741 q1742 q162 q1743 ⟨rfl, rfl⟩ hdX2_w3 ⟨Nat.le_of_ble_eq_true rfl, Nat.le_of_ble_eq_true rfl⟩ ⟨Nat.zero_le _, Nat.zero_le _⟩ rfl hl.1 rfl (Nat.le_of_ble_eq_true rfl) dX2_sortOf_29) ?_
    refine lv_bipush (v := 32) hx hb dX2_sortOf_32 (by decide) ?_
    refine lv_lshl hx hb dX2_sortOf_34 rfl ?_
    refine lv_bipush (v := 117) hx hb dX2_sortOf_35 (by decide) ?_
    refine lv_bipush (v := 114) hx hb dX2_sortOf_37 (by decide) ?_
    refine lv_bipush (v := 110) hx hb dX2_sortOf_39 (by decide) ?_
    refine lv_bipush (v := 115) hx hb dX2_sortOf_41 (by decide) ?_
    obtain ⟨v4, hv4, h⟩ := bd1_some h
    refine r_long (run_s (As := [.int (117 : Int32), .int (114 : Int32), .int (110 : Int32), .int (115 : Int32)]) (rest := [.long (v3 <<< ((32 : Int32).toInt64 &&& (63 : Int64))), .ref b]) C (mX2_w4 hv4) q1748 q1749 q162 q1750 ⟨rfl, rfl⟩ hdX2_w4 ⟨Nat.le_of_ble_eq_true rfl, Nat.le_of_ble_eq_true rfl⟩ ⟨Nat.zero_le _, Nat.zero_le _⟩ rfl hl.1 rfl (Nat.le_of_ble_eq_true rfl) dX2_sortOf_43) ?_
    refine lv_lor hx hb dX2_sortOf_46 ?_
    obtain ⟨v5, hv5, h⟩ := bd1_some h
    refine r_int (run_t (As := [.long ((v3 <<< ((32 : Int32).toInt64 &&& (63 : Int64))) ||| v4)]) (rest := []) C hK hT (mX2_isWord hv5) q1744 q1746 qs80 q162 q1747 ⟨rfl, rfl⟩ hdX2_isWord ⟨Nat.le_of_ble_eq_true rfl, Nat.le_of_ble_eq_true rfl⟩ ⟨Nat.zero_le _, Nat.zero_le _⟩ rfl hl.1 rfl (Nat.le_of_ble_eq_true rfl) dX2_sortOf_47) ?_
    refine lv_if_eq (tgt := 55) hx hb dX2_sortOf_50 (by decide) (fun c => ?_) (fun c => ?_)
    · replace h := if_t c h
      refine lv_aload_n hx hb dX2_sortOf_55 rfl (lv_at hl 0 rfl) ?_
      refine lv_bipush (v := 112) hx hb dX2_sortOf_56 (by decide) ?_
      refine lv_bipush (v := 114) hx hb dX2_sortOf_58 (by decide) ?_
      refine lv_bipush (v := 105) hx hb dX2_sortOf_60 (by decide) ?_
      refine lv_bipush (v := 99) hx hb dX2_sortOf_62 (by decide) ?_
      refine lv_bipush (v := 101) hx hb dX2_sortOf_64 (by decide) ?_
      obtain ⟨v6, hv6, h⟩ := bd1_some h
      refine r_long (run_s (As := [.int (112 : Int32), .int (114 : Int32), .int (105 : Int32), .int (99 : Int32), .int (101 : Int32)]) (rest := [.ref b]) C (mX2_w5 hv6) q1738 q1739 q162 q1740 ⟨rfl, rfl⟩ hdX2_w5 ⟨Nat.le_of_ble_eq_true rfl, Nat.le_of_ble_eq_true rfl⟩ ⟨Nat.zero_le _, Nat.zero_le _⟩ rfl hl.1 rfl (Nat.le_of_ble_eq_true rfl) dX2_sortOf_66) ?_
      obtain ⟨v7, hv7, h⟩ := bd1_some h
      refine r_int (run_t (As := [.long v6]) (rest := []) C hK hT (mX2_isWord hv7) q1744 q1746 qs80 q162 q1747 ⟨rfl, rfl⟩ hdX2_isWord ⟨Nat.le_of_ble_eq_true rfl, Nat.le_of_ble_eq_true rfl⟩ ⟨Nat.zero_le _, Nat.zero_le _⟩ rfl hl.1 rfl (Nat.le_of_ble_eq_true rfl) dX2_sortOf_69) ?_
      refine lv_if_eq (tgt := 77) hx hb dX2_sortOf_72 (by decide) (fun c => ?_) (fun c => ?_)
      · replace h := if_t c h
        refine lv_aload_n hx hb dX2_sortOf_77 rfl (lv_at hl 0 rfl) ?_
        refine lv_bipush (v := 98) hx hb dX2_sortOf_78 (by decide) ?_
        refine lv_bipush (v := 105) hx hb dX2_sortOf_80 (by decide) ?_
        refine lv_bipush (v := 110) hx hb dX2_sortOf_82 (by decide) ?_
        refine lv_bipush (v := 100) hx hb dX2_sortOf_84 (by decide) ?_
        refine lv_bipush (v := 115) hx hb dX2_sortOf_86 (by decide) ?_
        obtain ⟨v8, hv8, h⟩ := bd1_some h
        refine r_long (run_s (As := [.int (98 : Int32), .int (105 : Int32), .int (110 : Int32), .int (100 : Int32), .int (115 : Int32)]) (rest := [.ref b]) C (mX2_w5 hv8) q1738 q1739 q162 q1740 ⟨rfl, rfl⟩ hdX2_w5 ⟨Nat.le_of_ble_eq_true rfl, Nat.le_of_ble_eq_true rfl⟩ ⟨Nat.zero_le _, Nat.zero_le _⟩ rfl hl.1 rfl (Nat.le_of_ble_eq_true rfl) dX2_sortOf_88) ?_
        obtain ⟨v9, hv9, h⟩ := bd1_some h
        refine r_int (run_t (As := [.long v8]) (rest := []) C hK hT (mX2_isWord hv9) q1744 q1746 qs80 q162 q1747 ⟨rfl, rfl⟩ hdX2_isWord ⟨Nat.le_of_ble_eq_true rfl, Nat.le_of_ble_eq_true rfl⟩ ⟨Nat.zero_le _, Nat.zero_le _⟩ rfl hl.1 rfl (Nat.le_of_ble_eq_true rfl) dX2_sortOf_91) ?_
        refine lv_if_eq (tgt := 99) hx hb dX2_sortOf_94 (by decide) (fun c => ?_) (fun c => ?_)
        · replace h := if_t c h
          refine lv_aload_n hx hb dX2_sortOf_99 rfl (lv_at hl 0 rfl) ?_
          refine lv_bipush (v := 119) hx hb dX2_sortOf_100 (by decide) ?_
          refine lv_bipush (v := 111) hx hb dX2_sortOf_102 (by decide) ?_
          refine lv_bipush (v := 114) hx hb dX2_sortOf_104 (by decide) ?_
          refine lv_bipush (v := 100) hx hb dX2_sortOf_106 (by decide) ?_
          obtain ⟨v10, hv10, h⟩ := bd1_some h
          refine r_long (run_s (As := [.int (119 : Int32), .int (111 : Int32), .int (114 : Int32), .int (100 : Int32)]) (rest := [.ref b]) C (mX2_w4 hv10) q1748 q1749 q162 q1750 ⟨rfl, rfl⟩ hdX2_w4 ⟨Nat.le_of_ble_eq_true rfl, Nat.le_of_ble_eq_true rfl⟩ ⟨Nat.zero_le _, Nat.zero_le _⟩ rfl hl.1 rfl (Nat.le_of_ble_eq_true rfl) dX2_sortOf_108) ?_
          obtain ⟨v11, hv11, h⟩ := bd1_some h
          refine r_int (run_t (As := [.long v10]) (rest := []) C hK hT (mX2_isWord hv11) q1744 q1746 qs80 q162 q1747 ⟨rfl, rfl⟩ hdX2_isWord ⟨Nat.le_of_ble_eq_true rfl, Nat.le_of_ble_eq_true rfl⟩ ⟨Nat.zero_le _, Nat.zero_le _⟩ rfl hl.1 rfl (Nat.le_of_ble_eq_true rfl) dX2_sortOf_111) ?_
          refine lv_if_eq (tgt := 119) hx hb dX2_sortOf_114 (by decide) (fun c => ?_) (fun c => ?_)
          · replace h := if_t c h
            refine lv_aload_n hx hb dX2_sortOf_119 rfl (lv_at hl 0 rfl) ?_
            refine lv_bipush (v := 115) hx hb dX2_sortOf_120 (by decide) ?_
            refine lv_bipush (v := 97) hx hb dX2_sortOf_122 (by decide) ?_
            refine lv_bipush (v := 121) hx hb dX2_sortOf_124 (by decide) ?_
            obtain ⟨v12, hv12, h⟩ := bd1_some h
            refine r_long (run_s (As := [.int (115 : Int32), .int (97 : Int32), .int (121 : Int32)]) (rest := [.ref b]) C (mX2_w3 hv12) q1741 q1742 q162 q1743 ⟨rfl, rfl⟩ hdX2_w3 ⟨Nat.le_of_ble_eq_true rfl, Nat.le_of_ble_eq_true rfl⟩ ⟨Nat.zero_le _, Nat.zero_le _⟩ rfl hl.1 rfl (Nat.le_of_ble_eq_true rfl) dX2_sortOf_126) ?_
            obtain ⟨v13, hv13, h⟩ := bd1_some h
            refine r_int (run_t (As := [.long v12]) (rest := []) C hK hT (mX2_isWord hv13) q1744 q1746 qs80 q162 q1747 ⟨rfl, rfl⟩ hdX2_isWord ⟨Nat.le_of_ble_eq_true rfl, Nat.le_of_ble_eq_true rfl⟩ ⟨Nat.zero_le _, Nat.zero_le _⟩ rfl hl.1 rfl (Nat.le_of_ble_eq_true rfl) dX2_sortOf_129) ?_
            refine lv_if_eq (tgt := 137) hx hb dX2_sortOf_132 (by decide) (fun c => ?_) (fun c => ?_)
            · replace h := if_t c h
              refine lv_aload_n hx hb dX2_sortOf_137 rfl (lv_at hl 0 rfl) ?_
              refine lv_bipush (v := 116) hx hb dX2_sortOf_138 (by decide) ?_
              refine lv_bipush (v := 105) hx hb dX2_sortOf_140 (by decide) ?_
              refine lv_bipush (v := 101) hx hb dX2_sortOf_142 (by decide) ?_
              obtain ⟨v14, hv14, h⟩ := bd1_some h
              refine r_long (run_s (As := [.int (116 : Int32), .int (105 : Int32), .int (101 : Int32)]) (rest := [.ref b]) C (mX2_w3 hv14) q1741 q1742 q162 q1743 ⟨rfl, rfl⟩ hdX2_w3 ⟨Nat.le_of_ble_eq_true rfl, Nat.le_of_ble_eq_true rfl⟩ ⟨Nat.zero_le _, Nat.zero_le _⟩ rfl hl.1 rfl (Nat.le_of_ble_eq_true rfl) dX2_sortOf_144) ?_
              obtain ⟨v15, hv15, h⟩ := bd1_some h
              refine r_int (run_t (As := [.long v14]) (rest := []) C hK hT (mX2_isWord hv15) q1744 q1746 qs80 q162 q1747 ⟨rfl, rfl⟩ hdX2_isWord ⟨Nat.le_of_ble_eq_true rfl, Nat.le_of_ble_eq_true rfl⟩ ⟨Nat.zero_le _, Nat.zero_le _⟩ rfl hl.1 rfl (Nat.le_of_ble_eq_true rfl) dX2_sortOf_147) ?_
              refine lv_if_eq (tgt := 156) hx hb dX2_sortOf_150 (by decide) (fun c => ?_) (fun c => ?_)
              · replace h := if_t c h
                refine lv_aload_n hx hb dX2_sortOf_156 rfl (lv_at hl 0 rfl) ?_
                refine lv_bipush (v := 115) hx hb dX2_sortOf_157 (by decide) ?_
                refine lv_bipush (v := 116) hx hb dX2_sortOf_159 (by decide) ?_
                refine lv_bipush (v := 114) hx hb dX2_sortOf_161 (by decide) ?_
                refine lv_bipush (v := 105) hx hb dX2_sortOf_163 (by decide) ?_
                refine lv_bipush (v := 107) hx hb dX2_sortOf_165 (by decide) ?_
                refine lv_bipush (v := 101) hx hb dX2_sortOf_167 (by decide) ?_
                obtain ⟨v16, hv16, h⟩ := bd1_some h
                refine r_long (run_s (As := [.int (115 : Int32), .int (116 : Int32), .int (114 : Int32), .int (105 : Int32), .int (107 : Int32), .int (101 : Int32)]) (rest := [.ref b]) C (mX2_w6 hv16) q1751 q1752 q162 q1753 ⟨rfl, rfl⟩ hdX2_w6 ⟨Nat.le_of_ble_eq_true rfl, Nat.le_of_ble_eq_true rfl⟩ ⟨Nat.zero_le _, Nat.zero_le _⟩ rfl hl.1 rfl (Nat.le_of_ble_eq_true rfl) dX2_sortOf_169) ?_
                obtain ⟨v17, hv17, h⟩ := bd1_some h
                refine r_int (run_t (As := [.long v16]) (rest := []) C hK hT (mX2_isWord hv17) q1744 q1746 qs80 q162 q1747 ⟨rfl, rfl⟩ hdX2_isWord ⟨Nat.le_of_ble_eq_true rfl, Nat.le_of_ble_eq_true rfl⟩ ⟨Nat.zero_le _, Nat.zero_le _⟩ rfl hl.1 rfl (Nat.le_of_ble_eq_true rfl) dX2_sortOf_172) ?_
                refine lv_if_eq (tgt := 181) hx hb dX2_sortOf_175 (by decide) (fun c => ?_) (fun c => ?_)
                · replace h := if_t c h
                  refine lv_aload_n hx hb dX2_sortOf_181 rfl (lv_at hl 0 rfl) ?_
                  refine lv_bipush (v := 98) hx hb dX2_sortOf_182 (by decide) ?_
                  refine lv_bipush (v := 97) hx hb dX2_sortOf_184 (by decide) ?_
                  refine lv_bipush (v := 99) hx hb dX2_sortOf_186 (by decide) ?_
                  refine lv_bipush (v := 107) hx hb dX2_sortOf_188 (by decide) ?_
                  obtain ⟨v18, hv18, h⟩ := bd1_some h
                  refine r_long (run_s (As := [.int (98 : Int32), .int (97 : Int32), .int (99 : Int32), .int (107 : Int32)]) (rest := [.ref b]) C (mX2_w4 hv18) q1748 q1749 q162 q1750 ⟨rfl, rfl⟩ hdX2_w4 ⟨Nat.le_of_ble_eq_true rfl, Nat.le_of_ble_eq_true rfl⟩ ⟨Nat.zero_le _, Nat.zero_le _⟩ rfl hl.1 rfl (Nat.le_of_ble_eq_true rfl) dX2_sortOf_190) ?_
                  obtain ⟨v19, hv19, h⟩ := bd1_some h
                  refine r_int (run_t (As := [.long v18]) (rest := []) C hK hT (mX2_isWord hv19) q1744 q1746 qs80 q162 q1747 ⟨rfl, rfl⟩ hdX2_isWord ⟨Nat.le_of_ble_eq_true rfl, Nat.le_of_ble_eq_true rfl⟩ ⟨Nat.zero_le _, Nat.zero_le _⟩ rfl hl.1 rfl (Nat.le_of_ble_eq_true rfl) dX2_sortOf_193) ?_
                  refine lv_if_eq (tgt := 202) hx hb dX2_sortOf_196 (by decide) (fun c => ?_) (fun c => ?_)
                  · replace h := if_t c h
                    refine lv_aload_n hx hb dX2_sortOf_202 rfl (lv_at hl 0 rfl) ?_
                    refine lv_bipush (v := 114) hx hb dX2_sortOf_203 (by decide) ?_
                    refine lv_bipush (v := 97) hx hb dX2_sortOf_205 (by decide) ?_
                    refine lv_bipush (v := 105) hx hb dX2_sortOf_207 (by decide) ?_
                    refine lv_bipush (v := 115) hx hb dX2_sortOf_209 (by decide) ?_
                    refine lv_bipush (v := 101) hx hb dX2_sortOf_211 (by decide) ?_
                    obtain ⟨v20, hv20, h⟩ := bd1_some h
                    refine r_long (run_s (As := [.int (114 : Int32), .int (97 : Int32), .int (105 : Int32), .int (115 : Int32), .int (101 : Int32)]) (rest := [.ref b]) C (mX2_w5 hv20) q1738 q1739 q162 q1740 ⟨rfl, rfl⟩ hdX2_w5 ⟨Nat.le_of_ble_eq_true rfl, Nat.le_of_ble_eq_true rfl⟩ ⟨Nat.zero_le _, Nat.zero_le _⟩ rfl hl.1 rfl (Nat.le_of_ble_eq_true rfl) dX2_sortOf_213) ?_
                    obtain ⟨v21, hv21, h⟩ := bd1_some h
                    refine r_int (run_t (As := [.long v20]) (rest := []) C hK hT (mX2_isWord hv21) q1744 q1746 qs80 q162 q1747 ⟨rfl, rfl⟩ hdX2_isWord ⟨Nat.le_of_ble_eq_true rfl, Nat.le_of_ble_eq_true rfl⟩ ⟨Nat.zero_le _, Nat.zero_le _⟩ rfl hl.1 rfl (Nat.le_of_ble_eq_true rfl) dX2_sortOf_216) ?_
                    refine lv_if_eq (tgt := 225) hx hb dX2_sortOf_219 (by decide) (fun c => ?_) (fun c => ?_)
                    · replace h := if_t c h
                      refine lv_aload_n hx hb dX2_sortOf_225 rfl (lv_at hl 0 rfl) ?_
                      refine lv_bipush (v := 115) hx hb dX2_sortOf_226 (by decide) ?_
                      refine lv_bipush (v := 105) hx hb dX2_sortOf_228 (by decide) ?_
                      refine lv_bipush (v := 103) hx hb dX2_sortOf_230 (by decide) ?_
                      refine lv_bipush (v := 110) hx hb dX2_sortOf_232 (by decide) ?_
                      obtain ⟨v22, hv22, h⟩ := bd1_some h
                      refine r_long (run_s (As := [.int (115 : Int32), .int (105 : Int32), .int (103 : Int32), .int (110 : Int32)]) (rest := [.ref b]) C (mX2_w4 hv22) q1748 q1749 q162 q1750 ⟨rfl, rfl⟩ hdX2_w4 ⟨Nat.le_of_ble_eq_true rfl, Nat.le_of_ble_eq_true rfl⟩ ⟨Nat.zero_le _, Nat.zero_le _⟩ rfl hl.1 rfl (Nat.le_of_ble_eq_true rfl) dX2_sortOf_234) ?_
                      obtain ⟨v23, hv23, h⟩ := bd1_some h
                      refine r_int (run_t (As := [.long v22]) (rest := []) C hK hT (mX2_isWord hv23) q1744 q1746 qs80 q162 q1747 ⟨rfl, rfl⟩ hdX2_isWord ⟨Nat.le_of_ble_eq_true rfl, Nat.le_of_ble_eq_true rfl⟩ ⟨Nat.zero_le _, Nat.zero_le _⟩ rfl hl.1 rfl (Nat.le_of_ble_eq_true rfl) dX2_sortOf_237) ?_
                      refine lv_if_eq (tgt := 248) hx hb dX2_sortOf_240 (by decide) (fun c => ?_) (fun c => ?_)
                      · replace h := if_t c h
                        refine lv_aload_n hx hb dX2_sortOf_248 rfl (lv_at hl 0 rfl) ?_
                        obtain ⟨v24, hv24, h⟩ := bd1_some h
                        refine r_int (run_t (As := []) (rest := []) C hK hT (mX2_isAct hv24) q1754 q1756 qs81 q162 q1757 ⟨rfl, rfl⟩ hdX2_isAct ⟨Nat.le_of_ble_eq_true rfl, Nat.le_of_ble_eq_true rfl⟩ ⟨Nat.zero_le _, Nat.zero_le _⟩ rfl hl.1 rfl (Nat.le_of_ble_eq_true rfl) dX2_sortOf_249) ?_
                        exact e_ri C h dX2_sortOf_252
                      · replace h := if_f c h
                        refine lv_bipush (v := 10) hx hb dX2_sortOf_243 (by decide) ?_
                        refine lv_goto (tgt := 252) hx hb dX2_sortOf_245 (by decide) ?_
                        exact e_ri C h dX2_sortOf_252
                    · replace h := if_f c h
                      refine lv_bipush (v := 9) hx hb dX2_sortOf_222 (by decide) ?_
                      exact e_ri C h dX2_sortOf_224
                  · replace h := if_f c h
                    refine lv_bipush (v := 8) hx hb dX2_sortOf_199 (by decide) ?_
                    exact e_ri C h dX2_sortOf_201
                · replace h := if_f c h
                  refine lv_bipush (v := 7) hx hb dX2_sortOf_178 (by decide) ?_
                  exact e_ri C h dX2_sortOf_180
              · replace h := if_f c h
                refine lv_bipush (v := 6) hx hb dX2_sortOf_153 (by decide) ?_
                exact e_ri C h dX2_sortOf_155
            · replace h := if_f c h
              refine lv_iconst (v := 5) hx hb dX2_sortOf_135 (by decide) ?_
              exact e_ri C h dX2_sortOf_136
          · replace h := if_f c h
            refine lv_iconst (v := 4) hx hb dX2_sortOf_117 (by decide) ?_
            exact e_ri C h dX2_sortOf_118
        · replace h := if_f c h
          refine lv_iconst (v := 3) hx hb dX2_sortOf_97 (by decide) ?_
          exact e_ri C h dX2_sortOf_98
      · replace h := if_f c h
        refine lv_iconst (v := 2) hx hb dX2_sortOf_75 (by decide) ?_
        exact e_ri C h dX2_sortOf_76
    · replace h := if_f c h
      refine lv_iconst (v := 1) hx hb dX2_sortOf_53 (by decide) ?_
      exact e_ri C h dX2_sortOf_54
  · replace h := if_f c h
    refine lv_iconst (v := 0) hx hb dX2_sortOf_20 (by decide) ?_
    exact e_ri C h dX2_sortOf_21
theorem mX2_sortOf {l : Launch} {D : va_G} {dA : Nat → ClassId} {b : Nat} {t : TS} {r : Int32} (h : T_sortOf t = some r) : Met l yX2_sortOf (ws_ yX2_sortOf cX2_sortOf 1 (some .int)) rmX2_sortOf (tPc D dA b t [.ref b]) (rQi r) 0 0 nof := en_R (by decide +kernel) rfl (Nat.le_of_ble_eq_true rfl) (fun p e s m below meth c ls C hK hT hl => bX2_sortOf C hK hT ls h hl)
