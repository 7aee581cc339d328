/-! the reference's walks, 4 (written by gen/gen_twin.py) -/
set_option maxRecDepth 20000
set_option maxRecDepth 20000 in
abbrev rmX2_priceOf : Room := { frames := 3, cells := 0, slots := 0, locals := 73 }
theorem hdX2_priceOf : yX2_priceOf.cls = RX2 ∧ yX2_priceOf.cls ≠ "java/lang/invoke/MethodHandle" ∧ yX2_priceOf.cls ≠ "java/lang/invoke/VarHandle" ∧ (parseMethodDescriptor yX2_priceOf.desc).map (fun d => d.parameters.length) = some 1 := by decide +kernel
theorem bX2_priceOf_55 {p : Program} {l : Launch} {e : Env} {s : State} {m : MethodId} {args : Array Value} {below : List Frame} {meth : Method} {c : Code} {D : va_G} {dA : Nat → ClassId} {b : Nat} {r : Int32} {t9 : TS} (C : cx p s m args meth c cX2_priceOf RX2 5 (some .int)) (hK : kk D dA s) {k23 : TS → Int32 → Int32 → Int32 → Int32 → Option (Int32 × TS)} (hk23 : ∀ (t : TS) (x1 : Int32) (x2 : Int32) (x3 : Int32) (x4 : Int32) (H : Heap) (locs : List Loc) (hT : wd D (tw dA b t) H) (hS : tS b s.heap H locs) (ls : Array Slot), k23 t x1 x2 x3 x4 = some (r, t9) → lv_has ls 5 [(0, .ref b), (1, .int x1), (2, .int x2), (3, .int x3), (4, .int x4)] → W p l e rmX2_priceOf s m args below meth c H locs 0 0 (MQ below (tQ D dA b t9 (some (.int r))) args s 0 0 (ta b)) (F0 m 23 ls [])) : ∀ (t : TS) (x1 : Int32) (x2 : Int32) (x4 : Int32) (y0 : Int32) (y1 : Int32) (H : Heap) (locs : List Loc) (hT : wd D (tw dA b t) H) (hS : tS b s.heap H locs) (ls : Array Slot), T_priceOf_55 k23 t x1 x2 x4 y0 y1 = some (r, t9) → lv_has ls 5 [(0, .ref b), (1, .int x1), (2, .int x2), (4, .int x4)] → W p l e rmX2_priceOf s m args below meth c H locs 0 0 (MQ below (tQ D dA b t9 (some (.int r))) args s 0 0 (ta b)) (F0 m 55 ls [.int y1, .int y0]) := by
  obtain ⟨hx, hb, hr, hml, hown, hts, hlocks⟩ := id C
  intro t x1 x2 x4 y0 y1 H locs hT hS ls h hl
  unfold T_priceOf_55 at h
  refine lv_iadd hx hb dX2_priceOf_55 ?_
  refine lv_topi (fun v1 ev1 => ?_)
  replace h := lt1_sub ev1 h
  refine lv_istore_n (lv' := [(3, .int v1), (0, .ref b), (1, .int x1), (2, .int x2), (4, .int x4)]) hx hb dX2_priceOf_56 rfl hl (by decide) rfl (fun ls hl => ?_)
  obtain ⟨v2, ev2⟩ : ∃ y : Int32, y = x4 + (1 : Int32) := ⟨_, rfl⟩
  replace h := lt1_sub ev2 h
  refine lv_iinc (v := v2) (lv' := [(4, .int v2), (3, .int v1), (0, .ref b), (1, .int x1), (2, .int x2)]) hx hb dX2_priceOf_57 hl (k := 4) rfl (by rw [ev2]; rfl) (by decide) rfl (fun ls hl => ?_)
  refine lv_goto (tgt := 23) hx hb dX2_priceOf_60 (by decide) ?_
  exact hk23 t x1 x2 v1 v2 H locs hT hS ls h (lv_sub hl [2, 3, 4, 1, 0] rfl)
theorem bX2_priceOf_23 {p : Program} {l : Launch} {e : Env} {s : State} {m : MethodId} {args : Array Value} {below : List Frame} {meth : Method} {c : Code} {D : va_G} {dA : Nat → ClassId} {b : Nat} {r : Int32} {t9 : TS} (C : cx p s m args meth c cX2_priceOf RX2 5 (some .int)) (hK : kk D dA s) : ∀ (n : Nat), ∀ (t : TS) (x1 : Int32) (x2 : Int32) (x3 : Int32) (x4 : Int32) (H : Heap) (locs : List Loc) (hT : wd D (tw dA b t) H) (hS : tS b s.heap H locs) (ls : Array Slot), T_priceOf_23 n t x1 x2 x3 x4 = some (r, t9) → lv_has ls 5 [(0, .ref b), (1, .int x1), (2, .int x2), (3, .int x3), (4, .int x4)] → W p l e rmX2_priceOf s m args below meth c H locs 0 0 (MQ below (tQ D dA b t9 (some (.int r))) args s 0 0 (ta b)) (F0 m 23 ls []) := by
  obtain ⟨hx, hb, hr, hml, hown, hts, hlocks⟩ := id C
  intro n
  induction n with
  | zero =>
    intro t x1 x2 x3 x4 H locs hT hS ls h hl
    have h : none = some _ := h
    cases h
  | succ n ih =>
    intro t x1 x2 x3 x4 H locs hT hS ls h hl
    rw [T_priceOf_23] at h
    refine lv_iload hx hb dX2_priceOf_23 (lv_at hl 4 rfl) ?_
    refine lv_aload_n hx hb dX2_priceOf_25 rfl (lv_at hl 0 rfl) ?_
    refine lv_iload_n hx hb dX2_priceOf_26 rfl (lv_at hl 1 rfl) ?_
    obtain ⟨v1, hv1, h⟩ := bd1_some h
    refine r_int (run_t (As := [.int x1]) (rest := [.int x4]) C hK hT (mX2_lengthOf hv1) q1678 q1680 qs71 q162 q1681 ⟨rfl, rfl⟩ hdX2_lengthOf ⟨Nat.le_of_ble_eq_true rfl, Nat.le_of_ble_eq_true rfl⟩ ⟨Nat.zero_le _, Nat.zero_le _⟩ rfl hl.1 rfl (Nat.le_of_ble_eq_true rfl) dX2_priceOf_27) ?_
    refine lv_icmp_ge (tgt := 63) hx hb dX2_priceOf_30 (by decide) (fun c => ?_) (fun c => ?_)
    · replace h := if_t c h
      refine lv_aload_n hx hb dX2_priceOf_63 rfl (lv_at hl 0 rfl) ?_
      refine tg26 C hK hT dX2_priceOf_64 ?_
      refine lv_iconst (v := 1) hx hb dX2_priceOf_67 (by decide) ?_
      refine lv_aload_n hx hb dX2_priceOf_68 rfl (lv_at hl 0 rfl) ?_
      refine tg0 C hK hT dX2_priceOf_69 ?_
      refine lv_bipush (v := 7) hx hb dX2_priceOf_72 (by decide) ?_
      obtain ⟨hi, h⟩ := ck_some h
      refine tl0 C hK hT hi dX2_priceOf_74 ?_
      obtain ⟨v2, hv2, h⟩ := bd1_some h
      refine r_int (run_s (As := [.int (t.1 0 (7 : Int32).toNatClampNeg)]) (rest := [.int (1 : Int32), .ref (b + 8)]) C (mX2_bits hv2) q1902 q1903 q162 q1904 ⟨rfl, rfl⟩ hdX2_bits ⟨Nat.le_of_ble_eq_true rfl, Nat.le_of_ble_eq_true rfl⟩ ⟨Nat.zero_le _, Nat.zero_le _⟩ rfl hl.1 rfl (Nat.le_of_ble_eq_true rfl) dX2_priceOf_75) ?_
      obtain ⟨hi, h⟩ := ck_some h
      refine ts26 C hK hT hS hi dX2_priceOf_78 (fun t3 H locs et3 hT hS => ?_)
      replace h := lt1_sub et3 h
      refine lv_aload_n hx hb dX2_priceOf_79 rfl (lv_at hl 0 rfl) ?_
      refine tg26 C hK hT dX2_priceOf_80 ?_
      refine lv_bipush (v := 8) hx hb dX2_priceOf_83 (by decide) ?_
      refine lv_aload_n hx hb dX2_priceOf_85 rfl (lv_at hl 0 rfl) ?_
      refine lv_iload_n hx hb dX2_priceOf_86 rfl (lv_at hl 1 rfl) ?_
      obtain ⟨v4, hv4, h⟩ := bd1_some h
      refine r_int (run_t (As := [.int x1]) (rest := [.int (8 : Int32), .ref (b + 8)]) C hK hT (mX2_lengthOf hv4) q1678 q1680 qs71 q162 q1681 ⟨rfl, rfl⟩ hdX2_lengthOf ⟨Nat.le_of_ble_eq_true rfl, Nat.le_of_ble_eq_true rfl⟩ ⟨Nat.zero_le _, Nat.zero_le _⟩ rfl hl.1 rfl (Nat.le_of_ble_eq_true rfl) dX2_priceOf_87) ?_
      obtain ⟨hi, h⟩ := ck_some h
      refine ts26 C hK hT hS hi dX2_priceOf_90 (fun t5 H locs et5 hT hS => ?_)
      replace h := lt1_sub et5 h
      refine lv_aload_n hx hb dX2_priceOf_91 rfl (lv_at hl 0 rfl) ?_
      refine tg26 C hK hT dX2_priceOf_92 ?_
      refine lv_bipush (v := 9) hx hb dX2_priceOf_95 (by decide) ?_
      refine lv_aload_n hx hb dX2_priceOf_97 rfl (lv_at hl 0 rfl) ?_
      refine lv_iload_n hx hb dX2_priceOf_98 rfl (lv_at hl 1 rfl) ?_
      obtain ⟨v6, hv6, h⟩ := bd1_some h
      refine r_int (run_t (As := [.int x1]) (rest := [.int (9 : Int32), .ref (b + 8)]) C hK hT (mX2_senseOf hv6) q1979 q1981 qs122 q162 q1982 ⟨rfl, rfl⟩ hdX2_senseOf ⟨Nat.le_of_ble_eq_true rfl, Nat.le_of_ble_eq_true rfl⟩ ⟨Nat.zero_le _, Nat.zero_le _⟩ rfl hl.1 rfl (Nat.le_of_ble_eq_true rfl) dX2_priceOf_99) ?_
      obtain ⟨hi, h⟩ := ck_some h
      refine ts26 C hK hT hS hi dX2_priceOf_102 (fun t7 H locs et7 hT hS => ?_)
      replace h := lt1_sub et7 h
      refine lv_aload_n hx hb dX2_priceOf_103 rfl (lv_at hl 0 rfl) ?_
      refine tg26 C hK hT dX2_priceOf_104 ?_
      refine lv_bipush (v := 10) hx hb dX2_priceOf_107 (by decide) ?_
      refine lv_iload_n hx hb dX2_priceOf_109 rfl (lv_at hl 3 rfl) ?_
      obtain ⟨hi, h⟩ := ck_some h
      refine ts26 C hK hT hS hi dX2_priceOf_110 (fun t8 H locs et8 hT hS => ?_)
      replace h := lt1_sub et8 h
      refine lv_aload_n hx hb dX2_priceOf_111 rfl (lv_at hl 0 rfl) ?_
      refine lv_iload_n hx hb dX2_priceOf_112 rfl (lv_at hl 2 rfl) ?_
      obtain ⟨t9, ht9, h⟩ := bd1_some h
      refine w_void hS (run_t (As := [.int x2]) (rest := []) C hK hT (mX2_work ht9) q1916 q1918 qs115 q162 q1919 ⟨rfl, rfl⟩ hdX2_work ⟨Nat.le_of_ble_eq_true rfl, Nat.le_of_ble_eq_true rfl⟩ ⟨Nat.zero_le _, Nat.zero_le _⟩ rfl hl.1 rfl (Nat.le_of_ble_eq_true rfl) dX2_priceOf_113) (fun H locs hT hS => ?_)
      refine lv_aload_n hx hb dX2_priceOf_116 rfl (lv_at hl 0 rfl) ?_
      refine tg27 C hK hT dX2_priceOf_117 ?_
      refine lv_iconst (v := 0) hx hb dX2_priceOf_120 (by decide) ?_
      obtain ⟨hi, h⟩ := ck_some h
      refine tl27 C hK hT hi dX2_priceOf_121 ?_
      refine lv_lconst (v := 0) hx hb dX2_priceOf_122 (by decide) ?_
      refine W.lcmp hx hb dX2_priceOf_123 ?_
      refine lv_if_ge (tgt := 131) hx hb dX2_priceOf_124 (by decide) (fun c => ?_) (fun c => ?_)
      · replace h := if_t c h
        refine lv_aload_n hx hb dX2_priceOf_131 rfl (lv_at hl 0 rfl) ?_
        refine tg27 C hK hT dX2_priceOf_132 ?_
        refine lv_iconst (v := 0) hx hb dX2_priceOf_135 (by decide) ?_
        obtain ⟨hi, h⟩ := ck_some h
        refine tl27 C hK hT hi dX2_priceOf_136 ?_
        refine lv_ldc2 hx hb hown (hts _ q2072) dX2_priceOf_137 ?_
        refine W.lcmp hx hb dX2_priceOf_140 ?_
        refine lv_if_le (tgt := 150) hx hb dX2_priceOf_141 (by decide) (fun c => ?_) (fun c => ?_)
        · replace h := if_t c h
          refine lv_aload_n hx hb dX2_priceOf_150 rfl (lv_at hl 0 rfl) ?_
          refine tg27 C hK hT dX2_priceOf_151 ?_
          refine lv_iconst (v := 0) hx hb dX2_priceOf_154 (by decide) ?_
          obtain ⟨hi, h⟩ := ck_some h
          refine tl27 C hK hT hi dX2_priceOf_155 ?_
          refine lv_l2i hx hb dX2_priceOf_156 rfl ?_
          exact e_wi C hT hS h dX2_priceOf_157
        · replace h := if_f c h
          refine lv_sipush (v := 999) hx hb dX2_priceOf_144 (by decide) ?_
          refine lv_goto (tgt := 157) hx hb dX2_priceOf_147 (by decide) ?_
          exact e_wi C hT hS h dX2_priceOf_157
      · replace h := if_f c h
        refine lv_iconst (v := 0) hx hb dX2_priceOf_127 (by decide) ?_
        refine lv_goto (tgt := 157) hx hb dX2_priceOf_128 (by decide) ?_
        exact e_wi C hT hS h dX2_priceOf_157
    · replace h := if_f c h
      refine lv_iload_n hx hb dX2_priceOf_33 rfl (lv_at hl 3 rfl) ?_
      refine lv_aload_n hx hb dX2_priceOf_34 rfl (lv_at hl 0 rfl) ?_
      refine lv_aload_n hx hb dX2_priceOf_35 rfl (lv_at hl 0 rfl) ?_
      refine lv_iload_n hx hb dX2_priceOf_36 rfl (lv_at hl 1 rfl) ?_
      refine lv_iload hx hb dX2_priceOf_37 (lv_at hl 4 rfl) ?_
      obtain ⟨v10, hv10, h⟩ := bd1_some h
      refine r_int (run_t (As := [.int x1, .int x4]) (rest := [.ref b, .int x3]) C hK hT (mX2_letterOf hv10) q1682 q1684 qs72 q162 q1685 ⟨rfl, rfl⟩ hdX2_letterOf ⟨Nat.le_of_ble_eq_true rfl, Nat.le_of_ble_eq_true rfl⟩ ⟨Nat.zero_le _, Nat.zero_le _⟩ rfl hl.1 rfl (Nat.le_of_ble_eq_true rfl) dX2_priceOf_39) ?_
      obtain ⟨v11, hv11, h⟩ := bd1_some h
      refine r_int (run_t (As := [.int v10]) (rest := [.int x3]) C hK hT (mX2_written hv11) q2056 q2058 qs133 q162 q2059 ⟨rfl, rfl⟩ hdX2_written ⟨Nat.le_of_ble_eq_true rfl, Nat.le_of_ble_eq_true rfl⟩ ⟨Nat.zero_le _, Nat.zero_le _⟩ rfl hl.1 rfl (Nat.le_of_ble_eq_true rfl) dX2_priceOf_42) ?_
      refine lv_bipush (v := 100) hx hb dX2_priceOf_45 (by decide) ?_
      refine lv_icmp_lt (tgt := 54) hx hb dX2_priceOf_47 (by decide) (fun c => ?_) (fun c => ?_)
      · replace h := if_t c h
        refine lv_iconst (v := 0) hx hb dX2_priceOf_54 (by decide) ?_
        exact bX2_priceOf_55 C hK ih t x1 x2 x4 x3 (0 : Int32) H locs hT hS ls h (lv_sub hl [0, 1, 2, 4] rfl)
      · replace h := if_f c h
        refine lv_iconst (v := 1) hx hb dX2_priceOf_50 (by decide) ?_
        refine lv_goto (tgt := 55) hx hb dX2_priceOf_51 (by decide) ?_
        exact bX2_priceOf_55 C hK ih t x1 x2 x4 x3 (1 : Int32) H locs hT hS ls h (lv_sub hl [0, 1, 2, 4] rfl)
theorem bX2_priceOf {p : Program} {l : Launch} {e : Env} {s : State} {m : MethodId} {args : Array Value} {below : List Frame} {meth : Method} {c : Code} {D : va_G} {dA : Nat → ClassId} {b : Nat} {r : Int32} {t9 : TS} (C : cx p s m args meth c cX2_priceOf RX2 5 (some .int)) (hK : kk D dA s) : ∀ (t : TS) (x1 : Int32) (H : Heap) (locs : List Loc) (hT : wd D (tw dA b t) H) (hS : tS b s.heap H locs) (ls : Array Slot), T_priceOf t x1 = some (r, t9) → lv_has ls 5 [(0, .ref b), (1, .int x1)] → W p l e rmX2_priceOf s m args below meth c H locs 0 0 (MQ below (tQ D dA b t9 (some (.int r))) args s 0 0 (ta b)) (F0 m 0 ls []) := by
  obtain ⟨hx, hb, hr, hml, hown, hts, hlocks⟩ := id C
  intro t x1 H locs hT hS ls h hl
  unfold T_priceOf at h
  refine lv_aload_n hx hb dX2_priceOf_0 rfl (lv_at hl 0 rfl) ?_
  refine lv_iconst (v := 2) hx hb dX2_priceOf_1 (by decide) ?_
  obtain ⟨v1, hv1, h⟩ := bd1_some h
  refine r_int (run_t (As := [.int (2 : Int32)]) (rest := []) C hK hT (mX2_clauseOf hv1) q1898 q1900 qs112 q162 q1901 ⟨rfl, rfl⟩ hdX2_clauseOf ⟨Nat.le_of_ble_eq_true rfl, Nat.le_of_ble_eq_true rfl⟩ ⟨Nat.zero_le _, Nat.zero_le _⟩ rfl hl.1 rfl (Nat.le_of_ble_eq_true rfl) dX2_priceOf_2) ?_
  refine lv_istore_n (lv' := [(2, .int v1), (0, .ref b), (1, .int x1)]) hx hb dX2_priceOf_5 rfl hl (by decide) rfl (fun ls hl => ?_)
  refine lv_iload_n hx hb dX2_priceOf_6 rfl (lv_at hl 0 rfl) ?_
  refine lv_if_ge (tgt := 18) hx hb dX2_priceOf_7 (by decide) (fun c => ?_) (fun c => ?_)
  · replace h := if_t c h
    refine lv_iconst (v := 0) hx hb dX2_priceOf_18 (by decide) ?_
    refine lv_istore_n (lv' := [(3, .int (0 : Int32)), (2, .int v1), (0, .ref b), (1, .int x1)]) hx hb dX2_priceOf_19 rfl hl (by decide) rfl (fun ls hl => ?_)
    refine lv_iconst (v := 0) hx hb dX2_priceOf_20 (by decide) ?_
    refine lv_istore (lv' := [(4, .int (0 : Int32)), (3, .int (0 : Int32)), (2, .int v1), (0, .ref b), (1, .int x1)]) hx hb dX2_priceOf_21 hl (by decide) rfl (fun ls hl => ?_)
    exact bX2_priceOf_23 C hK fu t x1 v1 (0 : Int32) (0 : Int32) H locs hT hS ls h (lv_sub hl [3, 4, 2, 1, 0] rfl)
  · replace h := if_f c h
    refine lv_aload_n hx hb dX2_priceOf_10 rfl (lv_at hl 1 rfl) ?_
    refine lv_iload_n hx hb dX2_priceOf_11 rfl (lv_at hl 2 rfl) ?_
    obtain ⟨v2, hv2, h⟩ := bd1_some h
    refine r_int (run_t (As := [.int x1]) (rest := []) C hK hT (mX2_lengthOf hv2) q1678 q1680 qs71 q162 q1681 ⟨rfl, rfl⟩ hdX2_lengthOf ⟨Nat.le_of_ble_eq_true rfl, Nat.le_of_ble_eq_true rfl⟩ ⟨Nat.zero_le _, Nat.zero_le _⟩ rfl hl.1 rfl (Nat.le_of_ble_eq_true rfl) dX2_priceOf_12) ?_
    refine lv_iconst (v := 1) hx hb dX2_priceOf_15 (by decide) ?_
    refine lv_iadd hx hb dX2_priceOf_16 ?_
    exact e_wi C hT hS h dX2_priceOf_17
theorem mX2_priceOf {l : Launch} {D : va_G} {dA : Nat → ClassId} {b : Nat} {t : TS} {x1 : Int32} {r : Int32} {t9 : TS} (h : T_priceOf t x1 = some (r, t9)) : Met l yX2_priceOf (ws_ yX2_priceOf cX2_priceOf 5 (some .int)) rmX2_priceOf (tPc D dA b t [.ref b, .int x1]) (tQ D dA b t9 (some (.int r))) 0 0 (ta b) := en_R (by decide +kernel) rfl (Nat.le_of_ble_eq_true rfl) (fun p e s m below meth c ls C hK hT hl => bX2_priceOf C hK t x1 _ [] hT tS.rf ls h hl)
set_option maxRecDepth 20000 in
abbrev rmX2_dear : Room := { frames := 5, cells := 0, slots := 0, locals := 114 }
theorem hdX2_dear : yX2_dear.cls = RX2 ∧ yX2_dear.cls ≠ "java/lang/invoke/MethodHandle" ∧ yX2_dear.cls ≠ "java/lang/invoke/VarHandle" ∧ (parseMethodDescriptor yX2_dear.desc).map (fun d => d.parameters.length) = some 1 := by decide +kernel
theorem bX2_dear_24 {p : Program} {l : Launch} {e : Env} {s : State} {m : MethodId} {args : Array Value} {below : List Frame} {meth : Method} {c : Code} {D : va_G} {dA : Nat → ClassId} {b : Nat} {r : Int32} {t9 : TS} (C : cx p s m args meth c cX2_dear RX2 4 (some .int)) (hK : kk D dA s) : ∀ (n : Nat), ∀ (t : TS) (x1 : Int32) (x2 : Int32) (x3 : Int32) (H : Heap) (locs : List Loc) (hT : wd D (tw dA b t) H) (hS : tS b s.heap H locs) (ls : Array Slot), T_dear_24 n t x1 x2 x3 = some (r, t9) → lv_has ls 4 [(0, .ref b), (1, .int x1), (2, .int x2), (3, .int x3)] → W p l e rmX2_dear s m args below meth c H locs 0 0 (MQ below (tQ D dA b t9 (some (.int r))) args s 0 0 (ta b)) (F0 m 24 ls []) := by
  obtain ⟨hx, hb, hr, hml, hown, hts, hlocks⟩ := id C
  intro n
  induction n with
  | zero =>
    intro t x1 x2 x3 H locs hT hS ls h hl
    have h : none = some _ := h
    cases h
  | succ n ih =>
    intro t x1 x2 x3 H locs hT hS ls h hl
    rw [T_dear_24] at h
    refine lv_iload_n hx hb dX2_dear_24 rfl (lv_at hl 3 rfl) ?_
    refine lv_aload_n hx hb dX2_dear_25 rfl (lv_at hl 0 rfl) ?_
    refine lv_iload_n hx hb dX2_dear_26 rfl (lv_at hl 1 rfl) ?_
    obtain ⟨v1, hv1, h⟩ := bd1_some h
    refine r_int (run_t (As := [.int x1]) (rest := [.int x3]) C hK hT (mX2_sensesOf hv1) q1967 q1969 qs119 q162 q1970 ⟨rfl, rfl⟩ hdX2_sensesOf ⟨Nat.le_of_ble_eq_true rfl, Nat.le_of_ble_eq_true rfl⟩ ⟨Nat.zero_le _, Nat.zero_le _⟩ rfl hl.1 rfl (Nat.le_of_ble_eq_true rfl) dX2_dear_27) ?_
    refine lv_icmp_ge (tgt := 58) hx hb dX2_dear_30 (by decide) (fun c => ?_) (fun c => ?_)
    · replace h := if_t c h
      refine lv_iload_n hx hb dX2_dear_58 rfl (lv_at hl 2 rfl) ?_
      exact e_wi C hT hS h dX2_dear_59
    · replace h := if_f c h
      refine lv_iload_n hx hb dX2_dear_33 rfl (lv_at hl 2 rfl) ?_
      refine lv_aload_n hx hb dX2_dear_34 rfl (lv_at hl 0 rfl) ?_
      refine lv_aload_n hx hb dX2_dear_35 rfl (lv_at hl 0 rfl) ?_
      refine lv_aload_n hx hb dX2_dear_36 rfl (lv_at hl 0 rfl) ?_
      refine lv_iload_n hx hb dX2_dear_37 rfl (lv_at hl 1 rfl) ?_
      refine lv_iload_n hx hb dX2_dear_38 rfl (lv_at hl 3 rfl) ?_
      obtain ⟨v2, hv2, h⟩ := bd1_some h
      refine r_int (run_t (As := [.int x1, .int x3]) (rest := [.ref b, .ref b, .int x2]) C hK hT (mX2_senseAt hv2) q1971 q1973 qs120 q162 q1974 ⟨rfl, rfl⟩ hdX2_senseAt ⟨Nat.le_of_ble_eq_true rfl, Nat.le_of_ble_eq_true rfl⟩ ⟨Nat.zero_le _, Nat.zero_le _⟩ rfl hl.1 rfl (Nat.le_of_ble_eq_true rfl) dX2_dear_39) ?_
      refine lv_iconst (v := 0) hx hb dX2_dear_42 (by decide) ?_
      refine lv_iconst (v := 1) hx hb dX2_dear_43 (by decide) ?_
      obtain ⟨v3, hv3, h⟩ := bd1_some h
      refine r_int (run_t (As := [.int v2, .int (0 : Int32), .int (1 : Int32)]) (rest := [.ref b, .int x2]) C hK hT (mX2_wordFor hv3) q1975 q1977 qs121 q162 q1978 ⟨rfl, rfl⟩ hdX2_wordFor ⟨Nat.le_of_ble_eq_true rfl, Nat.le_of_ble_eq_true rfl⟩ ⟨Nat.zero_le _, Nat.zero_le _⟩ rfl hl.1 rfl (Nat.le_of_ble_eq_true rfl) dX2_dear_44) ?_
      obtain ⟨v4, t5, ht5, h⟩ := bd2_some h
      refine w_int hS (run_t (As := [.int v3]) (rest := [.int x2]) C hK hT (mX2_priceOf ht5) q2068 q2070 qs134 q162 q2071 ⟨rfl, rfl⟩ hdX2_priceOf ⟨Nat.le_of_ble_eq_true rfl, Nat.le_of_ble_eq_true rfl⟩ ⟨Nat.zero_le _, Nat.zero_le _⟩ rfl hl.1 rfl (Nat.le_of_ble_eq_true rfl) dX2_dear_47) (fun H locs hT hS => ?_)
      refine lv_iadd hx hb dX2_dear_50 ?_
      refine lv_topi (fun v6 ev6 => ?_)
      replace h := lt1_sub ev6 h
      refine lv_istore_n (lv' := [(2, .int v6), (0, .ref b), (1, .int x1), (3, .int x3)]) hx hb dX2_dear_51 rfl hl (by decide) rfl (fun ls hl => ?_)
      obtain ⟨v7, ev7⟩ : ∃ y : Int32, y = x3 + (1 : Int32) := ⟨_, rfl⟩
      replace h := lt1_sub ev7 h
      refine lv_iinc (v := v7) (lv' := [(3, .int v7), (2, .int v6), (0, .ref b), (1, .int x1)]) hx hb dX2_dear_52 hl (k := 3) rfl (by rw [ev7]; rfl) (by decide) rfl (fun ls hl => ?_)
      refine lv_goto (tgt := 24) hx hb dX2_dear_55 (by decide) ?_
      exact ih t5 x1 v6 v7 H locs hT hS ls h (lv_sub hl [2, 3, 1, 0] rfl)
theorem bX2_dear {p : Program} {l : Launch} {e : Env} {s : State} {m : MethodId} {args : Array Value} {below : List Frame} {meth : Method} {c : Code} {D : va_G} {dA : Nat → ClassId} {b : Nat} {r : Int32} {t9 : TS} (C : cx p s m args meth c cX2_dear RX2 4 (some .int)) (hK : kk D dA s) : ∀ (t : TS) (x1 : Int32) (H : Heap) (locs : List Loc) (hT : wd D (tw dA b t) H) (hS : tS b s.heap H locs) (ls : Array Slot), T_dear t x1 = some (r, t9) → lv_has ls 4 [(0, .ref b), (1, .int x1)] → W p l e rmX2_dear s m args below meth c H locs 0 0 (MQ below (tQ D dA b t9 (some (.int r))) args s 0 0 (ta b)) (F0 m 0 ls []) := by
  obtain ⟨hx, hb, hr, hml, hown, hts, hlocks⟩ := id C
  intro t x1 H locs hT hS ls h hl
  unfold T_dear at h
  refine lv_aload_n hx hb dX2_dear_0 rfl (lv_at hl 0 rfl) ?_
  refine lv_iload_n hx hb dX2_dear_1 rfl (lv_at hl 1 rfl) ?_
  obtain ⟨v1, hv1, h⟩ := bd1_some h
  refine r_int (run_t (As := [.int x1]) (rest := []) C hK hT (mX2_isSaying hv1) q1959 q1961 qs117 q162 q1962 ⟨rfl, rfl⟩ hdX2_isSaying ⟨Nat.le_of_ble_eq_true rfl, Nat.le_of_ble_eq_true rfl⟩ ⟨Nat.zero_le _, Nat.zero_le _⟩ rfl hl.1 rfl (Nat.le_of_ble_eq_true rfl) dX2_dear_2) ?_
  refine lv_if_eq (tgt := 18) hx hb dX2_dear_5 (by decide) (fun c => ?_) (fun c => ?_)
  · replace h := if_t c h
    refine lv_iconst (v := -1) hx hb dX2_dear_18 (by decide) ?_
    exact e_wi C hT hS h dX2_dear_19
  · replace h := if_f c h
    refine lv_aload_n hx hb dX2_dear_8 rfl (lv_at hl 0 rfl) ?_
    refine lv_iload_n hx hb dX2_dear_9 rfl (lv_at hl 1 rfl) ?_
    refine lv_iconst (v := 0) hx hb dX2_dear_10 (by decide) ?_
    refine lv_iconst (v := 1) hx hb dX2_dear_11 (by decide) ?_
    obtain ⟨v2, hv2, h⟩ := bd1_some h
    refine r_int (run_t (As := [.int x1, .int (0 : Int32), .int (1 : Int32)]) (rest := []) C hK hT (mX2_canSay hv2) q1963 q1965 qs118 q162 q1966 ⟨rfl, rfl⟩ hdX2_canSay ⟨Nat.le_of_ble_eq_true rfl, Nat.le_of_ble_eq_true rfl⟩ ⟨Nat.zero_le _, Nat.zero_le _⟩ rfl hl.1 rfl (Nat.le_of_ble_eq_true rfl) dX2_dear_12) ?_
    refine lv_if_ne (tgt := 20) hx hb dX2_dear_15 (by decide) (fun c => ?_) (fun c => ?_)
    · replace h := if_f c h
      refine lv_iconst (v := 0) hx hb dX2_dear_20 (by decide) ?_
      refine lv_istore_n (lv' := [(2, .int (0 : Int32)), (0, .ref b), (1, .int x1)]) hx hb dX2_dear_21 rfl hl (by decide) rfl (fun ls hl => ?_)
      refine lv_iconst (v := 0) hx hb dX2_dear_22 (by decide) ?_
      refine lv_istore_n (lv' := [(3, .int (0 : Int32)), (2, .int (0 : Int32)), (0, .ref b), (1, .int x1)]) hx hb dX2_dear_23 rfl hl (by decide) rfl (fun ls hl => ?_)
      exact bX2_dear_24 C hK fu t x1 (0 : Int32) (0 : Int32) H locs hT hS ls h (lv_sub hl [2, 3, 1, 0] rfl)
    · replace h := if_t c h
      refine lv_iconst (v := -1) hx hb dX2_dear_18 (by decide) ?_
      exact e_wi C hT hS h dX2_dear_19
theorem mX2_dear {l : Launch} {D : va_G} {dA : Nat → ClassId} {b : Nat} {t : TS} {x1 : Int32} {r : Int32} {t9 : TS} (h : T_dear t x1 = some (r, t9)) : Met l yX2_dear (ws_ yX2_dear cX2_dear 4 (some .int)) rmX2_dear (tPc D dA b t [.ref b, .int x1]) (tQ D dA b t9 (some (.int r))) 0 0 (ta b) := en_R (by decide +kernel) rfl (Nat.le_of_ble_eq_true rfl) (fun p e s m below meth c ls C hK hT hl => bX2_dear C hK t x1 _ [] hT tS.rf ls h hl)
set_option maxRecDepth 20000 in
abbrev rmX2_firstRow : Room := { frames := 0, cells := 0, slots := 0, locals := 0 }
theorem hdX2_firstRow : yX2_firstRow.cls = RX2 ∧ yX2_firstRow.cls ≠ "java/lang/invoke/MethodHandle" ∧ yX2_firstRow.cls ≠ "java/lang/invoke/VarHandle" ∧ (parseMethodDescriptor yX2_firstRow.desc).map (fun d => d.parameters.length) = some 1 := by decide +kernel
theorem bX2_firstRow_2 {p : Program} {l : Launch} {e : Env} {s : State} {m : MethodId} {args : Array Value} {below : List Frame} {meth : Method} {c : Code} {D : va_G} {dA : Nat → ClassId} {b : Nat} {t9 : TS} (C : cx p s m args meth c cX2_firstRow RX2 3 none) (hK : kk D dA s) : ∀ (n : Nat), ∀ (t : TS) (x1 : Int32) (x2 : Int32) (H : Heap) (locs : List Loc) (hT : wd D (tw dA b t) H) (hS : tS b s.heap H locs) (ls : Array Slot), T_firstRow_2 n t x1 x2 = some t9 → lv_has ls 3 [(0, .ref b), (1, .int x1), (2, .int x2)] → W p l e rmX2_firstRow s m args below meth c H locs 0 0 (MQ below (tQ D dA b t9 none) args s 0 0 (ta b)) (F0 m 2 ls []) := by
  obtain ⟨hx, hb, hr, hml, hown, hts, hlocks⟩ := id C
  intro n
  induction n with
  | zero =>
    intro t x1 x2 H locs hT hS ls h hl
    have h : none = some _ := h
    cases h
  | succ n ih =>
    intro t x1 x2 H locs hT hS ls h hl
    rw [T_firstRow_2] at h
    refine lv_iload_n hx hb dX2_firstRow_2 rfl (lv_at hl 2 rfl) ?_
    refine lv_iload_n hx hb dX2_firstRow_3 rfl (lv_at hl 1 rfl) ?_
    refine lv_icmp_ge (tgt := 20) hx hb dX2_firstRow_4 (by decide) (fun c => ?_) (fun c => ?_)
    · replace h := if_t c h
      exact e_wv C hT hS h dX2_firstRow_20
    · replace h := if_f c h
      refine lv_aload_n hx hb dX2_firstRow_7 rfl (lv_at hl 0 rfl) ?_
      refine tg29 C hK hT dX2_firstRow_8 ?_
      refine lv_iload_n hx hb dX2_firstRow_11 rfl (lv_at hl 2 rfl) ?_
      refine lv_iload_n hx hb dX2_firstRow_12 rfl (lv_at hl 2 rfl) ?_
      obtain ⟨hi, h⟩ := ck_some h
      refine ts29 C hK hT hS hi dX2_firstRow_13 (fun t1 H locs et1 hT hS => ?_)
      replace h := lt1_sub et1 h
      obtain ⟨v2, ev2⟩ : ∃ y : Int32, y = x2 + (1 : Int32) := ⟨_, rfl⟩
      replace h := lt1_sub ev2 h
      refine lv_iinc (v := v2) (lv' := [(2, .int v2), (0, .ref b), (1, .int x1)]) hx hb dX2_firstRow_14 hl (k := 2) rfl (by rw [ev2]; rfl) (by decide) rfl (fun ls hl => ?_)
      refine lv_goto (tgt := 2) hx hb dX2_firstRow_17 (by decide) ?_
      exact ih t1 x1 v2 H locs hT hS ls h (lv_sub hl [1, 2, 0] rfl)
theorem bX2_firstRow {p : Program} {l : Launch} {e : Env} {s : State} {m : MethodId} {args : Array Value} {below : List Frame} {meth : Method} {c : Code} {D : va_G} {dA : Nat → ClassId} {b : Nat} {t9 : TS} (C : cx p s m args meth c cX2_firstRow RX2 3 none) (hK : kk D dA s) : ∀ (t : TS) (x1 : Int32) (H : Heap) (locs : List Loc) (hT : wd D (tw dA b t) H) (hS : tS b s.heap H locs) (ls : Array Slot), T_firstRow t x1 = some t9 → lv_has ls 3 [(0, .ref b), (1, .int x1)] → W p l e rmX2_firstRow s m args below meth c H locs 0 0 (MQ below (tQ D dA b t9 none) args s 0 0 (ta b)) (F0 m 0 ls []) := by
  obtain ⟨hx, hb, hr, hml, hown, hts, hlocks⟩ := id C
  intro t x1 H locs hT hS ls h hl
  unfold T_firstRow at h
  refine lv_iconst (v := 0) hx hb dX2_firstRow_0 (by decide) ?_
  refine lv_istore_n (lv' := [(2, .int (0 : Int32)), (0, .ref b), (1, .int x1)]) hx hb dX2_firstRow_1 rfl hl (by decide) rfl (fun ls hl => ?_)
  exact bX2_firstRow_2 C hK fu t x1 (0 : Int32) H locs hT hS ls h (lv_sub hl [1, 2, 0] rfl)
theorem mX2_firstRow {l : Launch} {D : va_G} {dA : Nat → ClassId} {b : Nat} {t : TS} {x1 : Int32} {t9 : TS} (h : T_firstRow t x1 = some t9) : Met l yX2_firstRow (ws_ yX2_firstRow cX2_firstRow 3 none) rmX2_firstRow (tPc D dA b t [.ref b, .int x1]) (tQ D dA b t9 none) 0 0 (ta b) := en_R (by decide +kernel) rfl (Nat.le_of_ble_eq_true rfl) (fun p e s m below meth c ls C hK hT hl => bX2_firstRow C hK t x1 _ [] hT tS.rf ls h hl)
set_option maxRecDepth 20000 in
abbrev rmX2_nextRow : Room := { frames := 0, cells := 0, slots := 0, locals := 0 }
theorem hdX2_nextRow : yX2_nextRow.cls = RX2 ∧ yX2_nextRow.cls ≠ "java/lang/invoke/MethodHandle" ∧ yX2_nextRow.cls ≠ "java/lang/invoke/VarHandle" ∧ (parseMethodDescriptor yX2_nextRow.desc).map (fun d => d.parameters.length) = some 2 := by decide +kernel
theorem bX2_nextRow_49 {p : Program} {l : Launch} {e : Env} {s : State} {m : MethodId} {args : Array Value} {below : List Frame} {meth : Method} {c : Code} {D : va_G} {dA : Nat → ClassId} {b : Nat} {r : Int32} {t9 : TS} (C : cx p s m args meth c cX2_nextRow RX2 5 (some .boolean)) (hK : kk D dA s) : ∀ (n : Nat), ∀ (t : TS) (x1 : Int32) (x4 : Int32) (H : Heap) (locs : List Loc) (hT : wd D (tw dA b t) H) (hS : tS b s.heap H locs) (ls : Array Slot), T_nextRow_49 n t x1 x4 = some (r, t9) → lv_has ls 5 [(0, .ref b), (1, .int x1), (4, .int x4)] → W p l e rmX2_nextRow s m args below meth c H locs 0 0 (MQ below (tQ D dA b t9 (some (.int r))) args s 0 0 (ta b)) (F0 m 49 ls []) := by
  obtain ⟨hx, hb, hr, hml, hown, hts, hlocks⟩ := id C
  intro n
  induction n with
  | zero =>
    intro t x1 x4 H locs hT hS ls h hl
    have h : none = some _ := h
    cases h
  | succ n ih =>
    intro t x1 x4 H locs hT hS ls h hl
    rw [T_nextRow_49] at h
    refine lv_iload hx hb dX2_nextRow_49 (lv_at hl 2 rfl) ?_
    refine lv_iload_n hx hb dX2_nextRow_51 rfl (lv_at hl 1 rfl) ?_
    refine lv_icmp_ge (tgt := 79) hx hb dX2_nextRow_52 (by decide) (fun c => ?_) (fun c => ?_)
    · replace h := if_t c h
      refine lv_iconst (v := 1) hx hb dX2_nextRow_79 (by decide) ?_
      exact e_wz C hT hS (Or.inr rfl) h dX2_nextRow_80
    · replace h := if_f c h
      refine lv_aload_n hx hb dX2_nextRow_55 rfl (lv_at hl 0 rfl) ?_
      refine tg29 C hK hT dX2_nextRow_56 ?_
      refine lv_iload hx hb dX2_nextRow_59 (lv_at hl 2 rfl) ?_
      refine lv_aload_n hx hb dX2_nextRow_61 rfl (lv_at hl 0 rfl) ?_
      refine tg29 C hK hT dX2_nextRow_62 ?_
      refine lv_iload hx hb dX2_nextRow_65 (lv_at hl 2 rfl) ?_
      refine lv_iconst (v := 1) hx hb dX2_nextRow_67 (by decide) ?_
      refine lv_isub hx hb dX2_nextRow_68 ?_
      obtain ⟨hi, h⟩ := ck_some h
      refine tl29 C hK hT hi dX2_nextRow_69 ?_
      refine lv_iconst (v := 1) hx hb dX2_nextRow_70 (by decide) ?_
      refine lv_iadd hx hb dX2_nextRow_71 ?_
      obtain ⟨hi, h⟩ := ck_some h
      refine ts29 C hK hT hS hi dX2_nextRow_72 (fun t1 H locs et1 hT hS => ?_)
      replace h := lt1_sub et1 h
      obtain ⟨v2, ev2⟩ : ∃ y : Int32, y = x4 + (1 : Int32) := ⟨_, rfl⟩
      replace h := lt1_sub ev2 h
      refine lv_iinc (v := v2) (lv' := [(4, .int v2), (0, .ref b), (1, .int x1)]) hx hb dX2_nextRow_73 hl (k := 2) rfl (by rw [ev2]; rfl) (by decide) rfl (fun ls hl => ?_)
      refine lv_goto (tgt := 49) hx hb dX2_nextRow_76 (by decide) ?_
      exact ih t1 x1 v2 H locs hT hS ls h (lv_sub hl [1, 2, 0] rfl)
theorem bX2_nextRow_28 {p : Program} {l : Launch} {e : Env} {s : State} {m : MethodId} {args : Array Value} {below : List Frame} {meth : Method} {c : Code} {D : va_G} {dA : Nat → ClassId} {b : Nat} {r : Int32} {t9 : TS} (C : cx p s m args meth c cX2_nextRow RX2 5 (some .boolean)) (hK : kk D dA s) : ∀ (t : TS) (x1 : Int32) (x3 : Int32) (H : Heap) (locs : List Loc) (hT : wd D (tw dA b t) H) (hS : tS b s.heap H locs) (ls : Array Slot), T_nextRow_28 t x1 x3 = some (r, t9) → lv_has ls 5 [(0, .ref b), (1, .int x1), (3, .int x3)] → W p l e rmX2_nextRow s m args below meth c H locs 0 0 (MQ below (tQ D dA b t9 (some (.int r))) args s 0 0 (ta b)) (F0 m 28 ls []) := by
  obtain ⟨hx, hb, hr, hml, hown, hts, hlocks⟩ := id C
  intro t x1 x3 H locs hT hS ls h hl
  unfold T_nextRow_28 at h
  refine lv_iload_n hx hb dX2_nextRow_28 rfl (lv_at hl 2 rfl) ?_
  refine lv_if_ge (tgt := 34) hx hb dX2_nextRow_29 (by decide) (fun c => ?_) (fun c => ?_)
  · replace h := if_t c h
    refine lv_aload_n hx hb dX2_nextRow_34 rfl (lv_at hl 0 rfl) ?_
    refine tg29 C hK hT dX2_nextRow_35 ?_
    refine lv_iload_n hx hb dX2_nextRow_38 rfl (lv_at hl 2 rfl) ?_
    refine lv_dup2_11 hx hb dX2_nextRow_39 rfl rfl ?_
    obtain ⟨hi, h⟩ := ck_some h
    refine tl29 C hK hT hi dX2_nextRow_40 ?_
    refine lv_iconst (v := 1) hx hb dX2_nextRow_41 (by decide) ?_
    refine lv_iadd hx hb dX2_nextRow_42 ?_
    obtain ⟨hi, h⟩ := ck_some h
    refine ts29 C hK hT hS hi dX2_nextRow_43 (fun t1 H locs et1 hT hS => ?_)
    replace h := lt1_sub et1 h
    refine lv_iload_n hx hb dX2_nextRow_44 rfl (lv_at hl 2 rfl) ?_
    refine lv_iconst (v := 1) hx hb dX2_nextRow_45 (by decide) ?_
    refine lv_iadd hx hb dX2_nextRow_46 ?_
    refine lv_topi (fun v2 ev2 => ?_)
    replace h := lt1_sub ev2 h
    refine lv_istore (lv' := [(4, .int v2), (0, .ref b), (1, .int x1), (3, .int x3)]) hx hb dX2_nextRow_47 hl (by decide) rfl (fun ls hl => ?_)
    exact bX2_nextRow_49 C hK fu t1 x1 v2 H locs hT hS ls h (lv_sub hl [1, 2, 0] rfl)
  · replace h := if_f c h
    refine lv_iconst (v := 0) hx hb dX2_nextRow_32 (by decide) ?_
    exact e_wz C hT hS (Or.inl rfl) h dX2_nextRow_33
theorem bX2_nextRow_4 {p : Program} {l : Launch} {e : Env} {s : State} {m : MethodId} {args : Array Value} {below : List Frame} {meth : Method} {c : Code} {D : va_G} {dA : Nat → ClassId} {b : Nat} {r : Int32} {t9 : TS} (C : cx p s m args meth c cX2_nextRow RX2 5 (some .boolean)) (hK : kk D dA s) : ∀ (n : Nat), ∀ (t : TS) (x1 : Int32) (x2 : Int32) (x3 : Int32) (H : Heap) (locs : List Loc) (hT : wd D (tw dA b t) H) (hS : tS b s.heap H locs) (ls : Array Slot), T_nextRow_4 n t x1 x2 x3 = some (r, t9) → lv_has ls 5 [(0, .ref b), (1, .int x1), (2, .int x2), (3, .int x3)] → W p l e rmX2_nextRow s m args below meth c H locs 0 0 (MQ below (tQ D dA b t9 (some (.int r))) args s 0 0 (ta b)) (F0 m 4 ls []) := by
  obtain ⟨hx, hb, hr, hml, hown, hts, hlocks⟩ := id C
  intro n
  induction n with
  | zero =>
    intro t x1 x2 x3 H locs hT hS ls h hl
    have h : none = some _ := h
    cases h
  | succ n ih =>
    intro t x1 x2 x3 H locs hT hS ls h hl
    rw [T_nextRow_4] at h
    refine lv_iload_n hx hb dX2_nextRow_4 rfl (lv_at hl 3 rfl) ?_
    refine lv_if_lt (tgt := 28) hx hb dX2_nextRow_5 (by decide) (fun c => ?_) (fun c => ?_)
    · replace h := if_t c h
      exact bX2_nextRow_28 C hK t x1 x3 H locs hT hS ls h (lv_sub hl [0, 1, 3] rfl)
    · replace h := if_f c h
      refine lv_aload_n hx hb dX2_nextRow_8 rfl (lv_at hl 0 rfl) ?_
      refine tg29 C hK hT dX2_nextRow_9 ?_
      refine lv_iload_n hx hb dX2_nextRow_12 rfl (lv_at hl 3 rfl) ?_
      obtain ⟨hi, h⟩ := ck_some h
      refine tl29 C hK hT hi dX2_nextRow_13 ?_
      refine lv_iload_n hx hb dX2_nextRow_14 rfl (lv_at hl 2 rfl) ?_
      refine lv_iload_n hx hb dX2_nextRow_15 rfl (lv_at hl 1 rfl) ?_
      refine lv_isub hx hb dX2_nextRow_16 ?_
      refine lv_iload_n hx hb dX2_nextRow_17 rfl (lv_at hl 3 rfl) ?_
      refine lv_iadd hx hb dX2_nextRow_18 ?_
      refine lv_icmp_ne (tgt := 28) hx hb dX2_nextRow_19 (by decide) (fun c => ?_) (fun c => ?_)
      · replace h := if_f c h
        exact bX2_nextRow_28 C hK t x1 x3 H locs hT hS ls h (lv_sub hl [0, 1, 3] rfl)
      · replace h := if_t c h
        obtain ⟨v1, ev1⟩ : ∃ y : Int32, y = x3 + (-1 : Int32) := ⟨_, rfl⟩
        replace h := lt1_sub ev1 h
        refine lv_iinc (v := v1) (lv' := [(3, .int v1), (0, .ref b), (1, .int x1), (2, .int x2)]) hx hb dX2_nextRow_22 hl (k := 3) rfl (by rw [ev1]; rfl) (by decide) rfl (fun ls hl => ?_)
        refine lv_goto (tgt := 4) hx hb dX2_nextRow_25 (by decide) ?_
        exact ih t x1 x2 v1 H locs hT hS ls h (lv_sub hl [1, 2, 3, 0] rfl)
theorem bX2_nextRow {p : Program} {l : Launch} {e : Env} {s : State} {m : MethodId} {args : Array Value} {below : List Frame} {meth : Method} {c : Code} {D : va_G} {dA : Nat → ClassId} {b : Nat} {r : Int32} {t9 : TS} (C : cx p s m args meth c cX2_nextRow RX2 5 (some .boolean)) (hK : kk D dA s) : ∀ (t : TS) (x1 : Int32) (x2 : Int32) (H : Heap) (locs : List Loc) (hT : wd D (tw dA b t) H) (hS : tS b s.heap H locs) (ls : Array Slot), T_nextRow t x1 x2 = some (r, t9) → lv_has ls 5 [(0, .ref b), (1, .int x1), (2, .int x2)] → W p l e rmX2_nextRow s m args below meth c H locs 0 0 (MQ below (tQ D dA b t9 (some (.int r))) args s 0 0 (ta b)) (F0 m 0 ls []) := by
  obtain ⟨hx, hb, hr, hml, hown, hts, hlocks⟩ := id C
  intro t x1 x2 H locs hT hS ls h hl
  unfold T_nextRow at h
  refine lv_iload_n hx hb dX2_nextRow_0 rfl (lv_at hl 1 rfl) ?_
  refine lv_iconst (v := 1) hx hb dX2_nextRow_1 (by decide) ?_
  refine lv_isub hx hb dX2_nextRow_2 ?_
  refine lv_topi (fun v1 ev1 => ?_)
  replace h := lt1_sub ev1 h
  refine lv_istore_n (lv' := [(3, .int v1), (0, .ref b), (1, .int x1), (2, .int x2)]) hx hb dX2_nextRow_3 rfl hl (by decide) rfl (fun ls hl => ?_)
  exact bX2_nextRow_4 C hK fu t x1 x2 v1 H locs hT hS ls h (lv_sub hl [1, 2, 3, 0] rfl)
theorem mX2_nextRow {l : Launch} {D : va_G} {dA : Nat → ClassId} {b : Nat} {t : TS} {x1 : Int32} {x2 : Int32} {r : Int32} {t9 : TS} (h : T_nextRow t x1 x2 = some (r, t9)) : Met l yX2_nextRow (ws_ yX2_nextRow cX2_nextRow 5 (some .boolean)) rmX2_nextRow (tPc D dA b t [.ref b, .int x1, .int x2]) (tQ D dA b t9 (some (.int r))) 0 0 (ta b) := en_R (by decide +kernel) rfl (Nat.le_of_ble_eq_true rfl) (fun p e s m below meth c ls C hK hT hl => bX2_nextRow C hK t x1 x2 _ [] hT tS.rf ls h hl)
set_option maxRecDepth 20000 in
abbrev rmX2_setOfRow : Room := { frames := 0, cells := 0, slots := 0, locals := 0 }
theorem hdX2_setOfRow : yX2_setOfRow.cls = RX2 ∧ yX2_setOfRow.cls ≠ "java/lang/invoke/MethodHandle" ∧ yX2_setOfRow.cls ≠ "java/lang/invoke/VarHandle" ∧ (parseMethodDescriptor yX2_setOfRow.desc).map (fun d => d.parameters.length) = some 1 := by decide +kernel
theorem bX2_setOfRow_4 {p : Program} {l : Launch} {e : Env} {s : State} {m : MethodId} {args : Array Value} {below : List Frame} {meth : Method} {c : Code} {D : va_G} {dA : Nat → ClassId} {b : Nat} {t : TS} {r : Int32} (C : cx p s m args meth c cX2_setOfRow RX2 4 (some .int)) (hK : kk D dA s) (hT : wd D (tw dA b t) s.heap) : ∀ (n : Nat), ∀ (x1 : Int32) (x2 : Int32) (x3 : Int32) (ls : Array Slot), T_setOfRow_4 t n x1 x2 x3 = some r → lv_has ls 4 [(0, .ref b), (1, .int x1), (2, .int x2), (3, .int x3)] → W p l e rmX2_setOfRow s m args below meth c s.heap [] 0 0 (MQ below (rQi r) args s 0 0 nof) (F0 m 4 ls []) := by
  obtain ⟨hx, hb, hr, hml, hown, hts, hlocks⟩ := id C
  intro n
  induction n with
  | zero =>
    intro x1 x2 x3 ls h hl
    have h : none = some _ := h
    cases h
  | succ n ih =>
    intro x1 x2 x3 ls h hl
    rw [T_setOfRow_4] at h
    refine lv_iload_n hx hb dX2_setOfRow_4 rfl (lv_at hl 3 rfl) ?_
    refine lv_iload_n hx hb dX2_setOfRow_5 rfl (lv_at hl 1 rfl) ?_
    refine lv_icmp_ge (tgt := 26) hx hb dX2_setOfRow_6 (by decide) (fun c => ?_) (fun c => ?_)
    · replace h := if_t c h
      refine lv_iload_n hx hb dX2_setOfRow_26 rfl (lv_at hl 2 rfl) ?_
      exact e_ri C h dX2_setOfRow_27
    · replace h := if_f c h
      refine lv_iload_n hx hb dX2_setOfRow_9 rfl (lv_at hl 2 rfl) ?_
      refine lv_iconst (v := 1) hx hb dX2_setOfRow_10 (by decide) ?_
      refine lv_aload_n hx hb dX2_setOfRow_11 rfl (lv_at hl 0 rfl) ?_
      refine tg29 C hK hT dX2_setOfRow_12 ?_
      refine lv_iload_n hx hb dX2_setOfRow_15 rfl (lv_at hl 3 rfl) ?_
      obtain ⟨hi, h⟩ := ck_some h
      refine tl29 C hK hT hi dX2_setOfRow_16 ?_
      refine lv_ishl hx hb dX2_setOfRow_17 ?_
      refine lv_ior hx hb dX2_setOfRow_18 ?_
      refine lv_topi (fun v1 ev1 => ?_)
      replace h := lt1_sub ev1 h
      refine lv_istore_n (lv' := [(2, .int v1), (0, .ref b), (1, .int x1), (3, .int x3)]) hx hb dX2_setOfRow_19 rfl hl (by decide) rfl (fun ls hl => ?_)
      obtain ⟨v2, ev2⟩ : ∃ y : Int32, y = x3 + (1 : Int32) := ⟨_, rfl⟩
      replace h := lt1_sub ev2 h
      refine lv_iinc (v := v2) (lv' := [(3, .int v2), (2, .int v1), (0, .ref b), (1, .int x1)]) hx hb dX2_setOfRow_20 hl (k := 3) rfl (by rw [ev2]; rfl) (by decide) rfl (fun ls hl => ?_)
      refine lv_goto (tgt := 4) hx hb dX2_setOfRow_23 (by decide) ?_
      exact ih x1 v1 v2 ls h (lv_sub hl [2, 3, 1, 0] rfl)
theorem bX2_setOfRow {p : Program} {l : Launch} {e : Env} {s : State} {m : MethodId} {args : Array Value} {below : List Frame} {meth : Method} {c : Code} {D : va_G} {dA : Nat → ClassId} {b : Nat} {t : TS} {r : Int32} (C : cx p s m args meth c cX2_setOfRow RX2 4 (some .int)) (hK : kk D dA s) (hT : wd D (tw dA b t) s.heap) : ∀ (x1 : Int32) (ls : Array Slot), T_setOfRow t x1 = some r → lv_has ls 4 [(0, .ref b), (1, .int x1)] → W p l e rmX2_setOfRow s m args below meth c s.heap [] 0 0 (MQ below (rQi r) args s 0 0 nof) (F0 m 0 ls []) := by
  obtain ⟨hx, hb, hr, hml, hown, hts, hlocks⟩ := id C
  intro x1 ls h hl
  unfold T_setOfRow at h
  refine lv_iconst (v := 0) hx hb dX2_setOfRow_0 (by decide) ?_
  refine lv_istore_n (lv' := [(2, .int (0 : Int32)), (0, .ref b), (1, .int x1)]) hx hb dX2_setOfRow_1 rfl hl (by decide) rfl (fun ls hl => ?_)
  refine lv_iconst (v := 0) hx hb dX2_setOfRow_2 (by decide) ?_
  refine lv_istore_n (lv' := [(3, .int (0 : Int32)), (2, .int (0 : Int32)), (0, .ref b), (1, .int x1)]) hx hb dX2_setOfRow_3 rfl hl (by decide) rfl (fun ls hl => ?_)
  exact bX2_setOfRow_4 C hK hT fu x1 (0 : Int32) (0 : Int32) ls h (lv_sub hl [2, 3, 1, 0] rfl)
theorem mX2_setOfRow {l : Launch} {D : va_G} {dA : Nat → ClassId} {b : Nat} {t : TS} {x1 : Int32} {r : Int32} (h : T_setOfRow t x1 = some r) : Met l yX2_setOfRow (ws_ yX2_setOfRow cX2_setOfRow 4 (some .int)) rmX2_setOfRow (tPc D dA b t [.ref b, .int x1]) (rQi r) 0 0 nof := en_R (by decide +kernel) rfl (Nat.le_of_ble_eq_true rfl) (fun p e s m below meth c ls C hK hT hl => bX2_setOfRow C hK hT x1 ls h hl)
set_option maxRecDepth 20000 in
abbrev rmX2_stop : Room := { frames := 5, cells := 0, slots := 0, locals := 114 }
theorem hdX2_stop : yX2_stop.cls = RX2 ∧ yX2_stop.cls ≠ "java/lang/invoke/MethodHandle" ∧ yX2_stop.cls ≠ "java/lang/invoke/VarHandle" ∧ (parseMethodDescriptor yX2_stop.desc).map (fun d => d.parameters.length) = some 1 := by decide +kernel
theorem bX2_stop_24 {p : Program} {l : Launch} {e : Env} {s : State} {m : MethodId} {args : Array Value} {below : List Frame} {meth : Method} {c : Code} {D : va_G} {dA : Nat → ClassId} {b : Nat} {r : Int32} {t9 : TS} (C : cx p s m args meth c cX2_stop RX2 4 (some .int)) (hK : kk D dA s) {k12 : TS → Int32 → Int32 → Option (Int32 × TS)} (hk12 : ∀ (t : TS) (x1 : Int32) (x2 : Int32) (H : Heap) (locs : List Loc) (hT : wd D (tw dA b t) H) (hS : tS b s.heap H locs) (ls : Array Slot), k12 t x1 x2 = some (r, t9) → lv_has ls 4 [(0, .ref b), (1, .int x1), (2, .int x2)] → W p l e rmX2_stop s m args below meth c H locs 0 0 (MQ below (tQ D dA b t9 (some (.int r))) args s 0 0 (ta b)) (F0 m 12 ls [])) : ∀ (n : Nat), ∀ (t : TS) (x1 : Int32) (x2 : Int32) (x3 : Int32) (H : Heap) (locs : List Loc) (hT : wd D (tw dA b t) H) (hS : tS b s.heap H locs) (ls : Array Slot), T_stop_24 k12 n t x1 x2 x3 = some (r, t9) → lv_has ls 4 [(0, .ref b), (1, .int x1), (2, .int x2), (3, .int x3)] → W p l e rmX2_stop s m args below meth c H locs 0 0 (MQ below (tQ D dA b t9 (some (.int r))) args s 0 0 (ta b)) (F0 m 24 ls []) := by
  obtain ⟨hx, hb, hr, hml, hown, hts, hlocks⟩ := id C
  intro n
  induction n with
  | zero =>
    intro t x1 x2 x3 H locs hT hS ls h hl
    have h : none = some _ := h
    cases h
  | succ n ih =>
    intro t x1 x2 x3 H locs hT hS ls h hl
    rw [T_stop_24] at h
    refine lv_iload_n hx hb dX2_stop_24 rfl (lv_at hl 3 rfl) ?_
    refine lv_if_eq (tgt := 59) hx hb dX2_stop_25 (by decide) (fun c => ?_) (fun c => ?_)
    · replace h := if_t c h
      obtain ⟨v1, ev1⟩ : ∃ y : Int32, y = x2 + (1 : Int32) := ⟨_, rfl⟩
      replace h := lt1_sub ev1 h
      refine lv_iinc (v := v1) (lv' := [(2, .int v1), (0, .ref b), (1, .int x1), (3, .int x3)]) hx hb dX2_stop_59 hl (k := 2) rfl (by rw [ev1]; rfl) (by decide) rfl (fun ls hl => ?_)
      refine lv_goto (tgt := 12) hx hb dX2_stop_62 (by decide) ?_
      exact hk12 t x1 v1 H locs hT hS ls h (lv_sub hl [1, 2, 0] rfl)
    · replace h := if_f c h
      refine lv_aload_n hx hb dX2_stop_28 rfl (lv_at hl 0 rfl) ?_
      refine lv_iload_n hx hb dX2_stop_29 rfl (lv_at hl 1 rfl) ?_
      refine lv_aload_n hx hb dX2_stop_30 rfl (lv_at hl 0 rfl) ?_
      refine lv_iload_n hx hb dX2_stop_31 rfl (lv_at hl 2 rfl) ?_
      obtain ⟨v2, hv2, h⟩ := bd1_some h
      refine r_int (run_t (As := [.int x2]) (rest := [.int x1, .ref b]) C hK hT (mX2_setOfRow hv2) q2081 q2083 qs136 q162 q2084 ⟨rfl, rfl⟩ hdX2_setOfRow ⟨Nat.le_of_ble_eq_true rfl, Nat.le_of_ble_eq_true rfl⟩ ⟨Nat.zero_le _, Nat.zero_le _⟩ rfl hl.1 rfl (Nat.le_of_ble_eq_true rfl) dX2_stop_32) ?_
      refine lv_iconst (v := 0) hx hb dX2_stop_35 (by decide) ?_
      obtain ⟨v3, hv3, h⟩ := bd1_some h
      refine r_int (run_t (As := [.int x1, .int v2, .int (0 : Int32)]) (rest := []) C hK hT (mX2_canSay hv3) q1963 q1965 qs118 q162 q1966 ⟨rfl, rfl⟩ hdX2_canSay ⟨Nat.le_of_ble_eq_true rfl, Nat.le_of_ble_eq_true rfl⟩ ⟨Nat.zero_le _, Nat.zero_le _⟩ rfl hl.1 rfl (Nat.le_of_ble_eq_true rfl) dX2_stop_36) ?_
      refine lv_if_ne (tgt := 48) hx hb dX2_stop_39 (by decide) (fun c => ?_) (fun c => ?_)
      · replace h := if_f c h
        refine lv_aload_n hx hb dX2_stop_48 rfl (lv_at hl 0 rfl) ?_
        refine lv_iload_n hx hb dX2_stop_49 rfl (lv_at hl 2 rfl) ?_
        refine lv_bipush (v := 26) hx hb dX2_stop_50 (by decide) ?_
        obtain ⟨v4, t5, ht5, h⟩ := bd2_some h
        refine w_int hS (run_t (As := [.int x2, .int (26 : Int32)]) (rest := []) C hK hT (mX2_nextRow ht5) q2085 q2087 qs137 q162 q2088 ⟨rfl, rfl⟩ hdX2_nextRow ⟨Nat.le_of_ble_eq_true rfl, Nat.le_of_ble_eq_true rfl⟩ ⟨Nat.zero_le _, Nat.zero_le _⟩ rfl hl.1 rfl (Nat.le_of_ble_eq_true rfl) dX2_stop_52) (fun H locs hT hS => ?_)
        refine lv_istore_n (lv' := [(3, .int v4), (0, .ref b), (1, .int x1), (2, .int x2)]) hx hb dX2_stop_55 rfl hl (by decide) rfl (fun ls hl => ?_)
        refine lv_goto (tgt := 24) hx hb dX2_stop_56 (by decide) ?_
        exact ih t5 x1 x2 v4 H locs hT hS ls h (lv_sub hl [1, 2, 3, 0] rfl)
      · replace h := if_t c h
        refine lv_aload_n hx hb dX2_stop_42 rfl (lv_at hl 0 rfl) ?_
        refine lv_iload_n hx hb dX2_stop_43 rfl (lv_at hl 2 rfl) ?_
        obtain ⟨v6, hv6, h⟩ := bd1_some h
        refine r_int (run_t (As := [.int x2]) (rest := []) C hK hT (mX2_setOfRow hv6) q2081 q2083 qs136 q162 q2084 ⟨rfl, rfl⟩ hdX2_setOfRow ⟨Nat.le_of_ble_eq_true rfl, Nat.le_of_ble_eq_true rfl⟩ ⟨Nat.zero_le _, Nat.zero_le _⟩ rfl hl.1 rfl (Nat.le_of_ble_eq_true rfl) dX2_stop_44) ?_
        exact e_wi C hT hS h dX2_stop_47
theorem bX2_stop_12 {p : Program} {l : Launch} {e : Env} {s : State} {m : MethodId} {args : Array Value} {below : List Frame} {meth : Method} {c : Code} {D : va_G} {dA : Nat → ClassId} {b : Nat} {r : Int32} {t9 : TS} (C : cx p s m args meth c cX2_stop RX2 4 (some .int)) (hK : kk D dA s) : ∀ (n : Nat), ∀ (t : TS) (x1 : Int32) (x2 : Int32) (H : Heap) (locs : List Loc) (hT : wd D (tw dA b t) H) (hS : tS b s.heap H locs) (ls : Array Slot), T_stop_12 n t x1 x2 = some (r, t9) → lv_has ls 4 [(0, .ref b), (1, .int x1), (2, .int x2)] → W p l e rmX2_stop s m args below meth c H locs 0 0 (MQ below (tQ D dA b t9 (some (.int r))) args s 0 0 (ta b)) (F0 m 12 ls []) := by
  obtain ⟨hx, hb, hr, hml, hown, hts, hlocks⟩ := id C
  intro n
  induction n with
  | zero =>
    intro t x1 x2 H locs hT hS ls h hl
    have h : none = some _ := h
    cases h
  | succ n ih =>
    intro t x1 x2 H locs hT hS ls h hl
    rw [T_stop_12] at h
    refine lv_iload_n hx hb dX2_stop_12 rfl (lv_at hl 2 rfl) ?_
    refine lv_iconst (v := 4) hx hb dX2_stop_13 (by decide) ?_
    refine lv_icmp_gt (tgt := 65) hx hb dX2_stop_14 (by decide) (fun c => ?_) (fun c => ?_)
    · replace h := if_t c h
      refine lv_iconst (v := -1) hx hb dX2_stop_65 (by decide) ?_
      exact e_wi C hT hS h dX2_stop_66
    · replace h := if_f c h
      refine lv_aload_n hx hb dX2_stop_17 rfl (lv_at hl 0 rfl) ?_
      refine lv_iload_n hx hb dX2_stop_18 rfl (lv_at hl 2 rfl) ?_
      obtain ⟨t1, ht1, h⟩ := bd1_some h
      refine w_void hS (run_t (As := [.int x2]) (rest := []) C hK hT (mX2_firstRow ht1) q2077 q2079 qs135 q162 q2080 ⟨rfl, rfl⟩ hdX2_firstRow ⟨Nat.le_of_ble_eq_true rfl, Nat.le_of_ble_eq_true rfl⟩ ⟨Nat.zero_le _, Nat.zero_le _⟩ rfl hl.1 rfl (Nat.le_of_ble_eq_true rfl) dX2_stop_19) (fun H locs hT hS => ?_)
      refine lv_iconst (v := 1) hx hb dX2_stop_22 (by decide) ?_
      refine lv_istore_n (lv' := [(3, .int (1 : Int32)), (0, .ref b), (1, .int x1), (2, .int x2)]) hx hb dX2_stop_23 rfl hl (by decide) rfl (fun ls hl => ?_)
      exact bX2_stop_24 C hK ih fu t1 x1 x2 (1 : Int32) H locs hT hS ls h (lv_sub hl [1, 2, 3, 0] rfl)
theorem bX2_stop {p : Program} {l : Launch} {e : Env} {s : State} {m : MethodId} {args : Array Value} {below : List Frame} {meth : Method} {c : Code} {D : va_G} {dA : Nat → ClassId} {b : Nat} {r : Int32} {t9 : TS} (C : cx p s m args meth c cX2_stop RX2 4 (some .int)) (hK : kk D dA s) : ∀ (t : TS) (x1 : Int32) (H : Heap) (locs : List Loc) (hT : wd D (tw dA b t) H) (hS : tS b s.heap H locs) (ls : Array Slot), T_stop t x1 = some (r, t9) → lv_has ls 4 [(0, .ref b), (1, .int x1)] → W p l e rmX2_stop s m args below meth c H locs 0 0 (MQ below (tQ D dA b t9 (some (.int r))) args s 0 0 (ta b)) (F0 m 0 ls []) := by
  obtain ⟨hx, hb, hr, hml, hown, hts, hlocks⟩ := id C
  intro t x1 H locs hT hS ls h hl
  unfold T_stop at h
  refine lv_aload_n hx hb dX2_stop_0 rfl (lv_at hl 0 rfl) ?_
  refine lv_iload_n hx hb dX2_stop_1 rfl (lv_at hl 1 rfl) ?_
  obtain ⟨v1, hv1, h⟩ := bd1_some h
  refine r_int (run_t (As := [.int x1]) (rest := []) C hK hT (mX2_isSaying hv1) q1959 q1961 qs117 q162 q1962 ⟨rfl, rfl⟩ hdX2_isSaying ⟨Nat.le_of_ble_eq_true rfl, Nat.le_of_ble_eq_true rfl⟩ ⟨Nat.zero_le _, Nat.zero_le _⟩ rfl hl.1 rfl (Nat.le_of_ble_eq_true rfl) dX2_stop_2) ?_
  refine lv_if_ne (tgt := 10) hx hb dX2_stop_5 (by decide) (fun c => ?_) (fun c => ?_)
  · replace h := if_f c h
    refine lv_iconst (v := 0) hx hb dX2_stop_10 (by decide) ?_
    refine lv_istore_n (lv' := [(2, .int (0 : Int32)), (0, .ref b), (1, .int x1)]) hx hb dX2_stop_11 rfl hl (by decide) rfl (fun ls hl => ?_)
    exact bX2_stop_12 C hK fu t x1 (0 : Int32) H locs hT hS ls h (lv_sub hl [1, 2, 0] rfl)
  · replace h := if_t c h
    refine lv_iconst (v := -1) hx hb dX2_stop_8 (by decide) ?_
    exact e_wi C hT hS h dX2_stop_9
theorem mX2_stop {l : Launch} {D : va_G} {dA : Nat → ClassId} {b : Nat} {t : TS} {x1 : Int32} {r : Int32} {t9 : TS} (h : T_stop t x1 = some (r, t9)) : Met l yX2_stop (ws_ yX2_stop cX2_stop 4 (some .int)) rmX2_stop (tPc D dA b t [.ref b, .int x1]) (tQ D dA b t9 (some (.int r))) 0 0 (ta b) := en_R (by decide +kernel) rfl (Nat.le_of_ble_eq_true rfl) (fun p e s m below meth c ls C hK hT hl => bX2_stop C hK t x1 _ [] hT tS.rf ls h hl)
set_option maxRecDepth 20000 in
abbrev rmX2_silenced : Room := { frames := 5, cells := 0, slots := 0, locals := 114 }
theorem hdX2_silenced : yX2_silenced.cls = RX2 ∧ yX2_silenced.cls ≠ "java/lang/invoke/MethodHandle" ∧ yX2_silenced.cls ≠ "java/lang/invoke/VarHandle" ∧ (parseMethodDescriptor yX2_silenced.desc).map (fun d => d.parameters.length) = some 1 := by decide +kernel
theorem bX2_silenced_30 {p : Program} {l : Launch} {e : Env} {s : State} {m : MethodId} {args : Array Value} {below : List Frame} {meth : Method} {c : Code} {D : va_G} {dA : Nat → ClassId} {b : Nat} {t : TS} {r : Int32} (C : cx p s m args meth c cX2_silenced RX2 4 (some .int)) (hK : kk D dA s) (hT : wd D (tw dA b t) s.heap) {k4 : Int32 → Int32 → Int32 → Option Int32} (hk4 : ∀ (x1 : Int32) (x2 : Int32) (x3 : Int32) (ls : Array Slot), k4 x1 x2 x3 = some r → lv_has ls 4 [(0, .ref b), (1, .int x1), (2, .int x2), (3, .int x3)] → W p l e rmX2_silenced s m args below meth c s.heap [] 0 0 (MQ below (rQi r) args s 0 0 nof) (F0 m 4 ls [])) : ∀ (x1 : Int32) (x3 : Int32) (y0 : Int32) (y1 : Int32) (ls : Array Slot), T_silenced_30 k4 t x1 x3 y0 y1 = some r → lv_has ls 4 [(0, .ref b), (1, .int x1), (3, .int x3)] → W p l e rmX2_silenced s m args below meth c s.heap [] 0 0 (MQ below (rQi r) args s 0 0 nof) (F0 m 30 ls [.int y1, .int y0]) := by
  obtain ⟨hx, hb, hr, hml, hown, hts, hlocks⟩ := id C
  intro x1 x3 y0 y1 ls h hl
  unfold T_silenced_30 at h
  refine lv_iadd hx hb dX2_silenced_30 ?_
  refine lv_topi (fun v1 ev1 => ?_)
  replace h := lt1_sub ev1 h
  refine lv_istore_n (lv' := [(2, .int v1), (0, .ref b), (1, .int x1), (3, .int x3)]) hx hb dX2_silenced_31 rfl hl (by decide) rfl (fun ls hl => ?_)
  obtain ⟨v2, ev2⟩ : ∃ y : Int32, y = x3 + (1 : Int32) := ⟨_, rfl⟩
  replace h := lt1_sub ev2 h
  refine lv_iinc (v := v2) (lv' := [(3, .int v2), (2, .int v1), (0, .ref b), (1, .int x1)]) hx hb dX2_silenced_32 hl (k := 3) rfl (by rw [ev2]; rfl) (by decide) rfl (fun ls hl => ?_)
  refine lv_goto (tgt := 4) hx hb dX2_silenced_35 (by decide) ?_
  exact hk4 x1 v1 v2 ls h (lv_sub hl [2, 3, 1, 0] rfl)
theorem bX2_silenced_4 {p : Program} {l : Launch} {e : Env} {s : State} {m : MethodId} {args : Array Value} {below : List Frame} {meth : Method} {c : Code} {D : va_G} {dA : Nat → ClassId} {b : Nat} {t : TS} {r : Int32} (C : cx p s m args meth c cX2_silenced RX2 4 (some .int)) (hK : kk D dA s) (hT : wd D (tw dA b t) s.heap) : ∀ (n : Nat), ∀ (x1 : Int32) (x2 : Int32) (x3 : Int32) (ls : Array Slot), T_silenced_4 t n x1 x2 x3 = some r → lv_has ls 4 [(0, .ref b), (1, .int x1), (2, .int x2), (3, .int x3)] → W p l e rmX2_silenced s m args below meth c s.heap [] 0 0 (MQ below (rQi r) args s 0 0 nof) (F0 m 4 ls []) := by
  obtain ⟨hx, hb, hr, hml, hown, hts, hlocks⟩ := id C
  intro n
  induction n with
  | zero =>
    intro x1 x2 x3 ls h hl
    have h : none = some _ := h
    cases h
  | succ n ih =>
    intro x1 x2 x3 ls h hl
    rw [T_silenced_4] at h
    refine lv_iload_n hx hb dX2_silenced_4 rfl (lv_at hl 3 rfl) ?_
    refine lv_aload_n hx hb dX2_silenced_5 rfl (lv_at hl 0 rfl) ?_
    refine tg0 C hK hT dX2_silenced_6 ?_
    refine lv_iconst (v := 1) hx hb dX2_silenced_9 (by decide) ?_
    obtain ⟨hi, h⟩ := ck_some h
    refine tl0 C hK hT hi dX2_silenced_10 ?_
    refine lv_icmp_ge (tgt := 38) hx hb dX2_silenced_11 (by decide) (fun c => ?_) (fun c => ?_)
    · replace h := if_t c h
      refine lv_iload_n hx hb dX2_silenced_38 rfl (lv_at hl 2 rfl) ?_
      exact e_ri C h dX2_silenced_39
    · replace h := if_f c h
      refine lv_iload_n hx hb dX2_silenced_14 rfl (lv_at hl 2 rfl) ?_
      refine lv_aload_n hx hb dX2_silenced_15 rfl (lv_at hl 0 rfl) ?_
      refine lv_iload_n hx hb dX2_silenced_16 rfl (lv_at hl 3 rfl) ?_
      refine lv_iload_n hx hb dX2_silenced_17 rfl (lv_at hl 1 rfl) ?_
      refine lv_iconst (v := 0) hx hb dX2_silenced_18 (by decide) ?_
      obtain ⟨v1, hv1, h⟩ := bd1_some h
      refine r_int (run_t (As := [.int x3, .int x1, .int (0 : Int32)]) (rest := [.int x2]) C hK hT (mX2_canSay hv1) q1963 q1965 qs118 q162 q1966 ⟨rfl, rfl⟩ hdX2_canSay ⟨Nat.le_of_ble_eq_true rfl, Nat.le_of_ble_eq_true rfl⟩ ⟨Nat.zero_le _, Nat.zero_le _⟩ rfl hl.1 rfl (Nat.le_of_ble_eq_true rfl) dX2_silenced_19) ?_
      refine lv_if_eq (tgt := 29) hx hb dX2_silenced_22 (by decide) (fun c => ?_) (fun c => ?_)
      · replace h := if_t c h
        refine lv_iconst (v := 1) hx hb dX2_silenced_29 (by decide) ?_
        exact bX2_silenced_30 C hK hT ih x1 x3 x2 (1 : Int32) ls h (lv_sub hl [0, 1, 3] rfl)
      · replace h := if_f c h
        refine lv_iconst (v := 0) hx hb dX2_silenced_25 (by decide) ?_
        refine lv_goto (tgt := 30) hx hb dX2_silenced_26 (by decide) ?_
        exact bX2_silenced_30 C hK hT ih x1 x3 x2 (0 : Int32) ls h (lv_sub hl [0, 1, 3] rfl)
theorem bX2_silenced {p : Program} {l : Launch} {e : Env} {s : State} {m : MethodId} {args : Array Value} {below : List Frame} {meth : Method} {c : Code} {D : va_G} {dA : Nat → ClassId} {b : Nat} {t : TS} {r : Int32} (C : cx p s m args meth c cX2_silenced RX2 4 (some .int)) (hK : kk D dA s) (hT : wd D (tw dA b t) s.heap) : ∀ (x1 : Int32) (ls : Array Slot), T_silenced t x1 = some r → lv_has ls 4 [(0, .ref b), (1, .int x1)] → W p l e rmX2_silenced s m args below meth c s.heap [] 0 0 (MQ below (rQi r) args s 0 0 nof) (F0 m 0 ls []) := by
  obtain ⟨hx, hb, hr, hml, hown, hts, hlocks⟩ := id C
  intro x1 ls h hl
  unfold T_silenced at h
  refine lv_iconst (v := 0) hx hb dX2_silenced_0 (by decide) ?_
  refine lv_istore_n (lv' := [(2, .int (0 : Int32)), (0, .ref b), (1, .int x1)]) hx hb dX2_silenced_1 rfl hl (by decide) rfl (fun ls hl => ?_)
  refine lv_iconst (v := 0) hx hb dX2_silenced_2 (by decide) ?_
  refine lv_istore_n (lv' := [(3, .int (0 : Int32)), (2, .int (0 : Int32)), (0, .ref b), (1, .int x1)]) hx hb dX2_silenced_3 rfl hl (by decide) rfl (fun ls hl => ?_)
  exact bX2_silenced_4 C hK hT fu x1 (0 : Int32) (0 : Int32) ls h (lv_sub hl [2, 3, 1, 0] rfl)
theorem mX2_silenced {l : Launch} {D : va_G} {dA : Nat → ClassId} {b : Nat} {t : TS} {x1 : Int32} {r : Int32} (h : T_silenced t x1 = some r) : Met l yX2_silenced (ws_ yX2_silenced cX2_silenced 4 (some .int)) rmX2_silenced (tPc D dA b t [.ref b, .int x1]) (rQi r) 0 0 nof := en_R (by decide +kernel) rfl (Nat.le_of_ble_eq_true rfl) (fun p e s m below meth c ls C hK hT hl => bX2_silenced C hK hT x1 ls h hl)
set_option maxRecDepth 20000 in
abbrev rmX2_spared : Room := { frames := 6, cells := 0, slots := 0, locals := 137 }
theorem hdX2_spared : yX2_spared.cls = RX2 ∧ yX2_spared.cls ≠ "java/lang/invoke/MethodHandle" ∧ yX2_spared.cls ≠ "java/lang/invoke/VarHandle" ∧ (parseMethodDescriptor yX2_spared.desc).map (fun d => d.parameters.length) = some 1 := by decide +kernel
theorem bX2_spared_29 {p : Program} {l : Launch} {e : Env} {s : State} {m : MethodId} {args : Array Value} {below : List Frame} {meth : Method} {c : Code} {D : va_G} {dA : Nat → ClassId} {b : Nat} {t : TS} {r : Int32} (C : cx p s m args meth c cX2_spared RX2 4 (some .int)) (hK : kk D dA s) (hT : wd D (tw dA b t) s.heap) {k4 : Int32 → Int32 → Int32 → Option Int32} (hk4 : ∀ (x1 : Int32) (x2 : Int32) (x3 : Int32) (ls : Array Slot), k4 x1 x2 x3 = some r → lv_has ls 4 [(0, .ref b), (1, .int x1), (2, .int x2), (3, .int x3)] → W p l e rmX2_spared s m args below meth c s.heap [] 0 0 (MQ below (rQi r) args s 0 0 nof) (F0 m 4 ls [])) : ∀ (x1 : Int32) (x2 : Int32) (x3 : Int32) (ls : Array Slot), T_spared_29 k4 t x1 x2 x3 = some r → lv_has ls 4 [(0, .ref b), (1, .int x1), (2, .int x2), (3, .int x3)] → W p l e rmX2_spared s m args below meth c s.heap [] 0 0 (MQ below (rQi r) args s 0 0 nof) (F0 m 29 ls []) := by
  obtain ⟨hx, hb, hr, hml, hown, hts, hlocks⟩ := id C
  intro x1 x2 x3 ls h hl
  unfold T_spared_29 at h
  obtain ⟨v1, ev1⟩ : ∃ y : Int32, y = x3 + (1 : Int32) := ⟨_, rfl⟩
  replace h := lt1_sub ev1 h
  refine lv_iinc (v := v1) (lv' := [(3, .int v1), (0, .ref b), (1, .int x1), (2, .int x2)]) hx hb dX2_spared_29 hl (k := 3) rfl (by rw [ev1]; rfl) (by decide) rfl (fun ls hl => ?_)
  refine lv_goto (tgt := 4) hx hb dX2_spared_32 (by decide) ?_
  exact hk4 x1 x2 v1 ls h (lv_sub hl [1, 2, 3, 0] rfl)
theorem bX2_spared_4 {p : Program} {l : Launch} {e : Env} {s : State} {m : MethodId} {args : Array Value} {below : List Frame} {meth : Method} {c : Code} {D : va_G} {dA : Nat → ClassId} {b : Nat} {t : TS} {r : Int32} (C : cx p s m args meth c cX2_spared RX2 4 (some .int)) (hK : kk D dA s) (hT : wd D (tw dA b t) s.heap) : ∀ (n : Nat), ∀ (x1 : Int32) (x2 : Int32) (x3 : Int32) (ls : Array Slot), T_spared_4 t n x1 x2 x3 = some r → lv_has ls 4 [(0, .ref b), (1, .int x1), (2, .int x2), (3, .int x3)] → W p l e rmX2_spared s m args below meth c s.heap [] 0 0 (MQ below (rQi r) args s 0 0 nof) (F0 m 4 ls []) := by
  obtain ⟨hx, hb, hr, hml, hown, hts, hlocks⟩ := id C
  intro n
  induction n with
  | zero =>
    intro x1 x2 x3 ls h hl
    have h : none = some _ := h
    cases h
  | succ n ih =>
    intro x1 x2 x3 ls h hl
    rw [T_spared_4] at h
    refine lv_iload_n hx hb dX2_spared_4 rfl (lv_at hl 3 rfl) ?_
    refine lv_bipush (v := 26) hx hb dX2_spared_5 (by decide) ?_
    refine lv_icmp_ge (tgt := 35) hx hb dX2_spared_7 (by decide) (fun c => ?_) (fun c => ?_)
    · replace h := if_t c h
      refine lv_iload_n hx hb dX2_spared_35 rfl (lv_at hl 1 rfl) ?_
      refine lv_if_eq (tgt := 49) hx hb dX2_spared_36 (by decide) (fun c => ?_) (fun c => ?_)
      · replace h := if_t c h
        refine lv_iload_n hx hb dX2_spared_49 rfl (lv_at hl 2 rfl) ?_
        exact e_ri C h dX2_spared_50
      · replace h := if_f c h
        refine lv_aload_n hx hb dX2_spared_39 rfl (lv_at hl 0 rfl) ?_
        refine lv_iconst (v := 1) hx hb dX2_spared_40 (by decide) ?_
        refine lv_iload_n hx hb dX2_spared_41 rfl (lv_at hl 2 rfl) ?_
        refine lv_ishl hx hb dX2_spared_42 ?_
        obtain ⟨v1, hv1, h⟩ := bd1_some h
        refine r_int (run_t (As := [.int ((1 : Int32) <<< (x2 &&& (31 : Int32)))]) (rest := []) C hK hT (mX2_silenced hv1) q2093 q2095 qs138 q162 q2096 ⟨rfl, rfl⟩ hdX2_silenced ⟨Nat.le_of_ble_eq_true rfl, Nat.le_of_ble_eq_true rfl⟩ ⟨Nat.zero_le _, Nat.zero_le _⟩ rfl hl.1 rfl (Nat.le_of_ble_eq_true rfl) dX2_spared_43) ?_
        refine lv_goto (tgt := 50) hx hb dX2_spared_46 (by decide) ?_
        exact e_ri C h dX2_spared_50
    · replace h := if_f c h
      refine lv_aload_n hx hb dX2_spared_10 rfl (lv_at hl 0 rfl) ?_
      refine lv_iconst (v := 1) hx hb dX2_spared_11 (by decide) ?_
      refine lv_iload_n hx hb dX2_spared_12 rfl (lv_at hl 3 rfl) ?_
      refine lv_ishl hx hb dX2_spared_13 ?_
      obtain ⟨v2, hv2, h⟩ := bd1_some h
      refine r_int (run_t (As := [.int ((1 : Int32) <<< (x3 &&& (31 : Int32)))]) (rest := []) C hK hT (mX2_silenced hv2) q2093 q2095 qs138 q162 q2096 ⟨rfl, rfl⟩ hdX2_silenced ⟨Nat.le_of_ble_eq_true rfl, Nat.le_of_ble_eq_true rfl⟩ ⟨Nat.zero_le _, Nat.zero_le _⟩ rfl hl.1 rfl (Nat.le_of_ble_eq_true rfl) dX2_spared_14) ?_
      refine lv_aload_n hx hb dX2_spared_17 rfl (lv_at hl 0 rfl) ?_
      refine lv_iconst (v := 1) hx hb dX2_spared_18 (by decide) ?_
      refine lv_iload_n hx hb dX2_spared_19 rfl (lv_at hl 2 rfl) ?_
      refine lv_ishl hx hb dX2_spared_20 ?_
      obtain ⟨v3, hv3, h⟩ := bd1_some h
      refine r_int (run_t (As := [.int ((1 : Int32) <<< (x2 &&& (31 : Int32)))]) (rest := [.int v2]) C hK hT (mX2_silenced hv3) q2093 q2095 qs138 q162 q2096 ⟨rfl, rfl⟩ hdX2_silenced ⟨Nat.le_of_ble_eq_true rfl, Nat.le_of_ble_eq_true rfl⟩ ⟨Nat.zero_le _, Nat.zero_le _⟩ rfl hl.1 rfl (Nat.le_of_ble_eq_true rfl) dX2_spared_21) ?_
      refine lv_icmp_le (tgt := 29) hx hb dX2_spared_24 (by decide) (fun c => ?_) (fun c => ?_)
      · replace h := if_t c h
        exact bX2_spared_29 C hK hT ih x1 x2 x3 ls h (lv_sub hl [0, 1, 2, 3] rfl)
      · replace h := if_f c h
        refine lv_iload_n hx hb dX2_spared_27 rfl (lv_at hl 3 rfl) ?_
        refine lv_istore_n (lv' := [(2, .int x3), (0, .ref b), (1, .int x1), (3, .int x3)]) hx hb dX2_spared_28 rfl hl (by decide) rfl (fun ls hl => ?_)
        exact bX2_spared_29 C hK hT ih x1 x3 x3 ls h (lv_sub hl [1, 2, 0, 3] rfl)
theorem bX2_spared {p : Program} {l : Launch} {e : Env} {s : State} {m : MethodId} {args : Array Value} {below : List Frame} {meth : Method} {c : Code} {D : va_G} {dA : Nat → ClassId} {b : Nat} {t : TS} {r : Int32} (C : cx p s m args meth c cX2_spared RX2 4 (some .int)) (hK : kk D dA s) (hT : wd D (tw dA b t) s.heap) : ∀ (x1 : Int32) (ls : Array Slot), T_spared t x1 = some r → lv_has ls 4 [(0, .ref b), (1, .int x1)] → W p l e rmX2_spared s m args below meth c s.heap [] 0 0 (MQ below (rQi r) args s 0 0 nof) (F0 m 0 ls []) := by
  obtain ⟨hx, hb, hr, hml, hown, hts, hlocks⟩ := id C
  intro x1 ls h hl
  unfold T_spared at h
  refine lv_iconst (v := 0) hx hb dX2_spared_0 (by decide) ?_
  refine lv_istore_n (lv' := [(2, .int (0 : Int32)), (0, .ref b), (1, .int x1)]) hx hb dX2_spared_1 rfl hl (by decide) rfl (fun ls hl => ?_)
  refine lv_iconst (v := 1) hx hb dX2_spared_2 (by decide) ?_
  refine lv_istore_n (lv' := [(3, .int (1 : Int32)), (2, .int (0 : Int32)), (0, .ref b), (1, .int x1)]) hx hb dX2_spared_3 rfl hl (by decide) rfl (fun ls hl => ?_)
  exact bX2_spared_4 C hK hT fu x1 (0 : Int32) (1 : Int32) ls h (lv_sub hl [2, 3, 1, 0] rfl)
theorem mX2_spared {l : Launch} {D : va_G} {dA : Nat → ClassId} {b : Nat} {t : TS} {x1 : Int32} {r : Int32} (h : T_spared t x1 = some r) : Met l yX2_spared (ws_ yX2_spared cX2_spared 4 (some .int)) rmX2_spared (tPc D dA b t [.ref b, .int x1]) (rQi r) 0 0 nof := en_R (by decide +kernel) rfl (Nat.le_of_ble_eq_true rfl) (fun p e s m below meth c ls C hK hT hl => bX2_spared C hK hT x1 ls h hl)
set_option maxRecDepth 20000 in
abbrev rmX2_common : Room := { frames := 0, cells := 0, slots := 0, locals := 0 }
theorem hdX2_common : yX2_common.cls ≠ "java/lang/invoke/MethodHandle" ∧ yX2_common.cls ≠ "java/lang/invoke/VarHandle" ∧ (parseMethodDescriptor yX2_common.desc).map (fun d => d.parameters.length) = some 2 := by decide +kernel
theorem bX2_common_6 {p : Program} {l : Launch} {e : Env} {s : State} {m : MethodId} {args : Array Value} {below : List Frame} {meth : Method} {c : Code} {r : Int64} (C : cx p s m args meth c cX2_common RX2 10 (some .long)) : ∀ (n : Nat), ∀ (x4 : Int64) (x6 : Int64) (ls : Array Slot), T_common_6 n x4 x6 = some r → lv_has ls 10 [(4, .long x4), (6, .long x6)] → W p l e rmX2_common s m args below meth c s.heap [] 0 0 (MQ below (rQl r) args s 0 0 nof) (F0 m 6 ls []) := by
  obtain ⟨hx, hb, hr, hml, hown, hts, hlocks⟩ := id C
  intro n
  induction n with
  | zero =>
    intro x4 x6 ls h hl
    have h : none = some _ := h
    cases h
  | succ n ih =>
    intro x4 x6 ls h hl
    rw [T_common_6] at h
    refine lv_lload hx hb dX2_common_6 (lv_at hl 1 rfl) ?_
    refine lv_lconst (v := 0) hx hb dX2_common_8 (by decide) ?_
    refine W.lcmp hx hb dX2_common_9 ?_
    refine lv_if_eq (tgt := 31) hx hb dX2_common_10 (by decide) (fun c => ?_) (fun c => ?_)
    · replace h := if_t c h
      refine lv_lload hx hb dX2_common_31 (lv_at hl 0 rfl) ?_
      exact e_rl C h dX2_common_33
    · replace h := if_f c h
      refine lv_lload hx hb dX2_common_13 (lv_at hl 0 rfl) ?_
      refine lv_lload hx hb dX2_common_15 (lv_at hl 1 rfl) ?_
      obtain ⟨hn, h⟩ := nzl_some h
      refine lv_lrem hx hb dX2_common_17 hn ?_
      refine lv_topl (fun v1 ev1 => ?_)
      replace h := lt1_sub ev1 h
      refine lv_lstore (lv' := [(8, .long v1), (4, .long x4), (6, .long x6)]) hx hb dX2_common_18 hl (by decide) rfl (fun ls hl => ?_)
      refine lv_lload hx hb dX2_common_20 (lv_at hl 2 rfl) ?_
      refine lv_lstore (lv' := [(4, .long x6), (8, .long v1), (6, .long x6)]) hx hb dX2_common_22 hl (by decide) rfl (fun ls hl => ?_)
      refine lv_lload hx hb dX2_common_24 (lv_at hl 1 rfl) ?_
      refine lv_lstore (lv' := [(6, .long v1), (4, .long x6), (8, .long v1)]) hx hb dX2_common_26 hl (by decide) rfl (fun ls hl => ?_)
      refine lv_goto (tgt := 6) hx hb dX2_common_28 (by decide) ?_
      exact ih x6 v1 ls h (lv_sub hl [1, 0] rfl)
theorem bX2_common {p : Program} {l : Launch} {e : Env} {s : State} {m : MethodId} {args : Array Value} {below : List Frame} {meth : Method} {c : Code} {r : Int64} (C : cx p s m args meth c cX2_common RX2 10 (some .long)) : ∀ (x0 : Int64) (x2 : Int64) (ls : Array Slot), T_common x0 x2 = some r → lv_has ls 10 [(0, .long x0), (2, .long x2)] → W p l e rmX2_common s m args below meth c s.heap [] 0 0 (MQ below (rQl r) args s 0 0 nof) (F0 m 0 ls []) := by
  obtain ⟨hx, hb, hr, hml, hown, hts, hlocks⟩ := id C
  intro x0 x2 ls h hl
  unfold T_common at h
  refine lv_lload_n hx hb dX2_common_0 rfl (lv_at hl 0 rfl) ?_
  refine lv_lstore (lv' := [(4, .long x0), (0, .long x0), (2, .long x2)]) hx hb dX2_common_1 hl (by decide) rfl (fun ls hl => ?_)
  refine lv_lload_n hx hb dX2_common_3 rfl (lv_at hl 2 rfl) ?_
  refine lv_lstore (lv' := [(6, .long x2), (4, .long x0), (0, .long x0), (2, .long x2)]) hx hb dX2_common_4 hl (by decide) rfl (fun ls hl => ?_)
  exact bX2_common_6 C fu x0 x2 ls h (lv_sub hl [1, 0] rfl)
theorem mX2_common {l : Launch} {x0 : Int64} {x2 : Int64} {r : Int64} (h : T_common x0 x2 = some r) : Met l yX2_common (ws_ yX2_common cX2_common 10 (some .long)) rmX2_common (sPc [.long x0, .long x2]) (rQl r) 0 0 nof := en_S (by decide +kernel) rfl (Nat.le_of_ble_eq_true rfl) (fun p e s m below meth c ls C hl => bX2_common C x0 x2 ls h hl)
set_option maxRecDepth 20000 in
abbrev rmX2_factorial : Room := { frames := 0, cells := 0, slots := 0, locals := 0 }
theorem hdX2_factorial : yX2_factorial.cls ≠ "java/lang/invoke/MethodHandle" ∧ yX2_factorial.cls ≠ "java/lang/invoke/VarHandle" ∧ (parseMethodDescriptor yX2_factorial.desc).map (fun d => d.parameters.length) = some 1 := by decide +kernel
theorem bX2_factorial_4 {p : Program} {l : Launch} {e : Env} {s : State} {m : MethodId} {args : Array Value} {below : List Frame} {meth : Method} {c : Code} {r : Int64} (C : cx p s m args meth c cX2_factorial RX2 4 (some .long)) : ∀ (n : Nat), ∀ (x0 : Int32) (x1 : Int64) (x3 : Int32) (ls : Array Slot), T_factorial_4 n x0 x1 x3 = some r → lv_has ls 4 [(0, .int x0), (1, .long x1), (3, .int x3)] → W p l e rmX2_factorial s m args below meth c s.heap [] 0 0 (MQ below (rQl r) args s 0 0 nof) (F0 m 4 ls []) := by
  obtain ⟨hx, hb, hr, hml, hown, hts, hlocks⟩ := id C
  intro n
  induction n with
  | zero =>
    intro x0 x1 x3 ls h hl
    have h : none = some _ := h
    cases h
  | succ n ih =>
    intro x0 x1 x3 ls h hl
    rw [T_factorial_4] at h
    refine lv_iload_n hx hb dX2_factorial_4 rfl (lv_at hl 2 rfl) ?_
    refine lv_iload_n hx hb dX2_factorial_5 rfl (lv_at hl 0 rfl) ?_
    refine lv_icmp_gt (tgt := 20) hx hb dX2_factorial_6 (by decide) (fun c => ?_) (fun c => ?_)
    · replace h := if_t c h
      refine lv_lload_n hx hb dX2_factorial_20 rfl (lv_at hl 1 rfl) ?_
      exact e_rl C h dX2_factorial_21
    · replace h := if_f c h
      refine lv_lload_n hx hb dX2_factorial_9 rfl (lv_at hl 1 rfl) ?_
      refine lv_iload_n hx hb dX2_factorial_10 rfl (lv_at hl 2 rfl) ?_
      refine lv_i2l hx hb dX2_factorial_11 rfl ?_
      refine lv_lmul hx hb dX2_factorial_12 ?_
      refine lv_topl (fun v1 ev1 => ?_)
      replace h := lt1_sub ev1 h
      refine lv_lstore_n (lv' := [(1, .long v1), (0, .int x0), (3, .int x3)]) hx hb dX2_factorial_13 rfl hl (by decide) rfl (fun ls hl => ?_)
      obtain ⟨v2, ev2⟩ : ∃ y : Int32, y = x3 + (1 : Int32) := ⟨_, rfl⟩
      replace h := lt1_sub ev2 h
      refine lv_iinc (v := v2) (lv' := [(3, .int v2), (1, .long v1), (0, .int x0)]) hx hb dX2_factorial_14 hl (k := 2) rfl (by rw [ev2]; rfl) (by decide) rfl (fun ls hl => ?_)
      refine lv_goto (tgt := 4) hx hb dX2_factorial_17 (by decide) ?_
      exact ih x0 v1 v2 ls h (lv_sub hl [2, 1, 0] rfl)
theorem bX2_factorial {p : Program} {l : Launch} {e : Env} {s : State} {m : MethodId} {args : Array Value} {below : List Frame} {meth : Method} {c : Code} {r : Int64} (C : cx p s m args meth c cX2_factorial RX2 4 (some .long)) : ∀ (x0 : Int32) (ls : Array Slot), T_factorial x0 = some r → lv_has ls 4 [(0, .int x0)] → W p l e rmX2_factorial s m args below meth c s.heap [] 0 0 (MQ below (rQl r) args s 0 0 nof) (F0 m 0 ls []) := by
  obtain ⟨hx, hb, hr, hml, hown, hts, hlocks⟩ := id C
  intro x0 ls h hl
  unfold T_factorial at h
  refine lv_lconst (v := 1) hx hb dX2_factorial_0 (by decide) ?_
  refine lv_lstore_n (lv' := [(1, .long (1 : Int64)), (0, .int x0)]) hx hb dX2_factorial_1 rfl hl (by decide) rfl (fun ls hl => ?_)
  refine lv_iconst (v := 2) hx hb dX2_factorial_2 (by decide) ?_
  refine lv_istore_n (lv' := [(3, .int (2 : Int32)), (1, .long (1 : Int64)), (0, .int x0)]) hx hb dX2_factorial_3 rfl hl (by decide) rfl (fun ls hl => ?_)
  exact bX2_factorial_4 C fu x0 (1 : Int64) (2 : Int32) ls h (lv_sub hl [2, 1, 0] rfl)
theorem mX2_factorial {l : Launch} {x0 : Int32} {r : Int64} (h : T_factorial x0 = some r) : Met l yX2_factorial (ws_ yX2_factorial cX2_factorial 4 (some .long)) rmX2_factorial (sPc [.int x0]) (rQl r) 0 0 nof := en_S (by decide +kernel) rfl (Nat.le_of_ble_eq_true rfl) (fun p e s m below meth c ls C hl => bX2_factorial C x0 ls h hl)
set_option maxRecDepth 20000 in
abbrev rmX2_layGroup : Room := { frames := 5, cells := 0, slots := 0, locals := 114 }
theorem hdX2_layGroup : yX2_layGroup.cls = RX2 ∧ yX2_layGroup.cls ≠ "java/lang/invoke/MethodHandle" ∧ yX2_layGroup.cls ≠ "java/lang/invoke/VarHandle" ∧ (parseMethodDescriptor yX2_layGroup.desc).map (fun d => d.parameters.length) = some 2 := by decide +kernel
theorem bX2_layGroup_70 {p : Program} {l : Launch} {e : Env} {s : State} {m : MethodId} {args : Array Value} {below : List Frame} {meth : Method} {c : Code} {D : va_G} {dA : Nat → ClassId} {b : Nat} {r : Int32} {t9 : TS} (C : cx p s m args meth c cX2_layGroup RX2 6 (some .boolean)) (hK : kk D dA s) {k33 : TS → Int32 → Int32 → Int32 → Option (Int32 × TS)} (hk33 : ∀ (t : TS) (x1 : Int32) (x2 : Int32) (x3 : Int32) (H : Heap) (locs : List Loc) (hT : wd D (tw dA b t) H) (hS : tS b s.heap H locs) (ls : Array Slot), k33 t x1 x2 x3 = some (r, t9) → lv_has ls 6 [(0, .ref b), (1, .int x1), (2, .int x2), (3, .int x3)] → W p l e rmX2_layGroup s m args below meth c H locs 0 0 (MQ below (tQ D dA b t9 (some (.int r))) args s 0 0 (ta b)) (F0 m 33 ls [])) : ∀ (t : TS) (x1 : Int32) (x2 : Int32) (x3 : Int32) (H : Heap) (locs : List Loc) (hT : wd D (tw dA b t) H) (hS : tS b s.heap H locs) (ls : Array Slot), T_layGroup_70 k33 t x1 x2 x3 = some (r, t9) → lv_has ls 6 [(0, .ref b), (1, .int x1), (2, .int x2), (3, .int x3)] → W p l e rmX2_layGroup s m args below meth c H locs 0 0 (MQ below (tQ D dA b t9 (some (.int r))) args s 0 0 (ta b)) (F0 m 70 ls []) := by
  obtain ⟨hx, hb, hr, hml, hown, hts, hlocks⟩ := id C
  intro t x1 x2 x3 H locs hT hS ls h hl
  unfold T_layGroup_70 at h
  obtain ⟨v1, ev1⟩ : ∃ y : Int32, y = x3 + (1 : Int32) := ⟨_, rfl⟩
  replace h := lt1_sub ev1 h
  refine lv_iinc (v := v1) (lv' := [(3, .int v1), (0, .ref b), (1, .int x1), (2, .int x2)]) hx hb dX2_layGroup_70 hl (k := 3) rfl (by rw [ev1]; rfl) (by decide) rfl (fun ls hl => ?_)
  refine lv_goto (tgt := 33) hx hb dX2_layGroup_73 (by decide) ?_
  exact hk33 t x1 x2 v1 H locs hT hS ls h (lv_sub hl [1, 2, 3, 0] rfl)
theorem bX2_layGroup_127 {p : Program} {l : Launch} {e : Env} {s : State} {m : MethodId} {args : Array Value} {below : List Frame} {meth : Method} {c : Code} {D : va_G} {dA : Nat → ClassId} {b : Nat} {r : Int32} {t9 : TS} (C : cx p s m args meth c cX2_layGroup RX2 6 (some .boolean)) (hK : kk D dA s) {k94 : TS → Int32 → Int32 → Int32 → Int32 → Option (Int32 × TS)} (hk94 : ∀ (t : TS) (x1 : Int32) (x3 : Int32) (x4 : Int32) (x5 : Int32) (H : Heap) (locs : List Loc) (hT : wd D (tw dA b t) H) (hS : tS b s.heap H locs) (ls : Array Slot), k94 t x1 x3 x4 x5 = some (r, t9) → lv_has ls 6 [(0, .ref b), (1, .int x1), (3, .int x3), (4, .int x4), (5, .int x5)] → W p l e rmX2_layGroup s m args below meth c H locs 0 0 (MQ below (tQ D dA b t9 (some (.int r))) args s 0 0 (ta b)) (F0 m 94 ls [])) : ∀ (t : TS) (x1 : Int32) (x3 : Int32) (x5 : Int32) (y0 : Int32) (y1 : Int32) (H : Heap) (locs : List Loc) (hT : wd D (tw dA b t) H) (hS : tS b s.heap H locs) (ls : Array Slot), T_layGroup_127 k94 t x1 x3 x5 y0 y1 = some (r, t9) → lv_has ls 6 [(0, .ref b), (1, .int x1), (3, .int x3), (5, .int x5)] → W p l e rmX2_layGroup s m args below meth c H locs 0 0 (MQ below (tQ D dA b t9 (some (.int r))) args s 0 0 (ta b)) (F0 m 127 ls [.int y1, .int y0]) := by
  obtain ⟨hx, hb, hr, hml, hown, hts, hlocks⟩ := id C
  intro t x1 x3 x5 y0 y1 H locs hT hS ls h hl
  unfold T_layGroup_127 at h
  refine lv_ior hx hb dX2_layGroup_127 ?_
  refine lv_topi (fun v1 ev1 => ?_)
  replace h := lt1_sub ev1 h
  refine lv_istore (lv' := [(4, .int v1), (0, .ref b), (1, .int x1), (3, .int x3), (5, .int x5)]) hx hb dX2_layGroup_128 hl (by decide) rfl (fun ls hl => ?_)
  obtain ⟨v2, ev2⟩ : ∃ y : Int32, y = x5 + (1 : Int32) := ⟨_, rfl⟩
  replace h := lt1_sub ev2 h
  refine lv_iinc (v := v2) (lv' := [(5, .int v2), (4, .int v1), (0, .ref b), (1, .int x1), (3, .int x3)]) hx hb dX2_layGroup_130 hl (k := 4) rfl (by rw [ev2]; rfl) (by decide) rfl (fun ls hl => ?_)
  refine lv_goto (tgt := 94) hx hb dX2_layGroup_133 (by decide) ?_
  exact hk94 t x1 x3 v1 v2 H locs hT hS ls h (lv_sub hl [2, 3, 4, 1, 0] rfl)
theorem bX2_layGroup_157 {p : Program} {l : Launch} {e : Env} {s : State} {m : MethodId} {args : Array Value} {below : List Frame} {meth : Method} {c : Code} {D : va_G} {dA : Nat → ClassId} {b : Nat} {r : Int32} {t9 : TS} (C : cx p s m args meth c cX2_layGroup RX2 6 (some .boolean)) (hK : kk D dA s) {k78 : TS → Int32 → Int32 → Option (Int32 × TS)} (hk78 : ∀ (t : TS) (x1 : Int32) (x3 : Int32) (H : Heap) (locs : List Loc) (hT : wd D (tw dA b t) H) (hS : tS b s.heap H locs) (ls : Array Slot), k78 t x1 x3 = some (r, t9) → lv_has ls 6 [(0, .ref b), (1, .int x1), (3, .int x3)] → W p l e rmX2_layGroup s m args below meth c H locs 0 0 (MQ below (tQ D dA b t9 (some (.int r))) args s 0 0 (ta b)) (F0 m 78 ls [])) : ∀ (t : TS) (x1 : Int32) (x3 : Int32) (y1 : Int32) (y2 : Int32) (H : Heap) (locs : List Loc) (hT : wd D (tw dA b t) H) (hS : tS b s.heap H locs) (ls : Array Slot), T_layGroup_157 k78 t x1 x3 y1 y2 = some (r, t9) → lv_has ls 6 [(0, .ref b), (1, .int x1), (3, .int x3)] → W p l e rmX2_layGroup s m args below meth c H locs 0 0 (MQ below (tQ D dA b t9 (some (.int r))) args s 0 0 (ta b)) (F0 m 157 ls [.int y2, .int y1, .ref (b + 13)]) := by
  obtain ⟨hx, hb, hr, hml, hown, hts, hlocks⟩ := id C
  intro t x1 x3 y1 y2 H locs hT hS ls h hl
  unfold T_layGroup_157 at h
  obtain ⟨hi, h⟩ := ck_some h
  refine ts31 C hK hT hS hi dX2_layGroup_157 (fun t1 H locs et1 hT hS => ?_)
  replace h := lt1_sub et1 h
  obtain ⟨v2, ev2⟩ : ∃ y : Int32, y = x3 + (1 : Int32) := ⟨_, rfl⟩
  replace h := lt1_sub ev2 h
  refine lv_iinc (v := v2) (lv' := [(3, .int v2), (0, .ref b), (1, .int x1)]) hx hb dX2_layGroup_158 hl (k := 2) rfl (by rw [ev2]; rfl) (by decide) rfl (fun ls hl => ?_)
  refine lv_goto (tgt := 78) hx hb dX2_layGroup_161 (by decide) ?_
  exact hk78 t1 x1 v2 H locs hT hS ls h (lv_sub hl [1, 2, 0] rfl)
theorem bX2_layGroup_94 {p : Program} {l : Launch} {e : Env} {s : State} {m : MethodId} {args : Array Value} {below : List Frame} {meth : Method} {c : Code} {D : va_G} {dA : Nat → ClassId} {b : Nat} {r : Int32} {t9 : TS} (C : cx p s m args meth c cX2_layGroup RX2 6 (some .boolean)) (hK : kk D dA s) {k78 : TS → Int32 → Int32 → Option (Int32 × TS)} (hk78 : ∀ (t : TS) (x1 : Int32) (x3 : Int32) (H : Heap) (locs : List Loc) (hT : wd D (tw dA b t) H) (hS : tS b s.heap H locs) (ls : Array Slot), k78 t x1 x3 = some (r, t9) → lv_has ls 6 [(0, .ref b), (1, .int x1), (3, .int x3)] → W p l e rmX2_layGroup s m args below meth c H locs 0 0 (MQ below (tQ D dA b t9 (some (.int r))) args s 0 0 (ta b)) (F0 m 78 ls [])) : ∀ (n : Nat), ∀ (t : TS) (x1 : Int32) (x3 : Int32) (x4 : Int32) (x5 : Int32) (H : Heap) (locs : List Loc) (hT : wd D (tw dA b t) H) (hS : tS b s.heap H locs) (ls : Array Slot), T_layGroup_94 k78 n t x1 x3 x4 x5 = some (r, t9) → lv_has ls 6 [(0, .ref b), (1, .int x1), (3, .int x3), (4, .int x4), (5, .int x5)] → W p l e rmX2_layGroup s m args below meth c H locs 0 0 (MQ below (tQ D dA b t9 (some (.int r))) args s 0 0 (ta b)) (F0 m 94 ls []) := by
  obtain ⟨hx, hb, hr, hml, hown, hts, hlocks⟩ := id C
  intro n
  induction n with
  | zero =>
    intro t x1 x3 x4 x5 H locs hT hS ls h hl
    have h : none = some _ := h
    cases h
  | succ n ih =>
    intro t x1 x3 x4 x5 H locs hT hS ls h hl
    rw [T_layGroup_94] at h
    refine lv_iload hx hb dX2_layGroup_94 (lv_at hl 4 rfl) ?_
    refine lv_aload_n hx hb dX2_layGroup_96 rfl (lv_at hl 0 rfl) ?_
    refine tg33 C hK hT dX2_layGroup_97 ?_
    refine lv_icmp_ge (tgt := 136) hx hb dX2_layGroup_100 (by decide) (fun c => ?_) (fun c => ?_)
    · replace h := if_t c h
      refine lv_aload_n hx hb dX2_layGroup_136 rfl (lv_at hl 0 rfl) ?_
      refine tg31 C hK hT dX2_layGroup_137 ?_
      refine lv_iload_n hx hb dX2_layGroup_140 rfl (lv_at hl 2 rfl) ?_
      refine lv_aload_n hx hb dX2_layGroup_141 rfl (lv_at hl 0 rfl) ?_
      refine lv_iload_n hx hb dX2_layGroup_142 rfl (lv_at hl 1 rfl) ?_
      refine lv_iload hx hb dX2_layGroup_143 (lv_at hl 3 rfl) ?_
      refine lv_iconst (v := 0) hx hb dX2_layGroup_145 (by decide) ?_
      obtain ⟨v1, hv1, h⟩ := bd1_some h
      refine r_int (run_t (As := [.int x1, .int x4, .int (0 : Int32)]) (rest := [.int x3, .ref (b + 13)]) C hK hT (mX2_canSay hv1) q1963 q1965 qs118 q162 q1966 ⟨rfl, rfl⟩ hdX2_canSay ⟨Nat.le_of_ble_eq_true rfl, Nat.le_of_ble_eq_true rfl⟩ ⟨Nat.zero_le _, Nat.zero_le _⟩ rfl hl.1 rfl (Nat.le_of_ble_eq_true rfl) dX2_layGroup_146) ?_
      refine lv_if_ne (tgt := 156) hx hb dX2_layGroup_149 (by decide) (fun c => ?_) (fun c => ?_)
      · replace h := if_f c h
        refine lv_iconst (v := 0) hx hb dX2_layGroup_156 (by decide) ?_
        exact bX2_layGroup_157 C hK hk78 t x1 x3 x3 (0 : Int32) H locs hT hS ls h (lv_sub hl [0, 1, 2] rfl)
      · replace h := if_t c h
        refine lv_iconst (v := 1) hx hb dX2_layGroup_152 (by decide) ?_
        refine lv_goto (tgt := 157) hx hb dX2_layGroup_153 (by decide) ?_
        exact bX2_layGroup_157 C hK hk78 t x1 x3 x3 (1 : Int32) H locs hT hS ls h (lv_sub hl [0, 1, 2] rfl)
    · replace h := if_f c h
      refine lv_iload hx hb dX2_layGroup_103 (lv_at hl 3 rfl) ?_
      refine lv_iload_n hx hb dX2_layGroup_105 rfl (lv_at hl 2 rfl) ?_
      refine lv_iload hx hb dX2_layGroup_106 (lv_at hl 4 rfl) ?_
      obtain ⟨v2, hv2, h⟩ := bd1_some h
      refine r_int (run_s (As := [.int x3, .int x5]) (rest := [.int x4]) C (mX2_has hv2) q1659 q1660 q162 q1661 ⟨rfl, rfl⟩ hdX2_has ⟨Nat.le_of_ble_eq_true rfl, Nat.le_of_ble_eq_true rfl⟩ ⟨Nat.zero_le _, Nat.zero_le _⟩ rfl hl.1 rfl (Nat.le_of_ble_eq_true rfl) dX2_layGroup_108) ?_
      refine lv_if_eq (tgt := 126) hx hb dX2_layGroup_111 (by decide) (fun c => ?_) (fun c => ?_)
      · replace h := if_t c h
        refine lv_iconst (v := 0) hx hb dX2_layGroup_126 (by decide) ?_
        exact bX2_layGroup_127 C hK ih t x1 x3 x5 x4 (0 : Int32) H locs hT hS ls h (lv_sub hl [0, 1, 2, 4] rfl)
      · replace h := if_f c h
        refine lv_iconst (v := 1) hx hb dX2_layGroup_114 (by decide) ?_
        refine lv_aload_n hx hb dX2_layGroup_115 rfl (lv_at hl 0 rfl) ?_
        refine tg30 C hK hT dX2_layGroup_116 ?_
        refine lv_iload hx hb dX2_layGroup_119 (lv_at hl 4 rfl) ?_
        obtain ⟨hi, h⟩ := ck_some h
        refine tl30 C hK hT hi dX2_layGroup_121 ?_
        refine lv_ishl hx hb dX2_layGroup_122 ?_
        refine lv_goto (tgt := 127) hx hb dX2_layGroup_123 (by decide) ?_
        exact bX2_layGroup_127 C hK ih t x1 x3 x5 x4 ((1 : Int32) <<< ((t.1 30 x5.toNatClampNeg) &&& (31 : Int32))) H locs hT hS ls h (lv_sub hl [0, 1, 2, 4] rfl)
theorem bX2_layGroup_78 {p : Program} {l : Launch} {e : Env} {s : State} {m : MethodId} {args : Array Value} {below : List Frame} {meth : Method} {c : Code} {D : va_G} {dA : Nat → ClassId} {b : Nat} {r : Int32} {t9 : TS} (C : cx p s m args meth c cX2_layGroup RX2 6 (some .boolean)) (hK : kk D dA s) : ∀ (n : Nat), ∀ (t : TS) (x1 : Int32) (x3 : Int32) (H : Heap) (locs : List Loc) (hT : wd D (tw dA b t) H) (hS : tS b s.heap H locs) (ls : Array Slot), T_layGroup_78 n t x1 x3 = some (r, t9) → lv_has ls 6 [(0, .ref b), (1, .int x1), (3, .int x3)] → W p l e rmX2_layGroup s m args below meth c H locs 0 0 (MQ below (tQ D dA b t9 (some (.int r))) args s 0 0 (ta b)) (F0 m 78 ls []) := by
  obtain ⟨hx, hb, hr, hml, hown, hts, hlocks⟩ := id C
  intro n
  induction n with
  | zero =>
    intro t x1 x3 H locs hT hS ls h hl
    have h : none = some _ := h
    cases h
  | succ n ih =>
    intro t x1 x3 H locs hT hS ls h hl
    rw [T_layGroup_78] at h
    refine lv_iload_n hx hb dX2_layGroup_78 rfl (lv_at hl 2 rfl) ?_
    refine lv_iconst (v := 1) hx hb dX2_layGroup_79 (by decide) ?_
    refine lv_aload_n hx hb dX2_layGroup_80 rfl (lv_at hl 0 rfl) ?_
    refine tg33 C hK hT dX2_layGroup_81 ?_
    refine lv_ishl hx hb dX2_layGroup_84 ?_
    refine lv_icmp_ge (tgt := 164) hx hb dX2_layGroup_85 (by decide) (fun c => ?_) (fun c => ?_)
    · replace h := if_t c h
      refine lv_iconst (v := 1) hx hb dX2_layGroup_164 (by decide) ?_
      exact e_wz C hT hS (Or.inr rfl) h dX2_layGroup_165
    · replace h := if_f c h
      refine lv_iconst (v := 0) hx hb dX2_layGroup_88 (by decide) ?_
      refine lv_istore (lv' := [(4, .int (0 : Int32)), (0, .ref b), (1, .int x1), (3, .int x3)]) hx hb dX2_layGroup_89 hl (by decide) rfl (fun ls hl => ?_)
      refine lv_iconst (v := 0) hx hb dX2_layGroup_91 (by decide) ?_
      refine lv_istore (lv' := [(5, .int (0 : Int32)), (4, .int (0 : Int32)), (0, .ref b), (1, .int x1), (3, .int x3)]) hx hb dX2_layGroup_92 hl (by decide) rfl (fun ls hl => ?_)
      exact bX2_layGroup_94 C hK ih fu t x1 x3 (0 : Int32) (0 : Int32) H locs hT hS ls h (lv_sub hl [2, 3, 4, 1, 0] rfl)
theorem bX2_layGroup_33 {p : Program} {l : Launch} {e : Env} {s : State} {m : MethodId} {args : Array Value} {below : List Frame} {meth : Method} {c : Code} {D : va_G} {dA : Nat → ClassId} {b : Nat} {r : Int32} {t9 : TS} (C : cx p s m args meth c cX2_layGroup RX2 6 (some .boolean)) (hK : kk D dA s) : ∀ (n : Nat), ∀ (t : TS) (x1 : Int32) (x2 : Int32) (x3 : Int32) (H : Heap) (locs : List Loc) (hT : wd D (tw dA b t) H) (hS : tS b s.heap H locs) (ls : Array Slot), T_layGroup_33 n t x1 x2 x3 = some (r, t9) → lv_has ls 6 [(0, .ref b), (1, .int x1), (2, .int x2), (3, .int x3)] → W p l e rmX2_layGroup s m args below meth c H locs 0 0 (MQ below (tQ D dA b t9 (some (.int r))) args s 0 0 (ta b)) (F0 m 33 ls []) := by
  obtain ⟨hx, hb, hr, hml, hown, hts, hlocks⟩ := id C
  intro n
  induction n with
  | zero =>
    intro t x1 x2 x3 H locs hT hS ls h hl
    have h : none = some _ := h
    cases h
  | succ n ih =>
    intro t x1 x2 x3 H locs hT hS ls h hl
    rw [T_layGroup_33] at h
    refine lv_iload_n hx hb dX2_layGroup_33 rfl (lv_at hl 3 rfl) ?_
    refine lv_bipush (v := 26) hx hb dX2_layGroup_34 (by decide) ?_
    refine lv_icmp_ge (tgt := 76) hx hb dX2_layGroup_36 (by decide) (fun c => ?_) (fun c => ?_)
    · replace h := if_t c h
      refine lv_iconst (v := 0) hx hb dX2_layGroup_76 (by decide) ?_
      refine lv_istore_n (lv' := [(3, .int (0 : Int32)), (0, .ref b), (1, .int x1), (2, .int x2)]) hx hb dX2_layGroup_77 rfl hl (by decide) rfl (fun ls hl => ?_)
      exact bX2_layGroup_78 C hK fu t x1 (0 : Int32) H locs hT hS ls h (lv_sub hl [1, 2, 0] rfl)
    · replace h := if_f c h
      refine lv_iload_n hx hb dX2_layGroup_39 rfl (lv_at hl 2 rfl) ?_
      refine lv_iload_n hx hb dX2_layGroup_40 rfl (lv_at hl 3 rfl) ?_
      obtain ⟨v1, hv1, h⟩ := bd1_some h
      refine r_int (run_s (As := [.int x2, .int x3]) (rest := []) C (mX2_has hv1) q1659 q1660 q162 q1661 ⟨rfl, rfl⟩ hdX2_has ⟨Nat.le_of_ble_eq_true rfl, Nat.le_of_ble_eq_true rfl⟩ ⟨Nat.zero_le _, Nat.zero_le _⟩ rfl hl.1 rfl (Nat.le_of_ble_eq_true rfl) dX2_layGroup_41) ?_
      refine lv_if_ne (tgt := 50) hx hb dX2_layGroup_44 (by decide) (fun c => ?_) (fun c => ?_)
      · replace h := if_f c h
        refine lv_aload_n hx hb dX2_layGroup_50 rfl (lv_at hl 0 rfl) ?_
        refine tg30 C hK hT dX2_layGroup_51 ?_
        refine lv_aload_n hx hb dX2_layGroup_54 rfl (lv_at hl 0 rfl) ?_
        refine tg33 C hK hT dX2_layGroup_55 ?_
        refine lv_iload_n hx hb dX2_layGroup_58 rfl (lv_at hl 3 rfl) ?_
        obtain ⟨hi, h⟩ := ck_some h
        refine ts30 C hK hT hS hi dX2_layGroup_59 (fun t2 H locs et2 hT hS => ?_)
        replace h := lt1_sub et2 h
        refine lv_aload_n hx hb dX2_layGroup_60 rfl (lv_at hl 0 rfl) ?_
        refine lv_dup hx hb dX2_layGroup_61 rfl ?_
        refine tg33 C hK hT dX2_layGroup_62 ?_
        refine lv_iconst (v := 1) hx hb dX2_layGroup_65 (by decide) ?_
        refine lv_iadd hx hb dX2_layGroup_66 ?_
        refine tp33 C hK hT hS dX2_layGroup_67 (fun t3 H locs et3 hT hS => ?_)
        replace h := lt1_sub et3 h
        exact bX2_layGroup_70 C hK ih t3 x1 x2 x3 H locs hT hS ls h (lv_sub hl [0, 1, 2, 3] rfl)
      · replace h := if_t c h
        refine lv_goto (tgt := 70) hx hb dX2_layGroup_47 (by decide) ?_
        exact bX2_layGroup_70 C hK ih t x1 x2 x3 H locs hT hS ls h (lv_sub hl [0, 1, 2, 3] rfl)
theorem bX2_layGroup {p : Program} {l : Launch} {e : Env} {s : State} {m : MethodId} {args : Array Value} {below : List Frame} {meth : Method} {c : Code} {D : va_G} {dA : Nat → ClassId} {b : Nat} {r : Int32} {t9 : TS} (C : cx p s m args meth c cX2_layGroup RX2 6 (some .boolean)) (hK : kk D dA s) : ∀ (t : TS) (x1 : Int32) (x2 : Int32) (H : Heap) (locs : List Loc) (hT : wd D (tw dA b t) H) (hS : tS b s.heap H locs) (ls : Array Slot), T_layGroup t x1 x2 = some (r, t9) → lv_has ls 6 [(0, .ref b), (1, .int x1), (2, .int x2)] → W p l e rmX2_layGroup s m args below meth c H locs 0 0 (MQ below (tQ D dA b t9 (some (.int r))) args s 0 0 (ta b)) (F0 m 0 ls []) := by
  obtain ⟨hx, hb, hr, hml, hown, hts, hlocks⟩ := id C
  intro t x1 x2 H locs hT hS ls h hl
  unfold T_layGroup at h
  refine lv_aload_n hx hb dX2_layGroup_0 rfl (lv_at hl 0 rfl) ?_
  refine lv_iload_n hx hb dX2_layGroup_1 rfl (lv_at hl 1 rfl) ?_
  obtain ⟨v1, hv1, h⟩ := bd1_some h
  refine r_int (run_t (As := [.int x1]) (rest := []) C hK hT (mX2_isSaying hv1) q1959 q1961 qs117 q162 q1962 ⟨rfl, rfl⟩ hdX2_isSaying ⟨Nat.le_of_ble_eq_true rfl, Nat.le_of_ble_eq_true rfl⟩ ⟨Nat.zero_le _, Nat.zero_le _⟩ rfl hl.1 rfl (Nat.le_of_ble_eq_true rfl) dX2_layGroup_2) ?_
  refine lv_if_eq (tgt := 24) hx hb dX2_layGroup_5 (by decide) (fun c => ?_) (fun c => ?_)
  · replace h := if_t c h
    refine lv_iconst (v := 0) hx hb dX2_layGroup_24 (by decide) ?_
    exact e_wz C hT hS (Or.inl rfl) h dX2_layGroup_25
  · replace h := if_f c h
    refine lv_iload_n hx hb dX2_layGroup_8 rfl (lv_at hl 2 rfl) ?_
    obtain ⟨v2, hv2, h⟩ := bd1_some h
    refine r_int (run_s (As := [.int x2]) (rest := []) C (mX2_isSet hv2) q1935 q1936 q162 q1937 ⟨rfl, rfl⟩ hdX2_isSet ⟨Nat.le_of_ble_eq_true rfl, Nat.le_of_ble_eq_true rfl⟩ ⟨Nat.zero_le _, Nat.zero_le _⟩ rfl hl.1 rfl (Nat.le_of_ble_eq_true rfl) dX2_layGroup_9) ?_
    refine lv_if_eq (tgt := 24) hx hb dX2_layGroup_12 (by decide) (fun c => ?_) (fun c => ?_)
    · replace h := if_t c h
      refine lv_iconst (v := 0) hx hb dX2_layGroup_24 (by decide) ?_
      exact e_wz C hT hS (Or.inl rfl) h dX2_layGroup_25
    · replace h := if_f c h
      refine lv_iload_n hx hb dX2_layGroup_15 rfl (lv_at hl 2 rfl) ?_
      obtain ⟨v3, hv3, h⟩ := bd1_some h
      refine r_int (run_s (As := [.int x2]) (rest := []) C (mX2_bits hv3) q1902 q1903 q162 q1904 ⟨rfl, rfl⟩ hdX2_bits ⟨Nat.le_of_ble_eq_true rfl, Nat.le_of_ble_eq_true rfl⟩ ⟨Nat.zero_le _, Nat.zero_le _⟩ rfl hl.1 rfl (Nat.le_of_ble_eq_true rfl) dX2_layGroup_16) ?_
      refine lv_bipush (v := 10) hx hb dX2_layGroup_19 (by decide) ?_
      refine lv_icmp_le (tgt := 26) hx hb dX2_layGroup_21 (by decide) (fun c => ?_) (fun c => ?_)
      · replace h := if_t c h
        refine lv_aload_n hx hb dX2_layGroup_26 rfl (lv_at hl 0 rfl) ?_
        refine lv_iconst (v := 0) hx hb dX2_layGroup_27 (by decide) ?_
        refine tp33 C hK hT hS dX2_layGroup_28 (fun t4 H locs et4 hT hS => ?_)
        replace h := lt1_sub et4 h
        refine lv_iconst (v := 0) hx hb dX2_layGroup_31 (by decide) ?_
        refine lv_istore_n (lv' := [(3, .int (0 : Int32)), (0, .ref b), (1, .int x1), (2, .int x2)]) hx hb dX2_layGroup_32 rfl hl (by decide) rfl (fun ls hl => ?_)
        exact bX2_layGroup_33 C hK fu t4 x1 x2 (0 : Int32) H locs hT hS ls h (lv_sub hl [1, 2, 3, 0] rfl)
      · replace h := if_f c h
        refine lv_iconst (v := 0) hx hb dX2_layGroup_24 (by decide) ?_
        exact e_wz C hT hS (Or.inl rfl) h dX2_layGroup_25
theorem mX2_layGroup {l : Launch} {D : va_G} {dA : Nat → ClassId} {b : Nat} {t : TS} {x1 : Int32} {x2 : Int32} {r : Int32} {t9 : TS} (h : T_layGroup t x1 x2 = some (r, t9)) : Met l yX2_layGroup (ws_ yX2_layGroup cX2_layGroup 6 (some .boolean)) rmX2_layGroup (tPc D dA b t [.ref b, .int x1, .int x2]) (tQ D dA b t9 (some (.int r))) 0 0 (ta b) := en_R (by decide +kernel) rfl (Nat.le_of_ble_eq_true rfl) (fun p e s m below meth c ls C hK hT hl => bX2_layGroup C hK t x1 x2 _ [] hT tS.rf ls h hl)
set_option maxRecDepth 20000 in
abbrev rmX2_power : Room := { frames := 6, cells := 0, slots := 0, locals := 139 }
theorem hdX2_power : yX2_power.cls = RX2 ∧ yX2_power.cls ≠ "java/lang/invoke/MethodHandle" ∧ yX2_power.cls ≠ "java/lang/invoke/VarHandle" ∧ (parseMethodDescriptor yX2_power.desc).map (fun d => d.parameters.length) = some 4 := by decide +kernel
theorem bX2_power_137 {p : Program} {l : Launch} {e : Env} {s : State} {m : MethodId} {args : Array Value} {below : List Frame} {meth : Method} {c : Code} {D : va_G} {dA : Nat → ClassId} {b : Nat} {r : Int32} {t9 : TS} (C : cx p s m args meth c cX2_power RX2 10 (some .int)) (hK : kk D dA s) {k59 : TS → Int32 → Int32 → Int64 → Int32 → Option (Int32 × TS)} (hk59 : ∀ (t : TS) (x4 : Int32) (x5 : Int32) (x6 : Int64) (x8 : Int32) (H : Heap) (locs : List Loc) (hT : wd D (tw dA b t) H) (hS : tS b s.heap H locs) (ls : Array Slot), k59 t x4 x5 x6 x8 = some (r, t9) → lv_has ls 10 [(0, .ref b), (4, .int x4), (5, .int x5), (6, .long x6), (8, .int x8)] → W p l e rmX2_power s m args below meth c H locs 0 0 (MQ below (tQ D dA b t9 (some (.int r))) args s 0 0 (ta b)) (F0 m 59 ls [])) : ∀ (t : TS) (x4 : Int32) (x5 : Int32) (x6 : Int64) (x8 : Int32) (H : Heap) (locs : List Loc) (hT : wd D (tw dA b t) H) (hS : tS b s.heap H locs) (ls : Array Slot), T_power_137 k59 t x4 x5 x6 x8 = some (r, t9) → lv_has ls 10 [(0, .ref b), (4, .int x4), (5, .int x5), (6, .long x6), (8, .int x8)] → W p l e rmX2_power s m args below meth c H locs 0 0 (MQ below (tQ D dA b t9 (some (.int r))) args s 0 0 (ta b)) (F0 m 137 ls []) := by
  obtain ⟨hx, hb, hr, hml, hown, hts, hlocks⟩ := id C
  intro t x4 x5 x6 x8 H locs hT hS ls h hl
  unfold T_power_137 at h
  obtain ⟨v1, ev1⟩ : ∃ y : Int32, y = x8 + (1 : Int32) := ⟨_, rfl⟩
  replace h := lt1_sub ev1 h
  refine lv_iinc (v := v1) (lv' := [(8, .int v1), (0, .ref b), (4, .int x4), (5, .int x5), (6, .long x6)]) hx hb dX2_power_137 hl (k := 4) rfl (by rw [ev1]; rfl) (by decide) rfl (fun ls hl => ?_)
  refine lv_goto (tgt := 59) hx hb dX2_power_140 (by decide) ?_
  exact hk59 t x4 x5 x6 v1 H locs hT hS ls h (lv_sub hl [1, 2, 3, 4, 0] rfl)
theorem bX2_power_164 {p : Program} {l : Launch} {e : Env} {s : State} {m : MethodId} {args : Array Value} {below : List Frame} {meth : Method} {c : Code} {D : va_G} {dA : Nat → ClassId} {b : Nat} {r : Int32} {t9 : TS} (C : cx p s m args meth c cX2_power RX2 10 (some .int)) (hK : kk D dA s) : ∀ (t : TS) (x6 : Int64) (x8 : Int64) (y0 : Int64) (H : Heap) (locs : List Loc) (hT : wd D (tw dA b t) H) (hS : tS b s.heap H locs) (ls : Array Slot), T_power_164 t x6 x8 y0 = some (r, t9) → lv_has ls 10 [(6, .long x6), (8, .long x8)] → W p l e rmX2_power s m args below meth c H locs 0 0 (MQ below (tQ D dA b t9 (some (.int r))) args s 0 0 (ta b)) (F0 m 164 ls [.long y0]) := by
  obtain ⟨hx, hb, hr, hml, hown, hts, hlocks⟩ := id C
  intro t x6 x8 y0 H locs hT hS ls h hl
  unfold T_power_164 at h
  refine lv_lload hx hb dX2_power_164 (lv_at hl 0 rfl) ?_
  refine lv_lload hx hb dX2_power_166 (lv_at hl 1 rfl) ?_
  obtain ⟨v1, hv1, h⟩ := bd1_some h
  refine r_long (run_s (As := [.long x6, .long x8]) (rest := [.long y0]) C (mX2_common hv1) q2108 q2109 q162 q2110 ⟨rfl, rfl⟩ hdX2_common ⟨Nat.le_of_ble_eq_true rfl, Nat.le_of_ble_eq_true rfl⟩ ⟨Nat.zero_le _, Nat.zero_le _⟩ rfl hl.1 rfl (Nat.le_of_ble_eq_true rfl) dX2_power_168) ?_
  obtain ⟨hn, h⟩ := nzl_some h
  refine lv_ldiv hx hb dX2_power_171 hn ?_
  refine lv_l2i hx hb dX2_power_172 rfl ?_
  exact e_wi C hT hS h dX2_power_173
theorem bX2_power_59 {p : Program} {l : Launch} {e : Env} {s : State} {m : MethodId} {args : Array Value} {below : List Frame} {meth : Method} {c : Code} {D : va_G} {dA : Nat → ClassId} {b : Nat} {r : Int32} {t9 : TS} (C : cx p s m args meth c cX2_power RX2 10 (some .int)) (hK : kk D dA s) : ∀ (n : Nat), ∀ (t : TS) (x4 : Int32) (x5 : Int32) (x6 : Int64) (x8 : Int32) (H : Heap) (locs : List Loc) (hT : wd D (tw dA b t) H) (hS : tS b s.heap H locs) (ls : Array Slot), T_power_59 n t x4 x5 x6 x8 = some (r, t9) → lv_has ls 10 [(0, .ref b), (4, .int x4), (5, .int x5), (6, .long x6), (8, .int x8)] → W p l e rmX2_power s m args below meth c H locs 0 0 (MQ below (tQ D dA b t9 (some (.int r))) args s 0 0 (ta b)) (F0 m 59 ls []) := by
  obtain ⟨hx, hb, hr, hml, hown, hts, hlocks⟩ := id C
  intro n
  induction n with
  | zero =>
    intro t x4 x5 x6 x8 H locs hT hS ls h hl
    have h : none = some _ := h
    cases h
  | succ n ih =>
    intro t x4 x5 x6 x8 H locs hT hS ls h hl
    rw [T_power_59] at h
    refine lv_iload hx hb dX2_power_59 (lv_at hl 4 rfl) ?_
    refine lv_iconst (v := 1) hx hb dX2_power_61 (by decide) ?_
    refine lv_aload_n hx hb dX2_power_62 rfl (lv_at hl 0 rfl) ?_
    refine tg33 C hK hT dX2_power_63 ?_
    refine lv_ishl hx hb dX2_power_66 ?_
    refine lv_icmp_ge (tgt := 143) hx hb dX2_power_67 (by decide) (fun c => ?_) (fun c => ?_)
    · replace h := if_t c h
      refine lv_aload_n hx hb dX2_power_143 rfl (lv_at hl 0 rfl) ?_
      refine tg33 C hK hT dX2_power_144 ?_
      obtain ⟨v1, hv1, h⟩ := bd1_some h
      refine r_long (run_s (As := [.int (t.1 33 0)]) (rest := []) C (mX2_factorial hv1) q2105 q2106 q162 q2107 ⟨rfl, rfl⟩ hdX2_factorial ⟨Nat.le_of_ble_eq_true rfl, Nat.le_of_ble_eq_true rfl⟩ ⟨Nat.zero_le _, Nat.zero_le _⟩ rfl hl.1 rfl (Nat.le_of_ble_eq_true rfl) dX2_power_147) ?_
      refine lv_lstore (lv' := [(8, .long v1), (0, .ref b), (4, .int x4), (5, .int x5), (6, .long x6)]) hx hb dX2_power_150 hl (by decide) rfl (fun ls hl => ?_)
      refine lv_iload hx hb dX2_power_152 (lv_at hl 2 rfl) ?_
      refine lv_if_eq (tgt := 162) hx hb dX2_power_154 (by decide) (fun c => ?_) (fun c => ?_)
      · replace h := if_t c h
        refine lv_lload hx hb dX2_power_162 (lv_at hl 4 rfl) ?_
        exact bX2_power_164 C hK t x6 v1 x6 H locs hT hS ls h (lv_sub hl [4, 0] rfl)
      · replace h := if_f c h
        refine lv_lload hx hb dX2_power_157 (lv_at hl 0 rfl) ?_
        refine lv_goto (tgt := 164) hx hb dX2_power_159 (by decide) ?_
        exact bX2_power_164 C hK t x6 v1 v1 H locs hT hS ls h (lv_sub hl [4, 0] rfl)
    · replace h := if_f c h
      refine lv_iload hx hb dX2_power_70 (lv_at hl 4 rfl) ?_
      refine lv_iload hx hb dX2_power_72 (lv_at hl 2 rfl) ?_
      obtain ⟨v2, hv2, h⟩ := bd1_some h
      refine r_int (run_s (As := [.int x8, .int x5]) (rest := []) C (mX2_has hv2) q1659 q1660 q162 q1661 ⟨rfl, rfl⟩ hdX2_has ⟨Nat.le_of_ble_eq_true rfl, Nat.le_of_ble_eq_true rfl⟩ ⟨Nat.zero_le _, Nat.zero_le _⟩ rfl hl.1 rfl (Nat.le_of_ble_eq_true rfl) dX2_power_74) ?_
      refine lv_if_ne (tgt := 137) hx hb dX2_power_77 (by decide) (fun c => ?_) (fun c => ?_)
      · replace h := if_f c h
        exact bX2_power_137 C hK ih t x4 x5 x6 x8 H locs hT hS ls h (lv_sub hl [0, 1, 2, 3, 4] rfl)
      · replace h := if_t c h
        refine lv_aload_n hx hb dX2_power_80 rfl (lv_at hl 0 rfl) ?_
        refine tg31 C hK hT dX2_power_81 ?_
        refine lv_iload hx hb dX2_power_84 (lv_at hl 4 rfl) ?_
        obtain ⟨hi, h⟩ := ck_some h
        refine tl31 C hK hT hi dX2_power_86 ?_
        refine lv_if_ne (tgt := 137) hx hb dX2_power_87 (by decide) (fun c => ?_) (fun c => ?_)
        · replace h := if_f c h
          exact bX2_power_137 C hK ih t x4 x5 x6 x8 H locs hT hS ls h (lv_sub hl [0, 1, 2, 3, 4] rfl)
        · replace h := if_t c h
          refine lv_aload_n hx hb dX2_power_90 rfl (lv_at hl 0 rfl) ?_
          refine tg31 C hK hT dX2_power_91 ?_
          refine lv_iload hx hb dX2_power_94 (lv_at hl 4 rfl) ?_
          refine lv_iconst (v := 1) hx hb dX2_power_96 (by decide) ?_
          refine lv_iload hx hb dX2_power_97 (lv_at hl 2 rfl) ?_
          refine lv_ishl hx hb dX2_power_99 ?_
          refine lv_ior hx hb dX2_power_100 ?_
          obtain ⟨hi, h⟩ := ck_some h
          refine tl31 C hK hT hi dX2_power_101 ?_
          refine lv_if_ne (tgt := 108) hx hb dX2_power_102 (by decide) (fun c => ?_) (fun c => ?_)
          · replace h := if_f c h
            refine lv_lload hx hb dX2_power_108 (lv_at hl 3 rfl) ?_
            refine lv_iload hx hb dX2_power_110 (lv_at hl 4 rfl) ?_
            obtain ⟨v3, hv3, h⟩ := bd1_some h
            refine r_int (run_s (As := [.int x8]) (rest := [.long x6]) C (mX2_bits hv3) q1902 q1903 q162 q1904 ⟨rfl, rfl⟩ hdX2_bits ⟨Nat.le_of_ble_eq_true rfl, Nat.le_of_ble_eq_true rfl⟩ ⟨Nat.zero_le _, Nat.zero_le _⟩ rfl hl.1 rfl (Nat.le_of_ble_eq_true rfl) dX2_power_112) ?_
            obtain ⟨v4, hv4, h⟩ := bd1_some h
            refine r_long (run_s (As := [.int v3]) (rest := [.long x6]) C (mX2_factorial hv4) q2105 q2106 q162 q2107 ⟨rfl, rfl⟩ hdX2_factorial ⟨Nat.le_of_ble_eq_true rfl, Nat.le_of_ble_eq_true rfl⟩ ⟨Nat.zero_le _, Nat.zero_le _⟩ rfl hl.1 rfl (Nat.le_of_ble_eq_true rfl) dX2_power_115) ?_
            refine lv_aload_n hx hb dX2_power_118 rfl (lv_at hl 0 rfl) ?_
            refine tg33 C hK hT dX2_power_119 ?_
            refine lv_iconst (v := 1) hx hb dX2_power_122 (by decide) ?_
            refine lv_isub hx hb dX2_power_123 ?_
            refine lv_iload hx hb dX2_power_124 (lv_at hl 4 rfl) ?_
            obtain ⟨v5, hv5, h⟩ := bd1_some h
            refine r_int (run_s (As := [.int x8]) (rest := [.int ((t.1 33 0) - (1 : Int32)), .long v4, .long x6]) C (mX2_bits hv5) q1902 q1903 q162 q1904 ⟨rfl, rfl⟩ hdX2_bits ⟨Nat.le_of_ble_eq_true rfl, Nat.le_of_ble_eq_true rfl⟩ ⟨Nat.zero_le _, Nat.zero_le _⟩ rfl hl.1 rfl (Nat.le_of_ble_eq_true rfl) dX2_power_126) ?_
            refine lv_isub hx hb dX2_power_129 ?_
            obtain ⟨v6, hv6, h⟩ := bd1_some h
            refine r_long (run_s (As := [.int (((t.1 33 0) - (1 : Int32)) - v5)]) (rest := [.long v4, .long x6]) C (mX2_factorial hv6) q2105 q2106 q162 q2107 ⟨rfl, rfl⟩ hdX2_factorial ⟨Nat.le_of_ble_eq_true rfl, Nat.le_of_ble_eq_true rfl⟩ ⟨Nat.zero_le _, Nat.zero_le _⟩ rfl hl.1 rfl (Nat.le_of_ble_eq_true rfl) dX2_power_130) ?_
            refine lv_lmul hx hb dX2_power_133 ?_
            refine lv_ladd hx hb dX2_power_134 ?_
            refine lv_topl (fun v7 ev7 => ?_)
            replace h := lt1_sub ev7 h
            refine lv_lstore (lv' := [(6, .long v7), (0, .ref b), (4, .int x4), (5, .int x5), (8, .int x8)]) hx hb dX2_power_135 hl (by decide) rfl (fun ls hl => ?_)
            exact bX2_power_137 C hK ih t x4 x5 v7 x8 H locs hT hS ls h (lv_sub hl [1, 2, 3, 0, 4] rfl)
          · replace h := if_t c h
            refine lv_goto (tgt := 137) hx hb dX2_power_105 (by decide) ?_
            exact bX2_power_137 C hK ih t x4 x5 x6 x8 H locs hT hS ls h (lv_sub hl [0, 1, 2, 3, 4] rfl)
theorem bX2_power_36 {p : Program} {l : Launch} {e : Env} {s : State} {m : MethodId} {args : Array Value} {below : List Frame} {meth : Method} {c : Code} {D : va_G} {dA : Nat → ClassId} {b : Nat} {r : Int32} {t9 : TS} (C : cx p s m args meth c cX2_power RX2 10 (some .int)) (hK : kk D dA s) : ∀ (n : Nat), ∀ (t : TS) (x3 : Int32) (x4 : Int32) (x5 : Int32) (H : Heap) (locs : List Loc) (hT : wd D (tw dA b t) H) (hS : tS b s.heap H locs) (ls : Array Slot), T_power_36 n t x3 x4 x5 = some (r, t9) → lv_has ls 10 [(0, .ref b), (3, .int x3), (4, .int x4), (5, .int x5)] → W p l e rmX2_power s m args below meth c H locs 0 0 (MQ below (tQ D dA b t9 (some (.int r))) args s 0 0 (ta b)) (F0 m 36 ls []) := by
  obtain ⟨hx, hb, hr, hml, hown, hts, hlocks⟩ := id C
  intro n
  induction n with
  | zero =>
    intro t x3 x4 x5 H locs hT hS ls h hl
    have h : none = some _ := h
    cases h
  | succ n ih =>
    intro t x3 x4 x5 H locs hT hS ls h hl
    rw [T_power_36] at h
    refine lv_aload_n hx hb dX2_power_36 rfl (lv_at hl 0 rfl) ?_
    refine tg30 C hK hT dX2_power_37 ?_
    refine lv_iload hx hb dX2_power_40 (lv_at hl 3 rfl) ?_
    obtain ⟨hi, h⟩ := ck_some h
    refine tl30 C hK hT hi dX2_power_42 ?_
    refine lv_iload_n hx hb dX2_power_43 rfl (lv_at hl 1 rfl) ?_
    refine lv_icmp_eq (tgt := 53) hx hb dX2_power_44 (by decide) (fun c => ?_) (fun c => ?_)
    · replace h := if_t c h
      refine lv_lconst (v := 0) hx hb dX2_power_53 (by decide) ?_
      refine lv_lstore (lv' := [(6, .long (0 : Int64)), (0, .ref b), (3, .int x3), (4, .int x4), (5, .int x5)]) hx hb dX2_power_54 hl (by decide) rfl (fun ls hl => ?_)
      refine lv_iconst (v := 0) hx hb dX2_power_56 (by decide) ?_
      refine lv_istore (lv' := [(8, .int (0 : Int32)), (6, .long (0 : Int64)), (0, .ref b), (3, .int x3), (4, .int x4), (5, .int x5)]) hx hb dX2_power_57 hl (by decide) rfl (fun ls hl => ?_)
      exact bX2_power_59 C hK fu t x4 x5 (0 : Int64) (0 : Int32) H locs hT hS ls h (lv_sub hl [2, 4, 5, 1, 0] rfl)
    · replace h := if_f c h
      obtain ⟨v1, ev1⟩ : ∃ y : Int32, y = x5 + (1 : Int32) := ⟨_, rfl⟩
      replace h := lt1_sub ev1 h
      refine lv_iinc (v := v1) (lv' := [(5, .int v1), (0, .ref b), (3, .int x3), (4, .int x4)]) hx hb dX2_power_47 hl (k := 3) rfl (by rw [ev1]; rfl) (by decide) rfl (fun ls hl => ?_)
      refine lv_goto (tgt := 36) hx hb dX2_power_50 (by decide) ?_
      exact ih t x3 x4 v1 H locs hT hS ls h (lv_sub hl [1, 2, 3, 0] rfl)
theorem bX2_power {p : Program} {l : Launch} {e : Env} {s : State} {m : MethodId} {args : Array Value} {below : List Frame} {meth : Method} {c : Code} {D : va_G} {dA : Nat → ClassId} {b : Nat} {r : Int32} {t9 : TS} (C : cx p s m args meth c cX2_power RX2 10 (some .int)) (hK : kk D dA s) : ∀ (t : TS) (x1 : Int32) (x2 : Int32) (x3 : Int32) (x4 : Int32) (H : Heap) (locs : List Loc) (hT : wd D (tw dA b t) H) (hS : tS b s.heap H locs) (ls : Array Slot), T_power t x1 x2 x3 x4 = some (r, t9) → lv_has ls 10 [(0, .ref b), (1, .int x1), (2, .int x2), (3, .int x3), (4, .int x4)] → W p l e rmX2_power s m args below meth c H locs 0 0 (MQ below (tQ D dA b t9 (some (.int r))) args s 0 0 (ta b)) (F0 m 0 ls []) := by
  obtain ⟨hx, hb, hr, hml, hown, hts, hlocks⟩ := id C
  intro t x1 x2 x3 x4 H locs hT hS ls h hl
  unfold T_power at h
  refine lv_iload_n hx hb dX2_power_0 rfl (lv_at hl 3 rfl) ?_
  obtain ⟨v1, hv1, h⟩ := bd1_some h
  refine r_int (run_s (As := [.int x3]) (rest := []) C (mX2_isLetter0 hv1) q1653 q1654 q162 q1655 ⟨rfl, rfl⟩ hdX2_isLetter0 ⟨Nat.le_of_ble_eq_true rfl, Nat.le_of_ble_eq_true rfl⟩ ⟨Nat.zero_le _, Nat.zero_le _⟩ rfl hl.1 rfl (Nat.le_of_ble_eq_true rfl) dX2_power_1) ?_
  refine lv_if_eq (tgt := 31) hx hb dX2_power_4 (by decide) (fun c => ?_) (fun c => ?_)
  · replace h := if_t c h
    refine lv_iconst (v := -1) hx hb dX2_power_31 (by decide) ?_
    exact e_wi C hT hS h dX2_power_32
  · replace h := if_f c h
    refine lv_iload_n hx hb dX2_power_7 rfl (lv_at hl 2 rfl) ?_
    obtain ⟨v2, hv2, h⟩ := bd1_some h
    refine r_int (run_s (As := [.int x2]) (rest := []) C (mX2_isSet hv2) q1935 q1936 q162 q1937 ⟨rfl, rfl⟩ hdX2_isSet ⟨Nat.le_of_ble_eq_true rfl, Nat.le_of_ble_eq_true rfl⟩ ⟨Nat.zero_le _, Nat.zero_le _⟩ rfl hl.1 rfl (Nat.le_of_ble_eq_true rfl) dX2_power_8) ?_
    refine lv_if_eq (tgt := 31) hx hb dX2_power_11 (by decide) (fun c => ?_) (fun c => ?_)
    · replace h := if_t c h
      refine lv_iconst (v := -1) hx hb dX2_power_31 (by decide) ?_
      exact e_wi C hT hS h dX2_power_32
    · replace h := if_f c h
      refine lv_iload_n hx hb dX2_power_14 rfl (lv_at hl 2 rfl) ?_
      refine lv_iload_n hx hb dX2_power_15 rfl (lv_at hl 3 rfl) ?_
      obtain ⟨v3, hv3, h⟩ := bd1_some h
      refine r_int (run_s (As := [.int x2, .int x3]) (rest := []) C (mX2_has hv3) q1659 q1660 q162 q1661 ⟨rfl, rfl⟩ hdX2_has ⟨Nat.le_of_ble_eq_true rfl, Nat.le_of_ble_eq_true rfl⟩ ⟨Nat.zero_le _, Nat.zero_le _⟩ rfl hl.1 rfl (Nat.le_of_ble_eq_true rfl) dX2_power_16) ?_
      refine lv_if_eq (tgt := 31) hx hb dX2_power_19 (by decide) (fun c => ?_) (fun c => ?_)
      · replace h := if_t c h
        refine lv_iconst (v := -1) hx hb dX2_power_31 (by decide) ?_
        exact e_wi C hT hS h dX2_power_32
      · replace h := if_f c h
        refine lv_aload_n hx hb dX2_power_22 rfl (lv_at hl 0 rfl) ?_
        refine lv_iload_n hx hb dX2_power_23 rfl (lv_at hl 1 rfl) ?_
        refine lv_iload_n hx hb dX2_power_24 rfl (lv_at hl 2 rfl) ?_
        obtain ⟨v4, t5, ht5, h⟩ := bd2_some h
        refine w_int hS (run_t (As := [.int x1, .int x2]) (rest := []) C hK hT (mX2_layGroup ht5) q2101 q2103 qs139 q162 q2104 ⟨rfl, rfl⟩ hdX2_layGroup ⟨Nat.le_of_ble_eq_true rfl, Nat.le_of_ble_eq_true rfl⟩ ⟨Nat.zero_le _, Nat.zero_le _⟩ rfl hl.1 rfl (Nat.le_of_ble_eq_true rfl) dX2_power_25) (fun H locs hT hS => ?_)
        refine lv_if_ne (tgt := 33) hx hb dX2_power_28 (by decide) (fun c => ?_) (fun c => ?_)
        · replace h := if_f c h
          refine lv_iconst (v := 0) hx hb dX2_power_33 (by decide) ?_
          refine lv_istore (lv' := [(5, .int (0 : Int32)), (0, .ref b), (1, .int x1), (2, .int x2), (3, .int x3), (4, .int x4)]) hx hb dX2_power_34 hl (by decide) rfl (fun ls hl => ?_)
          exact bX2_power_36 C hK fu t5 x3 x4 (0 : Int32) H locs hT hS ls h (lv_sub hl [1, 4, 5, 0] rfl)
        · replace h := if_t c h
          refine lv_iconst (v := -1) hx hb dX2_power_31 (by decide) ?_
          exact e_wi C hT hS h dX2_power_32
theorem mX2_power {l : Launch} {D : va_G} {dA : Nat → ClassId} {b : Nat} {t : TS} {x1 : Int32} {x2 : Int32} {x3 : Int32} {x4 : Int32} {r : Int32} {t9 : TS} (h : T_power t x1 x2 x3 x4 = some (r, t9)) : Met l yX2_power (ws_ yX2_power cX2_power 10 (some .int)) rmX2_power (tPc D dA b t [.ref b, .int x1, .int x2, .int x3, .int x4]) (tQ D dA b t9 (some (.int r))) 0 0 (ta b) := en_R (by decide +kernel) rfl (Nat.le_of_ble_eq_true rfl) (fun p e s m below meth c ls C hK hT hl => bX2_power C hK t x1 x2 x3 x4 _ [] hT tS.rf ls h hl)
set_option maxRecDepth 20000 in
abbrev rmX2_party : Room := { frames := 2, cells := 0, slots := 0, locals := 42 }
theorem hdX2_party : yX2_party.cls = RX2 ∧ yX2_party.cls ≠ "java/lang/invoke/MethodHandle" ∧ yX2_party.cls ≠ "java/lang/invoke/VarHandle" ∧ (parseMethodDescriptor yX2_party.desc).map (fun d => d.parameters.length) = some 1 := by decide +kernel
theorem bX2_party {p : Program} {l : Launch} {e : Env} {s : State} {m : MethodId} {args : Array Value} {below : List Frame} {meth : Method} {c : Code} {D : va_G} {dA : Nat → ClassId} {b : Nat} {r : Int32} {t9 : TS} (C : cx p s m args meth c cX2_party RX2 2 (some .int)) (hK : kk D dA s) : ∀ (t : TS) (x1 : Int32) (H : Heap) (locs : List Loc) (hT : wd D (tw dA b t) H) (hS : tS b s.heap H locs) (ls : Array Slot), T_party t x1 = some (r, t9) → lv_has ls 2 [(0, .ref b), (1, .int x1)] → W p l e rmX2_party s m args below meth c H locs 0 0 (MQ below (tQ D dA b t9 (some (.int r))) args s 0 0 (ta b)) (F0 m 0 ls []) := by
  obtain ⟨hx, hb, hr, hml, hown, hts, hlocks⟩ := id C
  intro t x1 H locs hT hS ls h hl
  unfold T_party at h
  refine lv_iload_n hx hb dX2_party_0 rfl (lv_at hl 1 rfl) ?_
  refine lv_iconst (v := -1) hx hb dX2_party_1 (by decide) ?_
  refine lv_icmp_ne (tgt := 15) hx hb dX2_party_2 (by decide) (fun c => ?_) (fun c => ?_)
  · replace h := if_f c h
    refine lv_iload_n hx hb dX2_party_15 rfl (lv_at hl 1 rfl) ?_
    obtain ⟨v1, hv1, h⟩ := bd1_some h
    refine r_int (run_s (As := [.int x1]) (rest := []) C (mX2_isSet hv1) q1935 q1936 q162 q1937 ⟨rfl, rfl⟩ hdX2_isSet ⟨Nat.le_of_ble_eq_true rfl, Nat.le_of_ble_eq_true rfl⟩ ⟨Nat.zero_le _, Nat.zero_le _⟩ rfl hl.1 rfl (Nat.le_of_ble_eq_true rfl) dX2_party_16) ?_
    refine lv_if_eq (tgt := 33) hx hb dX2_party_19 (by decide) (fun c => ?_) (fun c => ?_)
    · replace h := if_t c h
      refine lv_bipush (v := -2) hx hb dX2_party_33 (by decide) ?_
      exact e_wi C hT hS h dX2_party_35
    · replace h := if_f c h
      refine lv_aload_n hx hb dX2_party_22 rfl (lv_at hl 0 rfl) ?_
      refine tg0 C hK hT dX2_party_23 ?_
      refine lv_bipush (v := 8) hx hb dX2_party_26 (by decide) ?_
      obtain ⟨hi, h⟩ := ck_some h
      refine tl0 C hK hT hi dX2_party_28 ?_
      refine lv_iconst (v := 4) hx hb dX2_party_29 (by decide) ?_
      refine lv_icmp_ne (tgt := 36) hx hb dX2_party_30 (by decide) (fun c => ?_) (fun c => ?_)
      · replace h := if_f c h
        refine lv_aload_n hx hb dX2_party_36 rfl (lv_at hl 0 rfl) ?_
        refine tg0 C hK hT dX2_party_37 ?_
        refine lv_sipush (v := 538) hx hb dX2_party_40 (by decide) ?_
        refine lv_aload_n hx hb dX2_party_43 rfl (lv_at hl 0 rfl) ?_
        refine tg0 C hK hT dX2_party_44 ?_
        refine lv_bipush (v := 8) hx hb dX2_party_47 (by decide) ?_
        obtain ⟨hi, h⟩ := ck_some h
        refine tl0 C hK hT hi dX2_party_49 ?_
        refine lv_iadd hx hb dX2_party_50 ?_
        refine lv_iload_n hx hb dX2_party_51 rfl (lv_at hl 1 rfl) ?_
        obtain ⟨hi, h⟩ := ck_some h
        refine ts0 C hK hT hS hi dX2_party_52 (fun t2 H locs et2 hT hS => ?_)
        replace h := lt1_sub et2 h
        refine lv_aload_n hx hb dX2_party_53 rfl (lv_at hl 0 rfl) ?_
        refine tg0 C hK hT dX2_party_54 ?_
        refine lv_bipush (v := 8) hx hb dX2_party_57 (by decide) ?_
        refine lv_dup2_11 hx hb dX2_party_59 rfl rfl ?_
        obtain ⟨hi, h⟩ := ck_some h
        refine tl0 C hK hT hi dX2_party_60 ?_
        refine lv_iconst (v := 1) hx hb dX2_party_61 (by decide) ?_
        refine lv_iadd hx hb dX2_party_62 ?_
        obtain ⟨hi, h⟩ := ck_some h
        refine ts0 C hK hT hS hi dX2_party_63 (fun t3 H locs et3 hT hS => ?_)
        replace h := lt1_sub et3 h
        refine lv_aload_n hx hb dX2_party_64 rfl (lv_at hl 0 rfl) ?_
        refine tg0 C hK hT dX2_party_65 ?_
        refine lv_bipush (v := 8) hx hb dX2_party_68 (by decide) ?_
        obtain ⟨hi, h⟩ := ck_some h
        refine tl0 C hK hT hi dX2_party_70 ?_
        exact e_wi C hT hS h dX2_party_71
      · replace h := if_t c h
        refine lv_bipush (v := -2) hx hb dX2_party_33 (by decide) ?_
        exact e_wi C hT hS h dX2_party_35
  · replace h := if_t c h
    refine lv_aload_n hx hb dX2_party_5 rfl (lv_at hl 0 rfl) ?_
    refine tg0 C hK hT dX2_party_6 ?_
    refine lv_bipush (v := 8) hx hb dX2_party_9 (by decide) ?_
    refine lv_iconst (v := 0) hx hb dX2_party_11 (by decide) ?_
    obtain ⟨hi, h⟩ := ck_some h
    refine ts0 C hK hT hS hi dX2_party_12 (fun t4 H locs et4 hT hS => ?_)
    replace h := lt1_sub et4 h
    refine lv_iconst (v := 0) hx hb dX2_party_13 (by decide) ?_
    exact e_wi C hT hS h dX2_party_14
theorem mX2_party {l : Launch} {D : va_G} {dA : Nat → ClassId} {b : Nat} {t : TS} {x1 : Int32} {r : Int32} {t9 : TS} (h : T_party t x1 = some (r, t9)) : Met l yX2_party (ws_ yX2_party cX2_party 2 (some .int)) rmX2_party (tPc D dA b t [.ref b, .int x1]) (tQ D dA b t9 (some (.int r))) 0 0 (ta b) := en_R (by decide +kernel) rfl (Nat.le_of_ble_eq_true rfl) (fun p e s m below meth c ls C hK hT hl => bX2_party C hK t x1 _ [] hT tS.rf ls h hl)
set_option maxRecDepth 20000 in
abbrev rmX2_worthOf : Room := { frames := 6, cells := 0, slots := 0, locals := 137 }
theorem hdX2_worthOf : yX2_worthOf.cls = RX2 ∧ yX2_worthOf.cls ≠ "java/lang/invoke/MethodHandle" ∧ yX2_worthOf.cls ≠ "java/lang/invoke/VarHandle" ∧ (parseMethodDescriptor yX2_worthOf.desc).map (fun d => d.parameters.length) = some 1 := by decide +kernel
theorem bX2_worthOf_38 {p : Program} {l : Launch} {e : Env} {s : State} {m : MethodId} {args : Array Value} {below : List Frame} {meth : Method} {c : Code} {D : va_G} {dA : Nat → ClassId} {b : Nat} {t : TS} {r : Int32} (C : cx p s m args meth c cX2_worthOf RX2 4 (some .int)) (hK : kk D dA s) (hT : wd D (tw dA b t) s.heap) {k4 : Int32 → Int32 → Int32 → Option Int32} (hk4 : ∀ (x1 : Int32) (x2 : Int32) (x3 : Int32) (ls : Array Slot), k4 x1 x2 x3 = some r → lv_has ls 4 [(0, .ref b), (1, .int x1), (2, .int x2), (3, .int x3)] → W p l e rmX2_worthOf s m args below meth c s.heap [] 0 0 (MQ below (rQi r) args s 0 0 nof) (F0 m 4 ls [])) : ∀ (x1 : Int32) (x3 : Int32) (y0 : Int32) (y1 : Int32) (ls : Array Slot), T_worthOf_38 k4 t x1 x3 y0 y1 = some r → lv_has ls 4 [(0, .ref b), (1, .int x1), (3, .int x3)] → W p l e rmX2_worthOf s m args below meth c s.heap [] 0 0 (MQ below (rQi r) args s 0 0 nof) (F0 m 38 ls [.int y1, .int y0]) := by
  obtain ⟨hx, hb, hr, hml, hown, hts, hlocks⟩ := id C
  intro x1 x3 y0 y1 ls h hl
  unfold T_worthOf_38 at h
  refine lv_ior hx hb dX2_worthOf_38 ?_
  refine lv_topi (fun v1 ev1 => ?_)
  replace h := lt1_sub ev1 h
  refine lv_istore_n (lv' := [(2, .int v1), (0, .ref b), (1, .int x1), (3, .int x3)]) hx hb dX2_worthOf_39 rfl hl (by decide) rfl (fun ls hl => ?_)
  obtain ⟨v2, ev2⟩ : ∃ y : Int32, y = x3 + (1 : Int32) := ⟨_, rfl⟩
  replace h := lt1_sub ev2 h
  refine lv_iinc (v := v2) (lv' := [(3, .int v2), (2, .int v1), (0, .ref b), (1, .int x1)]) hx hb dX2_worthOf_40 hl (k := 3) rfl (by rw [ev2]; rfl) (by decide) rfl (fun ls hl => ?_)
  refine lv_goto (tgt := 4) hx hb dX2_worthOf_43 (by decide) ?_
  exact hk4 x1 v1 v2 ls h (lv_sub hl [2, 3, 1, 0] rfl)
theorem bX2_worthOf_4 {p : Program} {l : Launch} {e : Env} {s : State} {m : MethodId} {args : Array Value} {below : List Frame} {meth : Method} {c : Code} {D : va_G} {dA : Nat → ClassId} {b : Nat} {t : TS} {r : Int32} (C : cx p s m args meth c cX2_worthOf RX2 4 (some .int)) (hK : kk D dA s) (hT : wd D (tw dA b t) s.heap) : ∀ (n : Nat), ∀ (x1 : Int32) (x2 : Int32) (x3 : Int32) (ls : Array Slot), T_worthOf_4 t n x1 x2 x3 = some r → lv_has ls 4 [(0, .ref b), (1, .int x1), (2, .int x2), (3, .int x3)] → W p l e rmX2_worthOf s m args below meth c s.heap [] 0 0 (MQ below (rQi r) args s 0 0 nof) (F0 m 4 ls []) := by
  obtain ⟨hx, hb, hr, hml, hown, hts, hlocks⟩ := id C
  intro n
  induction n with
  | zero =>
    intro x1 x2 x3 ls h hl
    have h : none = some _ := h
    cases h
  | succ n ih =>
    intro x1 x2 x3 ls h hl
    rw [T_worthOf_4] at h
    refine lv_iload_n hx hb dX2_worthOf_4 rfl (lv_at hl 3 rfl) ?_
    refine lv_aload_n hx hb dX2_worthOf_5 rfl (lv_at hl 0 rfl) ?_
    refine tg0 C hK hT dX2_worthOf_6 ?_
    refine lv_bipush (v := 8) hx hb dX2_worthOf_9 (by decide) ?_
    obtain ⟨hi, h⟩ := ck_some h
    refine tl0 C hK hT hi dX2_worthOf_11 ?_
    refine lv_icmp_ge (tgt := 46) hx hb dX2_worthOf_12 (by decide) (fun c => ?_) (fun c => ?_)
    · replace h := if_t c h
      refine lv_aload_n hx hb dX2_worthOf_46 rfl (lv_at hl 0 rfl) ?_
      refine lv_iload_n hx hb dX2_worthOf_47 rfl (lv_at hl 2 rfl) ?_
      obtain ⟨v1, hv1, h⟩ := bd1_some h
      refine r_int (run_t (As := [.int x2]) (rest := []) C hK hT (mX2_silenced hv1) q2093 q2095 qs138 q162 q2096 ⟨rfl, rfl⟩ hdX2_silenced ⟨Nat.le_of_ble_eq_true rfl, Nat.le_of_ble_eq_true rfl⟩ ⟨Nat.zero_le _, Nat.zero_le _⟩ rfl hl.1 rfl (Nat.le_of_ble_eq_true rfl) dX2_worthOf_48) ?_
      exact e_ri C h dX2_worthOf_51
    · replace h := if_f c h
      refine lv_iload_n hx hb dX2_worthOf_15 rfl (lv_at hl 2 rfl) ?_
      refine lv_iload_n hx hb dX2_worthOf_16 rfl (lv_at hl 1 rfl) ?_
      refine lv_iload_n hx hb dX2_worthOf_17 rfl (lv_at hl 3 rfl) ?_
      obtain ⟨v2, hv2, h⟩ := bd1_some h
      refine r_int (run_s (As := [.int x1, .int x3]) (rest := [.int x2]) C (mX2_has hv2) q1659 q1660 q162 q1661 ⟨rfl, rfl⟩ hdX2_has ⟨Nat.le_of_ble_eq_true rfl, Nat.le_of_ble_eq_true rfl⟩ ⟨Nat.zero_le _, Nat.zero_le _⟩ rfl hl.1 rfl (Nat.le_of_ble_eq_true rfl) dX2_worthOf_18) ?_
      refine lv_if_eq (tgt := 37) hx hb dX2_worthOf_21 (by decide) (fun c => ?_) (fun c => ?_)
      · replace h := if_t c h
        refine lv_iconst (v := 0) hx hb dX2_worthOf_37 (by decide) ?_
        exact bX2_worthOf_38 C hK hT ih x1 x3 x2 (0 : Int32) ls h (lv_sub hl [0, 1, 3] rfl)
      · replace h := if_f c h
        refine lv_aload_n hx hb dX2_worthOf_24 rfl (lv_at hl 0 rfl) ?_
        refine tg0 C hK hT dX2_worthOf_25 ?_
        refine lv_sipush (v := 538) hx hb dX2_worthOf_28 (by decide) ?_
        refine lv_iload_n hx hb dX2_worthOf_31 rfl (lv_at hl 3 rfl) ?_
        refine lv_iadd hx hb dX2_worthOf_32 ?_
        obtain ⟨hi, h⟩ := ck_some h
        refine tl0 C hK hT hi dX2_worthOf_33 ?_
        refine lv_goto (tgt := 38) hx hb dX2_worthOf_34 (by decide) ?_
        exact bX2_worthOf_38 C hK hT ih x1 x3 x2 (t.1 0 ((538 : Int32) + x3).toNatClampNeg) ls h (lv_sub hl [0, 1, 3] rfl)
theorem bX2_worthOf {p : Program} {l : Launch} {e : Env} {s : State} {m : MethodId} {args : Array Value} {below : List Frame} {meth : Method} {c : Code} {D : va_G} {dA : Nat → ClassId} {b : Nat} {t : TS} {r : Int32} (C : cx p s m args meth c cX2_worthOf RX2 4 (some .int)) (hK : kk D dA s) (hT : wd D (tw dA b t) s.heap) : ∀ (x1 : Int32) (ls : Array Slot), T_worthOf t x1 = some r → lv_has ls 4 [(0, .ref b), (1, .int x1)] → W p l e rmX2_worthOf s m args below meth c s.heap [] 0 0 (MQ below (rQi r) args s 0 0 nof) (F0 m 0 ls []) := by
  obtain ⟨hx, hb, hr, hml, hown, hts, hlocks⟩ := id C
  intro x1 ls h hl
  unfold T_worthOf at h
  refine lv_iconst (v := 0) hx hb dX2_worthOf_0 (by decide) ?_
  refine lv_istore_n (lv' := [(2, .int (0 : Int32)), (0, .ref b), (1, .int x1)]) hx hb dX2_worthOf_1 rfl hl (by decide) rfl (fun ls hl => ?_)
  refine lv_iconst (v := 0) hx hb dX2_worthOf_2 (by decide) ?_
  refine lv_istore_n (lv' := [(3, .int (0 : Int32)), (2, .int (0 : Int32)), (0, .ref b), (1, .int x1)]) hx hb dX2_worthOf_3 rfl hl (by decide) rfl (fun ls hl => ?_)
  exact bX2_worthOf_4 C hK hT fu x1 (0 : Int32) (0 : Int32) ls h (lv_sub hl [2, 3, 1, 0] rfl)
theorem mX2_worthOf {l : Launch} {D : va_G} {dA : Nat → ClassId} {b : Nat} {t : TS} {x1 : Int32} {r : Int32} (h : T_worthOf t x1 = some r) : Met l yX2_worthOf (ws_ yX2_worthOf cX2_worthOf 4 (some .int)) rmX2_worthOf (tPc D dA b t [.ref b, .int x1]) (rQi r) 0 0 nof := en_R (by decide +kernel) rfl (Nat.le_of_ble_eq_true rfl) (fun p e s m below meth c ls C hK hT hl => bX2_worthOf C hK hT x1 ls h hl)
set_option maxRecDepth 20000 in
abbrev rmX2_worth : Room := { frames := 7, cells := 0, slots := 0, locals := 160 }
theorem hdX2_worth : yX2_worth.cls = RX2 ∧ yX2_worth.cls ≠ "java/lang/invoke/MethodHandle" ∧ yX2_worth.cls ≠ "java/lang/invoke/VarHandle" ∧ (parseMethodDescriptor yX2_worth.desc).map (fun d => d.parameters.length) = some 1 := by decide +kernel
theorem bX2_worth {p : Program} {l : Launch} {e : Env} {s : State} {m : MethodId} {args : Array Value} {below : List Frame} {meth : Method} {c : Code} {D : va_G} {dA : Nat → ClassId} {b : Nat} {t : TS} {r : Int32} (C : cx p s m args meth c cX2_worth RX2 2 (some .int)) (hK : kk D dA s) (hT : wd D (tw dA b t) s.heap) : ∀ (x1 : Int32) (ls : Array Slot), T_worth t x1 = some r → lv_has ls 2 [(0, .ref b), (1, .int x1)] → W p l e rmX2_worth s m args below meth c s.heap [] 0 0 (MQ below (rQi r) args s 0 0 nof) (F0 m 0 ls []) := by
  obtain ⟨hx, hb, hr, hml, hown, hts, hlocks⟩ := id C
  intro x1 ls h hl
  unfold T_worth at h
  refine lv_iload_n hx hb dX2_worth_0 rfl (lv_at hl 1 rfl) ?_
  refine lv_iconst (v := 0) hx hb dX2_worth_1 (by decide) ?_
  refine lv_iconst (v := 1) hx hb dX2_worth_2 (by decide) ?_
  refine lv_aload_n hx hb dX2_worth_3 rfl (lv_at hl 0 rfl) ?_
  refine tg0 C hK hT dX2_worth_4 ?_
  refine lv_bipush (v := 8) hx hb dX2_worth_7 (by decide) ?_
  obtain ⟨hi, h⟩ := ck_some h
  refine tl0 C hK hT hi dX2_worth_9 ?_
  refine lv_ishl hx hb dX2_worth_10 ?_
  refine lv_iconst (v := 1) hx hb dX2_worth_11 (by decide) ?_
  refine lv_isub hx hb dX2_worth_12 ?_
  obtain ⟨v1, hv1, h⟩ := bd1_some h
  refine r_int (run_s (As := [.int x1, .int (0 : Int32), .int (((1 : Int32) <<< ((t.1 0 (8 : Int32).toNatClampNeg) &&& (31 : Int32))) - (1 : Int32))]) (rest := []) C (mX2_isIn hv1) q1656 q1657 q162 q1658 ⟨rfl, rfl⟩ hdX2_isIn ⟨Nat.le_of_ble_eq_true rfl, Nat.le_of_ble_eq_true rfl⟩ ⟨Nat.zero_le _, Nat.zero_le _⟩ rfl hl.1 rfl (Nat.le_of_ble_eq_true rfl) dX2_worth_13) ?_
  refine lv_if_eq (tgt := 27) hx hb dX2_worth_16 (by decide) (fun c => ?_) (fun c => ?_)
  · replace h := if_t c h
    refine lv_iconst (v := -1) hx hb dX2_worth_27 (by decide) ?_
    exact e_ri C h dX2_worth_28
  · replace h := if_f c h
    refine lv_aload_n hx hb dX2_worth_19 rfl (lv_at hl 0 rfl) ?_
    refine lv_iload_n hx hb dX2_worth_20 rfl (lv_at hl 1 rfl) ?_
    obtain ⟨v2, hv2, h⟩ := bd1_some h
    refine r_int (run_t (As := [.int x1]) (rest := []) C hK hT (mX2_worthOf hv2) q2119 q2121 qs140 q162 q2122 ⟨rfl, rfl⟩ hdX2_worthOf ⟨Nat.le_of_ble_eq_true rfl, Nat.le_of_ble_eq_true rfl⟩ ⟨Nat.zero_le _, Nat.zero_le _⟩ rfl hl.1 rfl (Nat.le_of_ble_eq_true rfl) dX2_worth_21) ?_
    refine lv_goto (tgt := 28) hx hb dX2_worth_24 (by decide) ?_
    exact e_ri C h dX2_worth_28
theorem mX2_worth {l : Launch} {D : va_G} {dA : Nat → ClassId} {b : Nat} {t : TS} {x1 : Int32} {r : Int32} (h : T_worth t x1 = some r) : Met l yX2_worth (ws_ yX2_worth cX2_worth 2 (some .int)) rmX2_worth (tPc D dA b t [.ref b, .int x1]) (rQi r) 0 0 nof := en_R (by decide +kernel) rfl (Nat.le_of_ble_eq_true rfl) (fun p e s m below meth c ls C hK hT hl => bX2_worth C hK hT x1 ls h hl)
set_option maxRecDepth 20000 in
abbrev rmX2_areContent : Room := { frames := 1, cells := 0, slots := 0, locals := 21 }
theorem hdX2_areContent : yX2_areContent.cls = RX2 ∧ yX2_areContent.cls ≠ "java/lang/invoke/MethodHandle" ∧ yX2_areContent.cls ≠ "java/lang/invoke/VarHandle" ∧ (parseMethodDescriptor yX2_areContent.desc).map (fun d => d.parameters.length) = some 0 := by decide +kernel
theorem bX2_areContent_49 {p : Program} {l : Launch} {e : Env} {s : State} {m : MethodId} {args : Array Value} {below : List Frame} {meth : Method} {c : Code} {D : va_G} {dA : Nat → ClassId} {b : Nat} {t : TS} {r : Int32} (C : cx p s m args meth c cX2_areContent RX2 4 (some .boolean)) (hK : kk D dA s) (hT : wd D (tw dA b t) s.heap) {k19 : Int32 → Int32 → Int32 → Option Int32} (hk19 : ∀ (x1 : Int32) (x2 : Int32) (x3 : Int32) (ls : Array Slot), k19 x1 x2 x3 = some r → lv_has ls 4 [(0, .ref b), (1, .int x1), (2, .int x2), (3, .int x3)] → W p l e rmX2_areContent s m args below meth c s.heap [] 0 0 (MQ below (rQi r) args s 0 0 nof) (F0 m 19 ls [])) : ∀ (x1 : Int32) (x3 : Int32) (y0 : Int32) (y1 : Int32) (ls : Array Slot), T_areContent_49 k19 t x1 x3 y0 y1 = some r → lv_has ls 4 [(0, .ref b), (1, .int x1), (3, .int x3)] → W p l e rmX2_areContent s m args below meth c s.heap [] 0 0 (MQ below (rQi r) args s 0 0 nof) (F0 m 49 ls [.int y1, .int y0]) := by
  obtain ⟨hx, hb, hr, hml, hown, hts, hlocks⟩ := id C
  intro x1 x3 y0 y1 ls h hl
  unfold T_areContent_49 at h
  refine lv_iadd hx hb dX2_areContent_49 ?_
  refine lv_topi (fun v1 ev1 => ?_)
  replace h := lt1_sub ev1 h
  refine lv_istore_n (lv' := [(2, .int v1), (0, .ref b), (1, .int x1), (3, .int x3)]) hx hb dX2_areContent_50 rfl hl (by decide) rfl (fun ls hl => ?_)
  obtain ⟨v2, ev2⟩ : ∃ y : Int32, y = x3 + (1 : Int32) := ⟨_, rfl⟩
  replace h := lt1_sub ev2 h
  refine lv_iinc (v := v2) (lv' := [(3, .int v2), (2, .int v1), (0, .ref b), (1, .int x1)]) hx hb dX2_areContent_51 hl (k := 3) rfl (by rw [ev2]; rfl) (by decide) rfl (fun ls hl => ?_)
  refine lv_goto (tgt := 19) hx hb dX2_areContent_54 (by decide) ?_
  exact hk19 x1 v1 v2 ls h (lv_sub hl [2, 3, 1, 0] rfl)
theorem bX2_areContent_19 {p : Program} {l : Launch} {e : Env} {s : State} {m : MethodId} {args : Array Value} {below : List Frame} {meth : Method} {c : Code} {D : va_G} {dA : Nat → ClassId} {b : Nat} {t : TS} {r : Int32} (C : cx p s m args meth c cX2_areContent RX2 4 (some .boolean)) (hK : kk D dA s) (hT : wd D (tw dA b t) s.heap) {k2 : Int32 → Option Int32} (hk2 : ∀ (x1 : Int32) (ls : Array Slot), k2 x1 = some r → lv_has ls 4 [(0, .ref b), (1, .int x1)] → W p l e rmX2_areContent s m args below meth c s.heap [] 0 0 (MQ below (rQi r) args s 0 0 nof) (F0 m 2 ls [])) : ∀ (n : Nat), ∀ (x1 : Int32) (x2 : Int32) (x3 : Int32) (ls : Array Slot), T_areContent_19 k2 t n x1 x2 x3 = some r → lv_has ls 4 [(0, .ref b), (1, .int x1), (2, .int x2), (3, .int x3)] → W p l e rmX2_areContent s m args below meth c s.heap [] 0 0 (MQ below (rQi r) args s 0 0 nof) (F0 m 19 ls []) := by
  obtain ⟨hx, hb, hr, hml, hown, hts, hlocks⟩ := id C
  intro n
  induction n with
  | zero =>
    intro x1 x2 x3 ls h hl
    have h : none = some _ := h
    cases h
  | succ n ih =>
    intro x1 x2 x3 ls h hl
    rw [T_areContent_19] at h
    refine lv_iload_n hx hb dX2_areContent_19 rfl (lv_at hl 3 rfl) ?_
    refine lv_aload_n hx hb dX2_areContent_20 rfl (lv_at hl 0 rfl) ?_
    refine tg0 C hK hT dX2_areContent_21 ?_
    refine lv_bipush (v := 8) hx hb dX2_areContent_24 (by decide) ?_
    obtain ⟨hi, h⟩ := ck_some h
    refine tl0 C hK hT hi dX2_areContent_26 ?_
    refine lv_icmp_ge (tgt := 57) hx hb dX2_areContent_27 (by decide) (fun c => ?_) (fun c => ?_)
    · replace h := if_t c h
      refine lv_iload_n hx hb dX2_areContent_57 rfl (lv_at hl 2 rfl) ?_
      refine lv_aload_n hx hb dX2_areContent_58 rfl (lv_at hl 0 rfl) ?_
      refine tg35 C hK hT dX2_areContent_59 ?_
      refine lv_iload_n hx hb dX2_areContent_62 rfl (lv_at hl 1 rfl) ?_
      obtain ⟨hi, h⟩ := ck_some h
      refine tl35 C hK hT hi dX2_areContent_63 ?_
      refine lv_icmp_ge (tgt := 69) hx hb dX2_areContent_64 (by decide) (fun c => ?_) (fun c => ?_)
      · replace h := if_t c h
        obtain ⟨v1, ev1⟩ : ∃ y : Int32, y = x1 + (1 : Int32) := ⟨_, rfl⟩
        replace h := lt1_sub ev1 h
        refine lv_iinc (v := v1) (lv' := [(1, .int v1), (0, .ref b), (2, .int x2), (3, .int x3)]) hx hb dX2_areContent_69 hl (k := 1) rfl (by rw [ev1]; rfl) (by decide) rfl (fun ls hl => ?_)
        refine lv_goto (tgt := 2) hx hb dX2_areContent_72 (by decide) ?_
        exact hk2 v1 ls h (lv_sub hl [1, 0] rfl)
      · replace h := if_f c h
        refine lv_iconst (v := 0) hx hb dX2_areContent_67 (by decide) ?_
        exact e_rz C (Or.inl rfl) h dX2_areContent_68
    · replace h := if_f c h
      refine lv_iload_n hx hb dX2_areContent_30 rfl (lv_at hl 2 rfl) ?_
      refine lv_iload_n hx hb dX2_areContent_31 rfl (lv_at hl 1 rfl) ?_
      refine lv_iload_n hx hb dX2_areContent_32 rfl (lv_at hl 3 rfl) ?_
      obtain ⟨v2, hv2, h⟩ := bd1_some h
      refine r_int (run_s (As := [.int x1, .int x3]) (rest := [.int x2]) C (mX2_has hv2) q1659 q1660 q162 q1661 ⟨rfl, rfl⟩ hdX2_has ⟨Nat.le_of_ble_eq_true rfl, Nat.le_of_ble_eq_true rfl⟩ ⟨Nat.zero_le _, Nat.zero_le _⟩ rfl hl.1 rfl (Nat.le_of_ble_eq_true rfl) dX2_areContent_33) ?_
      refine lv_if_eq (tgt := 48) hx hb dX2_areContent_36 (by decide) (fun c => ?_) (fun c => ?_)
      · replace h := if_t c h
        refine lv_iconst (v := 0) hx hb dX2_areContent_48 (by decide) ?_
        exact bX2_areContent_49 C hK hT ih x1 x3 x2 (0 : Int32) ls h (lv_sub hl [0, 1, 3] rfl)
      · replace h := if_f c h
        refine lv_aload_n hx hb dX2_areContent_39 rfl (lv_at hl 0 rfl) ?_
        refine tg34 C hK hT dX2_areContent_40 ?_
        refine lv_iload_n hx hb dX2_areContent_43 rfl (lv_at hl 3 rfl) ?_
        obtain ⟨hi, h⟩ := ck_some h
        refine tl34 C hK hT hi dX2_areContent_44 ?_
        refine lv_goto (tgt := 49) hx hb dX2_areContent_45 (by decide) ?_
        exact bX2_areContent_49 C hK hT ih x1 x3 x2 (t.1 34 x3.toNatClampNeg) ls h (lv_sub hl [0, 1, 3] rfl)
theorem bX2_areContent_2 {p : Program} {l : Launch} {e : Env} {s : State} {m : MethodId} {args : Array Value} {below : List Frame} {meth : Method} {c : Code} {D : va_G} {dA : Nat → ClassId} {b : Nat} {t : TS} {r : Int32} (C : cx p s m args meth c cX2_areContent RX2 4 (some .boolean)) (hK : kk D dA s) (hT : wd D (tw dA b t) s.heap) : ∀ (n : Nat), ∀ (x1 : Int32) (ls : Array Slot), T_areContent_2 t n x1 = some r → lv_has ls 4 [(0, .ref b), (1, .int x1)] → W p l e rmX2_areContent s m args below meth c s.heap [] 0 0 (MQ below (rQi r) args s 0 0 nof) (F0 m 2 ls []) := by
  obtain ⟨hx, hb, hr, hml, hown, hts, hlocks⟩ := id C
  intro n
  induction n with
  | zero =>
    intro x1 ls h hl
    have h : none = some _ := h
    cases h
  | succ n ih =>
    intro x1 ls h hl
    rw [T_areContent_2] at h
    refine lv_iload_n hx hb dX2_areContent_2 rfl (lv_at hl 1 rfl) ?_
    refine lv_iconst (v := 1) hx hb dX2_areContent_3 (by decide) ?_
    refine lv_aload_n hx hb dX2_areContent_4 rfl (lv_at hl 0 rfl) ?_
    refine tg0 C hK hT dX2_areContent_5 ?_
    refine lv_bipush (v := 8) hx hb dX2_areContent_8 (by decide) ?_
    obtain ⟨hi, h⟩ := ck_some h
    refine tl0 C hK hT hi dX2_areContent_10 ?_
    refine lv_ishl hx hb dX2_areContent_11 ?_
    refine lv_icmp_ge (tgt := 75) hx hb dX2_areContent_12 (by decide) (fun c => ?_) (fun c => ?_)
    · replace h := if_t c h
      refine lv_iconst (v := 1) hx hb dX2_areContent_75 (by decide) ?_
      exact e_rz C (Or.inr rfl) h dX2_areContent_76
    · replace h := if_f c h
      refine lv_iconst (v := 0) hx hb dX2_areContent_15 (by decide) ?_
      refine lv_istore_n (lv' := [(2, .int (0 : Int32)), (0, .ref b), (1, .int x1)]) hx hb dX2_areContent_16 rfl hl (by decide) rfl (fun ls hl => ?_)
      refine lv_iconst (v := 0) hx hb dX2_areContent_17 (by decide) ?_
      refine lv_istore_n (lv' := [(3, .int (0 : Int32)), (2, .int (0 : Int32)), (0, .ref b), (1, .int x1)]) hx hb dX2_areContent_18 rfl hl (by decide) rfl (fun ls hl => ?_)
      exact bX2_areContent_19 C hK hT ih fu x1 (0 : Int32) (0 : Int32) ls h (lv_sub hl [2, 3, 1, 0] rfl)
theorem bX2_areContent {p : Program} {l : Launch} {e : Env} {s : State} {m : MethodId} {args : Array Value} {below : List Frame} {meth : Method} {c : Code} {D : va_G} {dA : Nat → ClassId} {b : Nat} {t : TS} {r : Int32} (C : cx p s m args meth c cX2_areContent RX2 4 (some .boolean)) (hK : kk D dA s) (hT : wd D (tw dA b t) s.heap) : ∀ (ls : Array Slot), T_areContent t = some r → lv_has ls 4 [(0, .ref b)] → W p l e rmX2_areContent s m args below meth c s.heap [] 0 0 (MQ below (rQi r) args s 0 0 nof) (F0 m 0 ls []) := by
  obtain ⟨hx, hb, hr, hml, hown, hts, hlocks⟩ := id C
  intro ls h hl
  unfold T_areContent at h
  refine lv_iconst (v := 1) hx hb dX2_areContent_0 (by decide) ?_
  refine lv_istore_n (lv' := [(1, .int (1 : Int32)), (0, .ref b)]) hx hb dX2_areContent_1 rfl hl (by decide) rfl (fun ls hl => ?_)
  exact bX2_areContent_2 C hK hT fu (1 : Int32) ls h (lv_sub hl [1, 0] rfl)
theorem mX2_areContent {l : Launch} {D : va_G} {dA : Nat → ClassId} {b : Nat} {t : TS} {r : Int32} (h : T_areContent t = some r) : Met l yX2_areContent (ws_ yX2_areContent cX2_areContent 4 (some .boolean)) rmX2_areContent (tPc D dA b t [.ref b]) (rQi r) 0 0 nof := en_R (by decide +kernel) rfl (Nat.le_of_ble_eq_true rfl) (fun p e s m below meth c ls C hK hT hl => bX2_areContent C hK hT ls h hl)
set_option maxRecDepth 20000 in
abbrev rmX2_nextShares : Room := { frames := 0, cells := 0, slots := 0, locals := 0 }
theorem hdX2_nextShares : yX2_nextShares.cls = RX2 ∧ yX2_nextShares.cls ≠ "java/lang/invoke/MethodHandle" ∧ yX2_nextShares.cls ≠ "java/lang/invoke/VarHandle" ∧ (parseMethodDescriptor yX2_nextShares.desc).map (fun d => d.parameters.length) = some 1 := by decide +kernel
theorem bX2_nextShares_67 {p : Program} {l : Launch} {e : Env} {s : State} {m : MethodId} {args : Array Value} {below : List Frame} {meth : Method} {c : Code} {D : va_G} {dA : Nat → ClassId} {b : Nat} {r : Int32} {t9 : TS} (C : cx p s m args meth c cX2_nextShares RX2 6 (some .boolean)) (hK : kk D dA s) : ∀ (n : Nat), ∀ (t : TS) (x1 : Int32) (x2 : Int32) (x4 : Int32) (x5 : Int32) (H : Heap) (locs : List Loc) (hT : wd D (tw dA b t) H) (hS : tS b s.heap H locs) (ls : Array Slot), T_nextShares_67 n t x1 x2 x4 x5 = some (r, t9) → lv_has ls 6 [(0, .ref b), (1, .int x1), (2, .int x2), (4, .int x4), (5, .int x5)] → W p l e rmX2_nextShares s m args below meth c H locs 0 0 (MQ below (tQ D dA b t9 (some (.int r))) args s 0 0 (ta b)) (F0 m 67 ls []) := by
  obtain ⟨hx, hb, hr, hml, hown, hts, hlocks⟩ := id C
  intro n
  induction n with
  | zero =>
    intro t x1 x2 x4 x5 H locs hT hS ls h hl
    have h : none = some _ := h
    cases h
  | succ n ih =>
    intro t x1 x2 x4 x5 H locs hT hS ls h hl
    rw [T_nextShares_67] at h
    refine lv_iload hx hb dX2_nextShares_67 (lv_at hl 4 rfl) ?_
    refine lv_iload_n hx hb dX2_nextShares_69 rfl (lv_at hl 2 rfl) ?_
    refine lv_iconst (v := 1) hx hb dX2_nextShares_70 (by decide) ?_
    refine lv_isub hx hb dX2_nextShares_71 ?_
    refine lv_icmp_ge (tgt := 89) hx hb dX2_nextShares_72 (by decide) (fun c => ?_) (fun c => ?_)
    · replace h := if_t c h
      refine lv_aload_n hx hb dX2_nextShares_89 rfl (lv_at hl 0 rfl) ?_
      refine tg34 C hK hT dX2_nextShares_90 ?_
      refine lv_iload_n hx hb dX2_nextShares_93 rfl (lv_at hl 2 rfl) ?_
      refine lv_iconst (v := 1) hx hb dX2_nextShares_94 (by decide) ?_
      refine lv_isub hx hb dX2_nextShares_95 ?_
      refine lv_iload_n hx hb dX2_nextShares_96 rfl (lv_at hl 1 rfl) ?_
      refine lv_iload hx hb dX2_nextShares_97 (lv_at hl 3 rfl) ?_
      refine lv_isub hx hb dX2_nextShares_99 ?_
      obtain ⟨hi, h⟩ := ck_some h
      refine ts34 C hK hT hS hi dX2_nextShares_100 (fun t1 H locs et1 hT hS => ?_)
      replace h := lt1_sub et1 h
      refine lv_iconst (v := 1) hx hb dX2_nextShares_101 (by decide) ?_
      exact e_wz C hT hS (Or.inr rfl) h dX2_nextShares_102
    · replace h := if_f c h
      refine lv_aload_n hx hb dX2_nextShares_75 rfl (lv_at hl 0 rfl) ?_
      refine tg34 C hK hT dX2_nextShares_76 ?_
      refine lv_iload hx hb dX2_nextShares_79 (lv_at hl 4 rfl) ?_
      refine lv_iconst (v := 0) hx hb dX2_nextShares_81 (by decide) ?_
      obtain ⟨hi, h⟩ := ck_some h
      refine ts34 C hK hT hS hi dX2_nextShares_82 (fun t2 H locs et2 hT hS => ?_)
      replace h := lt1_sub et2 h
      obtain ⟨v3, ev3⟩ : ∃ y : Int32, y = x5 + (1 : Int32) := ⟨_, rfl⟩
      replace h := lt1_sub ev3 h
      refine lv_iinc (v := v3) (lv' := [(5, .int v3), (0, .ref b), (1, .int x1), (2, .int x2), (4, .int x4)]) hx hb dX2_nextShares_83 hl (k := 4) rfl (by rw [ev3]; rfl) (by decide) rfl (fun ls hl => ?_)
      refine lv_goto (tgt := 67) hx hb dX2_nextShares_86 (by decide) ?_
      exact ih t2 x1 x2 x4 v3 H locs hT hS ls h (lv_sub hl [1, 2, 3, 4, 0] rfl)
theorem bX2_nextShares_32 {p : Program} {l : Launch} {e : Env} {s : State} {m : MethodId} {args : Array Value} {below : List Frame} {meth : Method} {c : Code} {D : va_G} {dA : Nat → ClassId} {b : Nat} {r : Int32} {t9 : TS} (C : cx p s m args meth c cX2_nextShares RX2 6 (some .boolean)) (hK : kk D dA s) {k12 : TS → Int32 → Int32 → Int32 → Option (Int32 × TS)} (hk12 : ∀ (t : TS) (x1 : Int32) (x2 : Int32) (x3 : Int32) (H : Heap) (locs : List Loc) (hT : wd D (tw dA b t) H) (hS : tS b s.heap H locs) (ls : Array Slot), k12 t x1 x2 x3 = some (r, t9) → lv_has ls 6 [(0, .ref b), (1, .int x1), (2, .int x2), (3, .int x3)] → W p l e rmX2_nextShares s m args below meth c H locs 0 0 (MQ below (tQ D dA b t9 (some (.int r))) args s 0 0 (ta b)) (F0 m 12 ls [])) : ∀ (n : Nat), ∀ (t : TS) (x1 : Int32) (x2 : Int32) (x3 : Int32) (x4 : Int32) (x5 : Int32) (H : Heap) (locs : List Loc) (hT : wd D (tw dA b t) H) (hS : tS b s.heap H locs) (ls : Array Slot), T_nextShares_32 k12 n t x1 x2 x3 x4 x5 = some (r, t9) → lv_has ls 6 [(0, .ref b), (1, .int x1), (2, .int x2), (3, .int x3), (4, .int x4), (5, .int x5)] → W p l e rmX2_nextShares s m args below meth c H locs 0 0 (MQ below (tQ D dA b t9 (some (.int r))) args s 0 0 (ta b)) (F0 m 32 ls []) := by
  obtain ⟨hx, hb, hr, hml, hown, hts, hlocks⟩ := id C
  intro n
  induction n with
  | zero =>
    intro t x1 x2 x3 x4 x5 H locs hT hS ls h hl
    have h : none = some _ := h
    cases h
  | succ n ih =>
    intro t x1 x2 x3 x4 x5 H locs hT hS ls h hl
    rw [T_nextShares_32] at h
    refine lv_iload hx hb dX2_nextShares_32 (lv_at hl 5 rfl) ?_
    refine lv_iload_n hx hb dX2_nextShares_34 rfl (lv_at hl 3 rfl) ?_
    refine lv_icmp_gt (tgt := 56) hx hb dX2_nextShares_35 (by decide) (fun c => ?_) (fun c => ?_)
    · replace h := if_t c h
      refine lv_iload hx hb dX2_nextShares_56 (lv_at hl 4 rfl) ?_
      refine lv_iload_n hx hb dX2_nextShares_58 rfl (lv_at hl 1 rfl) ?_
      refine lv_icmp_gt (tgt := 103) hx hb dX2_nextShares_59 (by decide) (fun c => ?_) (fun c => ?_)
      · replace h := if_t c h
        obtain ⟨v1, ev1⟩ : ∃ y : Int32, y = x3 + (-1 : Int32) := ⟨_, rfl⟩
        replace h := lt1_sub ev1 h
        refine lv_iinc (v := v1) (lv' := [(3, .int v1), (0, .ref b), (1, .int x1), (2, .int x2), (4, .int x4), (5, .int x5)]) hx hb dX2_nextShares_103 hl (k := 3) rfl (by rw [ev1]; rfl) (by decide) rfl (fun ls hl => ?_)
        refine lv_goto (tgt := 12) hx hb dX2_nextShares_106 (by decide) ?_
        exact hk12 t x1 x2 v1 H locs hT hS ls h (lv_sub hl [1, 2, 3, 0] rfl)
      · replace h := if_f c h
        refine lv_iload_n hx hb dX2_nextShares_62 rfl (lv_at hl 3 rfl) ?_
        refine lv_iconst (v := 1) hx hb dX2_nextShares_63 (by decide) ?_
        refine lv_iadd hx hb dX2_nextShares_64 ?_
        refine lv_topi (fun v2 ev2 => ?_)
        replace h := lt1_sub ev2 h
        refine lv_istore (lv' := [(5, .int v2), (0, .ref b), (1, .int x1), (2, .int x2), (3, .int x3), (4, .int x4)]) hx hb dX2_nextShares_65 hl (by decide) rfl (fun ls hl => ?_)
        exact bX2_nextShares_67 C hK fu t x1 x2 x4 v2 H locs hT hS ls h (lv_sub hl [1, 2, 3, 5, 0] rfl)
    · replace h := if_f c h
      refine lv_iload hx hb dX2_nextShares_38 (lv_at hl 4 rfl) ?_
      refine lv_aload_n hx hb dX2_nextShares_40 rfl (lv_at hl 0 rfl) ?_
      refine tg34 C hK hT dX2_nextShares_41 ?_
      refine lv_iload hx hb dX2_nextShares_44 (lv_at hl 5 rfl) ?_
      obtain ⟨hi, h⟩ := ck_some h
      refine tl34 C hK hT hi dX2_nextShares_46 ?_
      refine lv_iadd hx hb dX2_nextShares_47 ?_
      refine lv_topi (fun v3 ev3 => ?_)
      replace h := lt1_sub ev3 h
      refine lv_istore (lv' := [(4, .int v3), (0, .ref b), (1, .int x1), (2, .int x2), (3, .int x3), (5, .int x5)]) hx hb dX2_nextShares_48 hl (by decide) rfl (fun ls hl => ?_)
      obtain ⟨v4, ev4⟩ : ∃ y : Int32, y = x5 + (1 : Int32) := ⟨_, rfl⟩
      replace h := lt1_sub ev4 h
      refine lv_iinc (v := v4) (lv' := [(5, .int v4), (4, .int v3), (0, .ref b), (1, .int x1), (2, .int x2), (3, .int x3)]) hx hb dX2_nextShares_50 hl (k := 5) rfl (by rw [ev4]; rfl) (by decide) rfl (fun ls hl => ?_)
      refine lv_goto (tgt := 32) hx hb dX2_nextShares_53 (by decide) ?_
      exact ih t x1 x2 x3 v3 v4 H locs hT hS ls h (lv_sub hl [2, 3, 4, 5, 1, 0] rfl)
theorem bX2_nextShares_12 {p : Program} {l : Launch} {e : Env} {s : State} {m : MethodId} {args : Array Value} {below : List Frame} {meth : Method} {c : Code} {D : va_G} {dA : Nat → ClassId} {b : Nat} {r : Int32} {t9 : TS} (C : cx p s m args meth c cX2_nextShares RX2 6 (some .boolean)) (hK : kk D dA s) : ∀ (n : Nat), ∀ (t : TS) (x1 : Int32) (x2 : Int32) (x3 : Int32) (H : Heap) (locs : List Loc) (hT : wd D (tw dA b t) H) (hS : tS b s.heap H locs) (ls : Array Slot), T_nextShares_12 n t x1 x2 x3 = some (r, t9) → lv_has ls 6 [(0, .ref b), (1, .int x1), (2, .int x2), (3, .int x3)] → W p l e rmX2_nextShares s m args below meth c H locs 0 0 (MQ below (tQ D dA b t9 (some (.int r))) args s 0 0 (ta b)) (F0 m 12 ls []) := by
  obtain ⟨hx, hb, hr, hml, hown, hts, hlocks⟩ := id C
  intro n
  induction n with
  | zero =>
    intro t x1 x2 x3 H locs hT hS ls h hl
    have h : none = some _ := h
    cases h
  | succ n ih =>
    intro t x1 x2 x3 H locs hT hS ls h hl
    rw [T_nextShares_12] at h
    refine lv_iload_n hx hb dX2_nextShares_12 rfl (lv_at hl 3 rfl) ?_
    refine lv_if_lt (tgt := 109) hx hb dX2_nextShares_13 (by decide) (fun c => ?_) (fun c => ?_)
    · replace h := if_t c h
      refine lv_iconst (v := 0) hx hb dX2_nextShares_109 (by decide) ?_
      exact e_wz C hT hS (Or.inl rfl) h dX2_nextShares_110
    · replace h := if_f c h
      refine lv_aload_n hx hb dX2_nextShares_16 rfl (lv_at hl 0 rfl) ?_
      refine tg34 C hK hT dX2_nextShares_17 ?_
      refine lv_iload_n hx hb dX2_nextShares_20 rfl (lv_at hl 3 rfl) ?_
      refine lv_dup2_11 hx hb dX2_nextShares_21 rfl rfl ?_
      obtain ⟨hi, h⟩ := ck_some h
      refine tl34 C hK hT hi dX2_nextShares_22 ?_
      refine lv_iconst (v := 1) hx hb dX2_nextShares_23 (by decide) ?_
      refine lv_iadd hx hb dX2_nextShares_24 ?_
      obtain ⟨hi, h⟩ := ck_some h
      refine ts34 C hK hT hS hi dX2_nextShares_25 (fun t1 H locs et1 hT hS => ?_)
      replace h := lt1_sub et1 h
      refine lv_iconst (v := 0) hx hb dX2_nextShares_26 (by decide) ?_
      refine lv_istore (lv' := [(4, .int (0 : Int32)), (0, .ref b), (1, .int x1), (2, .int x2), (3, .int x3)]) hx hb dX2_nextShares_27 hl (by decide) rfl (fun ls hl => ?_)
      refine lv_iconst (v := 0) hx hb dX2_nextShares_29 (by decide) ?_
      refine lv_istore (lv' := [(5, .int (0 : Int32)), (4, .int (0 : Int32)), (0, .ref b), (1, .int x1), (2, .int x2), (3, .int x3)]) hx hb dX2_nextShares_30 hl (by decide) rfl (fun ls hl => ?_)
      exact bX2_nextShares_32 C hK ih fu t1 x1 x2 x3 (0 : Int32) (0 : Int32) H locs hT hS ls h (lv_sub hl [2, 3, 4, 5, 1, 0] rfl)
theorem bX2_nextShares {p : Program} {l : Launch} {e : Env} {s : State} {m : MethodId} {args : Array Value} {below : List Frame} {meth : Method} {c : Code} {D : va_G} {dA : Nat → ClassId} {b : Nat} {r : Int32} {t9 : TS} (C : cx p s m args meth c cX2_nextShares RX2 6 (some .boolean)) (hK : kk D dA s) : ∀ (t : TS) (x1 : Int32) (H : Heap) (locs : List Loc) (hT : wd D (tw dA b t) H) (hS : tS b s.heap H locs) (ls : Array Slot), T_nextShares t x1 = some (r, t9) → lv_has ls 6 [(0, .ref b), (1, .int x1)] → W p l e rmX2_nextShares s m args below meth c H locs 0 0 (MQ below (tQ D dA b t9 (some (.int r))) args s 0 0 (ta b)) (F0 m 0 ls []) := by
  obtain ⟨hx, hb, hr, hml, hown, hts, hlocks⟩ := id C
  intro t x1 H locs hT hS ls h hl
  unfold T_nextShares at h
  refine lv_aload_n hx hb dX2_nextShares_0 rfl (lv_at hl 0 rfl) ?_
  refine tg0 C hK hT dX2_nextShares_1 ?_
  refine lv_bipush (v := 8) hx hb dX2_nextShares_4 (by decide) ?_
  obtain ⟨hi, h⟩ := ck_some h
  refine tl0 C hK hT hi dX2_nextShares_6 ?_
  refine lv_topi (fun v1 ev1 => ?_)
  replace h := lt1_sub ev1 h
  refine lv_istore_n (lv' := [(2, .int v1), (0, .ref b), (1, .int x1)]) hx hb dX2_nextShares_7 rfl hl (by decide) rfl (fun ls hl => ?_)
  refine lv_iload_n hx hb dX2_nextShares_8 rfl (lv_at hl 0 rfl) ?_
  refine lv_iconst (v := 2) hx hb dX2_nextShares_9 (by decide) ?_
  refine lv_isub hx hb dX2_nextShares_10 ?_
  refine lv_topi (fun v2 ev2 => ?_)
  replace h := lt1_sub ev2 h
  refine lv_istore_n (lv' := [(3, .int v2), (2, .int v1), (0, .ref b), (1, .int x1)]) hx hb dX2_nextShares_11 rfl hl (by decide) rfl (fun ls hl => ?_)
  exact bX2_nextShares_12 C hK fu t x1 v1 v2 H locs hT hS ls h (lv_sub hl [2, 3, 1, 0] rfl)
theorem mX2_nextShares {l : Launch} {D : va_G} {dA : Nat → ClassId} {b : Nat} {t : TS} {x1 : Int32} {r : Int32} {t9 : TS} (h : T_nextShares t x1 = some (r, t9)) : Met l yX2_nextShares (ws_ yX2_nextShares cX2_nextShares 6 (some .boolean)) rmX2_nextShares (tPc D dA b t [.ref b, .int x1]) (tQ D dA b t9 (some (.int r))) 0 0 (ta b) := en_R (by decide +kernel) rfl (Nat.le_of_ble_eq_true rfl) (fun p e s m below meth c ls C hK hT hl => bX2_nextShares C hK t x1 _ [] hT tS.rf ls h hl)
set_option maxRecDepth 20000 in
abbrev rmX2_core : Room := { frames := 7, cells := 0, slots := 0, locals := 160 }
theorem hdX2_core : yX2_core.cls = RX2 ∧ yX2_core.cls ≠ "java/lang/invoke/MethodHandle" ∧ yX2_core.cls ≠ "java/lang/invoke/VarHandle" ∧ (parseMethodDescriptor yX2_core.desc).map (fun d => d.parameters.length) = some 2 := by decide +kernel
theorem bX2_core_97 {p : Program} {l : Launch} {e : Env} {s : State} {m : MethodId} {args : Array Value} {below : List Frame} {meth : Method} {c : Code} {D : va_G} {dA : Nat → ClassId} {b : Nat} {r : Int32} {t9 : TS} (C : cx p s m args meth c cX2_core RX2 4 (some .int)) (hK : kk D dA s) {k63 : TS → Int32 → Int32 → Int32 → Option (Int32 × TS)} (hk63 : ∀ (t : TS) (x1 : Int32) (x2 : Int32) (x3 : Int32) (H : Heap) (locs : List Loc) (hT : wd D (tw dA b t) H) (hS : tS b s.heap H locs) (ls : Array Slot), k63 t x1 x2 x3 = some (r, t9) → lv_has ls 4 [(0, .ref b), (1, .int x1), (2, .int x2), (3, .int x3)] → W p l e rmX2_core s m args below meth c H locs 0 0 (MQ below (tQ D dA b t9 (some (.int r))) args s 0 0 (ta b)) (F0 m 63 ls [])) : ∀ (t : TS) (x1 : Int32) (x2 : Int32) (x3 : Int32) (y1 : Int32) (y2 : Int32) (H : Heap) (locs : List Loc) (hT : wd D (tw dA b t) H) (hS : tS b s.heap H locs) (ls : Array Slot), T_core_97 k63 t x1 x2 x3 y1 y2 = some (r, t9) → lv_has ls 4 [(0, .ref b), (1, .int x1), (2, .int x2), (3, .int x3)] → W p l e rmX2_core s m args below meth c H locs 0 0 (MQ below (tQ D dA b t9 (some (.int r))) args s 0 0 (ta b)) (F0 m 97 ls [.int y2, .int y1, .ref (b + 15)]) := by
  obtain ⟨hx, hb, hr, hml, hown, hts, hlocks⟩ := id C
  intro t x1 x2 x3 y1 y2 H locs hT hS ls h hl
  unfold T_core_97 at h
  obtain ⟨hi, h⟩ := ck_some h
  refine ts34 C hK hT hS hi dX2_core_97 (fun t1 H locs et1 hT hS => ?_)
  replace h := lt1_sub et1 h
  obtain ⟨v2, ev2⟩ : ∃ y : Int32, y = x3 + (1 : Int32) := ⟨_, rfl⟩
  replace h := lt1_sub ev2 h
  refine lv_iinc (v := v2) (lv' := [(3, .int v2), (0, .ref b), (1, .int x1), (2, .int x2)]) hx hb dX2_core_98 hl (k := 3) rfl (by rw [ev2]; rfl) (by decide) rfl (fun ls hl => ?_)
  refine lv_goto (tgt := 63) hx hb dX2_core_101 (by decide) ?_
  exact hk63 t1 x1 x2 v2 H locs hT hS ls h (lv_sub hl [1, 2, 3, 0] rfl)
theorem bX2_core_106 {p : Program} {l : Launch} {e : Env} {s : State} {m : MethodId} {args : Array Value} {below : List Frame} {meth : Method} {c : Code} {D : va_G} {dA : Nat → ClassId} {b : Nat} {r : Int32} {t9 : TS} (C : cx p s m args meth c cX2_core RX2 4 (some .int)) (hK : kk D dA s) : ∀ (n : Nat), ∀ (t : TS) (x1 : Int32) (x2 : Int32) (x3 : Int32) (H : Heap) (locs : List Loc) (hT : wd D (tw dA b t) H) (hS : tS b s.heap H locs) (ls : Array Slot), T_core_106 n t x1 x2 x3 = some (r, t9) → lv_has ls 4 [(0, .ref b), (1, .int x1), (2, .int x2), (3, .int x3)] → W p l e rmX2_core s m args below meth c H locs 0 0 (MQ below (tQ D dA b t9 (some (.int r))) args s 0 0 (ta b)) (F0 m 106 ls []) := by
  obtain ⟨hx, hb, hr, hml, hown, hts, hlocks⟩ := id C
  intro n
  induction n with
  | zero =>
    intro t x1 x2 x3 H locs hT hS ls h hl
    have h : none = some _ := h
    cases h
  | succ n ih =>
    intro t x1 x2 x3 H locs hT hS ls h hl
    rw [T_core_106] at h
    refine lv_iload_n hx hb dX2_core_106 rfl (lv_at hl 3 rfl) ?_
    refine lv_if_eq (tgt := 133) hx hb dX2_core_107 (by decide) (fun c => ?_) (fun c => ?_)
    · replace h := if_t c h
      refine lv_iconst (v := -1) hx hb dX2_core_133 (by decide) ?_
      exact e_wi C hT hS h dX2_core_134
    · replace h := if_f c h
      refine lv_aload_n hx hb dX2_core_110 rfl (lv_at hl 0 rfl) ?_
      obtain ⟨v1, hv1, h⟩ := bd1_some h
      refine r_int (run_t (As := []) (rest := []) C hK hT (mX2_areContent hv1) q2127 q2129 qs141 q162 q2130 ⟨rfl, rfl⟩ hdX2_areContent ⟨Nat.le_of_ble_eq_true rfl, Nat.le_of_ble_eq_true rfl⟩ ⟨Nat.zero_le _, Nat.zero_le _⟩ rfl hl.1 rfl (Nat.le_of_ble_eq_true rfl) dX2_core_111) ?_
      refine lv_if_eq (tgt := 124) hx hb dX2_core_114 (by decide) (fun c => ?_) (fun c => ?_)
      · replace h := if_t c h
        refine lv_aload_n hx hb dX2_core_124 rfl (lv_at hl 0 rfl) ?_
        refine lv_iload_n hx hb dX2_core_125 rfl (lv_at hl 1 rfl) ?_
        obtain ⟨v2, t3, ht3, h⟩ := bd2_some h
        refine w_int hS (run_t (As := [.int x1]) (rest := []) C hK hT (mX2_nextShares ht3) q2131 q2133 qs142 q162 q2134 ⟨rfl, rfl⟩ hdX2_nextShares ⟨Nat.le_of_ble_eq_true rfl, Nat.le_of_ble_eq_true rfl⟩ ⟨Nat.zero_le _, Nat.zero_le _⟩ rfl hl.1 rfl (Nat.le_of_ble_eq_true rfl) dX2_core_126) (fun H locs hT hS => ?_)
        refine lv_istore_n (lv' := [(3, .int v2), (0, .ref b), (1, .int x1), (2, .int x2)]) hx hb dX2_core_129 rfl hl (by decide) rfl (fun ls hl => ?_)
        refine lv_goto (tgt := 106) hx hb dX2_core_130 (by decide) ?_
        exact ih t3 x1 x2 v2 H locs hT hS ls h (lv_sub hl [1, 2, 3, 0] rfl)
      · replace h := if_f c h
        refine lv_aload_n hx hb dX2_core_117 rfl (lv_at hl 0 rfl) ?_
        refine tg34 C hK hT dX2_core_118 ?_
        refine lv_iload_n hx hb dX2_core_121 rfl (lv_at hl 2 rfl) ?_
        obtain ⟨hi, h⟩ := ck_some h
        refine tl34 C hK hT hi dX2_core_122 ?_
        exact e_wi C hT hS h dX2_core_123
theorem bX2_core_63 {p : Program} {l : Launch} {e : Env} {s : State} {m : MethodId} {args : Array Value} {below : List Frame} {meth : Method} {c : Code} {D : va_G} {dA : Nat → ClassId} {b : Nat} {r : Int32} {t9 : TS} (C : cx p s m args meth c cX2_core RX2 4 (some .int)) (hK : kk D dA s) : ∀ (n : Nat), ∀ (t : TS) (x1 : Int32) (x2 : Int32) (x3 : Int32) (H : Heap) (locs : List Loc) (hT : wd D (tw dA b t) H) (hS : tS b s.heap H locs) (ls : Array Slot), T_core_63 n t x1 x2 x3 = some (r, t9) → lv_has ls 4 [(0, .ref b), (1, .int x1), (2, .int x2), (3, .int x3)] → W p l e rmX2_core s m args below meth c H locs 0 0 (MQ below (tQ D dA b t9 (some (.int r))) args s 0 0 (ta b)) (F0 m 63 ls []) := by
  obtain ⟨hx, hb, hr, hml, hown, hts, hlocks⟩ := id C
  intro n
  induction n with
  | zero =>
    intro t x1 x2 x3 H locs hT hS ls h hl
    have h : none = some _ := h
    cases h
  | succ n ih =>
    intro t x1 x2 x3 H locs hT hS ls h hl
    rw [T_core_63] at h
    refine lv_iload_n hx hb dX2_core_63 rfl (lv_at hl 3 rfl) ?_
    refine lv_aload_n hx hb dX2_core_64 rfl (lv_at hl 0 rfl) ?_
    refine tg0 C hK hT dX2_core_65 ?_
    refine lv_bipush (v := 8) hx hb dX2_core_68 (by decide) ?_
    obtain ⟨hi, h⟩ := ck_some h
    refine tl0 C hK hT hi dX2_core_70 ?_
    refine lv_icmp_ge (tgt := 104) hx hb dX2_core_71 (by decide) (fun c => ?_) (fun c => ?_)
    · replace h := if_t c h
      refine lv_iconst (v := 1) hx hb dX2_core_104 (by decide) ?_
      refine lv_istore_n (lv' := [(3, .int (1 : Int32)), (0, .ref b), (1, .int x1), (2, .int x2)]) hx hb dX2_core_105 rfl hl (by decide) rfl (fun ls hl => ?_)
      exact bX2_core_106 C hK fu t x1 x2 (1 : Int32) H locs hT hS ls h (lv_sub hl [1, 2, 3, 0] rfl)
    · replace h := if_f c h
      refine lv_aload_n hx hb dX2_core_74 rfl (lv_at hl 0 rfl) ?_
      refine tg34 C hK hT dX2_core_75 ?_
      refine lv_iload_n hx hb dX2_core_78 rfl (lv_at hl 3 rfl) ?_
      refine lv_iload_n hx hb dX2_core_79 rfl (lv_at hl 3 rfl) ?_
      refine lv_aload_n hx hb dX2_core_80 rfl (lv_at hl 0 rfl) ?_
      refine tg0 C hK hT dX2_core_81 ?_
      refine lv_bipush (v := 8) hx hb dX2_core_84 (by decide) ?_
      obtain ⟨hi, h⟩ := ck_some h
      refine tl0 C hK hT hi dX2_core_86 ?_
      refine lv_iconst (v := 1) hx hb dX2_core_87 (by decide) ?_
      refine lv_isub hx hb dX2_core_88 ?_
      refine lv_icmp_ne (tgt := 96) hx hb dX2_core_89 (by decide) (fun c => ?_) (fun c => ?_)
      · replace h := if_f c h
        refine lv_iconst (v := 0) hx hb dX2_core_96 (by decide) ?_
        exact bX2_core_97 C hK ih t x1 x2 x3 x3 (0 : Int32) H locs hT hS ls h (lv_sub hl [0, 1, 2, 3] rfl)
      · replace h := if_t c h
        refine lv_iload_n hx hb dX2_core_92 rfl (lv_at hl 1 rfl) ?_
        refine lv_goto (tgt := 97) hx hb dX2_core_93 (by decide) ?_
        exact bX2_core_97 C hK ih t x1 x2 x3 x3 x1 H locs hT hS ls h (lv_sub hl [0, 1, 2, 3] rfl)
theorem bX2_core_31 {p : Program} {l : Launch} {e : Env} {s : State} {m : MethodId} {args : Array Value} {below : List Frame} {meth : Method} {c : Code} {D : va_G} {dA : Nat → ClassId} {b : Nat} {r : Int32} {t9 : TS} (C : cx p s m args meth c cX2_core RX2 4 (some .int)) (hK : kk D dA s) : ∀ (n : Nat), ∀ (t : TS) (x1 : Int32) (x2 : Int32) (x3 : Int32) (H : Heap) (locs : List Loc) (hT : wd D (tw dA b t) H) (hS : tS b s.heap H locs) (ls : Array Slot), T_core_31 n t x1 x2 x3 = some (r, t9) → lv_has ls 4 [(0, .ref b), (1, .int x1), (2, .int x2), (3, .int x3)] → W p l e rmX2_core s m args below meth c H locs 0 0 (MQ below (tQ D dA b t9 (some (.int r))) args s 0 0 (ta b)) (F0 m 31 ls []) := by
  obtain ⟨hx, hb, hr, hml, hown, hts, hlocks⟩ := id C
  intro n
  induction n with
  | zero =>
    intro t x1 x2 x3 H locs hT hS ls h hl
    have h : none = some _ := h
    cases h
  | succ n ih =>
    intro t x1 x2 x3 H locs hT hS ls h hl
    rw [T_core_31] at h
    refine lv_iload_n hx hb dX2_core_31 rfl (lv_at hl 3 rfl) ?_
    refine lv_iconst (v := 1) hx hb dX2_core_32 (by decide) ?_
    refine lv_aload_n hx hb dX2_core_33 rfl (lv_at hl 0 rfl) ?_
    refine tg0 C hK hT dX2_core_34 ?_
    refine lv_bipush (v := 8) hx hb dX2_core_37 (by decide) ?_
    obtain ⟨hi, h⟩ := ck_some h
    refine tl0 C hK hT hi dX2_core_39 ?_
    refine lv_ishl hx hb dX2_core_40 ?_
    refine lv_icmp_ge (tgt := 61) hx hb dX2_core_41 (by decide) (fun c => ?_) (fun c => ?_)
    · replace h := if_t c h
      refine lv_iconst (v := 0) hx hb dX2_core_61 (by decide) ?_
      refine lv_istore_n (lv' := [(3, .int (0 : Int32)), (0, .ref b), (1, .int x1), (2, .int x2)]) hx hb dX2_core_62 rfl hl (by decide) rfl (fun ls hl => ?_)
      exact bX2_core_63 C hK fu t x1 x2 (0 : Int32) H locs hT hS ls h (lv_sub hl [1, 2, 3, 0] rfl)
    · replace h := if_f c h
      refine lv_aload_n hx hb dX2_core_44 rfl (lv_at hl 0 rfl) ?_
      refine tg35 C hK hT dX2_core_45 ?_
      refine lv_iload_n hx hb dX2_core_48 rfl (lv_at hl 3 rfl) ?_
      refine lv_aload_n hx hb dX2_core_49 rfl (lv_at hl 0 rfl) ?_
      refine lv_iload_n hx hb dX2_core_50 rfl (lv_at hl 3 rfl) ?_
      obtain ⟨v1, hv1, h⟩ := bd1_some h
      refine r_int (run_t (As := [.int x3]) (rest := [.int x3, .ref (b + 16)]) C hK hT (mX2_worthOf hv1) q2119 q2121 qs140 q162 q2122 ⟨rfl, rfl⟩ hdX2_worthOf ⟨Nat.le_of_ble_eq_true rfl, Nat.le_of_ble_eq_true rfl⟩ ⟨Nat.zero_le _, Nat.zero_le _⟩ rfl hl.1 rfl (Nat.le_of_ble_eq_true rfl) dX2_core_51) ?_
      obtain ⟨hi, h⟩ := ck_some h
      refine ts35 C hK hT hS hi dX2_core_54 (fun t2 H locs et2 hT hS => ?_)
      replace h := lt1_sub et2 h
      obtain ⟨v3, ev3⟩ : ∃ y : Int32, y = x3 + (1 : Int32) := ⟨_, rfl⟩
      replace h := lt1_sub ev3 h
      refine lv_iinc (v := v3) (lv' := [(3, .int v3), (0, .ref b), (1, .int x1), (2, .int x2)]) hx hb dX2_core_55 hl (k := 3) rfl (by rw [ev3]; rfl) (by decide) rfl (fun ls hl => ?_)
      refine lv_goto (tgt := 31) hx hb dX2_core_58 (by decide) ?_
      exact ih t2 x1 x2 v3 H locs hT hS ls h (lv_sub hl [1, 2, 3, 0] rfl)
theorem bX2_core {p : Program} {l : Launch} {e : Env} {s : State} {m : MethodId} {args : Array Value} {below : List Frame} {meth : Method} {c : Code} {D : va_G} {dA : Nat → ClassId} {b : Nat} {r : Int32} {t9 : TS} (C : cx p s m args meth c cX2_core RX2 4 (some .int)) (hK : kk D dA s) : ∀ (t : TS) (x1 : Int32) (x2 : Int32) (H : Heap) (locs : List Loc) (hT : wd D (tw dA b t) H) (hS : tS b s.heap H locs) (ls : Array Slot), T_core t x1 x2 = some (r, t9) → lv_has ls 4 [(0, .ref b), (1, .int x1), (2, .int x2)] → W p l e rmX2_core s m args below meth c H locs 0 0 (MQ below (tQ D dA b t9 (some (.int r))) args s 0 0 (ta b)) (F0 m 0 ls []) := by
  obtain ⟨hx, hb, hr, hml, hown, hts, hlocks⟩ := id C
  intro t x1 x2 H locs hT hS ls h hl
  unfold T_core at h
  refine lv_iload_n hx hb dX2_core_0 rfl (lv_at hl 1 rfl) ?_
  refine lv_iconst (v := 0) hx hb dX2_core_1 (by decide) ?_
  refine lv_bipush (v := 30) hx hb dX2_core_2 (by decide) ?_
  obtain ⟨v1, hv1, h⟩ := bd1_some h
  refine r_int (run_s (As := [.int x1, .int (0 : Int32), .int (30 : Int32)]) (rest := []) C (mX2_isIn hv1) q1656 q1657 q162 q1658 ⟨rfl, rfl⟩ hdX2_isIn ⟨Nat.le_of_ble_eq_true rfl, Nat.le_of_ble_eq_true rfl⟩ ⟨Nat.zero_le _, Nat.zero_le _⟩ rfl hl.1 rfl (Nat.le_of_ble_eq_true rfl) dX2_core_4) ?_
  refine lv_if_eq (tgt := 27) hx hb dX2_core_7 (by decide) (fun c => ?_) (fun c => ?_)
  · replace h := if_t c h
    refine lv_iconst (v := -1) hx hb dX2_core_27 (by decide) ?_
    exact e_wi C hT hS h dX2_core_28
  · replace h := if_f c h
    refine lv_iload_n hx hb dX2_core_10 rfl (lv_at hl 2 rfl) ?_
    refine lv_iconst (v := 0) hx hb dX2_core_11 (by decide) ?_
    refine lv_aload_n hx hb dX2_core_12 rfl (lv_at hl 0 rfl) ?_
    refine tg0 C hK hT dX2_core_13 ?_
    refine lv_bipush (v := 8) hx hb dX2_core_16 (by decide) ?_
    obtain ⟨hi, h⟩ := ck_some h
    refine tl0 C hK hT hi dX2_core_18 ?_
    refine lv_iconst (v := 1) hx hb dX2_core_19 (by decide) ?_
    refine lv_isub hx hb dX2_core_20 ?_
    obtain ⟨v2, hv2, h⟩ := bd1_some h
    refine r_int (run_s (As := [.int x2, .int (0 : Int32), .int ((t.1 0 (8 : Int32).toNatClampNeg) - (1 : Int32))]) (rest := []) C (mX2_isIn hv2) q1656 q1657 q162 q1658 ⟨rfl, rfl⟩ hdX2_isIn ⟨Nat.le_of_ble_eq_true rfl, Nat.le_of_ble_eq_true rfl⟩ ⟨Nat.zero_le _, Nat.zero_le _⟩ rfl hl.1 rfl (Nat.le_of_ble_eq_true rfl) dX2_core_21) ?_
    refine lv_if_ne (tgt := 29) hx hb dX2_core_24 (by decide) (fun c => ?_) (fun c => ?_)
    · replace h := if_f c h
      refine lv_iconst (v := 0) hx hb dX2_core_29 (by decide) ?_
      refine lv_istore_n (lv' := [(3, .int (0 : Int32)), (0, .ref b), (1, .int x1), (2, .int x2)]) hx hb dX2_core_30 rfl hl (by decide) rfl (fun ls hl => ?_)
      exact bX2_core_31 C hK fu t x1 x2 (0 : Int32) H locs hT hS ls h (lv_sub hl [1, 2, 3, 0] rfl)
    · replace h := if_t c h
      refine lv_iconst (v := -1) hx hb dX2_core_27 (by decide) ?_
      exact e_wi C hT hS h dX2_core_28
theorem mX2_core {l : Launch} {D : va_G} {dA : Nat → ClassId} {b : Nat} {t : TS} {x1 : Int32} {x2 : Int32} {r : Int32} {t9 : TS} (h : T_core t x1 x2 = some (r, t9)) : Met l yX2_core (ws_ yX2_core cX2_core 4 (some .int)) rmX2_core (tPc D dA b t [.ref b, .int x1, .int x2]) (tQ D dA b t9 (some (.int r))) 0 0 (ta b) := en_R (by decide +kernel) rfl (Nat.le_of_ble_eq_true rfl) (fun p e s m below meth c ls C hK hT hl => bX2_core C hK t x1 x2 _ [] hT tS.rf ls h hl)
set_option maxRecDepth 20000 in
abbrev rmX2_isGood : Room := { frames := 1, cells := 0, slots := 0, locals := 21 }
theorem hdX2_isGood : yX2_isGood.cls = RX2 ∧ yX2_isGood.cls ≠ "java/lang/invoke/MethodHandle" ∧ yX2_isGood.cls ≠ "java/lang/invoke/VarHandle" ∧ (parseMethodDescriptor yX2_isGood.desc).map (fun d => d.parameters.length) = some 2 := by decide +kernel
theorem bX2_isGood {p : Program} {l : Launch} {e : Env} {s : State} {m : MethodId} {args : Array Value} {below : List Frame} {meth : Method} {c : Code} {D : va_G} {dA : Nat → ClassId} {b : Nat} {t : TS} {r : Int32} (C : cx p s m args meth c cX2_isGood RX2 3 (some .boolean)) (hK : kk D dA s) (hT : wd D (tw dA b t) s.heap) : ∀ (x1 : Int32) (x2 : Int32) (ls : Array Slot), T_isGood t x1 x2 = some r → lv_has ls 3 [(0, .ref b), (1, .int x1), (2, .int x2)] → W p l e rmX2_isGood s m args below meth c s.heap [] 0 0 (MQ below (rQi r) args s 0 0 nof) (F0 m 0 ls []) := by
  obtain ⟨hx, hb, hr, hml, hown, hts, hlocks⟩ := id C
  intro x1 x2 ls h hl
  unfold T_isGood at h
  refine lv_iload_n hx hb dX2_isGood_0 rfl (lv_at hl 1 rfl) ?_
  refine lv_iload_n hx hb dX2_isGood_1 rfl (lv_at hl 2 rfl) ?_
  obtain ⟨v1, hv1, h⟩ := bd1_some h
  refine r_int (run_s (As := [.int x1, .int x2]) (rest := []) C (mX2_has hv1) q1659 q1660 q162 q1661 ⟨rfl, rfl⟩ hdX2_has ⟨Nat.le_of_ble_eq_true rfl, Nat.le_of_ble_eq_true rfl⟩ ⟨Nat.zero_le _, Nat.zero_le _⟩ rfl hl.1 rfl (Nat.le_of_ble_eq_true rfl) dX2_isGood_2) ?_
  refine lv_if_ne (tgt := 38) hx hb dX2_isGood_5 (by decide) (fun c => ?_) (fun c => ?_)
  · replace h := if_f c h
    refine lv_iconst (v := 0) hx hb dX2_isGood_38 (by decide) ?_
    exact e_rz C (Or.inl rfl) h dX2_isGood_39
  · replace h := if_t c h
    refine lv_aload_n hx hb dX2_isGood_8 rfl (lv_at hl 0 rfl) ?_
    refine tg31 C hK hT dX2_isGood_9 ?_
    refine lv_iload_n hx hb dX2_isGood_12 rfl (lv_at hl 1 rfl) ?_
    refine lv_iconst (v := 1) hx hb dX2_isGood_13 (by decide) ?_
    refine lv_iload_n hx hb dX2_isGood_14 rfl (lv_at hl 2 rfl) ?_
    refine lv_ishl hx hb dX2_isGood_15 ?_
    refine lv_ior hx hb dX2_isGood_16 ?_
    obtain ⟨hi, h⟩ := ck_some h
    refine tl31 C hK hT hi dX2_isGood_17 ?_
    refine lv_if_ne (tgt := 38) hx hb dX2_isGood_18 (by decide) (fun c => ?_) (fun c => ?_)
    · replace h := if_f c h
      refine lv_iconst (v := 0) hx hb dX2_isGood_38 (by decide) ?_
      exact e_rz C (Or.inl rfl) h dX2_isGood_39
    · replace h := if_t c h
      refine lv_aload_n hx hb dX2_isGood_21 rfl (lv_at hl 0 rfl) ?_
      refine tg32 C hK hT dX2_isGood_22 ?_
      refine lv_iload_n hx hb dX2_isGood_25 rfl (lv_at hl 1 rfl) ?_
      refine lv_iconst (v := 1) hx hb dX2_isGood_26 (by decide) ?_
      refine lv_iload_n hx hb dX2_isGood_27 rfl (lv_at hl 2 rfl) ?_
      refine lv_ishl hx hb dX2_isGood_28 ?_
      refine lv_ior hx hb dX2_isGood_29 ?_
      obtain ⟨hi, h⟩ := ck_some h
      refine tl32 C hK hT hi dX2_isGood_30 ?_
      refine lv_if_ne (tgt := 38) hx hb dX2_isGood_31 (by decide) (fun c => ?_) (fun c => ?_)
      · replace h := if_f c h
        refine lv_iconst (v := 0) hx hb dX2_isGood_38 (by decide) ?_
        exact e_rz C (Or.inl rfl) h dX2_isGood_39
      · replace h := if_t c h
        refine lv_iconst (v := 1) hx hb dX2_isGood_34 (by decide) ?_
        refine lv_goto (tgt := 39) hx hb dX2_isGood_35 (by decide) ?_
        exact e_rz C (Or.inr rfl) h dX2_isGood_39
theorem mX2_isGood {l : Launch} {D : va_G} {dA : Nat → ClassId} {b : Nat} {t : TS} {x1 : Int32} {x2 : Int32} {r : Int32} (h : T_isGood t x1 x2 = some r) : Met l yX2_isGood (ws_ yX2_isGood cX2_isGood 3 (some .boolean)) rmX2_isGood (tPc D dA b t [.ref b, .int x1, .int x2]) (rQi r) 0 0 nof := en_R (by decide +kernel) rfl (Nat.le_of_ble_eq_true rfl) (fun p e s m below meth c ls C hK hT hl => bX2_isGood C hK hT x1 x2 ls h hl)
set_option maxRecDepth 20000 in
abbrev rmX2_game : Room := { frames := 6, cells := 0, slots := 0, locals := 139 }
theorem hdX2_game : yX2_game.cls = RX2 ∧ yX2_game.cls ≠ "java/lang/invoke/MethodHandle" ∧ yX2_game.cls ≠ "java/lang/invoke/VarHandle" ∧ (parseMethodDescriptor yX2_game.desc).map (fun d => d.parameters.length) = some 3 := by decide +kernel
theorem bX2_game_103 {p : Program} {l : Launch} {e : Env} {s : State} {m : MethodId} {args : Array Value} {below : List Frame} {meth : Method} {c : Code} {D : va_G} {dA : Nat → ClassId} {b : Nat} {r : Int32} {t9 : TS} (C : cx p s m args meth c cX2_game RX2 7 (some .int)) (hK : kk D dA s) {k62 : TS → Int32 → Int32 → Int32 → Int32 → Option (Int32 × TS)} (hk62 : ∀ (t : TS) (x3 : Int32) (x4 : Int32) (x5 : Int32) (x6 : Int32) (H : Heap) (locs : List Loc) (hT : wd D (tw dA b t) H) (hS : tS b s.heap H locs) (ls : Array Slot), k62 t x3 x4 x5 x6 = some (r, t9) → lv_has ls 7 [(0, .ref b), (3, .int x3), (4, .int x4), (5, .int x5), (6, .int x6)] → W p l e rmX2_game s m args below meth c H locs 0 0 (MQ below (tQ D dA b t9 (some (.int r))) args s 0 0 (ta b)) (F0 m 62 ls [])) : ∀ (t : TS) (x3 : Int32) (x4 : Int32) (x5 : Int32) (x6 : Int32) (y1 : Int32) (y2 : Int32) (H : Heap) (locs : List Loc) (hT : wd D (tw dA b t) H) (hS : tS b s.heap H locs) (ls : Array Slot), T_game_103 k62 t x3 x4 x5 x6 y1 y2 = some (r, t9) → lv_has ls 7 [(0, .ref b), (3, .int x3), (4, .int x4), (5, .int x5), (6, .int x6)] → W p l e rmX2_game s m args below meth c H locs 0 0 (MQ below (tQ D dA b t9 (some (.int r))) args s 0 0 (ta b)) (F0 m 103 ls [.int y2, .int y1, .ref (b + 14)]) := by
  obtain ⟨hx, hb, hr, hml, hown, hts, hlocks⟩ := id C
  intro t x3 x4 x5 x6 y1 y2 H locs hT hS ls h hl
  unfold T_game_103 at h
  obtain ⟨hi, h⟩ := ck_some h
  refine ts32 C hK hT hS hi dX2_game_103 (fun t1 H locs et1 hT hS => ?_)
  replace h := lt1_sub et1 h
  obtain ⟨v2, ev2⟩ : ∃ y : Int32, y = x6 + (1 : Int32) := ⟨_, rfl⟩
  replace h := lt1_sub ev2 h
  refine lv_iinc (v := v2) (lv' := [(6, .int v2), (0, .ref b), (3, .int x3), (4, .int x4), (5, .int x5)]) hx hb dX2_game_104 hl (k := 4) rfl (by rw [ev2]; rfl) (by decide) rfl (fun ls hl => ?_)
  refine lv_goto (tgt := 62) hx hb dX2_game_107 (by decide) ?_
  exact hk62 t1 x3 x4 x5 v2 H locs hT hS ls h (lv_sub hl [1, 2, 3, 4, 0] rfl)
theorem bX2_game_98 {p : Program} {l : Launch} {e : Env} {s : State} {m : MethodId} {args : Array Value} {below : List Frame} {meth : Method} {c : Code} {D : va_G} {dA : Nat → ClassId} {b : Nat} {r : Int32} {t9 : TS} (C : cx p s m args meth c cX2_game RX2 7 (some .int)) (hK : kk D dA s) {k62 : TS → Int32 → Int32 → Int32 → Int32 → Option (Int32 × TS)} (hk62 : ∀ (t : TS) (x3 : Int32) (x4 : Int32) (x5 : Int32) (x6 : Int32) (H : Heap) (locs : List Loc) (hT : wd D (tw dA b t) H) (hS : tS b s.heap H locs) (ls : Array Slot), k62 t x3 x4 x5 x6 = some (r, t9) → lv_has ls 7 [(0, .ref b), (3, .int x3), (4, .int x4), (5, .int x5), (6, .int x6)] → W p l e rmX2_game s m args below meth c H locs 0 0 (MQ below (tQ D dA b t9 (some (.int r))) args s 0 0 (ta b)) (F0 m 62 ls [])) : ∀ (t : TS) (x3 : Int32) (x4 : Int32) (x5 : Int32) (x6 : Int32) (y1 : Int32) (H : Heap) (locs : List Loc) (hT : wd D (tw dA b t) H) (hS : tS b s.heap H locs) (ls : Array Slot), T_game_98 k62 t x3 x4 x5 x6 y1 = some (r, t9) → lv_has ls 7 [(0, .ref b), (3, .int x3), (4, .int x4), (5, .int x5), (6, .int x6)] → W p l e rmX2_game s m args below meth c H locs 0 0 (MQ below (tQ D dA b t9 (some (.int r))) args s 0 0 (ta b)) (F0 m 98 ls [.int y1, .ref (b + 14)]) := by
  obtain ⟨hx, hb, hr, hml, hown, hts, hlocks⟩ := id C
  intro t x3 x4 x5 x6 y1 H locs hT hS ls h hl
  unfold T_game_98 at h
  refine lv_iconst (v := 1) hx hb dX2_game_98 (by decide) ?_
  refine lv_goto (tgt := 103) hx hb dX2_game_99 (by decide) ?_
  exact bX2_game_103 C hK hk62 t x3 x4 x5 x6 y1 (1 : Int32) H locs hT hS ls h (lv_sub hl [0, 1, 2, 3, 4] rfl)
theorem bX2_game_62 {p : Program} {l : Launch} {e : Env} {s : State} {m : MethodId} {args : Array Value} {below : List Frame} {meth : Method} {c : Code} {D : va_G} {dA : Nat → ClassId} {b : Nat} {r : Int32} {t9 : TS} (C : cx p s m args meth c cX2_game RX2 7 (some .int)) (hK : kk D dA s) {k35 : TS → Int32 → Int32 → Int32 → Option (Int32 × TS)} (hk35 : ∀ (t : TS) (x3 : Int32) (x4 : Int32) (x5 : Int32) (H : Heap) (locs : List Loc) (hT : wd D (tw dA b t) H) (hS : tS b s.heap H locs) (ls : Array Slot), k35 t x3 x4 x5 = some (r, t9) → lv_has ls 7 [(0, .ref b), (3, .int x3), (4, .int x4), (5, .int x5)] → W p l e rmX2_game s m args below meth c H locs 0 0 (MQ below (tQ D dA b t9 (some (.int r))) args s 0 0 (ta b)) (F0 m 35 ls [])) : ∀ (n : Nat), ∀ (t : TS) (x3 : Int32) (x4 : Int32) (x5 : Int32) (x6 : Int32) (H : Heap) (locs : List Loc) (hT : wd D (tw dA b t) H) (hS : tS b s.heap H locs) (ls : Array Slot), T_game_62 k35 n t x3 x4 x5 x6 = some (r, t9) → lv_has ls 7 [(0, .ref b), (3, .int x3), (4, .int x4), (5, .int x5), (6, .int x6)] → W p l e rmX2_game s m args below meth c H locs 0 0 (MQ below (tQ D dA b t9 (some (.int r))) args s 0 0 (ta b)) (F0 m 62 ls []) := by
  obtain ⟨hx, hb, hr, hml, hown, hts, hlocks⟩ := id C
  intro n
  induction n with
  | zero =>
    intro t x3 x4 x5 x6 H locs hT hS ls h hl
    have h : none = some _ := h
    cases h
  | succ n ih =>
    intro t x3 x4 x5 x6 H locs hT hS ls h hl
    rw [T_game_62] at h
    refine lv_iload hx hb dX2_game_62 (lv_at hl 4 rfl) ?_
    refine lv_aload_n hx hb dX2_game_64 rfl (lv_at hl 0 rfl) ?_
    refine tg33 C hK hT dX2_game_65 ?_
    refine lv_icmp_ge (tgt := 110) hx hb dX2_game_68 (by decide) (fun c => ?_) (fun c => ?_)
    · replace h := if_t c h
      obtain ⟨v1, ev1⟩ : ∃ y : Int32, y = x5 + (-1 : Int32) := ⟨_, rfl⟩
      replace h := lt1_sub ev1 h
      refine lv_iinc (v := v1) (lv' := [(5, .int v1), (0, .ref b), (3, .int x3), (4, .int x4), (6, .int x6)]) hx hb dX2_game_110 hl (k := 3) rfl (by rw [ev1]; rfl) (by decide) rfl (fun ls hl => ?_)
      refine lv_goto (tgt := 35) hx hb dX2_game_113 (by decide) ?_
      exact hk35 t x3 x4 v1 H locs hT hS ls h (lv_sub hl [1, 2, 3, 0] rfl)
    · replace h := if_f c h
      refine lv_aload_n hx hb dX2_game_71 rfl (lv_at hl 0 rfl) ?_
      refine tg32 C hK hT dX2_game_72 ?_
      refine lv_iload hx hb dX2_game_75 (lv_at hl 3 rfl) ?_
      refine lv_aload_n hx hb dX2_game_77 rfl (lv_at hl 0 rfl) ?_
      refine tg32 C hK hT dX2_game_78 ?_
      refine lv_iload hx hb dX2_game_81 (lv_at hl 3 rfl) ?_
      obtain ⟨hi, h⟩ := ck_some h
      refine tl32 C hK hT hi dX2_game_83 ?_
      refine lv_if_ne (tgt := 98) hx hb dX2_game_84 (by decide) (fun c => ?_) (fun c => ?_)
      · replace h := if_f c h
        exact bX2_game_98 C hK ih t x3 x4 x5 x6 x5 H locs hT hS ls h (lv_sub hl [0, 1, 2, 3, 4] rfl)
      · replace h := if_t c h
        refine lv_aload_n hx hb dX2_game_87 rfl (lv_at hl 0 rfl) ?_
        refine lv_iload hx hb dX2_game_88 (lv_at hl 3 rfl) ?_
        refine lv_iload hx hb dX2_game_90 (lv_at hl 4 rfl) ?_
        obtain ⟨v2, hv2, h⟩ := bd1_some h
        refine r_int (run_t (As := [.int x5, .int x6]) (rest := [.int x5, .ref (b + 14)]) C hK hT (mX2_isGood hv2) q2139 q2141 qs143 q162 q2142 ⟨rfl, rfl⟩ hdX2_isGood ⟨Nat.le_of_ble_eq_true rfl, Nat.le_of_ble_eq_true rfl⟩ ⟨Nat.zero_le _, Nat.zero_le _⟩ rfl hl.1 rfl (Nat.le_of_ble_eq_true rfl) dX2_game_92) ?_
        refine lv_if_eq (tgt := 102) hx hb dX2_game_95 (by decide) (fun c => ?_) (fun c => ?_)
        · replace h := if_t c h
          refine lv_iconst (v := 0) hx hb dX2_game_102 (by decide) ?_
          exact bX2_game_103 C hK ih t x3 x4 x5 x6 x5 (0 : Int32) H locs hT hS ls h (lv_sub hl [0, 1, 2, 3, 4] rfl)
        · replace h := if_f c h
          exact bX2_game_98 C hK ih t x3 x4 x5 x6 x5 H locs hT hS ls h (lv_sub hl [0, 1, 2, 3, 4] rfl)
theorem bX2_game_58 {p : Program} {l : Launch} {e : Env} {s : State} {m : MethodId} {args : Array Value} {below : List Frame} {meth : Method} {c : Code} {D : va_G} {dA : Nat → ClassId} {b : Nat} {r : Int32} {t9 : TS} (C : cx p s m args meth c cX2_game RX2 7 (some .int)) (hK : kk D dA s) {k35 : TS → Int32 → Int32 → Int32 → Option (Int32 × TS)} (hk35 : ∀ (t : TS) (x3 : Int32) (x4 : Int32) (x5 : Int32) (H : Heap) (locs : List Loc) (hT : wd D (tw dA b t) H) (hS : tS b s.heap H locs) (ls : Array Slot), k35 t x3 x4 x5 = some (r, t9) → lv_has ls 7 [(0, .ref b), (3, .int x3), (4, .int x4), (5, .int x5)] → W p l e rmX2_game s m args below meth c H locs 0 0 (MQ below (tQ D dA b t9 (some (.int r))) args s 0 0 (ta b)) (F0 m 35 ls [])) : ∀ (t : TS) (x3 : Int32) (x4 : Int32) (x5 : Int32) (y1 : Int32) (y2 : Int32) (H : Heap) (locs : List Loc) (hT : wd D (tw dA b t) H) (hS : tS b s.heap H locs) (ls : Array Slot), T_game_58 k35 t x3 x4 x5 y1 y2 = some (r, t9) → lv_has ls 7 [(0, .ref b), (3, .int x3), (4, .int x4), (5, .int x5)] → W p l e rmX2_game s m args below meth c H locs 0 0 (MQ below (tQ D dA b t9 (some (.int r))) args s 0 0 (ta b)) (F0 m 58 ls [.int y2, .int y1, .ref (b + 14)]) := by
  obtain ⟨hx, hb, hr, hml, hown, hts, hlocks⟩ := id C
  intro t x3 x4 x5 y1 y2 H locs hT hS ls h hl
  unfold T_game_58 at h
  obtain ⟨hi, h⟩ := ck_some h
  refine ts32 C hK hT hS hi dX2_game_58 (fun t1 H locs et1 hT hS => ?_)
  replace h := lt1_sub et1 h
  refine lv_iconst (v := 0) hx hb dX2_game_59 (by decide) ?_
  refine lv_istore (lv' := [(6, .int (0 : Int32)), (0, .ref b), (3, .int x3), (4, .int x4), (5, .int x5)]) hx hb dX2_game_60 hl (by decide) rfl (fun ls hl => ?_)
  exact bX2_game_62 C hK hk35 fu t1 x3 x4 x5 (0 : Int32) H locs hT hS ls h (lv_sub hl [1, 2, 3, 4, 0] rfl)
theorem bX2_game_138 {p : Program} {l : Launch} {e : Env} {s : State} {m : MethodId} {args : Array Value} {below : List Frame} {meth : Method} {c : Code} {D : va_G} {dA : Nat → ClassId} {b : Nat} {r : Int32} {t9 : TS} (C : cx p s m args meth c cX2_game RX2 7 (some .int)) (hK : kk D dA s) : ∀ (n : Nat), ∀ (t : TS) (x5 : Int32) (H : Heap) (locs : List Loc) (hT : wd D (tw dA b t) H) (hS : tS b s.heap H locs) (ls : Array Slot), T_game_138 n t x5 = some (r, t9) → lv_has ls 7 [(0, .ref b), (5, .int x5)] → W p l e rmX2_game s m args below meth c H locs 0 0 (MQ below (tQ D dA b t9 (some (.int r))) args s 0 0 (ta b)) (F0 m 138 ls []) := by
  obtain ⟨hx, hb, hr, hml, hown, hts, hlocks⟩ := id C
  intro n
  induction n with
  | zero =>
    intro t x5 H locs hT hS ls h hl
    have h : none = some _ := h
    cases h
  | succ n ih =>
    intro t x5 H locs hT hS ls h hl
    rw [T_game_138] at h
    refine lv_iload hx hb dX2_game_138 (lv_at hl 1 rfl) ?_
    refine lv_aload_n hx hb dX2_game_140 rfl (lv_at hl 0 rfl) ?_
    refine tg33 C hK hT dX2_game_141 ?_
    refine lv_icmp_ge (tgt := 171) hx hb dX2_game_144 (by decide) (fun c => ?_) (fun c => ?_)
    · replace h := if_t c h
      refine lv_iconst (v := -1) hx hb dX2_game_171 (by decide) ?_
      exact e_wi C hT hS h dX2_game_172
    · replace h := if_f c h
      refine lv_aload_n hx hb dX2_game_147 rfl (lv_at hl 0 rfl) ?_
      refine lv_iconst (v := 0) hx hb dX2_game_148 (by decide) ?_
      refine lv_iload hx hb dX2_game_149 (lv_at hl 1 rfl) ?_
      obtain ⟨v1, hv1, h⟩ := bd1_some h
      refine r_int (run_t (As := [.int (0 : Int32), .int x5]) (rest := []) C hK hT (mX2_isGood hv1) q2139 q2141 qs143 q162 q2142 ⟨rfl, rfl⟩ hdX2_isGood ⟨Nat.le_of_ble_eq_true rfl, Nat.le_of_ble_eq_true rfl⟩ ⟨Nat.zero_le _, Nat.zero_le _⟩ rfl hl.1 rfl (Nat.le_of_ble_eq_true rfl) dX2_game_151) ?_
      refine lv_if_eq (tgt := 165) hx hb dX2_game_154 (by decide) (fun c => ?_) (fun c => ?_)
      · replace h := if_t c h
        obtain ⟨v2, ev2⟩ : ∃ y : Int32, y = x5 + (1 : Int32) := ⟨_, rfl⟩
        replace h := lt1_sub ev2 h
        refine lv_iinc (v := v2) (lv' := [(5, .int v2), (0, .ref b)]) hx hb dX2_game_165 hl (k := 1) rfl (by rw [ev2]; rfl) (by decide) rfl (fun ls hl => ?_)
        refine lv_goto (tgt := 138) hx hb dX2_game_168 (by decide) ?_
        exact ih t v2 H locs hT hS ls h (lv_sub hl [1, 0] rfl)
      · replace h := if_f c h
        refine lv_aload_n hx hb dX2_game_157 rfl (lv_at hl 0 rfl) ?_
        refine tg30 C hK hT dX2_game_158 ?_
        refine lv_iload hx hb dX2_game_161 (lv_at hl 1 rfl) ?_
        obtain ⟨hi, h⟩ := ck_some h
        refine tl30 C hK hT hi dX2_game_163 ?_
        exact e_wi C hT hS h dX2_game_164
theorem bX2_game_35 {p : Program} {l : Launch} {e : Env} {s : State} {m : MethodId} {args : Array Value} {below : List Frame} {meth : Method} {c : Code} {D : va_G} {dA : Nat → ClassId} {b : Nat} {r : Int32} {t9 : TS} (C : cx p s m args meth c cX2_game RX2 7 (some .int)) (hK : kk D dA s) : ∀ (n : Nat), ∀ (t : TS) (x3 : Int32) (x4 : Int32) (x5 : Int32) (H : Heap) (locs : List Loc) (hT : wd D (tw dA b t) H) (hS : tS b s.heap H locs) (ls : Array Slot), T_game_35 n t x3 x4 x5 = some (r, t9) → lv_has ls 7 [(0, .ref b), (3, .int x3), (4, .int x4), (5, .int x5)] → W p l e rmX2_game s m args below meth c H locs 0 0 (MQ below (tQ D dA b t9 (some (.int r))) args s 0 0 (ta b)) (F0 m 35 ls []) := by
  obtain ⟨hx, hb, hr, hml, hown, hts, hlocks⟩ := id C
  intro n
  induction n with
  | zero =>
    intro t x3 x4 x5 H locs hT hS ls h hl
    have h : none = some _ := h
    cases h
  | succ n ih =>
    intro t x3 x4 x5 H locs hT hS ls h hl
    rw [T_game_35] at h
    refine lv_iload hx hb dX2_game_35 (lv_at hl 3 rfl) ?_
    refine lv_if_lt (tgt := 116) hx hb dX2_game_37 (by decide) (fun c => ?_) (fun c => ?_)
    · replace h := if_t c h
      refine lv_iload_n hx hb dX2_game_116 rfl (lv_at hl 1 rfl) ?_
      refine lv_if_ne (tgt := 135) hx hb dX2_game_117 (by decide) (fun c => ?_) (fun c => ?_)
      · replace h := if_f c h
        refine lv_iconst (v := 0) hx hb dX2_game_135 (by decide) ?_
        refine lv_istore (lv' := [(5, .int (0 : Int32)), (0, .ref b), (3, .int x3), (4, .int x4)]) hx hb dX2_game_136 hl (by decide) rfl (fun ls hl => ?_)
        exact bX2_game_138 C hK fu t (0 : Int32) H locs hT hS ls h (lv_sub hl [1, 0] rfl)
      · replace h := if_t c h
        refine lv_aload_n hx hb dX2_game_120 rfl (lv_at hl 0 rfl) ?_
        refine tg32 C hK hT dX2_game_121 ?_
        refine lv_iconst (v := 0) hx hb dX2_game_124 (by decide) ?_
        obtain ⟨hi, h⟩ := ck_some h
        refine tl32 C hK hT hi dX2_game_125 ?_
        refine lv_if_eq (tgt := 133) hx hb dX2_game_126 (by decide) (fun c => ?_) (fun c => ?_)
        · replace h := if_t c h
          refine lv_iconst (v := 0) hx hb dX2_game_133 (by decide) ?_
          exact e_wi C hT hS h dX2_game_134
        · replace h := if_f c h
          refine lv_iconst (v := 1) hx hb dX2_game_129 (by decide) ?_
          refine lv_goto (tgt := 134) hx hb dX2_game_130 (by decide) ?_
          exact e_wi C hT hS h dX2_game_134
    · replace h := if_f c h
      refine lv_aload_n hx hb dX2_game_40 rfl (lv_at hl 0 rfl) ?_
      refine tg32 C hK hT dX2_game_41 ?_
      refine lv_iload hx hb dX2_game_44 (lv_at hl 3 rfl) ?_
      refine lv_iload hx hb dX2_game_46 (lv_at hl 3 rfl) ?_
      refine lv_iload hx hb dX2_game_48 (lv_at hl 2 rfl) ?_
      refine lv_icmp_ne (tgt := 57) hx hb dX2_game_50 (by decide) (fun c => ?_) (fun c => ?_)
      · replace h := if_f c h
        refine lv_iconst (v := 0) hx hb dX2_game_57 (by decide) ?_
        exact bX2_game_58 C hK ih t x3 x4 x5 x5 (0 : Int32) H locs hT hS ls h (lv_sub hl [0, 1, 2, 3] rfl)
      · replace h := if_t c h
        refine lv_iconst (v := 1) hx hb dX2_game_53 (by decide) ?_
        refine lv_goto (tgt := 58) hx hb dX2_game_54 (by decide) ?_
        exact bX2_game_58 C hK ih t x3 x4 x5 x5 (1 : Int32) H locs hT hS ls h (lv_sub hl [0, 1, 2, 3] rfl)
theorem bX2_game {p : Program} {l : Launch} {e : Env} {s : State} {m : MethodId} {args : Array Value} {below : List Frame} {meth : Method} {c : Code} {D : va_G} {dA : Nat → ClassId} {b : Nat} {r : Int32} {t9 : TS} (C : cx p s m args meth c cX2_game RX2 7 (some .int)) (hK : kk D dA s) : ∀ (t : TS) (x1 : Int32) (x2 : Int32) (x3 : Int32) (H : Heap) (locs : List Loc) (hT : wd D (tw dA b t) H) (hS : tS b s.heap H locs) (ls : Array Slot), T_game t x1 x2 x3 = some (r, t9) → lv_has ls 7 [(0, .ref b), (1, .int x1), (2, .int x2), (3, .int x3)] → W p l e rmX2_game s m args below meth c H locs 0 0 (MQ below (tQ D dA b t9 (some (.int r))) args s 0 0 (ta b)) (F0 m 0 ls []) := by
  obtain ⟨hx, hb, hr, hml, hown, hts, hlocks⟩ := id C
  intro t x1 x2 x3 H locs hT hS ls h hl
  unfold T_game at h
  refine lv_aload_n hx hb dX2_game_0 rfl (lv_at hl 0 rfl) ?_
  refine lv_iload_n hx hb dX2_game_1 rfl (lv_at hl 1 rfl) ?_
  refine lv_iload_n hx hb dX2_game_2 rfl (lv_at hl 2 rfl) ?_
  obtain ⟨v1, t2, ht2, h⟩ := bd2_some h
  refine w_int hS (run_t (As := [.int x1, .int x2]) (rest := []) C hK hT (mX2_layGroup ht2) q2101 q2103 qs139 q162 q2104 ⟨rfl, rfl⟩ hdX2_layGroup ⟨Nat.le_of_ble_eq_true rfl, Nat.le_of_ble_eq_true rfl⟩ ⟨Nat.zero_le _, Nat.zero_le _⟩ rfl hl.1 rfl (Nat.le_of_ble_eq_true rfl) dX2_game_3) (fun H locs hT hS => ?_)
  refine lv_if_eq (tgt := 18) hx hb dX2_game_6 (by decide) (fun c => ?_) (fun c => ?_)
  · replace h := if_t c h
    refine lv_bipush (v := -2) hx hb dX2_game_18 (by decide) ?_
    exact e_wi C hT hS h dX2_game_20
  · replace h := if_f c h
    refine lv_aload_n hx hb dX2_game_9 rfl (lv_at hl 0 rfl) ?_
    refine tg31 C hK hT dX2_game_10 ?_
    refine lv_iconst (v := 0) hx hb dX2_game_13 (by decide) ?_
    obtain ⟨hi, h⟩ := ck_some h
    refine tl31 C hK hT hi dX2_game_14 ?_
    refine lv_if_eq (tgt := 21) hx hb dX2_game_15 (by decide) (fun c => ?_) (fun c => ?_)
    · replace h := if_t c h
      refine lv_iconst (v := 1) hx hb dX2_game_21 (by decide) ?_
      refine lv_aload_n hx hb dX2_game_22 rfl (lv_at hl 0 rfl) ?_
      refine tg33 C hK hT dX2_game_23 ?_
      refine lv_ishl hx hb dX2_game_26 ?_
      refine lv_iconst (v := 1) hx hb dX2_game_27 (by decide) ?_
      refine lv_isub hx hb dX2_game_28 ?_
      refine lv_topi (fun v3 ev3 => ?_)
      replace h := lt1_sub ev3 h
      refine lv_istore (lv' := [(4, .int v3), (0, .ref b), (1, .int x1), (2, .int x2), (3, .int x3)]) hx hb dX2_game_29 hl (by decide) rfl (fun ls hl => ?_)
      refine lv_iload hx hb dX2_game_31 (lv_at hl 0 rfl) ?_
      refine lv_istore (lv' := [(5, .int v3), (4, .int v3), (0, .ref b), (1, .int x1), (2, .int x2), (3, .int x3)]) hx hb dX2_game_33 hl (by decide) rfl (fun ls hl => ?_)
      exact bX2_game_35 C hK fu t2 x3 v3 v3 H locs hT hS ls h (lv_sub hl [2, 5, 1, 0] rfl)
    · replace h := if_f c h
      refine lv_bipush (v := -2) hx hb dX2_game_18 (by decide) ?_
      exact e_wi C hT hS h dX2_game_20
theorem mX2_game {l : Launch} {D : va_G} {dA : Nat → ClassId} {b : Nat} {t : TS} {x1 : Int32} {x2 : Int32} {x3 : Int32} {r : Int32} {t9 : TS} (h : T_game t x1 x2 x3 = some (r, t9)) : Met l yX2_game (ws_ yX2_game cX2_game 7 (some .int)) rmX2_game (tPc D dA b t [.ref b, .int x1, .int x2, .int x3]) (tQ D dA b t9 (some (.int r))) 0 0 (ta b) := en_R (by decide +kernel) rfl (Nat.le_of_ble_eq_true rfl) (fun p e s m below meth c ls C hK hT hl => bX2_game C hK t x1 x2 x3 _ [] hT tS.rf ls h hl)
