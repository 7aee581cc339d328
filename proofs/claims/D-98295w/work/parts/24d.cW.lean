/-! the component's walks, 3 (written by gen/gen_comp.py) -/
set_option maxRecDepth 20000
set_option maxRecDepth 20000 in
abbrev rmX0_power : Room := { frames := 66, cells := 0, slots := 0, locals := 1388 }
theorem hdX0_power : yX0_power.cls = RX0 ∧ yX0_power.cls ≠ "java/lang/invoke/MethodHandle" ∧ yX0_power.cls ≠ "java/lang/invoke/VarHandle" ∧ (parseMethodDescriptor yX0_power.desc).map (fun d => d.parameters.length) = some 4 := by decide +kernel
theorem bX0_power_p124 {p : Program} {l : Launch} {e : Env} {s : State} {m : MethodId} {args : Array Value} {below : List Frame} {meth : Method} {c : Code} {D : va_G} {dA : Nat → ClassId} {a : Nat} {k : KP a} {t0 : CS} {r : Int32} {t9 : CS} (C : cx p s m args meth c cX0_power RX0 11 (some .int)) {k57 : CS → Int32 → Int32 → Int32 → Int32 → Int32 → Int32 → Int32 → Int32 → Option (Int32 × CS)} (hk57 : ∀ (t : CS) (x1 : Int32) (x3 : Int32) (x4 : Int32) (x5 : Int32) (x6 : Int32) (x7 : Int32) (x8 : Int32) (x9 : Int32) (H : Heap) (locs : List Loc) (hT : cW D dA a k t H) (hS : cS a s.heap H locs t0.2.2.2 0 t) (hK : kC D dA a k t.2.2.2 s) (ls : Array Slot), k57 t x1 x3 x4 x5 x6 x7 x8 x9 = some (r, t9) → lv_has ls 11 [(0, .ref a), (1, .int x1), (3, .int x3), (4, .int x4), (5, .int x5), (6, .int x6), (7, .int x7), (8, .int x8), (9, .int x9)] → W p l e rmX0_power s m args below meth c H locs 0 0 (MQ below (cQ D dA a k 0 t0 t9 (some (.int r))) args s 0 0 (ca a)) (F0 m 57 ls [])) : ∀ (t : CS) (x1 : Int32) (x3 : Int32) (x4 : Int32) (x5 : Int32) (x6 : Int32) (x7 : Int32) (x8 : Int32) (y0 : Int32) (H : Heap) (locs : List Loc) (hT : cW D dA a k t H) (hS : cS a s.heap H locs t0.2.2.2 0 t) (hK : kC D dA a k t.2.2.2 s) (ls : Array Slot), C_power_p124 k57 t x1 x3 x4 x5 x6 x7 x8 y0 = some (r, t9) → lv_has ls 11 [(0, .ref a), (1, .int x1), (3, .int x3), (4, .int x4), (5, .int x5), (6, .int x6), (7, .int x7), (8, .int x8)] → W p l e rmX0_power s m args below meth c H locs 0 0 (MQ below (cQ D dA a k 0 t0 t9 (some (.int r))) args s 0 0 (ca a)) (F0 m 124 ls [.int y0]) := by
  obtain ⟨hx, hb, hr, hml, hown, hts, hlocks⟩ := id C
  intro t x1 x3 x4 x5 x6 x7 x8 y0 H locs hT hS hK ls h hl
  unfold C_power_p124 at h
  refine lv_istore (lv' := [(9, .int y0), (0, .ref a), (1, .int x1), (3, .int x3), (4, .int x4), (5, .int x5), (6, .int x6), (7, .int x7), (8, .int x8)]) hx hb dX0_power_124 hl (by decide) rfl (fun ls hl => ?_)
  refine lv_iload hx hb dX0_power_126 (lv_at hl 8 rfl) ?_
  refine lv_iconst (v := 1) hx hb dX0_power_128 (by decide) ?_
  refine lv_isub hx hb dX0_power_129 ?_
  refine lv_iload hx hb dX0_power_130 (lv_at hl 5 rfl) ?_
  refine lv_iand hx hb dX0_power_132 ?_
  refine lv_topi (fun v1 ev1 => ?_)
  replace h := lt1_sub ev1 h
  refine lv_istore (lv' := [(8, .int v1), (9, .int y0), (0, .ref a), (1, .int x1), (3, .int x3), (4, .int x4), (5, .int x5), (6, .int x6), (7, .int x7)]) hx hb dX0_power_133 hl (by decide) rfl (fun ls hl => ?_)
  refine lv_goto (tgt := 57) hx hb dX0_power_135 (by decide) ?_
  exact hk57 t x1 x3 x4 x5 x6 x7 v1 y0 H locs hT hS hK ls h (lv_sub hl [2, 3, 4, 5, 6, 7, 8, 0, 1] rfl)
theorem bX0_power_p114 {p : Program} {l : Launch} {e : Env} {s : State} {m : MethodId} {args : Array Value} {below : List Frame} {meth : Method} {c : Code} {D : va_G} {dA : Nat → ClassId} {a : Nat} {k : KP a} {t0 : CS} {r : Int32} {t9 : CS} (C : cx p s m args meth c cX0_power RX0 11 (some .int)) {k57 : CS → Int32 → Int32 → Int32 → Int32 → Int32 → Int32 → Int32 → Int32 → Option (Int32 × CS)} (hk57 : ∀ (t : CS) (x1 : Int32) (x3 : Int32) (x4 : Int32) (x5 : Int32) (x6 : Int32) (x7 : Int32) (x8 : Int32) (x9 : Int32) (H : Heap) (locs : List Loc) (hT : cW D dA a k t H) (hS : cS a s.heap H locs t0.2.2.2 0 t) (hK : kC D dA a k t.2.2.2 s) (ls : Array Slot), k57 t x1 x3 x4 x5 x6 x7 x8 x9 = some (r, t9) → lv_has ls 11 [(0, .ref a), (1, .int x1), (3, .int x3), (4, .int x4), (5, .int x5), (6, .int x6), (7, .int x7), (8, .int x8), (9, .int x9)] → W p l e rmX0_power s m args below meth c H locs 0 0 (MQ below (cQ D dA a k 0 t0 t9 (some (.int r))) args s 0 0 (ca a)) (F0 m 57 ls [])) : ∀ (t : CS) (x1 : Int32) (x3 : Int32) (x4 : Int32) (x5 : Int32) (x6 : Int32) (x7 : Int32) (x8 : Int32) (H : Heap) (locs : List Loc) (hT : cW D dA a k t H) (hS : cS a s.heap H locs t0.2.2.2 0 t) (hK : kC D dA a k t.2.2.2 s) (ls : Array Slot), C_power_p114 k57 t x1 x3 x4 x5 x6 x7 x8 = some (r, t9) → lv_has ls 11 [(0, .ref a), (1, .int x1), (3, .int x3), (4, .int x4), (5, .int x5), (6, .int x6), (7, .int x7), (8, .int x8)] → W p l e rmX0_power s m args below meth c H locs 0 0 (MQ below (cQ D dA a k 0 t0 t9 (some (.int r))) args s 0 0 (ca a)) (F0 m 114 ls []) := by
  obtain ⟨hx, hb, hr, hml, hown, hts, hlocks⟩ := id C
  intro t x1 x3 x4 x5 x6 x7 x8 H locs hT hS hK ls h hl
  unfold C_power_p114 at h
  refine lv_iload hx hb dX0_power_114 (lv_at hl 7 rfl) ?_
  refine lv_if_eq (tgt := 123) hx hb dX0_power_116 (by decide) (fun c => ?_) (fun c => ?_)
  · replace h := if_t c h
    refine lv_iconst (v := 0) hx hb dX0_power_123 (by decide) ?_
    exact bX0_power_p124 C hk57 t x1 x3 x4 x5 x6 x7 x8 (0 : Int32) H locs hT hS hK ls h (lv_sub hl [0, 1, 2, 3, 4, 5, 6, 7] rfl)
  · replace h := if_f c h
    refine lv_iconst (v := 1) hx hb dX0_power_119 (by decide) ?_
    refine lv_goto (tgt := 124) hx hb dX0_power_120 (by decide) ?_
    exact bX0_power_p124 C hk57 t x1 x3 x4 x5 x6 x7 x8 (1 : Int32) H locs hT hS hK ls h (lv_sub hl [0, 1, 2, 3, 4, 5, 6, 7] rfl)
theorem bX0_power_p57 {p : Program} {l : Launch} {e : Env} {s : State} {m : MethodId} {args : Array Value} {below : List Frame} {meth : Method} {c : Code} {D : va_G} {dA : Nat → ClassId} {a : Nat} {k : KP a} {t0 : CS} {r : Int32} {t9 : CS} (C : cx p s m args meth c cX0_power RX0 11 (some .int)) : ∀ (n : Nat), ∀ (t : CS) (x1 : Int32) (x3 : Int32) (x4 : Int32) (x5 : Int32) (x6 : Int32) (x7 : Int32) (x8 : Int32) (x9 : Int32) (H : Heap) (locs : List Loc) (hT : cW D dA a k t H) (hS : cS a s.heap H locs t0.2.2.2 0 t) (hK : kC D dA a k t.2.2.2 s) (ls : Array Slot), C_power_p57 n t x1 x3 x4 x5 x6 x7 x8 x9 = some (r, t9) → lv_has ls 11 [(0, .ref a), (1, .int x1), (3, .int x3), (4, .int x4), (5, .int x5), (6, .int x6), (7, .int x7), (8, .int x8), (9, .int x9)] → W p l e rmX0_power s m args below meth c H locs 0 0 (MQ below (cQ D dA a k 0 t0 t9 (some (.int r))) args s 0 0 (ca a)) (F0 m 57 ls []) := by
  obtain ⟨hx, hb, hr, hml, hown, hts, hlocks⟩ := id C
  intro n
  induction n with
  | zero =>
    intro t x1 x3 x4 x5 x6 x7 x8 x9 H locs hT hS hK ls h hl
    have h : none = some _ := h
    cases h
  | succ n ih =>
    intro t x1 x3 x4 x5 x6 x7 x8 x9 H locs hT hS hK ls h hl
    rw [C_power_p57] at h
    refine lv_iload hx hb dX0_power_57 (lv_at hl 8 rfl) ?_
    refine lv_if_eq (tgt := 138) hx hb dX0_power_59 (by decide) (fun c => ?_) (fun c => ?_)
    · replace h := if_t c h
      refine lv_iload hx hb dX0_power_138 (lv_at hl 6 rfl) ?_
      refine lv_iload hx hb dX0_power_140 (lv_at hl 5 rfl) ?_
      obtain ⟨v1, hv1, h⟩ := bd1_some h
      refine r_int (run_s (As := [.int x6]) (rest := [.int x7]) C (mX0_orders 64 _ _ hv1) q1379 q1380 q158 q1381 ⟨rfl, rfl⟩ hdX0_orders ⟨Nat.le_of_ble_eq_true rfl, Nat.le_of_ble_eq_true rfl⟩ ⟨Nat.zero_le _, Nat.zero_le _⟩ rfl hl.1 rfl (Nat.le_of_ble_eq_true rfl) dX0_power_142) ?_
      refine lv_iload hx hb dX0_power_145 (lv_at hl 3 rfl) ?_
      obtain ⟨v2, hv2, h⟩ := bd1_some h
      refine r_int (run_s (As := [.int x7, .int v1, .int x4]) (rest := []) C (mX0_inLowest hv2) q1382 q1383 q158 q1384 ⟨rfl, rfl⟩ hdX0_inLowest ⟨Nat.le_of_ble_eq_true rfl, Nat.le_of_ble_eq_true rfl⟩ ⟨Nat.zero_le _, Nat.zero_le _⟩ rfl hl.1 rfl (Nat.le_of_ble_eq_true rfl) dX0_power_147) ?_
      exact ec_i C hT hS h dX0_power_150
    · replace h := if_f c h
      refine lv_iload hx hb dX0_power_62 (lv_at hl 7 rfl) ?_
      obtain ⟨v3, hv3, h⟩ := bd1_some h
      refine r_int (run_s (As := [.int x8]) (rest := []) C (mJ5_bitCount hv3) q1079 q1080 q168 q1081 ⟨rfl, rfl⟩ hdJ5_bitCount ⟨Nat.le_of_ble_eq_true rfl, Nat.le_of_ble_eq_true rfl⟩ ⟨Nat.zero_le _, Nat.zero_le _⟩ rfl hl.1 rfl (Nat.le_of_ble_eq_true rfl) dX0_power_64) ?_
      refine lv_istore (lv' := [(10, .int v3), (0, .ref a), (1, .int x1), (3, .int x3), (4, .int x4), (5, .int x5), (6, .int x6), (7, .int x7), (8, .int x8), (9, .int x9)]) hx hb dX0_power_67 hl (by decide) rfl (fun ls hl => ?_)
      refine lv_aload_n hx hb dX0_power_69 rfl (lv_at hl 1 rfl) ?_
      refine lv_iload_n hx hb dX0_power_70 rfl (lv_at hl 2 rfl) ?_
      refine lv_iload hx hb dX0_power_71 (lv_at hl 8 rfl) ?_
      obtain ⟨v4, t5, ht5, h⟩ := bd2_some h
      refine wc_int hS hK (run_c (As := [.int x1, .int x8]) (rest := []) C hK hT hS.2.1 (rv_X hK hT) (mX0_says ht5) q1221 q1223 qs37 q158 q1224 ⟨rfl, rfl⟩ hdX0_says ⟨Nat.le_of_ble_eq_true rfl, Nat.le_of_ble_eq_true rfl⟩ ⟨Nat.zero_le _, Nat.zero_le _⟩ rfl hl.1 rfl (Nat.le_of_ble_eq_true rfl) dX0_power_73) (fun H locs hT hS hK hNt5 => ?_)
      refine lv_if_eq (tgt := 114) hx hb dX0_power_76 (by decide) (fun c => ?_) (fun c => ?_)
      · replace h := if_t c h
        exact bX0_power_p114 C ih t5 x1 x3 x4 x5 x6 x7 x8 H locs hT hS hK ls h (lv_sub hl [1, 2, 3, 4, 5, 6, 7, 8] rfl)
      · replace h := if_f c h
        refine lv_aload_n hx hb dX0_power_79 rfl (lv_at hl 1 rfl) ?_
        refine lv_iload_n hx hb dX0_power_80 rfl (lv_at hl 2 rfl) ?_
        refine lv_iload hx hb dX0_power_81 (lv_at hl 8 rfl) ?_
        refine lv_iconst (v := 1) hx hb dX0_power_83 (by decide) ?_
        refine lv_iload_n hx hb dX0_power_84 rfl (lv_at hl 3 rfl) ?_
        refine lv_ishl hx hb dX0_power_85 ?_
        refine lv_ior hx hb dX0_power_86 ?_
        obtain ⟨v6, t7, ht7, h⟩ := bd2_some h
        refine wc_int hS hK (run_c (As := [.int x1, .int (x8 ||| ((1 : Int32) <<< (x3 &&& (31 : Int32))))]) (rest := []) C hK hT hS.2.1 (rv_X hK hT) (mX0_says ht7) q1221 q1223 qs37 q158 q1224 ⟨rfl, rfl⟩ hdX0_says ⟨Nat.le_of_ble_eq_true rfl, Nat.le_of_ble_eq_true rfl⟩ ⟨Nat.zero_le _, Nat.zero_le _⟩ rfl hl.1 rfl (Nat.le_of_ble_eq_true rfl) dX0_power_87) (fun H locs hT hS hK hNt7 => ?_)
        refine lv_if_ne (tgt := 114) hx hb dX0_power_90 (by decide) (fun c => ?_) (fun c => ?_)
        · replace h := if_f c h
          exact bX0_power_p114 C ih t7 x1 x3 x4 x5 x6 x7 x8 H locs hT hS hK ls h (lv_sub hl [1, 2, 3, 4, 5, 6, 7, 8] rfl)
        · replace h := if_t c h
          refine lv_iload hx hb dX0_power_93 (lv_at hl 7 rfl) ?_
          refine lv_iload hx hb dX0_power_95 (lv_at hl 0 rfl) ?_
          obtain ⟨v8, hv8, h⟩ := bd1_some h
          refine r_int (run_s (As := [.int v3]) (rest := [.int x7]) C (mX0_orders 64 _ _ hv8) q1379 q1380 q158 q1381 ⟨rfl, rfl⟩ hdX0_orders ⟨Nat.le_of_ble_eq_true rfl, Nat.le_of_ble_eq_true rfl⟩ ⟨Nat.zero_le _, Nat.zero_le _⟩ rfl hl.1 rfl (Nat.le_of_ble_eq_true rfl) dX0_power_97) ?_
          refine lv_iload hx hb dX0_power_100 (lv_at hl 6 rfl) ?_
          refine lv_iconst (v := 1) hx hb dX0_power_102 (by decide) ?_
          refine lv_isub hx hb dX0_power_103 ?_
          refine lv_iload hx hb dX0_power_104 (lv_at hl 0 rfl) ?_
          refine lv_isub hx hb dX0_power_106 ?_
          obtain ⟨v9, hv9, h⟩ := bd1_some h
          refine r_int (run_s (As := [.int ((x6 - (1 : Int32)) - v3)]) (rest := [.int v8, .int x7]) C (mX0_orders 64 _ _ hv9) q1379 q1380 q158 q1381 ⟨rfl, rfl⟩ hdX0_orders ⟨Nat.le_of_ble_eq_true rfl, Nat.le_of_ble_eq_true rfl⟩ ⟨Nat.zero_le _, Nat.zero_le _⟩ rfl hl.1 rfl (Nat.le_of_ble_eq_true rfl) dX0_power_107) ?_
          refine lv_imul hx hb dX0_power_110 ?_
          refine lv_iadd hx hb dX0_power_111 ?_
          refine lv_topi (fun v10 ev10 => ?_)
          replace h := lt1_sub ev10 h
          refine lv_istore (lv' := [(7, .int v10), (10, .int v3), (0, .ref a), (1, .int x1), (3, .int x3), (4, .int x4), (5, .int x5), (6, .int x6), (8, .int x8), (9, .int x9)]) hx hb dX0_power_112 hl (by decide) rfl (fun ls hl => ?_)
          exact bX0_power_p114 C ih t7 x1 x3 x4 x5 x6 v10 x8 H locs hT hS hK ls h (lv_sub hl [2, 3, 4, 5, 6, 7, 0, 8] rfl)
theorem bX0_power {p : Program} {l : Launch} {e : Env} {s : State} {m : MethodId} {args : Array Value} {below : List Frame} {meth : Method} {c : Code} {D : va_G} {dA : Nat → ClassId} {a : Nat} {k : KP a} {t0 : CS} {r : Int32} {t9 : CS} (C : cx p s m args meth c cX0_power RX0 11 (some .int)) : ∀ (t : CS) (x1 : Int32) (x2 : Int32) (x3 : Int32) (x4 : Int32) (H : Heap) (locs : List Loc) (hT : cW D dA a k t H) (hS : cS a s.heap H locs t0.2.2.2 0 t) (hK : kC D dA a k t.2.2.2 s) (ls : Array Slot), C_power t x1 x2 x3 x4 = some (r, t9) → lv_has ls 11 [(0, .ref a), (1, .int x1), (2, .int x2), (3, .int x3), (4, .int x4)] → W p l e rmX0_power s m args below meth c H locs 0 0 (MQ below (cQ D dA a k 0 t0 t9 (some (.int r))) args s 0 0 (ca a)) (F0 m 0 ls []) := by
  obtain ⟨hx, hb, hr, hml, hown, hts, hlocks⟩ := id C
  intro t x1 x2 x3 x4 H locs hT hS hK ls h hl
  unfold C_power at h
  refine lv_aload_n hx hb dX0_power_0 rfl (lv_at hl 0 rfl) ?_
  refine lv_iload_n hx hb dX0_power_1 rfl (lv_at hl 1 rfl) ?_
  obtain ⟨v1, hv1, h⟩ := bd1_some h
  refine r_int (run_c (As := [.int x1]) (rest := []) C hK hT hS.2.1 (rv_X hK hT) (mX0_isSaying hv1) q1212 q1214 qs36 q158 q1215 ⟨rfl, rfl⟩ hdX0_isSaying ⟨Nat.le_of_ble_eq_true rfl, Nat.le_of_ble_eq_true rfl⟩ ⟨Nat.zero_le _, Nat.zero_le _⟩ rfl hl.1 rfl (Nat.le_of_ble_eq_true rfl) dX0_power_2) ?_
  refine lv_if_eq (tgt := 30) hx hb dX0_power_5 (by decide) (fun c => ?_) (fun c => ?_)
  · replace h := if_t c h
    refine lv_iconst (v := -1) hx hb dX0_power_30 (by decide) ?_
    exact ec_i C hT hS h dX0_power_31
  · replace h := if_f c h
    refine lv_iload_n hx hb dX0_power_8 rfl (lv_at hl 2 rfl) ?_
    obtain ⟨v2, hv2, h⟩ := bd1_some h
    refine r_int (run_s (As := [.int x2]) (rest := []) C (mX0_isGroup hv2) q1376 q1377 q158 q1378 ⟨rfl, rfl⟩ hdX0_isGroup ⟨Nat.le_of_ble_eq_true rfl, Nat.le_of_ble_eq_true rfl⟩ ⟨Nat.zero_le _, Nat.zero_le _⟩ rfl hl.1 rfl (Nat.le_of_ble_eq_true rfl) dX0_power_9) ?_
    refine lv_if_eq (tgt := 30) hx hb dX0_power_12 (by decide) (fun c => ?_) (fun c => ?_)
    · replace h := if_t c h
      refine lv_iconst (v := -1) hx hb dX0_power_30 (by decide) ?_
      exact ec_i C hT hS h dX0_power_31
    · replace h := if_f c h
      refine lv_iload_n hx hb dX0_power_15 rfl (lv_at hl 3 rfl) ?_
      obtain ⟨v3, hv3, h⟩ := bd1_some h
      refine r_int (run_s (As := [.int x3]) (rest := []) C (mX0_isLetter hv3) q338 q339 q158 q340 ⟨rfl, rfl⟩ hdX0_isLetter ⟨Nat.le_of_ble_eq_true rfl, Nat.le_of_ble_eq_true rfl⟩ ⟨Nat.zero_le _, Nat.zero_le _⟩ rfl hl.1 rfl (Nat.le_of_ble_eq_true rfl) dX0_power_16) ?_
      refine lv_if_eq (tgt := 30) hx hb dX0_power_19 (by decide) (fun c => ?_) (fun c => ?_)
      · replace h := if_t c h
        refine lv_iconst (v := -1) hx hb dX0_power_30 (by decide) ?_
        exact ec_i C hT hS h dX0_power_31
      · replace h := if_f c h
        refine lv_iload_n hx hb dX0_power_22 rfl (lv_at hl 2 rfl) ?_
        refine lv_iload_n hx hb dX0_power_23 rfl (lv_at hl 3 rfl) ?_
        obtain ⟨v4, hv4, h⟩ := bd1_some h
        refine r_int (run_s (As := [.int x2, .int x3]) (rest := []) C (mX0_has hv4) q344 q345 q158 q346 ⟨rfl, rfl⟩ hdX0_has ⟨Nat.le_of_ble_eq_true rfl, Nat.le_of_ble_eq_true rfl⟩ ⟨Nat.zero_le _, Nat.zero_le _⟩ rfl hl.1 rfl (Nat.le_of_ble_eq_true rfl) dX0_power_24) ?_
        refine lv_if_ne (tgt := 32) hx hb dX0_power_27 (by decide) (fun c => ?_) (fun c => ?_)
        · replace h := if_f c h
          refine lv_iload_n hx hb dX0_power_32 rfl (lv_at hl 2 rfl) ?_
          refine lv_iconst (v := 1) hx hb dX0_power_33 (by decide) ?_
          refine lv_iload_n hx hb dX0_power_34 rfl (lv_at hl 3 rfl) ?_
          refine lv_ishl hx hb dX0_power_35 ?_
          refine lv_iconst (v := -1) hx hb dX0_power_36 (by decide) ?_
          refine lv_ixor hx hb dX0_power_37 ?_
          refine lv_iand hx hb dX0_power_38 ?_
          refine lv_topi (fun v5 ev5 => ?_)
          replace h := lt1_sub ev5 h
          refine lv_istore (lv' := [(5, .int v5), (0, .ref a), (1, .int x1), (2, .int x2), (3, .int x3), (4, .int x4)]) hx hb dX0_power_39 hl (by decide) rfl (fun ls hl => ?_)
          refine lv_iload_n hx hb dX0_power_41 rfl (lv_at hl 3 rfl) ?_
          obtain ⟨v6, hv6, h⟩ := bd1_some h
          refine r_int (run_s (As := [.int x2]) (rest := []) C (mJ5_bitCount hv6) q1079 q1080 q168 q1081 ⟨rfl, rfl⟩ hdJ5_bitCount ⟨Nat.le_of_ble_eq_true rfl, Nat.le_of_ble_eq_true rfl⟩ ⟨Nat.zero_le _, Nat.zero_le _⟩ rfl hl.1 rfl (Nat.le_of_ble_eq_true rfl) dX0_power_42) ?_
          refine lv_istore (lv' := [(6, .int v6), (5, .int v5), (0, .ref a), (1, .int x1), (2, .int x2), (3, .int x3), (4, .int x4)]) hx hb dX0_power_45 hl (by decide) rfl (fun ls hl => ?_)
          refine lv_iconst (v := 0) hx hb dX0_power_47 (by decide) ?_
          refine lv_istore (lv' := [(7, .int (0 : Int32)), (6, .int v6), (5, .int v5), (0, .ref a), (1, .int x1), (2, .int x2), (3, .int x3), (4, .int x4)]) hx hb dX0_power_48 hl (by decide) rfl (fun ls hl => ?_)
          refine lv_iload hx hb dX0_power_50 (lv_at hl 2 rfl) ?_
          refine lv_istore (lv' := [(8, .int v5), (7, .int (0 : Int32)), (6, .int v6), (5, .int v5), (0, .ref a), (1, .int x1), (2, .int x2), (3, .int x3), (4, .int x4)]) hx hb dX0_power_52 hl (by decide) rfl (fun ls hl => ?_)
          refine lv_iconst (v := 1) hx hb dX0_power_54 (by decide) ?_
          refine lv_istore (lv' := [(9, .int (1 : Int32)), (8, .int v5), (7, .int (0 : Int32)), (6, .int v6), (5, .int v5), (0, .ref a), (1, .int x1), (2, .int x2), (3, .int x3), (4, .int x4)]) hx hb dX0_power_55 hl (by decide) rfl (fun ls hl => ?_)
          exact bX0_power_p57 C fu t x1 x3 x4 v5 v6 (0 : Int32) v5 (1 : Int32) H locs hT hS hK ls h (lv_sub hl [5, 6, 8, 9, 4, 3, 2, 1, 0] rfl)
        · replace h := if_t c h
          refine lv_iconst (v := -1) hx hb dX0_power_30 (by decide) ?_
          exact ec_i C hT hS h dX0_power_31
theorem mX0_power {l : Launch} {D : va_G} {dA : Nat → ClassId} {a : Nat} {k : KP a} {t : CS} {x1 : Int32} {x2 : Int32} {x3 : Int32} {x4 : Int32} {r : Int32} {t9 : CS} (h : C_power t x1 x2 x3 x4 = some (r, t9)) : Met l yX0_power (ws_ yX0_power cX0_power 11 (some .int)) rmX0_power (cPc D dA a k t [.ref a, .int x1, .int x2, .int x3, .int x4]) (cQ D dA a k 0 t t9 (some (.int r))) 0 0 (ca a) := en_C (by decide +kernel) rfl (Nat.le_of_ble_eq_true rfl) (fun p e s m below meth c ls C hK hT hl => bX0_power C t x1 x2 x3 x4 _ [] hT cS.rf hK ls h hl)
set_option maxRecDepth 20000 in
abbrev rmX0_party : Room := { frames := 2, cells := 0, slots := 0, locals := 42 }
theorem hdX0_party : yX0_party.cls = RX0 ∧ yX0_party.cls ≠ "java/lang/invoke/MethodHandle" ∧ yX0_party.cls ≠ "java/lang/invoke/VarHandle" ∧ (parseMethodDescriptor yX0_party.desc).map (fun d => d.parameters.length) = some 1 := by decide +kernel
theorem bX0_party {p : Program} {l : Launch} {e : Env} {s : State} {m : MethodId} {args : Array Value} {below : List Frame} {meth : Method} {c : Code} {D : va_G} {dA : Nat → ClassId} {a : Nat} {k : KP a} {t0 : CS} {r : Int32} {t9 : CS} (C : cx p s m args meth c cX0_party RX0 2 (some .int)) : ∀ (t : CS) (x1 : Int32) (H : Heap) (locs : List Loc) (hT : cW D dA a k t H) (hS : cS a s.heap H locs t0.2.2.2 0 t) (hK : kC D dA a k t.2.2.2 s) (ls : Array Slot), C_party t x1 = some (r, t9) → lv_has ls 2 [(0, .ref a), (1, .int x1)] → W p l e rmX0_party s m args below meth c H locs 0 0 (MQ below (cQ D dA a k 0 t0 t9 (some (.int r))) args s 0 0 (ca a)) (F0 m 0 ls []) := by
  obtain ⟨hx, hb, hr, hml, hown, hts, hlocks⟩ := id C
  intro t x1 H locs hT hS hK ls h hl
  unfold C_party at h
  refine lv_iload_n hx hb dX0_party_0 rfl (lv_at hl 1 rfl) ?_
  refine lv_iconst (v := -1) hx hb dX0_party_1 (by decide) ?_
  refine lv_icmp_ne (tgt := 17) hx hb dX0_party_2 (by decide) (fun c => ?_) (fun c => ?_)
  · replace h := if_f c h
    refine lv_iload_n hx hb dX0_party_17 rfl (lv_at hl 1 rfl) ?_
    obtain ⟨v1, hv1, h⟩ := bd1_some h
    refine r_int (run_s (As := [.int x1]) (rest := []) C (mX0_isSet hv1) q1184 q1185 q158 q1186 ⟨rfl, rfl⟩ hdX0_isSet ⟨Nat.le_of_ble_eq_true rfl, Nat.le_of_ble_eq_true rfl⟩ ⟨Nat.zero_le _, Nat.zero_le _⟩ rfl hl.1 rfl (Nat.le_of_ble_eq_true rfl) dX0_party_18) ?_
    refine lv_if_eq (tgt := 37) hx hb dX0_party_21 (by decide) (fun c => ?_) (fun c => ?_)
    · replace h := if_t c h
      refine lv_bipush (v := -2) hx hb dX0_party_37 (by decide) ?_
      exact ec_i C hT hS h dX0_party_39
    · replace h := if_f c h
      refine lv_aload_n hx hb dX0_party_24 rfl (lv_at hl 0 rfl) ?_
      refine cg0 C hK hT dX0_party_25 ?_
      refine c_getSN C hK hT (Or.inl rfl) 0 (by decide) (nf222 hK.2.1) rfl (v := .ref (a + 2)) rfl dX0_party_28 ?_
      refine lv_iconst (v := 5) hx hb dX0_party_31 (by decide) ?_
      obtain ⟨hi2, h⟩ := ck_some h
      refine c_ild C hK hT 2 7 (by decide) (fun _ _ => rfl) hi2 dX0_party_32 ?_
      refine lv_iconst (v := 4) hx hb dX0_party_33 (by decide) ?_
      refine lv_icmp_ne (tgt := 40) hx hb dX0_party_34 (by decide) (fun c => ?_) (fun c => ?_)
      · replace h := if_f c h
        refine lv_aload_n hx hb dX0_party_40 rfl (lv_at hl 0 rfl) ?_
        refine cg0 C hK hT dX0_party_41 ?_
        refine c_getSN C hK hT (Or.inl rfl) 3 (by decide) (nf228 hK.2.1) rfl (v := .ref (a + 5)) rfl dX0_party_44 ?_
        refine lv_aload_n hx hb dX0_party_47 rfl (lv_at hl 0 rfl) ?_
        refine cg0 C hK hT dX0_party_48 ?_
        refine c_getSN C hK hT (Or.inl rfl) 0 (by decide) (nf222 hK.2.1) rfl (v := .ref (a + 2)) rfl dX0_party_51 ?_
        refine lv_iconst (v := 5) hx hb dX0_party_54 (by decide) ?_
        obtain ⟨hi3, h⟩ := ck_some h
        refine c_ild C hK hT 2 7 (by decide) (fun _ _ => rfl) hi3 dX0_party_55 ?_
        refine lv_iload_n hx hb dX0_party_56 rfl (lv_at hl 1 rfl) ?_
        obtain ⟨hi4, h⟩ := ck_some h
        refine c_ist C hK hT hS 5 4 (by decide) (fun _ _ => rfl) hi4 dX0_party_57 (fun t5 H locs et5 hT hS hK => ?_)
        replace h := lt1_sub et5 h
        refine lv_aload_n hx hb dX0_party_58 rfl (lv_at hl 0 rfl) ?_
        refine cg0 C hK hT dX0_party_59 ?_
        refine c_getSN C hK hT (Or.inl rfl) 0 (by decide) (nf222 hK.2.1) rfl (v := .ref (a + 2)) rfl dX0_party_62 ?_
        refine lv_iconst (v := 5) hx hb dX0_party_65 (by decide) ?_
        refine lv_dup2_11 hx hb dX0_party_66 rfl rfl ?_
        obtain ⟨hi6, h⟩ := ck_some h
        refine c_ild C hK hT 2 7 (by decide) (fun _ _ => rfl) hi6 dX0_party_67 ?_
        refine lv_iconst (v := 1) hx hb dX0_party_68 (by decide) ?_
        refine lv_iadd hx hb dX0_party_69 ?_
        obtain ⟨hi7, h⟩ := ck_some h
        refine c_ist C hK hT hS 2 7 (by decide) (fun _ _ => rfl) hi7 dX0_party_70 (fun t8 H locs et8 hT hS hK => ?_)
        replace h := lt1_sub et8 h
        refine lv_aload_n hx hb dX0_party_71 rfl (lv_at hl 0 rfl) ?_
        refine cg0 C hK hT dX0_party_72 ?_
        refine c_getSN C hK hT (Or.inl rfl) 0 (by decide) (nf222 hK.2.1) rfl (v := .ref (a + 2)) rfl dX0_party_75 ?_
        refine lv_iconst (v := 5) hx hb dX0_party_78 (by decide) ?_
        obtain ⟨hi9, h⟩ := ck_some h
        refine c_ild C hK hT 2 7 (by decide) (fun _ _ => rfl) hi9 dX0_party_79 ?_
        exact ec_i C hT hS h dX0_party_80
      · replace h := if_t c h
        refine lv_bipush (v := -2) hx hb dX0_party_37 (by decide) ?_
        exact ec_i C hT hS h dX0_party_39
  · replace h := if_t c h
    refine lv_aload_n hx hb dX0_party_5 rfl (lv_at hl 0 rfl) ?_
    refine cg0 C hK hT dX0_party_6 ?_
    refine c_getSN C hK hT (Or.inl rfl) 0 (by decide) (nf222 hK.2.1) rfl (v := .ref (a + 2)) rfl dX0_party_9 ?_
    refine lv_iconst (v := 5) hx hb dX0_party_12 (by decide) ?_
    refine lv_iconst (v := 0) hx hb dX0_party_13 (by decide) ?_
    obtain ⟨hi10, h⟩ := ck_some h
    refine c_ist C hK hT hS 2 7 (by decide) (fun _ _ => rfl) hi10 dX0_party_14 (fun t11 H locs et11 hT hS hK => ?_)
    replace h := lt1_sub et11 h
    refine lv_iconst (v := 0) hx hb dX0_party_15 (by decide) ?_
    exact ec_i C hT hS h dX0_party_16
theorem mX0_party {l : Launch} {D : va_G} {dA : Nat → ClassId} {a : Nat} {k : KP a} {t : CS} {x1 : Int32} {r : Int32} {t9 : CS} (h : C_party t x1 = some (r, t9)) : Met l yX0_party (ws_ yX0_party cX0_party 2 (some .int)) rmX0_party (cPc D dA a k t [.ref a, .int x1]) (cQ D dA a k 0 t t9 (some (.int r))) 0 0 (ca a) := en_C (by decide +kernel) rfl (Nat.le_of_ble_eq_true rfl) (fun p e s m below meth c ls C hK hT hl => bX0_party C t x1 _ [] hT cS.rf hK ls h hl)
set_option maxRecDepth 20000 in
abbrev rmX0_worthOf : Room := { frames := 5, cells := 0, slots := 0, locals := 113 }
theorem hdX0_worthOf : yX0_worthOf.cls = RX0 ∧ yX0_worthOf.cls ≠ "java/lang/invoke/MethodHandle" ∧ yX0_worthOf.cls ≠ "java/lang/invoke/VarHandle" ∧ (parseMethodDescriptor yX0_worthOf.desc).map (fun d => d.parameters.length) = some 1 := by decide +kernel
theorem bX0_worthOf_p39 {p : Program} {l : Launch} {e : Env} {s : State} {m : MethodId} {args : Array Value} {below : List Frame} {meth : Method} {c : Code} {D : va_G} {dA : Nat → ClassId} {a : Nat} {k : KP a} {t0 : CS} {r : Int32} {t9 : CS} (C : cx p s m args meth c cX0_worthOf RX0 4 (some .int)) {k4 : CS → Int32 → Int32 → Int32 → Option (Int32 × CS)} (hk4 : ∀ (t : CS) (x1 : Int32) (x2 : Int32) (x3 : Int32) (H : Heap) (locs : List Loc) (hT : cW D dA a k t H) (hS : cS a s.heap H locs t0.2.2.2 0 t) (hK : kC D dA a k t.2.2.2 s) (ls : Array Slot), k4 t x1 x2 x3 = some (r, t9) → lv_has ls 4 [(0, .ref a), (1, .int x1), (2, .int x2), (3, .int x3)] → W p l e rmX0_worthOf s m args below meth c H locs 0 0 (MQ below (cQ D dA a k 0 t0 t9 (some (.int r))) args s 0 0 (ca a)) (F0 m 4 ls [])) : ∀ (t : CS) (x1 : Int32) (x3 : Int32) (y0 : Int32) (y1 : Int32) (H : Heap) (locs : List Loc) (hT : cW D dA a k t H) (hS : cS a s.heap H locs t0.2.2.2 0 t) (hK : kC D dA a k t.2.2.2 s) (ls : Array Slot), C_worthOf_p39 k4 t x1 x3 y0 y1 = some (r, t9) → lv_has ls 4 [(0, .ref a), (1, .int x1), (3, .int x3)] → W p l e rmX0_worthOf s m args below meth c H locs 0 0 (MQ below (cQ D dA a k 0 t0 t9 (some (.int r))) args s 0 0 (ca a)) (F0 m 39 ls [.int y1, .int y0]) := by
  obtain ⟨hx, hb, hr, hml, hown, hts, hlocks⟩ := id C
  intro t x1 x3 y0 y1 H locs hT hS hK ls h hl
  unfold C_worthOf_p39 at h
  refine lv_ior hx hb dX0_worthOf_39 ?_
  refine lv_topi (fun v1 ev1 => ?_)
  replace h := lt1_sub ev1 h
  refine lv_istore_n (lv' := [(2, .int v1), (0, .ref a), (1, .int x1), (3, .int x3)]) hx hb dX0_worthOf_40 rfl hl (by decide) rfl (fun ls hl => ?_)
  obtain ⟨v2, ev2⟩ : ∃ y : Int32, y = x3 + (1 : Int32) := ⟨_, rfl⟩
  replace h := lt1_sub ev2 h
  refine lv_iinc (v := v2) (lv' := [(3, .int v2), (2, .int v1), (0, .ref a), (1, .int x1)]) hx hb dX0_worthOf_41 hl (k := 3) rfl (by rw [ev2]; rfl) (by decide) rfl (fun ls hl => ?_)
  refine lv_goto (tgt := 4) hx hb dX0_worthOf_44 (by decide) ?_
  exact hk4 t x1 v1 v2 H locs hT hS hK ls h (lv_sub hl [2, 3, 1, 0] rfl)
theorem bX0_worthOf_p4 {p : Program} {l : Launch} {e : Env} {s : State} {m : MethodId} {args : Array Value} {below : List Frame} {meth : Method} {c : Code} {D : va_G} {dA : Nat → ClassId} {a : Nat} {k : KP a} {t0 : CS} {r : Int32} {t9 : CS} (C : cx p s m args meth c cX0_worthOf RX0 4 (some .int)) : ∀ (n : Nat), ∀ (t : CS) (x1 : Int32) (x2 : Int32) (x3 : Int32) (H : Heap) (locs : List Loc) (hT : cW D dA a k t H) (hS : cS a s.heap H locs t0.2.2.2 0 t) (hK : kC D dA a k t.2.2.2 s) (ls : Array Slot), C_worthOf_p4 n t x1 x2 x3 = some (r, t9) → lv_has ls 4 [(0, .ref a), (1, .int x1), (2, .int x2), (3, .int x3)] → W p l e rmX0_worthOf s m args below meth c H locs 0 0 (MQ below (cQ D dA a k 0 t0 t9 (some (.int r))) args s 0 0 (ca a)) (F0 m 4 ls []) := by
  obtain ⟨hx, hb, hr, hml, hown, hts, hlocks⟩ := id C
  intro n
  induction n with
  | zero =>
    intro t x1 x2 x3 H locs hT hS hK ls h hl
    have h : none = some _ := h
    cases h
  | succ n ih =>
    intro t x1 x2 x3 H locs hT hS hK ls h hl
    rw [C_worthOf_p4] at h
    refine lv_iload_n hx hb dX0_worthOf_4 rfl (lv_at hl 3 rfl) ?_
    refine lv_aload_n hx hb dX0_worthOf_5 rfl (lv_at hl 0 rfl) ?_
    refine cg0 C hK hT dX0_worthOf_6 ?_
    refine c_getSN C hK hT (Or.inl rfl) 0 (by decide) (nf222 hK.2.1) rfl (v := .ref (a + 2)) rfl dX0_worthOf_9 ?_
    refine lv_iconst (v := 5) hx hb dX0_worthOf_12 (by decide) ?_
    obtain ⟨hi1, h⟩ := ck_some h
    refine c_ild C hK hT 2 7 (by decide) (fun _ _ => rfl) hi1 dX0_worthOf_13 ?_
    refine lv_icmp_ge (tgt := 47) hx hb dX0_worthOf_14 (by decide) (fun c => ?_) (fun c => ?_)
    · replace h := if_t c h
      refine lv_aload_n hx hb dX0_worthOf_47 rfl (lv_at hl 0 rfl) ?_
      refine lv_iload_n hx hb dX0_worthOf_48 rfl (lv_at hl 2 rfl) ?_
      obtain ⟨v2, t3, ht3, h⟩ := bd2_some h
      refine wc_int hS hK (run_c (As := [.int x2]) (rest := []) C hK hT hS.2.1 (rv_X hK hT) (mX0_lost ht3) q1368 q1370 qs50 q158 q1371 ⟨rfl, rfl⟩ hdX0_lost ⟨Nat.le_of_ble_eq_true rfl, Nat.le_of_ble_eq_true rfl⟩ ⟨Nat.zero_le _, Nat.zero_le _⟩ rfl hl.1 rfl (Nat.le_of_ble_eq_true rfl) dX0_worthOf_49) (fun H locs hT hS hK hNt3 => ?_)
      exact ec_i C hT hS h dX0_worthOf_52
    · replace h := if_f c h
      refine lv_iload_n hx hb dX0_worthOf_17 rfl (lv_at hl 2 rfl) ?_
      refine lv_iload_n hx hb dX0_worthOf_18 rfl (lv_at hl 1 rfl) ?_
      refine lv_iload_n hx hb dX0_worthOf_19 rfl (lv_at hl 3 rfl) ?_
      obtain ⟨v4, hv4, h⟩ := bd1_some h
      refine r_int (run_s (As := [.int x1, .int x3]) (rest := [.int x2]) C (mX0_has hv4) q344 q345 q158 q346 ⟨rfl, rfl⟩ hdX0_has ⟨Nat.le_of_ble_eq_true rfl, Nat.le_of_ble_eq_true rfl⟩ ⟨Nat.zero_le _, Nat.zero_le _⟩ rfl hl.1 rfl (Nat.le_of_ble_eq_true rfl) dX0_worthOf_20) ?_
      refine lv_if_eq (tgt := 38) hx hb dX0_worthOf_23 (by decide) (fun c => ?_) (fun c => ?_)
      · replace h := if_t c h
        refine lv_iconst (v := 0) hx hb dX0_worthOf_38 (by decide) ?_
        exact bX0_worthOf_p39 C ih t x1 x3 x2 (0 : Int32) H locs hT hS hK ls h (lv_sub hl [0, 1, 3] rfl)
      · replace h := if_f c h
        refine lv_aload_n hx hb dX0_worthOf_26 rfl (lv_at hl 0 rfl) ?_
        refine cg0 C hK hT dX0_worthOf_27 ?_
        refine c_getSN C hK hT (Or.inl rfl) 3 (by decide) (nf228 hK.2.1) rfl (v := .ref (a + 5)) rfl dX0_worthOf_30 ?_
        refine lv_iload_n hx hb dX0_worthOf_33 rfl (lv_at hl 3 rfl) ?_
        obtain ⟨hi5, h⟩ := ck_some h
        refine c_ild C hK hT 5 4 (by decide) (fun _ _ => rfl) hi5 dX0_worthOf_34 ?_
        refine lv_goto (tgt := 39) hx hb dX0_worthOf_35 (by decide) ?_
        exact bX0_worthOf_p39 C ih t x1 x3 x2 (t.1 5 x3.toNatClampNeg) H locs hT hS hK ls h (lv_sub hl [0, 1, 3] rfl)
theorem bX0_worthOf {p : Program} {l : Launch} {e : Env} {s : State} {m : MethodId} {args : Array Value} {below : List Frame} {meth : Method} {c : Code} {D : va_G} {dA : Nat → ClassId} {a : Nat} {k : KP a} {t0 : CS} {r : Int32} {t9 : CS} (C : cx p s m args meth c cX0_worthOf RX0 4 (some .int)) : ∀ (t : CS) (x1 : Int32) (H : Heap) (locs : List Loc) (hT : cW D dA a k t H) (hS : cS a s.heap H locs t0.2.2.2 0 t) (hK : kC D dA a k t.2.2.2 s) (ls : Array Slot), C_worthOf t x1 = some (r, t9) → lv_has ls 4 [(0, .ref a), (1, .int x1)] → W p l e rmX0_worthOf s m args below meth c H locs 0 0 (MQ below (cQ D dA a k 0 t0 t9 (some (.int r))) args s 0 0 (ca a)) (F0 m 0 ls []) := by
  obtain ⟨hx, hb, hr, hml, hown, hts, hlocks⟩ := id C
  intro t x1 H locs hT hS hK ls h hl
  unfold C_worthOf at h
  refine lv_iconst (v := 0) hx hb dX0_worthOf_0 (by decide) ?_
  refine lv_istore_n (lv' := [(2, .int (0 : Int32)), (0, .ref a), (1, .int x1)]) hx hb dX0_worthOf_1 rfl hl (by decide) rfl (fun ls hl => ?_)
  refine lv_iconst (v := 0) hx hb dX0_worthOf_2 (by decide) ?_
  refine lv_istore_n (lv' := [(3, .int (0 : Int32)), (2, .int (0 : Int32)), (0, .ref a), (1, .int x1)]) hx hb dX0_worthOf_3 rfl hl (by decide) rfl (fun ls hl => ?_)
  exact bX0_worthOf_p4 C fu t x1 (0 : Int32) (0 : Int32) H locs hT hS hK ls h (lv_sub hl [2, 3, 1, 0] rfl)
theorem mX0_worthOf {l : Launch} {D : va_G} {dA : Nat → ClassId} {a : Nat} {k : KP a} {t : CS} {x1 : Int32} {r : Int32} {t9 : CS} (h : C_worthOf t x1 = some (r, t9)) : Met l yX0_worthOf (ws_ yX0_worthOf cX0_worthOf 4 (some .int)) rmX0_worthOf (cPc D dA a k t [.ref a, .int x1]) (cQ D dA a k 0 t t9 (some (.int r))) 0 0 (ca a) := en_C (by decide +kernel) rfl (Nat.le_of_ble_eq_true rfl) (fun p e s m below meth c ls C hK hT hl => bX0_worthOf C t x1 _ [] hT cS.rf hK ls h hl)
set_option maxRecDepth 20000 in
abbrev rmX0_worth : Room := { frames := 6, cells := 0, slots := 0, locals := 136 }
theorem hdX0_worth : yX0_worth.cls = RX0 ∧ yX0_worth.cls ≠ "java/lang/invoke/MethodHandle" ∧ yX0_worth.cls ≠ "java/lang/invoke/VarHandle" ∧ (parseMethodDescriptor yX0_worth.desc).map (fun d => d.parameters.length) = some 1 := by decide +kernel
theorem bX0_worth {p : Program} {l : Launch} {e : Env} {s : State} {m : MethodId} {args : Array Value} {below : List Frame} {meth : Method} {c : Code} {D : va_G} {dA : Nat → ClassId} {a : Nat} {k : KP a} {t0 : CS} {r : Int32} {t9 : CS} (C : cx p s m args meth c cX0_worth RX0 2 (some .int)) : ∀ (t : CS) (x1 : Int32) (H : Heap) (locs : List Loc) (hT : cW D dA a k t H) (hS : cS a s.heap H locs t0.2.2.2 0 t) (hK : kC D dA a k t.2.2.2 s) (ls : Array Slot), C_worth t x1 = some (r, t9) → lv_has ls 2 [(0, .ref a), (1, .int x1)] → W p l e rmX0_worth s m args below meth c H locs 0 0 (MQ below (cQ D dA a k 0 t0 t9 (some (.int r))) args s 0 0 (ca a)) (F0 m 0 ls []) := by
  obtain ⟨hx, hb, hr, hml, hown, hts, hlocks⟩ := id C
  intro t x1 H locs hT hS hK ls h hl
  unfold C_worth at h
  refine lv_iload_n hx hb dX0_worth_0 rfl (lv_at hl 1 rfl) ?_
  refine lv_iconst (v := 0) hx hb dX0_worth_1 (by decide) ?_
  refine lv_iconst (v := 1) hx hb dX0_worth_2 (by decide) ?_
  refine lv_aload_n hx hb dX0_worth_3 rfl (lv_at hl 0 rfl) ?_
  refine cg0 C hK hT dX0_worth_4 ?_
  refine c_getSN C hK hT (Or.inl rfl) 0 (by decide) (nf222 hK.2.1) rfl (v := .ref (a + 2)) rfl dX0_worth_7 ?_
  refine lv_iconst (v := 5) hx hb dX0_worth_10 (by decide) ?_
  obtain ⟨hi1, h⟩ := ck_some h
  refine c_ild C hK hT 2 7 (by decide) (fun _ _ => rfl) hi1 dX0_worth_11 ?_
  refine lv_ishl hx hb dX0_worth_12 ?_
  refine lv_iconst (v := 1) hx hb dX0_worth_13 (by decide) ?_
  refine lv_isub hx hb dX0_worth_14 ?_
  obtain ⟨v2, hv2, h⟩ := bd1_some h
  refine r_int (run_s (As := [.int x1, .int (0 : Int32), .int (((1 : Int32) <<< ((t.1 2 (5 : Int32).toNatClampNeg) &&& (31 : Int32))) - (1 : Int32))]) (rest := []) C (mX0_in hv2) q341 q342 q158 q343 ⟨rfl, rfl⟩ hdX0_in ⟨Nat.le_of_ble_eq_true rfl, Nat.le_of_ble_eq_true rfl⟩ ⟨Nat.zero_le _, Nat.zero_le _⟩ rfl hl.1 rfl (Nat.le_of_ble_eq_true rfl) dX0_worth_15) ?_
  refine lv_if_eq (tgt := 29) hx hb dX0_worth_18 (by decide) (fun c => ?_) (fun c => ?_)
  · replace h := if_t c h
    refine lv_iconst (v := -1) hx hb dX0_worth_29 (by decide) ?_
    exact ec_i C hT hS h dX0_worth_30
  · replace h := if_f c h
    refine lv_aload_n hx hb dX0_worth_21 rfl (lv_at hl 0 rfl) ?_
    refine lv_iload_n hx hb dX0_worth_22 rfl (lv_at hl 1 rfl) ?_
    obtain ⟨v3, t4, ht4, h⟩ := bd2_some h
    refine wc_int hS hK (run_c (As := [.int x1]) (rest := []) C hK hT hS.2.1 (rv_X hK hT) (mX0_worthOf ht4) q1396 q1398 qs51 q158 q1399 ⟨rfl, rfl⟩ hdX0_worthOf ⟨Nat.le_of_ble_eq_true rfl, Nat.le_of_ble_eq_true rfl⟩ ⟨Nat.zero_le _, Nat.zero_le _⟩ rfl hl.1 rfl (Nat.le_of_ble_eq_true rfl) dX0_worth_23) (fun H locs hT hS hK hNt4 => ?_)
    refine lv_goto (tgt := 30) hx hb dX0_worth_26 (by decide) ?_
    exact ec_i C hT hS h dX0_worth_30
theorem mX0_worth {l : Launch} {D : va_G} {dA : Nat → ClassId} {a : Nat} {k : KP a} {t : CS} {x1 : Int32} {r : Int32} {t9 : CS} (h : C_worth t x1 = some (r, t9)) : Met l yX0_worth (ws_ yX0_worth cX0_worth 2 (some .int)) rmX0_worth (cPc D dA a k t [.ref a, .int x1]) (cQ D dA a k 0 t t9 (some (.int r))) 0 0 (ca a) := en_C (by decide +kernel) rfl (Nat.le_of_ble_eq_true rfl) (fun p e s m below meth c ls C hK hT hl => bX0_worth C t x1 _ [] hT cS.rf hK ls h hl)
set_option maxRecDepth 20000 in
abbrev rmX0_areKept : Room := { frames := 1, cells := 0, slots := 0, locals := 21 }
theorem hdX0_areKept : yX0_areKept.cls = RX0 ∧ yX0_areKept.cls ≠ "java/lang/invoke/MethodHandle" ∧ yX0_areKept.cls ≠ "java/lang/invoke/VarHandle" ∧ (parseMethodDescriptor yX0_areKept.desc).map (fun d => d.parameters.length) = some 0 := by decide +kernel
theorem bX0_areKept_p53 {p : Program} {l : Launch} {e : Env} {s : State} {m : MethodId} {args : Array Value} {below : List Frame} {meth : Method} {c : Code} {D : va_G} {dA : Nat → ClassId} {a : Nat} {k : KP a} {t : CS} {r : Int32} (C : cx p s m args meth c cX0_areKept RX0 4 (some .boolean)) (hK : kC D dA a k t.2.2.2 s) (hT : cW D dA a k t s.heap) {k21 : Int32 → Int32 → Int32 → Option Int32} (hk21 : ∀ (x1 : Int32) (x2 : Int32) (x3 : Int32) (ls : Array Slot), k21 x1 x2 x3 = some r → lv_has ls 4 [(0, .ref a), (1, .int x1), (2, .int x2), (3, .int x3)] → W p l e rmX0_areKept s m args below meth c s.heap [] 0 0 (MQ below (rQi r) args s 0 0 nof) (F0 m 21 ls [])) : ∀ (x1 : Int32) (x3 : Int32) (y0 : Int32) (y1 : Int32) (ls : Array Slot), C_areKept_p53 k21 t x1 x3 y0 y1 = some r → lv_has ls 4 [(0, .ref a), (1, .int x1), (3, .int x3)] → W p l e rmX0_areKept s m args below meth c s.heap [] 0 0 (MQ below (rQi r) args s 0 0 nof) (F0 m 53 ls [.int y1, .int y0]) := by
  obtain ⟨hx, hb, hr, hml, hown, hts, hlocks⟩ := id C
  intro x1 x3 y0 y1 ls h hl
  unfold C_areKept_p53 at h
  refine lv_iadd hx hb dX0_areKept_53 ?_
  refine lv_topi (fun v1 ev1 => ?_)
  replace h := lt1_sub ev1 h
  refine lv_istore_n (lv' := [(2, .int v1), (0, .ref a), (1, .int x1), (3, .int x3)]) hx hb dX0_areKept_54 rfl hl (by decide) rfl (fun ls hl => ?_)
  obtain ⟨v2, ev2⟩ : ∃ y : Int32, y = x3 + (1 : Int32) := ⟨_, rfl⟩
  replace h := lt1_sub ev2 h
  refine lv_iinc (v := v2) (lv' := [(3, .int v2), (2, .int v1), (0, .ref a), (1, .int x1)]) hx hb dX0_areKept_55 hl (k := 3) rfl (by rw [ev2]; rfl) (by decide) rfl (fun ls hl => ?_)
  refine lv_goto (tgt := 21) hx hb dX0_areKept_58 (by decide) ?_
  exact hk21 x1 v1 v2 ls h (lv_sub hl [2, 3, 1, 0] rfl)
theorem bX0_areKept_p21 {p : Program} {l : Launch} {e : Env} {s : State} {m : MethodId} {args : Array Value} {below : List Frame} {meth : Method} {c : Code} {D : va_G} {dA : Nat → ClassId} {a : Nat} {k : KP a} {t : CS} {r : Int32} (C : cx p s m args meth c cX0_areKept RX0 4 (some .boolean)) (hK : kC D dA a k t.2.2.2 s) (hT : cW D dA a k t s.heap) {k2 : Int32 → Option Int32} (hk2 : ∀ (x1 : Int32) (ls : Array Slot), k2 x1 = some r → lv_has ls 4 [(0, .ref a), (1, .int x1)] → W p l e rmX0_areKept s m args below meth c s.heap [] 0 0 (MQ below (rQi r) args s 0 0 nof) (F0 m 2 ls [])) : ∀ (n : Nat), ∀ (x1 : Int32) (x2 : Int32) (x3 : Int32) (ls : Array Slot), C_areKept_p21 k2 t n x1 x2 x3 = some r → lv_has ls 4 [(0, .ref a), (1, .int x1), (2, .int x2), (3, .int x3)] → W p l e rmX0_areKept s m args below meth c s.heap [] 0 0 (MQ below (rQi r) args s 0 0 nof) (F0 m 21 ls []) := by
  obtain ⟨hx, hb, hr, hml, hown, hts, hlocks⟩ := id C
  intro n
  induction n with
  | zero =>
    intro x1 x2 x3 ls h hl
    have h : none = some _ := h
    cases h
  | succ n ih =>
    intro x1 x2 x3 ls h hl
    rw [C_areKept_p21] at h
    refine lv_iload_n hx hb dX0_areKept_21 rfl (lv_at hl 3 rfl) ?_
    refine lv_aload_n hx hb dX0_areKept_22 rfl (lv_at hl 0 rfl) ?_
    refine cg0 C hK hT dX0_areKept_23 ?_
    refine c_getSN C hK hT (Or.inl rfl) 0 (by decide) (nf222 hK.2.1) rfl (v := .ref (a + 2)) rfl dX0_areKept_26 ?_
    refine lv_iconst (v := 5) hx hb dX0_areKept_29 (by decide) ?_
    obtain ⟨hi1, h⟩ := ck_some h
    refine c_ild C hK hT 2 7 (by decide) (fun _ _ => rfl) hi1 dX0_areKept_30 ?_
    refine lv_icmp_ge (tgt := 61) hx hb dX0_areKept_31 (by decide) (fun c => ?_) (fun c => ?_)
    · replace h := if_t c h
      refine lv_iload_n hx hb dX0_areKept_61 rfl (lv_at hl 2 rfl) ?_
      refine lv_aload_n hx hb dX0_areKept_62 rfl (lv_at hl 0 rfl) ?_
      refine cg9 C hK hT dX0_areKept_63 ?_
      refine lv_iload_n hx hb dX0_areKept_66 rfl (lv_at hl 1 rfl) ?_
      obtain ⟨hi2, h⟩ := ck_some h
      refine c_ild C hK hT 109 16 (by decide) (fun _ _ => rfl) hi2 dX0_areKept_67 ?_
      refine lv_icmp_ge (tgt := 73) hx hb dX0_areKept_68 (by decide) (fun c => ?_) (fun c => ?_)
      · replace h := if_t c h
        obtain ⟨v3, ev3⟩ : ∃ y : Int32, y = x1 + (1 : Int32) := ⟨_, rfl⟩
        replace h := lt1_sub ev3 h
        refine lv_iinc (v := v3) (lv' := [(1, .int v3), (0, .ref a), (2, .int x2), (3, .int x3)]) hx hb dX0_areKept_73 hl (k := 1) rfl (by rw [ev3]; rfl) (by decide) rfl (fun ls hl => ?_)
        refine lv_goto (tgt := 2) hx hb dX0_areKept_76 (by decide) ?_
        exact hk2 v3 ls h (lv_sub hl [1, 0] rfl)
      · replace h := if_f c h
        refine lv_iconst (v := 0) hx hb dX0_areKept_71 (by decide) ?_
        exact e_rz C (Or.inl rfl) h dX0_areKept_72
    · replace h := if_f c h
      refine lv_iload_n hx hb dX0_areKept_34 rfl (lv_at hl 2 rfl) ?_
      refine lv_iload_n hx hb dX0_areKept_35 rfl (lv_at hl 1 rfl) ?_
      refine lv_iload_n hx hb dX0_areKept_36 rfl (lv_at hl 3 rfl) ?_
      obtain ⟨v4, hv4, h⟩ := bd1_some h
      refine r_int (run_s (As := [.int x1, .int x3]) (rest := [.int x2]) C (mX0_has hv4) q344 q345 q158 q346 ⟨rfl, rfl⟩ hdX0_has ⟨Nat.le_of_ble_eq_true rfl, Nat.le_of_ble_eq_true rfl⟩ ⟨Nat.zero_le _, Nat.zero_le _⟩ rfl hl.1 rfl (Nat.le_of_ble_eq_true rfl) dX0_areKept_37) ?_
      refine lv_if_eq (tgt := 52) hx hb dX0_areKept_40 (by decide) (fun c => ?_) (fun c => ?_)
      · replace h := if_t c h
        refine lv_iconst (v := 0) hx hb dX0_areKept_52 (by decide) ?_
        exact bX0_areKept_p53 C hK hT ih x1 x3 x2 (0 : Int32) ls h (lv_sub hl [0, 1, 3] rfl)
      · replace h := if_f c h
        refine lv_aload_n hx hb dX0_areKept_43 rfl (lv_at hl 0 rfl) ?_
        refine cg8 C hK hT dX0_areKept_44 ?_
        refine lv_iload_n hx hb dX0_areKept_47 rfl (lv_at hl 3 rfl) ?_
        obtain ⟨hi5, h⟩ := ck_some h
        refine c_ild C hK hT 108 4 (by decide) (fun _ _ => rfl) hi5 dX0_areKept_48 ?_
        refine lv_goto (tgt := 53) hx hb dX0_areKept_49 (by decide) ?_
        exact bX0_areKept_p53 C hK hT ih x1 x3 x2 (t.1 108 x3.toNatClampNeg) ls h (lv_sub hl [0, 1, 3] rfl)
theorem bX0_areKept_p2 {p : Program} {l : Launch} {e : Env} {s : State} {m : MethodId} {args : Array Value} {below : List Frame} {meth : Method} {c : Code} {D : va_G} {dA : Nat → ClassId} {a : Nat} {k : KP a} {t : CS} {r : Int32} (C : cx p s m args meth c cX0_areKept RX0 4 (some .boolean)) (hK : kC D dA a k t.2.2.2 s) (hT : cW D dA a k t s.heap) : ∀ (n : Nat), ∀ (x1 : Int32) (ls : Array Slot), C_areKept_p2 t n x1 = some r → lv_has ls 4 [(0, .ref a), (1, .int x1)] → W p l e rmX0_areKept s m args below meth c s.heap [] 0 0 (MQ below (rQi r) args s 0 0 nof) (F0 m 2 ls []) := by
  obtain ⟨hx, hb, hr, hml, hown, hts, hlocks⟩ := id C
  intro n
  induction n with
  | zero =>
    intro x1 ls h hl
    have h : none = some _ := h
    cases h
  | succ n ih =>
    intro x1 ls h hl
    rw [C_areKept_p2] at h
    refine lv_iload_n hx hb dX0_areKept_2 rfl (lv_at hl 1 rfl) ?_
    refine lv_iconst (v := 1) hx hb dX0_areKept_3 (by decide) ?_
    refine lv_aload_n hx hb dX0_areKept_4 rfl (lv_at hl 0 rfl) ?_
    refine cg0 C hK hT dX0_areKept_5 ?_
    refine c_getSN C hK hT (Or.inl rfl) 0 (by decide) (nf222 hK.2.1) rfl (v := .ref (a + 2)) rfl dX0_areKept_8 ?_
    refine lv_iconst (v := 5) hx hb dX0_areKept_11 (by decide) ?_
    obtain ⟨hi1, h⟩ := ck_some h
    refine c_ild C hK hT 2 7 (by decide) (fun _ _ => rfl) hi1 dX0_areKept_12 ?_
    refine lv_ishl hx hb dX0_areKept_13 ?_
    refine lv_icmp_ge (tgt := 79) hx hb dX0_areKept_14 (by decide) (fun c => ?_) (fun c => ?_)
    · replace h := if_t c h
      refine lv_iconst (v := 1) hx hb dX0_areKept_79 (by decide) ?_
      exact e_rz C (Or.inr rfl) h dX0_areKept_80
    · replace h := if_f c h
      refine lv_iconst (v := 0) hx hb dX0_areKept_17 (by decide) ?_
      refine lv_istore_n (lv' := [(2, .int (0 : Int32)), (0, .ref a), (1, .int x1)]) hx hb dX0_areKept_18 rfl hl (by decide) rfl (fun ls hl => ?_)
      refine lv_iconst (v := 0) hx hb dX0_areKept_19 (by decide) ?_
      refine lv_istore_n (lv' := [(3, .int (0 : Int32)), (2, .int (0 : Int32)), (0, .ref a), (1, .int x1)]) hx hb dX0_areKept_20 rfl hl (by decide) rfl (fun ls hl => ?_)
      exact bX0_areKept_p21 C hK hT ih fu x1 (0 : Int32) (0 : Int32) ls h (lv_sub hl [2, 3, 1, 0] rfl)
theorem bX0_areKept {p : Program} {l : Launch} {e : Env} {s : State} {m : MethodId} {args : Array Value} {below : List Frame} {meth : Method} {c : Code} {D : va_G} {dA : Nat → ClassId} {a : Nat} {k : KP a} {t : CS} {r : Int32} (C : cx p s m args meth c cX0_areKept RX0 4 (some .boolean)) (hK : kC D dA a k t.2.2.2 s) (hT : cW D dA a k t s.heap) : ∀ (ls : Array Slot), C_areKept t = some r → lv_has ls 4 [(0, .ref a)] → W p l e rmX0_areKept s m args below meth c s.heap [] 0 0 (MQ below (rQi r) args s 0 0 nof) (F0 m 0 ls []) := by
  obtain ⟨hx, hb, hr, hml, hown, hts, hlocks⟩ := id C
  intro ls h hl
  unfold C_areKept at h
  refine lv_iconst (v := 1) hx hb dX0_areKept_0 (by decide) ?_
  refine lv_istore_n (lv' := [(1, .int (1 : Int32)), (0, .ref a)]) hx hb dX0_areKept_1 rfl hl (by decide) rfl (fun ls hl => ?_)
  exact bX0_areKept_p2 C hK hT fu (1 : Int32) ls h (lv_sub hl [1, 0] rfl)
theorem mX0_areKept {l : Launch} {D : va_G} {dA : Nat → ClassId} {a : Nat} {k : KP a} {t : CS} {r : Int32} (h : C_areKept t = some r) : Met l yX0_areKept (ws_ yX0_areKept cX0_areKept 4 (some .boolean)) rmX0_areKept (cPc D dA a k t [.ref a]) (rQi r) 0 0 nof := en_C (by decide +kernel) rfl (Nat.le_of_ble_eq_true rfl) (fun p e s m below meth c ls C hK hT hl => bX0_areKept C hK hT ls h hl)
set_option maxRecDepth 20000 in
abbrev rmX0_shares (N : Nat) : Room := { frames := 2 + 1 * N, cells := 0, slots := 0, locals := 44 + 23 * N }
theorem hdX0_shares : yX0_shares.cls = RX0 ∧ yX0_shares.cls ≠ "java/lang/invoke/MethodHandle" ∧ yX0_shares.cls ≠ "java/lang/invoke/VarHandle" ∧ (parseMethodDescriptor yX0_shares.desc).map (fun d => d.parameters.length) = some 2 := by decide +kernel
theorem bX0_shares_p29 {p : Program} {l : Launch} {e : Env} {s : State} {m : MethodId} {args : Array Value} {below : List Frame} {meth : Method} {c : Code} {D : va_G} {dA : Nat → ClassId} {a : Nat} {k : KP a} {t0 : CS} {r : Int32} {t9 : CS} (C : cx p s m args meth c cX0_shares RX0 4 (some .boolean)) {N : Nat} {rec : CS → Int32 → Int32 → Option (Int32 × CS)} (hrec : ∀ (t : CS) (x1 : Int32) (x2 : Int32) (r : Int32) (t9 : CS), rec t x1 x2 = some (r, t9) → Met l yX0_shares (ws_ yX0_shares cX0_shares 4 (some .boolean)) (rmX0_shares N) (cPc D dA a k t [.ref a, .int x1, .int x2]) (cQ D dA a k 0 t t9 (some (.int r))) 0 0 (ca a)) : ∀ (n : Nat), ∀ (t : CS) (x1 : Int32) (x2 : Int32) (x3 : Int32) (H : Heap) (locs : List Loc) (hT : cW D dA a k t H) (hS : cS a s.heap H locs t0.2.2.2 0 t) (hK : kC D dA a k t.2.2.2 s) (ls : Array Slot), C_shares_p29 rec n t x1 x2 x3 = some (r, t9) → lv_has ls 4 [(0, .ref a), (1, .int x1), (2, .int x2), (3, .int x3)] → W p l e (rmX0_shares (N + 1)) s m args below meth c H locs 0 0 (MQ below (cQ D dA a k 0 t0 t9 (some (.int r))) args s 0 0 (ca a)) (F0 m 29 ls []) := by
  obtain ⟨hx, hb, hr, hml, hown, hts, hlocks⟩ := id C
  intro n
  induction n with
  | zero =>
    intro t x1 x2 x3 H locs hT hS hK ls h hl
    have h : none = some _ := h
    cases h
  | succ n ih =>
    intro t x1 x2 x3 H locs hT hS hK ls h hl
    rw [C_shares_p29] at h
    refine lv_iload_n hx hb dX0_shares_29 rfl (lv_at hl 3 rfl) ?_
    refine lv_iload_n hx hb dX0_shares_30 rfl (lv_at hl 2 rfl) ?_
    refine lv_icmp_gt (tgt := 62) hx hb dX0_shares_31 (by decide) (fun c => ?_) (fun c => ?_)
    · replace h := if_t c h
      refine lv_iconst (v := 0) hx hb dX0_shares_62 (by decide) ?_
      exact ec_z C hT hS (Or.inl rfl) h dX0_shares_63
    · replace h := if_f c h
      refine lv_aload_n hx hb dX0_shares_34 rfl (lv_at hl 0 rfl) ?_
      refine cg8 C hK hT dX0_shares_35 ?_
      refine lv_iload_n hx hb dX0_shares_38 rfl (lv_at hl 1 rfl) ?_
      refine lv_iload_n hx hb dX0_shares_39 rfl (lv_at hl 3 rfl) ?_
      obtain ⟨hi1, h⟩ := ck_some h
      refine c_ist C hK hT hS 108 4 (by decide) (fun _ _ => rfl) hi1 dX0_shares_40 (fun t2 H locs et2 hT hS hK => ?_)
      replace h := lt1_sub et2 h
      refine lv_aload_n hx hb dX0_shares_41 rfl (lv_at hl 0 rfl) ?_
      refine lv_iload_n hx hb dX0_shares_42 rfl (lv_at hl 1 rfl) ?_
      refine lv_iconst (v := 1) hx hb dX0_shares_43 (by decide) ?_
      refine lv_iadd hx hb dX0_shares_44 ?_
      refine lv_iload_n hx hb dX0_shares_45 rfl (lv_at hl 2 rfl) ?_
      refine lv_iload_n hx hb dX0_shares_46 rfl (lv_at hl 3 rfl) ?_
      refine lv_isub hx hb dX0_shares_47 ?_
      obtain ⟨v3, t4, ht4, h⟩ := bd2_some h
      refine wc_int hS hK (run_c (As := [.int (x1 + (1 : Int32)), .int (x2 - x3)]) (rest := []) C hK hT hS.2.1 (rv_X hK hT) (hrec _ _ _ _ _ ht4) q1404 q1406 qs52 q158 q1407 ⟨rfl, rfl⟩ hdX0_shares ⟨show 2 + 1 * N + 1 ≤ 2 + 1 * (N + 1) from by omega, show 8 + (4 + 11) + (44 + 23 * N) ≤ 44 + 23 * (N + 1) from by omega⟩ ⟨Nat.zero_le _, Nat.zero_le _⟩ rfl hl.1 rfl (Nat.le_of_ble_eq_true rfl) dX0_shares_48) (fun H locs hT hS hK hNt4 => ?_)
      refine lv_if_eq (tgt := 56) hx hb dX0_shares_51 (by decide) (fun c => ?_) (fun c => ?_)
      · replace h := if_t c h
        obtain ⟨v5, ev5⟩ : ∃ y : Int32, y = x3 + (1 : Int32) := ⟨_, rfl⟩
        replace h := lt1_sub ev5 h
        refine lv_iinc (v := v5) (lv' := [(3, .int v5), (0, .ref a), (1, .int x1), (2, .int x2)]) hx hb dX0_shares_56 hl (k := 3) rfl (by rw [ev5]; rfl) (by decide) rfl (fun ls hl => ?_)
        refine lv_goto (tgt := 29) hx hb dX0_shares_59 (by decide) ?_
        exact ih t4 x1 x2 v5 H locs hT hS hK ls h (lv_sub hl [1, 2, 3, 0] rfl)
      · replace h := if_f c h
        refine lv_iconst (v := 1) hx hb dX0_shares_54 (by decide) ?_
        exact ec_z C hT hS (Or.inr rfl) h dX0_shares_55
theorem bX0_shares {p : Program} {l : Launch} {e : Env} {s : State} {m : MethodId} {args : Array Value} {below : List Frame} {meth : Method} {c : Code} {D : va_G} {dA : Nat → ClassId} {a : Nat} {k : KP a} {t0 : CS} {r : Int32} {t9 : CS} (C : cx p s m args meth c cX0_shares RX0 4 (some .boolean)) {N : Nat} {rec : CS → Int32 → Int32 → Option (Int32 × CS)} (hrec : ∀ (t : CS) (x1 : Int32) (x2 : Int32) (r : Int32) (t9 : CS), rec t x1 x2 = some (r, t9) → Met l yX0_shares (ws_ yX0_shares cX0_shares 4 (some .boolean)) (rmX0_shares N) (cPc D dA a k t [.ref a, .int x1, .int x2]) (cQ D dA a k 0 t t9 (some (.int r))) 0 0 (ca a)) : ∀ (t : CS) (x1 : Int32) (x2 : Int32) (H : Heap) (locs : List Loc) (hT : cW D dA a k t H) (hS : cS a s.heap H locs t0.2.2.2 0 t) (hK : kC D dA a k t.2.2.2 s) (ls : Array Slot), C_shares_b rec t x1 x2 = some (r, t9) → lv_has ls 4 [(0, .ref a), (1, .int x1), (2, .int x2)] → W p l e (rmX0_shares (N + 1)) s m args below meth c H locs 0 0 (MQ below (cQ D dA a k 0 t0 t9 (some (.int r))) args s 0 0 (ca a)) (F0 m 0 ls []) := by
  obtain ⟨hx, hb, hr, hml, hown, hts, hlocks⟩ := id C
  intro t x1 x2 H locs hT hS hK ls h hl
  unfold C_shares_b at h
  refine lv_iload_n hx hb dX0_shares_0 rfl (lv_at hl 1 rfl) ?_
  refine lv_aload_n hx hb dX0_shares_1 rfl (lv_at hl 0 rfl) ?_
  refine cg0 C hK hT dX0_shares_2 ?_
  refine c_getSN C hK hT (Or.inl rfl) 0 (by decide) (nf222 hK.2.1) rfl (v := .ref (a + 2)) rfl dX0_shares_5 ?_
  refine lv_iconst (v := 5) hx hb dX0_shares_8 (by decide) ?_
  obtain ⟨hi1, h⟩ := ck_some h
  refine c_ild C hK hT 2 7 (by decide) (fun _ _ => rfl) hi1 dX0_shares_9 ?_
  refine lv_iconst (v := 1) hx hb dX0_shares_10 (by decide) ?_
  refine lv_isub hx hb dX0_shares_11 ?_
  refine lv_icmp_ne (tgt := 27) hx hb dX0_shares_12 (by decide) (fun c => ?_) (fun c => ?_)
  · replace h := if_f c h
    refine lv_iconst (v := 0) hx hb dX0_shares_27 (by decide) ?_
    refine lv_istore_n (lv' := [(3, .int (0 : Int32)), (0, .ref a), (1, .int x1), (2, .int x2)]) hx hb dX0_shares_28 rfl hl (by decide) rfl (fun ls hl => ?_)
    exact bX0_shares_p29 C hrec fu t x1 x2 (0 : Int32) H locs hT hS hK ls h (lv_sub hl [1, 2, 3, 0] rfl)
  · replace h := if_t c h
    refine lv_aload_n hx hb dX0_shares_15 rfl (lv_at hl 0 rfl) ?_
    refine cg8 C hK hT dX0_shares_16 ?_
    refine lv_iload_n hx hb dX0_shares_19 rfl (lv_at hl 1 rfl) ?_
    refine lv_iload_n hx hb dX0_shares_20 rfl (lv_at hl 2 rfl) ?_
    obtain ⟨hi2, h⟩ := ck_some h
    refine c_ist C hK hT hS 108 4 (by decide) (fun _ _ => rfl) hi2 dX0_shares_21 (fun t3 H locs et3 hT hS hK => ?_)
    replace h := lt1_sub et3 h
    refine lv_aload_n hx hb dX0_shares_22 rfl (lv_at hl 0 rfl) ?_
    obtain ⟨v4, hv4, h⟩ := bd1_some h
    refine r_int (run_c (As := []) (rest := []) C hK hT hS.2.1 (rv_X hK hT) (mX0_areKept hv4) q1408 q1410 qs53 q158 q1411 ⟨rfl, rfl⟩ hdX0_areKept ⟨show 1 + 1 ≤ 2 + 1 * (N + 1) from by omega, show 8 + (4 + 11) + (21) ≤ 44 + 23 * (N + 1) from by omega⟩ ⟨Nat.zero_le _, Nat.zero_le _⟩ rfl hl.1 rfl (Nat.le_of_ble_eq_true rfl) dX0_shares_23) ?_
    obtain ⟨hz, h⟩ := zr_some h
    exact ec_z C hT hS hz h dX0_shares_26
theorem mX0_shares {l : Launch} {D : va_G} {dA : Nat → ClassId} {a : Nat} {k : KP a} : ∀ (n : Nat), ∀ (t : CS) (x1 : Int32) (x2 : Int32) (r : Int32) (t9 : CS), C_shares n t x1 x2 = some (r, t9) → Met l yX0_shares (ws_ yX0_shares cX0_shares 4 (some .boolean)) (rmX0_shares n) (cPc D dA a k t [.ref a, .int x1, .int x2]) (cQ D dA a k 0 t t9 (some (.int r))) 0 0 (ca a) := by
  intro n
  induction n with
  | zero =>
    intro t x1 x2 r t9 h
    have h : none = some _ := h
    cases h
  | succ n ih =>
    intro t x1 x2 r t9 h
    rw [C_shares] at h
    exact en_C (by decide +kernel) rfl (Nat.le_of_ble_eq_true rfl) (fun p e s m below meth c ls C hK hT hl => bX0_shares C ih t x1 x2 _ [] hT cS.rf hK ls h hl)
set_option maxRecDepth 20000 in
abbrev rmX0_core : Room := { frames := 67, cells := 0, slots := 0, locals := 1539 }
theorem hdX0_core : yX0_core.cls = RX0 ∧ yX0_core.cls ≠ "java/lang/invoke/MethodHandle" ∧ yX0_core.cls ≠ "java/lang/invoke/VarHandle" ∧ (parseMethodDescriptor yX0_core.desc).map (fun d => d.parameters.length) = some 2 := by decide +kernel
theorem bX0_core_p33 {p : Program} {l : Launch} {e : Env} {s : State} {m : MethodId} {args : Array Value} {below : List Frame} {meth : Method} {c : Code} {D : va_G} {dA : Nat → ClassId} {a : Nat} {k : KP a} {t0 : CS} {r : Int32} {t9 : CS} (C : cx p s m args meth c cX0_core RX0 4 (some .int)) : ∀ (n : Nat), ∀ (t : CS) (x1 : Int32) (x2 : Int32) (x3 : Int32) (H : Heap) (locs : List Loc) (hT : cW D dA a k t H) (hS : cS a s.heap H locs t0.2.2.2 0 t) (hK : kC D dA a k t.2.2.2 s) (ls : Array Slot), C_core_p33 n t x1 x2 x3 = some (r, t9) → lv_has ls 4 [(0, .ref a), (1, .int x1), (2, .int x2), (3, .int x3)] → W p l e rmX0_core s m args below meth c H locs 0 0 (MQ below (cQ D dA a k 0 t0 t9 (some (.int r))) args s 0 0 (ca a)) (F0 m 33 ls []) := by
  obtain ⟨hx, hb, hr, hml, hown, hts, hlocks⟩ := id C
  intro n
  induction n with
  | zero =>
    intro t x1 x2 x3 H locs hT hS hK ls h hl
    have h : none = some _ := h
    cases h
  | succ n ih =>
    intro t x1 x2 x3 H locs hT hS hK ls h hl
    rw [C_core_p33] at h
    refine lv_iload_n hx hb dX0_core_33 rfl (lv_at hl 3 rfl) ?_
    refine lv_iconst (v := 1) hx hb dX0_core_34 (by decide) ?_
    refine lv_aload_n hx hb dX0_core_35 rfl (lv_at hl 0 rfl) ?_
    refine cg0 C hK hT dX0_core_36 ?_
    refine c_getSN C hK hT (Or.inl rfl) 0 (by decide) (nf222 hK.2.1) rfl (v := .ref (a + 2)) rfl dX0_core_39 ?_
    refine lv_iconst (v := 5) hx hb dX0_core_42 (by decide) ?_
    obtain ⟨hi1, h⟩ := ck_some h
    refine c_ild C hK hT 2 7 (by decide) (fun _ _ => rfl) hi1 dX0_core_43 ?_
    refine lv_ishl hx hb dX0_core_44 ?_
    refine lv_icmp_ge (tgt := 65) hx hb dX0_core_45 (by decide) (fun c => ?_) (fun c => ?_)
    · replace h := if_t c h
      refine lv_aload_n hx hb dX0_core_65 rfl (lv_at hl 0 rfl) ?_
      refine lv_iconst (v := 0) hx hb dX0_core_66 (by decide) ?_
      refine lv_iload_n hx hb dX0_core_67 rfl (lv_at hl 1 rfl) ?_
      obtain ⟨v2, t3, ht3, h⟩ := bd2_some h
      refine wc_int hS hK (run_c (As := [.int (0 : Int32), .int x1]) (rest := []) C hK hT hS.2.1 (rv_X hK hT) (mX0_shares 64 _ _ _ _ _ ht3) q1404 q1406 qs52 q158 q1407 ⟨rfl, rfl⟩ hdX0_shares ⟨Nat.le_of_ble_eq_true rfl, Nat.le_of_ble_eq_true rfl⟩ ⟨Nat.zero_le _, Nat.zero_le _⟩ rfl hl.1 rfl (Nat.le_of_ble_eq_true rfl) dX0_core_68) (fun H locs hT hS hK hNt3 => ?_)
      refine lv_if_eq (tgt := 83) hx hb dX0_core_71 (by decide) (fun c => ?_) (fun c => ?_)
      · replace h := if_t c h
        refine lv_iconst (v := -1) hx hb dX0_core_83 (by decide) ?_
        exact ec_i C hT hS h dX0_core_84
      · replace h := if_f c h
        refine lv_aload_n hx hb dX0_core_74 rfl (lv_at hl 0 rfl) ?_
        refine cg8 C hK hT dX0_core_75 ?_
        refine lv_iload_n hx hb dX0_core_78 rfl (lv_at hl 2 rfl) ?_
        obtain ⟨hi4, h⟩ := ck_some h
        refine c_ild C hK hT 108 4 (by decide) (fun _ _ => rfl) hi4 dX0_core_79 ?_
        refine lv_goto (tgt := 84) hx hb dX0_core_80 (by decide) ?_
        exact ec_i C hT hS h dX0_core_84
    · replace h := if_f c h
      refine lv_aload_n hx hb dX0_core_48 rfl (lv_at hl 0 rfl) ?_
      refine cg9 C hK hT dX0_core_49 ?_
      refine lv_iload_n hx hb dX0_core_52 rfl (lv_at hl 3 rfl) ?_
      refine lv_aload_n hx hb dX0_core_53 rfl (lv_at hl 0 rfl) ?_
      refine lv_iload_n hx hb dX0_core_54 rfl (lv_at hl 3 rfl) ?_
      obtain ⟨v5, t6, ht6, h⟩ := bd2_some h
      refine wc_int hS hK (run_c (As := [.int x3]) (rest := [.int x3, .ref (a + 109)]) C hK hT hS.2.1 (rv_X hK hT) (mX0_worthOf ht6) q1396 q1398 qs51 q158 q1399 ⟨rfl, rfl⟩ hdX0_worthOf ⟨Nat.le_of_ble_eq_true rfl, Nat.le_of_ble_eq_true rfl⟩ ⟨Nat.zero_le _, Nat.zero_le _⟩ rfl hl.1 rfl (Nat.le_of_ble_eq_true rfl) dX0_core_55) (fun H locs hT hS hK hNt6 => ?_)
      obtain ⟨hi7, h⟩ := ck_some h
      refine c_ist C hK hT hS 109 16 (by decide) (fun _ _ => rfl) hi7 dX0_core_58 (fun t8 H locs et8 hT hS hK => ?_)
      replace h := lt1_sub et8 h
      obtain ⟨v9, ev9⟩ : ∃ y : Int32, y = x3 + (1 : Int32) := ⟨_, rfl⟩
      replace h := lt1_sub ev9 h
      refine lv_iinc (v := v9) (lv' := [(3, .int v9), (0, .ref a), (1, .int x1), (2, .int x2)]) hx hb dX0_core_59 hl (k := 3) rfl (by rw [ev9]; rfl) (by decide) rfl (fun ls hl => ?_)
      refine lv_goto (tgt := 33) hx hb dX0_core_62 (by decide) ?_
      exact ih t8 x1 x2 v9 H locs hT hS hK ls h (lv_sub hl [1, 2, 3, 0] rfl)
theorem bX0_core {p : Program} {l : Launch} {e : Env} {s : State} {m : MethodId} {args : Array Value} {below : List Frame} {meth : Method} {c : Code} {D : va_G} {dA : Nat → ClassId} {a : Nat} {k : KP a} {t0 : CS} {r : Int32} {t9 : CS} (C : cx p s m args meth c cX0_core RX0 4 (some .int)) : ∀ (t : CS) (x1 : Int32) (x2 : Int32) (H : Heap) (locs : List Loc) (hT : cW D dA a k t H) (hS : cS a s.heap H locs t0.2.2.2 0 t) (hK : kC D dA a k t.2.2.2 s) (ls : Array Slot), C_core t x1 x2 = some (r, t9) → lv_has ls 4 [(0, .ref a), (1, .int x1), (2, .int x2)] → W p l e rmX0_core s m args below meth c H locs 0 0 (MQ below (cQ D dA a k 0 t0 t9 (some (.int r))) args s 0 0 (ca a)) (F0 m 0 ls []) := by
  obtain ⟨hx, hb, hr, hml, hown, hts, hlocks⟩ := id C
  intro t x1 x2 H locs hT hS hK ls h hl
  unfold C_core at h
  refine lv_iload_n hx hb dX0_core_0 rfl (lv_at hl 1 rfl) ?_
  refine lv_iconst (v := 0) hx hb dX0_core_1 (by decide) ?_
  refine lv_bipush (v := 30) hx hb dX0_core_2 (by decide) ?_
  obtain ⟨v1, hv1, h⟩ := bd1_some h
  refine r_int (run_s (As := [.int x1, .int (0 : Int32), .int (30 : Int32)]) (rest := []) C (mX0_in hv1) q341 q342 q158 q343 ⟨rfl, rfl⟩ hdX0_in ⟨Nat.le_of_ble_eq_true rfl, Nat.le_of_ble_eq_true rfl⟩ ⟨Nat.zero_le _, Nat.zero_le _⟩ rfl hl.1 rfl (Nat.le_of_ble_eq_true rfl) dX0_core_4) ?_
  refine lv_if_eq (tgt := 29) hx hb dX0_core_7 (by decide) (fun c => ?_) (fun c => ?_)
  · replace h := if_t c h
    refine lv_iconst (v := -1) hx hb dX0_core_29 (by decide) ?_
    exact ec_i C hT hS h dX0_core_30
  · replace h := if_f c h
    refine lv_iload_n hx hb dX0_core_10 rfl (lv_at hl 2 rfl) ?_
    refine lv_iconst (v := 0) hx hb dX0_core_11 (by decide) ?_
    refine lv_aload_n hx hb dX0_core_12 rfl (lv_at hl 0 rfl) ?_
    refine cg0 C hK hT dX0_core_13 ?_
    refine c_getSN C hK hT (Or.inl rfl) 0 (by decide) (nf222 hK.2.1) rfl (v := .ref (a + 2)) rfl dX0_core_16 ?_
    refine lv_iconst (v := 5) hx hb dX0_core_19 (by decide) ?_
    obtain ⟨hi2, h⟩ := ck_some h
    refine c_ild C hK hT 2 7 (by decide) (fun _ _ => rfl) hi2 dX0_core_20 ?_
    refine lv_iconst (v := 1) hx hb dX0_core_21 (by decide) ?_
    refine lv_isub hx hb dX0_core_22 ?_
    obtain ⟨v3, hv3, h⟩ := bd1_some h
    refine r_int (run_s (As := [.int x2, .int (0 : Int32), .int ((t.1 2 (5 : Int32).toNatClampNeg) - (1 : Int32))]) (rest := []) C (mX0_in hv3) q341 q342 q158 q343 ⟨rfl, rfl⟩ hdX0_in ⟨Nat.le_of_ble_eq_true rfl, Nat.le_of_ble_eq_true rfl⟩ ⟨Nat.zero_le _, Nat.zero_le _⟩ rfl hl.1 rfl (Nat.le_of_ble_eq_true rfl) dX0_core_23) ?_
    refine lv_if_ne (tgt := 31) hx hb dX0_core_26 (by decide) (fun c => ?_) (fun c => ?_)
    · replace h := if_f c h
      refine lv_iconst (v := 0) hx hb dX0_core_31 (by decide) ?_
      refine lv_istore_n (lv' := [(3, .int (0 : Int32)), (0, .ref a), (1, .int x1), (2, .int x2)]) hx hb dX0_core_32 rfl hl (by decide) rfl (fun ls hl => ?_)
      exact bX0_core_p33 C fu t x1 x2 (0 : Int32) H locs hT hS hK ls h (lv_sub hl [1, 2, 3, 0] rfl)
    · replace h := if_t c h
      refine lv_iconst (v := -1) hx hb dX0_core_29 (by decide) ?_
      exact ec_i C hT hS h dX0_core_30
theorem mX0_core {l : Launch} {D : va_G} {dA : Nat → ClassId} {a : Nat} {k : KP a} {t : CS} {x1 : Int32} {x2 : Int32} {r : Int32} {t9 : CS} (h : C_core t x1 x2 = some (r, t9)) : Met l yX0_core (ws_ yX0_core cX0_core 4 (some .int)) rmX0_core (cPc D dA a k t [.ref a, .int x1, .int x2]) (cQ D dA a k 0 t t9 (some (.int r))) 0 0 (ca a) := en_C (by decide +kernel) rfl (Nat.le_of_ble_eq_true rfl) (fun p e s m below meth c ls C hK hT hl => bX0_core C t x1 x2 _ [] hT cS.rf hK ls h hl)
set_option maxRecDepth 20000 in
abbrev rmJ0_fill_2_110 : Room := { frames := 0, cells := 0, slots := 0, locals := 0 }
theorem hdJ0_fill_2_110 : yJ0_fill_2.cls ≠ "java/lang/invoke/MethodHandle" ∧ yJ0_fill_2.cls ≠ "java/lang/invoke/VarHandle" ∧ (parseMethodDescriptor yJ0_fill_2.desc).map (fun d => d.parameters.length) = some 2 := by decide +kernel
theorem bJ0_fill_2_110_p5 {p : Program} {l : Launch} {e : Env} {s : State} {m : MethodId} {args : Array Value} {below : List Frame} {meth : Method} {c : Code} {D : va_G} {dA : Nat → ClassId} {a : Nat} {k : KP a} {t0 : CS} {t9 : CS} (C : cx p s m args meth c cJ0_fill_2 RJ0 4 none) : ∀ (n : Nat), ∀ (t : CS) (x1 : Int32) (x2 : Int32) (x3 : Int32) (H : Heap) (locs : List Loc) (hT : cW D dA a k t H) (hS : cS a s.heap H locs t0.2.2.2 0 t) (hK : kC D dA a k t.2.2.2 s) (ls : Array Slot), J_J0_fill_2_110_p5 n t x1 x2 x3 = some t9 → lv_has ls 4 [(0, .ref (a + 110)), (1, .int x1), (2, .int x2), (3, .int x3)] → W p l e rmJ0_fill_2_110 s m args below meth c H locs 0 0 (MQ below (cQ D dA a k 0 t0 t9 none) args s 0 0 (ca a)) (F0 m 5 ls []) := by
  obtain ⟨hx, hb, hr, hml, hown, hts, hlocks⟩ := id C
  intro n
  induction n with
  | zero =>
    intro t x1 x2 x3 H locs hT hS hK ls h hl
    have h : none = some _ := h
    cases h
  | succ n ih =>
    intro t x1 x2 x3 H locs hT hS hK ls h hl
    rw [J_J0_fill_2_110_p5] at h
    refine lv_iload_n hx hb dJ0_fill_2_5 rfl (lv_at hl 2 rfl) ?_
    refine lv_iload_n hx hb dJ0_fill_2_6 rfl (lv_at hl 3 rfl) ?_
    refine lv_icmp_ge (tgt := 20) hx hb dJ0_fill_2_7 (by decide) (fun c => ?_) (fun c => ?_)
    · replace h := if_t c h
      exact ec_v C hT hS h dJ0_fill_2_20
    · replace h := if_f c h
      refine lv_aload_n hx hb dJ0_fill_2_10 rfl (lv_at hl 0 rfl) ?_
      refine lv_iload_n hx hb dJ0_fill_2_11 rfl (lv_at hl 2 rfl) ?_
      refine lv_iload_n hx hb dJ0_fill_2_12 rfl (lv_at hl 1 rfl) ?_
      obtain ⟨hi1, h⟩ := ck_some h
      refine c_bst C hK hT hS 110 1024 (by decide) (fun _ _ => rfl) hi1 dJ0_fill_2_13 (fun t2 H locs et2 hT hS hK => ?_)
      replace h := lt1_sub et2 h
      obtain ⟨v3, ev3⟩ : ∃ y : Int32, y = x2 + (1 : Int32) := ⟨_, rfl⟩
      replace h := lt1_sub ev3 h
      refine lv_iinc (v := v3) (lv' := [(2, .int v3), (0, .ref (a + 110)), (1, .int x1), (3, .int x3)]) hx hb dJ0_fill_2_14 hl (k := 2) rfl (by rw [ev3]; rfl) (by decide) rfl (fun ls hl => ?_)
      refine lv_goto (tgt := 5) hx hb dJ0_fill_2_17 (by decide) ?_
      exact ih t2 x1 v3 x3 H locs hT hS hK ls h (lv_sub hl [1, 2, 0, 3] rfl)
theorem bJ0_fill_2_110 {p : Program} {l : Launch} {e : Env} {s : State} {m : MethodId} {args : Array Value} {below : List Frame} {meth : Method} {c : Code} {D : va_G} {dA : Nat → ClassId} {a : Nat} {k : KP a} {t0 : CS} {t9 : CS} (C : cx p s m args meth c cJ0_fill_2 RJ0 4 none) : ∀ (t : CS) (x1 : Int32) (H : Heap) (locs : List Loc) (hT : cW D dA a k t H) (hS : cS a s.heap H locs t0.2.2.2 0 t) (hK : kC D dA a k t.2.2.2 s) (ls : Array Slot), J_J0_fill_2_110 t x1 = some t9 → lv_has ls 4 [(0, .ref (a + 110)), (1, .int x1)] → W p l e rmJ0_fill_2_110 s m args below meth c H locs 0 0 (MQ below (cQ D dA a k 0 t0 t9 none) args s 0 0 (ca a)) (F0 m 0 ls []) := by
  obtain ⟨hx, hb, hr, hml, hown, hts, hlocks⟩ := id C
  intro t x1 H locs hT hS hK ls h hl
  unfold J_J0_fill_2_110 at h
  refine lv_iconst (v := 0) hx hb dJ0_fill_2_0 (by decide) ?_
  refine lv_istore_n (lv' := [(2, .int (0 : Int32)), (0, .ref (a + 110)), (1, .int x1)]) hx hb dJ0_fill_2_1 rfl hl (by decide) rfl (fun ls hl => ?_)
  refine lv_aload_n hx hb dJ0_fill_2_2 rfl (lv_at hl 1 rfl) ?_
  refine c_aln C hK hT 110 1024 (by decide) 1 rfl rfl (v := 1024) (by decide) dJ0_fill_2_3 ?_
  refine lv_istore_n (lv' := [(3, .int (1024 : Int32)), (2, .int (0 : Int32)), (0, .ref (a + 110)), (1, .int x1)]) hx hb dJ0_fill_2_4 rfl hl (by decide) rfl (fun ls hl => ?_)
  exact bJ0_fill_2_110_p5 C fu t x1 (0 : Int32) (1024 : Int32) H locs hT hS hK ls h (lv_sub hl [2, 3, 1, 0] rfl)
theorem mJ0_fill_2_110 {l : Launch} {D : va_G} {dA : Nat → ClassId} {a : Nat} {k : KP a} {t : CS} {x1 : Int32} {t9 : CS} (h : J_J0_fill_2_110 t x1 = some t9) : Met l yJ0_fill_2 (ws_ yJ0_fill_2 cJ0_fill_2 4 none) rmJ0_fill_2_110 (cPc D dA a k t [.ref (a + 110), .int x1]) (cQ D dA a k 0 t t9 none) 0 0 (ca a) := en_C (by decide +kernel) rfl (Nat.le_of_ble_eq_true rfl) (fun p e s m below meth c ls C hK hT hl => bJ0_fill_2_110 C t x1 _ [] hT cS.rf hK ls h hl)
set_option maxRecDepth 20000 in
abbrev rmX0_outOf : Room := { frames := 1, cells := 0, slots := 0, locals := 21 }
theorem hdX0_outOf : yX0_outOf.cls = RX0 ∧ yX0_outOf.cls ≠ "java/lang/invoke/MethodHandle" ∧ yX0_outOf.cls ≠ "java/lang/invoke/VarHandle" ∧ (parseMethodDescriptor yX0_outOf.desc).map (fun d => d.parameters.length) = some 1 := by decide +kernel
theorem bX0_outOf_p33 {p : Program} {l : Launch} {e : Env} {s : State} {m : MethodId} {args : Array Value} {below : List Frame} {meth : Method} {c : Code} {D : va_G} {dA : Nat → ClassId} {a : Nat} {k : KP a} {t : CS} {r : Int32} (C : cx p s m args meth c cX0_outOf RX0 4 (some .int)) (hK : kC D dA a k t.2.2.2 s) (hT : cW D dA a k t s.heap) {k4 : Int32 → Int32 → Int32 → Option Int32} (hk4 : ∀ (x1 : Int32) (x2 : Int32) (x3 : Int32) (ls : Array Slot), k4 x1 x2 x3 = some r → lv_has ls 4 [(0, .ref a), (1, .int x1), (2, .int x2), (3, .int x3)] → W p l e rmX0_outOf s m args below meth c s.heap [] 0 0 (MQ below (rQi r) args s 0 0 nof) (F0 m 4 ls [])) : ∀ (x1 : Int32) (x3 : Int32) (y0 : Int32) (y1 : Int32) (ls : Array Slot), C_outOf_p33 k4 t x1 x3 y0 y1 = some r → lv_has ls 4 [(0, .ref a), (1, .int x1), (3, .int x3)] → W p l e rmX0_outOf s m args below meth c s.heap [] 0 0 (MQ below (rQi r) args s 0 0 nof) (F0 m 33 ls [.int y1, .int y0]) := by
  obtain ⟨hx, hb, hr, hml, hown, hts, hlocks⟩ := id C
  intro x1 x3 y0 y1 ls h hl
  unfold C_outOf_p33 at h
  refine lv_ior hx hb dX0_outOf_33 ?_
  refine lv_topi (fun v1 ev1 => ?_)
  replace h := lt1_sub ev1 h
  refine lv_istore_n (lv' := [(2, .int v1), (0, .ref a), (1, .int x1), (3, .int x3)]) hx hb dX0_outOf_34 rfl hl (by decide) rfl (fun ls hl => ?_)
  obtain ⟨v2, ev2⟩ : ∃ y : Int32, y = x3 + (1 : Int32) := ⟨_, rfl⟩
  replace h := lt1_sub ev2 h
  refine lv_iinc (v := v2) (lv' := [(3, .int v2), (2, .int v1), (0, .ref a), (1, .int x1)]) hx hb dX0_outOf_35 hl (k := 3) rfl (by rw [ev2]; rfl) (by decide) rfl (fun ls hl => ?_)
  refine lv_goto (tgt := 4) hx hb dX0_outOf_38 (by decide) ?_
  exact hk4 x1 v1 v2 ls h (lv_sub hl [2, 3, 1, 0] rfl)
theorem bX0_outOf_p4 {p : Program} {l : Launch} {e : Env} {s : State} {m : MethodId} {args : Array Value} {below : List Frame} {meth : Method} {c : Code} {D : va_G} {dA : Nat → ClassId} {a : Nat} {k : KP a} {t : CS} {r : Int32} (C : cx p s m args meth c cX0_outOf RX0 4 (some .int)) (hK : kC D dA a k t.2.2.2 s) (hT : cW D dA a k t s.heap) : ∀ (n : Nat), ∀ (x1 : Int32) (x2 : Int32) (x3 : Int32) (ls : Array Slot), C_outOf_p4 t n x1 x2 x3 = some r → lv_has ls 4 [(0, .ref a), (1, .int x1), (2, .int x2), (3, .int x3)] → W p l e rmX0_outOf s m args below meth c s.heap [] 0 0 (MQ below (rQi r) args s 0 0 nof) (F0 m 4 ls []) := by
  obtain ⟨hx, hb, hr, hml, hown, hts, hlocks⟩ := id C
  intro n
  induction n with
  | zero =>
    intro x1 x2 x3 ls h hl
    have h : none = some _ := h
    cases h
  | succ n ih =>
    intro x1 x2 x3 ls h hl
    rw [C_outOf_p4] at h
    refine lv_iload_n hx hb dX0_outOf_4 rfl (lv_at hl 3 rfl) ?_
    refine lv_aload_n hx hb dX0_outOf_5 rfl (lv_at hl 0 rfl) ?_
    refine cg12 C hK hT dX0_outOf_6 ?_
    refine lv_icmp_ge (tgt := 41) hx hb dX0_outOf_9 (by decide) (fun c => ?_) (fun c => ?_)
    · replace h := if_t c h
      refine lv_iload_n hx hb dX0_outOf_41 rfl (lv_at hl 2 rfl) ?_
      exact e_ri C h dX0_outOf_42
    · replace h := if_f c h
      refine lv_iload_n hx hb dX0_outOf_12 rfl (lv_at hl 2 rfl) ?_
      refine lv_iload_n hx hb dX0_outOf_13 rfl (lv_at hl 1 rfl) ?_
      refine lv_iload_n hx hb dX0_outOf_14 rfl (lv_at hl 3 rfl) ?_
      obtain ⟨v1, hv1, h⟩ := bd1_some h
      refine r_int (run_s (As := [.int x1, .int x3]) (rest := [.int x2]) C (mX0_has hv1) q344 q345 q158 q346 ⟨rfl, rfl⟩ hdX0_has ⟨Nat.le_of_ble_eq_true rfl, Nat.le_of_ble_eq_true rfl⟩ ⟨Nat.zero_le _, Nat.zero_le _⟩ rfl hl.1 rfl (Nat.le_of_ble_eq_true rfl) dX0_outOf_15) ?_
      refine lv_if_eq (tgt := 32) hx hb dX0_outOf_18 (by decide) (fun c => ?_) (fun c => ?_)
      · replace h := if_t c h
        refine lv_iconst (v := 0) hx hb dX0_outOf_32 (by decide) ?_
        exact bX0_outOf_p33 C hK hT ih x1 x3 x2 (0 : Int32) ls h (lv_sub hl [0, 1, 3] rfl)
      · replace h := if_f c h
        refine lv_iconst (v := 1) hx hb dX0_outOf_21 (by decide) ?_
        refine lv_aload_n hx hb dX0_outOf_22 rfl (lv_at hl 0 rfl) ?_
        refine cg11 C hK hT dX0_outOf_23 ?_
        refine lv_iload_n hx hb dX0_outOf_26 rfl (lv_at hl 3 rfl) ?_
        obtain ⟨hi2, h⟩ := ck_some h
        refine c_ild C hK hT 111 10 (by decide) (fun _ _ => rfl) hi2 dX0_outOf_27 ?_
        refine lv_ishl hx hb dX0_outOf_28 ?_
        refine lv_goto (tgt := 33) hx hb dX0_outOf_29 (by decide) ?_
        exact bX0_outOf_p33 C hK hT ih x1 x3 x2 ((1 : Int32) <<< ((t.1 111 x3.toNatClampNeg) &&& (31 : Int32))) ls h (lv_sub hl [0, 1, 3] rfl)
theorem bX0_outOf {p : Program} {l : Launch} {e : Env} {s : State} {m : MethodId} {args : Array Value} {below : List Frame} {meth : Method} {c : Code} {D : va_G} {dA : Nat → ClassId} {a : Nat} {k : KP a} {t : CS} {r : Int32} (C : cx p s m args meth c cX0_outOf RX0 4 (some .int)) (hK : kC D dA a k t.2.2.2 s) (hT : cW D dA a k t s.heap) : ∀ (x1 : Int32) (ls : Array Slot), C_outOf t x1 = some r → lv_has ls 4 [(0, .ref a), (1, .int x1)] → W p l e rmX0_outOf s m args below meth c s.heap [] 0 0 (MQ below (rQi r) args s 0 0 nof) (F0 m 0 ls []) := by
  obtain ⟨hx, hb, hr, hml, hown, hts, hlocks⟩ := id C
  intro x1 ls h hl
  unfold C_outOf at h
  refine lv_iconst (v := 0) hx hb dX0_outOf_0 (by decide) ?_
  refine lv_istore_n (lv' := [(2, .int (0 : Int32)), (0, .ref a), (1, .int x1)]) hx hb dX0_outOf_1 rfl hl (by decide) rfl (fun ls hl => ?_)
  refine lv_iconst (v := 0) hx hb dX0_outOf_2 (by decide) ?_
  refine lv_istore_n (lv' := [(3, .int (0 : Int32)), (2, .int (0 : Int32)), (0, .ref a), (1, .int x1)]) hx hb dX0_outOf_3 rfl hl (by decide) rfl (fun ls hl => ?_)
  exact bX0_outOf_p4 C hK hT fu x1 (0 : Int32) (0 : Int32) ls h (lv_sub hl [2, 3, 1, 0] rfl)
theorem mX0_outOf {l : Launch} {D : va_G} {dA : Nat → ClassId} {a : Nat} {k : KP a} {t : CS} {x1 : Int32} {r : Int32} (h : C_outOf t x1 = some r) : Met l yX0_outOf (ws_ yX0_outOf cX0_outOf 4 (some .int)) rmX0_outOf (cPc D dA a k t [.ref a, .int x1]) (rQi r) 0 0 nof := en_C (by decide +kernel) rfl (Nat.le_of_ble_eq_true rfl) (fun p e s m below meth c ls C hK hT hl => bX0_outOf C hK hT x1 ls h hl)
set_option maxRecDepth 20000 in
abbrev rmX0_doesWin (N : Nat) : Room := { frames := 4 + 4 * N, cells := 0, slots := 0, locals := 90 + 94 * N }
theorem hdX0_doesWin : yX0_doesWin.cls = RX0 ∧ yX0_doesWin.cls ≠ "java/lang/invoke/MethodHandle" ∧ yX0_doesWin.cls ≠ "java/lang/invoke/VarHandle" ∧ (parseMethodDescriptor yX0_doesWin.desc).map (fun d => d.parameters.length) = some 2 := by decide +kernel
abbrev rmX0_isGood (N : Nat) : Room := { frames := 5 + 4 * N, cells := 0, slots := 0, locals := 137 + 94 * N }
theorem hdX0_isGood : yX0_isGood.cls = RX0 ∧ yX0_isGood.cls ≠ "java/lang/invoke/MethodHandle" ∧ yX0_isGood.cls ≠ "java/lang/invoke/VarHandle" ∧ (parseMethodDescriptor yX0_isGood.desc).map (fun d => d.parameters.length) = some 3 := by decide +kernel
theorem bX0_isGood {p : Program} {l : Launch} {e : Env} {s : State} {m : MethodId} {args : Array Value} {below : List Frame} {meth : Method} {c : Code} {D : va_G} {dA : Nat → ClassId} {a : Nat} {k : KP a} {t0 : CS} {r : Int32} {t9 : CS} (C : cx p s m args meth c cX0_isGood RX0 4 (some .boolean)) {N : Nat} {rec : CS → Int32 → Int32 → Option (Int32 × CS)} (hrec : ∀ (t : CS) (x1 : Int32) (x2 : Int32) (r : Int32) (t9 : CS), rec t x1 x2 = some (r, t9) → Met l yX0_doesWin (ws_ yX0_doesWin cX0_doesWin 5 (some .boolean)) (rmX0_doesWin N) (cPc D dA a k t [.ref a, .int x1, .int x2]) (cQ D dA a k 0 t t9 (some (.int r))) 0 0 (ca a)) : ∀ (t : CS) (x1 : Int32) (x2 : Int32) (x3 : Int32) (H : Heap) (locs : List Loc) (hT : cW D dA a k t H) (hS : cS a s.heap H locs t0.2.2.2 0 t) (hK : kC D dA a k t.2.2.2 s) (ls : Array Slot), C_isGood rec t x1 x2 x3 = some (r, t9) → lv_has ls 4 [(0, .ref a), (1, .int x1), (2, .int x2), (3, .int x3)] → W p l e (rmX0_isGood N) s m args below meth c H locs 0 0 (MQ below (cQ D dA a k 0 t0 t9 (some (.int r))) args s 0 0 (ca a)) (F0 m 0 ls []) := by
  obtain ⟨hx, hb, hr, hml, hown, hts, hlocks⟩ := id C
  intro t x1 x2 x3 H locs hT hS hK ls h hl
  unfold C_isGood at h
  refine lv_aload_n hx hb dX0_isGood_0 rfl (lv_at hl 0 rfl) ?_
  refine lv_iload_n hx hb dX0_isGood_1 rfl (lv_at hl 1 rfl) ?_
  refine lv_aload_n hx hb dX0_isGood_2 rfl (lv_at hl 0 rfl) ?_
  refine lv_iload_n hx hb dX0_isGood_3 rfl (lv_at hl 2 rfl) ?_
  refine lv_iconst (v := 1) hx hb dX0_isGood_4 (by decide) ?_
  refine lv_iload_n hx hb dX0_isGood_5 rfl (lv_at hl 3 rfl) ?_
  refine lv_ishl hx hb dX0_isGood_6 ?_
  refine lv_ior hx hb dX0_isGood_7 ?_
  obtain ⟨v1, hv1, h⟩ := bd1_some h
  refine r_int (run_c (As := [.int (x2 ||| ((1 : Int32) <<< (x3 &&& (31 : Int32))))]) (rest := [.int x1, .ref a]) C hK hT hS.2.1 (rv_X hK hT) (mX0_outOf hv1) q1427 q1429 qs56 q158 q1430 ⟨rfl, rfl⟩ hdX0_outOf ⟨show 1 + 1 ≤ 5 + 4 * N from by omega, show 8 + (4 + 11) + (21) ≤ 137 + 94 * N from by omega⟩ ⟨Nat.zero_le _, Nat.zero_le _⟩ rfl hl.1 rfl (Nat.le_of_ble_eq_true rfl) dX0_isGood_8) ?_
  obtain ⟨v2, t3, ht3, h⟩ := bd2_some h
  refine wc_int hS hK (run_c (As := [.int x1, .int v1]) (rest := []) C hK hT hS.2.1 (rv_X hK hT) (mX0_says ht3) q1221 q1223 qs37 q158 q1224 ⟨rfl, rfl⟩ hdX0_says ⟨show 3 + 1 ≤ 5 + 4 * N from by omega, show 8 + (5 + 11) + (66) ≤ 137 + 94 * N from by omega⟩ ⟨Nat.zero_le _, Nat.zero_le _⟩ rfl hl.1 rfl (Nat.le_of_ble_eq_true rfl) dX0_isGood_11) (fun H locs hT hS hK hNt3 => ?_)
  refine lv_if_eq (tgt := 34) hx hb dX0_isGood_14 (by decide) (fun c => ?_) (fun c => ?_)
  · replace h := if_t c h
    refine lv_iconst (v := 0) hx hb dX0_isGood_34 (by decide) ?_
    exact ec_z C hT hS (Or.inl rfl) h dX0_isGood_35
  · replace h := if_f c h
    refine lv_aload_n hx hb dX0_isGood_17 rfl (lv_at hl 0 rfl) ?_
    refine lv_iload_n hx hb dX0_isGood_18 rfl (lv_at hl 1 rfl) ?_
    refine lv_iload_n hx hb dX0_isGood_19 rfl (lv_at hl 2 rfl) ?_
    refine lv_iconst (v := 1) hx hb dX0_isGood_20 (by decide) ?_
    refine lv_iload_n hx hb dX0_isGood_21 rfl (lv_at hl 3 rfl) ?_
    refine lv_ishl hx hb dX0_isGood_22 ?_
    refine lv_ior hx hb dX0_isGood_23 ?_
    obtain ⟨v4, t5, ht5, h⟩ := bd2_some h
    refine wc_int hS hK (run_c (As := [.int x1, .int (x2 ||| ((1 : Int32) <<< (x3 &&& (31 : Int32))))]) (rest := []) C hK hT hS.2.1 (rv_X hK hT) (hrec _ _ _ _ _ ht5) q1419 q1421 qs54 q158 q1422 ⟨rfl, rfl⟩ hdX0_doesWin ⟨show 4 + 4 * N + 1 ≤ 5 + 4 * N from by omega, show 8 + (5 + 11) + (90 + 94 * N) ≤ 137 + 94 * N from by omega⟩ ⟨Nat.zero_le _, Nat.zero_le _⟩ rfl hl.1 rfl (Nat.le_of_ble_eq_true rfl) dX0_isGood_24) (fun H locs hT hS hK hNt5 => ?_)
    refine lv_if_ne (tgt := 34) hx hb dX0_isGood_27 (by decide) (fun c => ?_) (fun c => ?_)
    · replace h := if_f c h
      refine lv_iconst (v := 0) hx hb dX0_isGood_34 (by decide) ?_
      exact ec_z C hT hS (Or.inl rfl) h dX0_isGood_35
    · replace h := if_t c h
      refine lv_iconst (v := 1) hx hb dX0_isGood_30 (by decide) ?_
      refine lv_goto (tgt := 35) hx hb dX0_isGood_31 (by decide) ?_
      exact ec_z C hT hS (Or.inr rfl) h dX0_isGood_35
theorem mX0_isGood {l : Launch} {D : va_G} {dA : Nat → ClassId} {a : Nat} {k : KP a} {x1 : Int32} {x2 : Int32} {x3 : Int32} {r : Int32} {t9 : CS} {N : Nat} {rec : CS → Int32 → Int32 → Option (Int32 × CS)} (hrec : ∀ (t : CS) (x1 : Int32) (x2 : Int32) (r : Int32) (t9 : CS), rec t x1 x2 = some (r, t9) → Met l yX0_doesWin (ws_ yX0_doesWin cX0_doesWin 5 (some .boolean)) (rmX0_doesWin N) (cPc D dA a k t [.ref a, .int x1, .int x2]) (cQ D dA a k 0 t t9 (some (.int r))) 0 0 (ca a)) {t : CS} (h : C_isGood rec t x1 x2 x3 = some (r, t9)) : Met l yX0_isGood (ws_ yX0_isGood cX0_isGood 4 (some .boolean)) (rmX0_isGood N) (cPc D dA a k t [.ref a, .int x1, .int x2, .int x3]) (cQ D dA a k 0 t t9 (some (.int r))) 0 0 (ca a) := en_C (by decide +kernel) rfl (Nat.le_of_ble_eq_true rfl) (fun p e s m below meth c ls C hK hT hl => bX0_isGood C hrec t x1 x2 x3 _ [] hT cS.rf hK ls h hl)
set_option maxRecDepth 20000 in
theorem bX0_doesWin_p82 {p : Program} {l : Launch} {e : Env} {s : State} {m : MethodId} {args : Array Value} {below : List Frame} {meth : Method} {c : Code} {D : va_G} {dA : Nat → ClassId} {a : Nat} {k : KP a} {t0 : CS} {r : Int32} {t9 : CS} (C : cx p s m args meth c cX0_doesWin RX0 5 (some .boolean)) {N : Nat} {rec : CS → Int32 → Int32 → Option (Int32 × CS)} (hrec : ∀ (t : CS) (x1 : Int32) (x2 : Int32) (r : Int32) (t9 : CS), rec t x1 x2 = some (r, t9) → Met l yX0_doesWin (ws_ yX0_doesWin cX0_doesWin 5 (some .boolean)) (rmX0_doesWin N) (cPc D dA a k t [.ref a, .int x1, .int x2]) (cQ D dA a k 0 t t9 (some (.int r))) 0 0 (ca a)) {k44 : CS → Int32 → Int32 → Int32 → Int32 → Option (Int32 × CS)} (hk44 : ∀ (t : CS) (x1 : Int32) (x2 : Int32) (x3 : Int32) (x4 : Int32) (H : Heap) (locs : List Loc) (hT : cW D dA a k t H) (hS : cS a s.heap H locs t0.2.2.2 0 t) (hK : kC D dA a k t.2.2.2 s) (ls : Array Slot), k44 t x1 x2 x3 x4 = some (r, t9) → lv_has ls 5 [(0, .ref a), (1, .int x1), (2, .int x2), (3, .int x3), (4, .int x4)] → W p l e (rmX0_doesWin (N + 1)) s m args below meth c H locs 0 0 (MQ below (cQ D dA a k 0 t0 t9 (some (.int r))) args s 0 0 (ca a)) (F0 m 44 ls [])) : ∀ (t : CS) (x1 : Int32) (x2 : Int32) (x4 : Int32) (y0 : Int32) (H : Heap) (locs : List Loc) (hT : cW D dA a k t H) (hS : cS a s.heap H locs t0.2.2.2 0 t) (hK : kC D dA a k t.2.2.2 s) (ls : Array Slot), C_doesWin_p82 rec k44 t x1 x2 x4 y0 = some (r, t9) → lv_has ls 5 [(0, .ref a), (1, .int x1), (2, .int x2), (4, .int x4)] → W p l e (rmX0_doesWin (N + 1)) s m args below meth c H locs 0 0 (MQ below (cQ D dA a k 0 t0 t9 (some (.int r))) args s 0 0 (ca a)) (F0 m 82 ls [.int y0]) := by
  obtain ⟨hx, hb, hr, hml, hown, hts, hlocks⟩ := id C
  intro t x1 x2 x4 y0 H locs hT hS hK ls h hl
  unfold C_doesWin_p82 at h
  refine lv_istore_n (lv' := [(3, .int y0), (0, .ref a), (1, .int x1), (2, .int x2), (4, .int x4)]) hx hb dX0_doesWin_82 rfl hl (by decide) rfl (fun ls hl => ?_)
  obtain ⟨v1, ev1⟩ : ∃ y : Int32, y = x4 + (1 : Int32) := ⟨_, rfl⟩
  replace h := lt1_sub ev1 h
  refine lv_iinc (v := v1) (lv' := [(4, .int v1), (3, .int y0), (0, .ref a), (1, .int x1), (2, .int x2)]) hx hb dX0_doesWin_83 hl (k := 4) rfl (by rw [ev1]; rfl) (by decide) rfl (fun ls hl => ?_)
  refine lv_goto (tgt := 44) hx hb dX0_doesWin_86 (by decide) ?_
  exact hk44 t x1 x2 y0 v1 H locs hT hS hK ls h (lv_sub hl [2, 3, 4, 1, 0] rfl)
theorem bX0_doesWin_p81 {p : Program} {l : Launch} {e : Env} {s : State} {m : MethodId} {args : Array Value} {below : List Frame} {meth : Method} {c : Code} {D : va_G} {dA : Nat → ClassId} {a : Nat} {k : KP a} {t0 : CS} {r : Int32} {t9 : CS} (C : cx p s m args meth c cX0_doesWin RX0 5 (some .boolean)) {N : Nat} {rec : CS → Int32 → Int32 → Option (Int32 × CS)} (hrec : ∀ (t : CS) (x1 : Int32) (x2 : Int32) (r : Int32) (t9 : CS), rec t x1 x2 = some (r, t9) → Met l yX0_doesWin (ws_ yX0_doesWin cX0_doesWin 5 (some .boolean)) (rmX0_doesWin N) (cPc D dA a k t [.ref a, .int x1, .int x2]) (cQ D dA a k 0 t t9 (some (.int r))) 0 0 (ca a)) {k44 : CS → Int32 → Int32 → Int32 → Int32 → Option (Int32 × CS)} (hk44 : ∀ (t : CS) (x1 : Int32) (x2 : Int32) (x3 : Int32) (x4 : Int32) (H : Heap) (locs : List Loc) (hT : cW D dA a k t H) (hS : cS a s.heap H locs t0.2.2.2 0 t) (hK : kC D dA a k t.2.2.2 s) (ls : Array Slot), k44 t x1 x2 x3 x4 = some (r, t9) → lv_has ls 5 [(0, .ref a), (1, .int x1), (2, .int x2), (3, .int x3), (4, .int x4)] → W p l e (rmX0_doesWin (N + 1)) s m args below meth c H locs 0 0 (MQ below (cQ D dA a k 0 t0 t9 (some (.int r))) args s 0 0 (ca a)) (F0 m 44 ls [])) : ∀ (t : CS) (x1 : Int32) (x2 : Int32) (x4 : Int32) (H : Heap) (locs : List Loc) (hT : cW D dA a k t H) (hS : cS a s.heap H locs t0.2.2.2 0 t) (hK : kC D dA a k t.2.2.2 s) (ls : Array Slot), C_doesWin_p81 rec k44 t x1 x2 x4 = some (r, t9) → lv_has ls 5 [(0, .ref a), (1, .int x1), (2, .int x2), (4, .int x4)] → W p l e (rmX0_doesWin (N + 1)) s m args below meth c H locs 0 0 (MQ below (cQ D dA a k 0 t0 t9 (some (.int r))) args s 0 0 (ca a)) (F0 m 81 ls []) := by
  obtain ⟨hx, hb, hr, hml, hown, hts, hlocks⟩ := id C
  intro t x1 x2 x4 H locs hT hS hK ls h hl
  unfold C_doesWin_p81 at h
  refine lv_iconst (v := 0) hx hb dX0_doesWin_81 (by decide) ?_
  exact bX0_doesWin_p82 C hrec hk44 t x1 x2 x4 (0 : Int32) H locs hT hS hK ls h (lv_sub hl [0, 1, 2, 3] rfl)
theorem bX0_doesWin_p103 {p : Program} {l : Launch} {e : Env} {s : State} {m : MethodId} {args : Array Value} {below : List Frame} {meth : Method} {c : Code} {D : va_G} {dA : Nat → ClassId} {a : Nat} {k : KP a} {t0 : CS} {r : Int32} {t9 : CS} (C : cx p s m args meth c cX0_doesWin RX0 5 (some .boolean)) {N : Nat} {rec : CS → Int32 → Int32 → Option (Int32 × CS)} (hrec : ∀ (t : CS) (x1 : Int32) (x2 : Int32) (r : Int32) (t9 : CS), rec t x1 x2 = some (r, t9) → Met l yX0_doesWin (ws_ yX0_doesWin cX0_doesWin 5 (some .boolean)) (rmX0_doesWin N) (cPc D dA a k t [.ref a, .int x1, .int x2]) (cQ D dA a k 0 t t9 (some (.int r))) 0 0 (ca a)) : ∀ (t : CS) (x3 : Int32) (y1 : Int32) (y2 : Int32) (H : Heap) (locs : List Loc) (hT : cW D dA a k t H) (hS : cS a s.heap H locs t0.2.2.2 0 t) (hK : kC D dA a k t.2.2.2 s) (ls : Array Slot), C_doesWin_p103 rec t x3 y1 y2 = some (r, t9) → lv_has ls 5 [(3, .int x3)] → W p l e (rmX0_doesWin (N + 1)) s m args below meth c H locs 0 0 (MQ below (cQ D dA a k 0 t0 t9 (some (.int r))) args s 0 0 (ca a)) (F0 m 103 ls [.int y2, .int y1, .ref (a + 110)]) := by
  obtain ⟨hx, hb, hr, hml, hown, hts, hlocks⟩ := id C
  intro t x3 y1 y2 H locs hT hS hK ls h hl
  unfold C_doesWin_p103 at h
  refine lv_i2b hx hb dX0_doesWin_103 rfl ?_
  obtain ⟨hi1, h⟩ := ck_some h
  refine c_bst C hK hT hS 110 1024 (by decide) (fun _ _ => rfl) hi1 dX0_doesWin_104 (fun t2 H locs et2 hT hS hK => ?_)
  replace h := lt1_sub et2 h
  refine lv_iload_n hx hb dX0_doesWin_105 rfl (lv_at hl 0 rfl) ?_
  obtain ⟨hz, h⟩ := zr_some h
  exact ec_z C hT hS hz h dX0_doesWin_106
theorem bX0_doesWin_p89 {p : Program} {l : Launch} {e : Env} {s : State} {m : MethodId} {args : Array Value} {below : List Frame} {meth : Method} {c : Code} {D : va_G} {dA : Nat → ClassId} {a : Nat} {k : KP a} {t0 : CS} {r : Int32} {t9 : CS} (C : cx p s m args meth c cX0_doesWin RX0 5 (some .boolean)) {N : Nat} {rec : CS → Int32 → Int32 → Option (Int32 × CS)} (hrec : ∀ (t : CS) (x1 : Int32) (x2 : Int32) (r : Int32) (t9 : CS), rec t x1 x2 = some (r, t9) → Met l yX0_doesWin (ws_ yX0_doesWin cX0_doesWin 5 (some .boolean)) (rmX0_doesWin N) (cPc D dA a k t [.ref a, .int x1, .int x2]) (cQ D dA a k 0 t t9 (some (.int r))) 0 0 (ca a)) : ∀ (t : CS) (x2 : Int32) (x3 : Int32) (H : Heap) (locs : List Loc) (hT : cW D dA a k t H) (hS : cS a s.heap H locs t0.2.2.2 0 t) (hK : kC D dA a k t.2.2.2 s) (ls : Array Slot), C_doesWin_p89 rec t x2 x3 = some (r, t9) → lv_has ls 5 [(0, .ref a), (2, .int x2), (3, .int x3)] → W p l e (rmX0_doesWin (N + 1)) s m args below meth c H locs 0 0 (MQ below (cQ D dA a k 0 t0 t9 (some (.int r))) args s 0 0 (ca a)) (F0 m 89 ls []) := by
  obtain ⟨hx, hb, hr, hml, hown, hts, hlocks⟩ := id C
  intro t x2 x3 H locs hT hS hK ls h hl
  unfold C_doesWin_p89 at h
  refine lv_aload_n hx hb dX0_doesWin_89 rfl (lv_at hl 0 rfl) ?_
  refine cg10 C hK hT dX0_doesWin_90 ?_
  refine lv_iload_n hx hb dX0_doesWin_93 rfl (lv_at hl 1 rfl) ?_
  refine lv_iload_n hx hb dX0_doesWin_94 rfl (lv_at hl 2 rfl) ?_
  refine lv_if_eq (tgt := 102) hx hb dX0_doesWin_95 (by decide) (fun c => ?_) (fun c => ?_)
  · replace h := if_t c h
    refine lv_iconst (v := 2) hx hb dX0_doesWin_102 (by decide) ?_
    exact bX0_doesWin_p103 C hrec t x3 x2 (2 : Int32) H locs hT hS hK ls h (lv_sub hl [2] rfl)
  · replace h := if_f c h
    refine lv_iconst (v := 1) hx hb dX0_doesWin_98 (by decide) ?_
    refine lv_goto (tgt := 103) hx hb dX0_doesWin_99 (by decide) ?_
    exact bX0_doesWin_p103 C hrec t x3 x2 (1 : Int32) H locs hT hS hK ls h (lv_sub hl [2] rfl)
theorem bX0_doesWin_p44 {p : Program} {l : Launch} {e : Env} {s : State} {m : MethodId} {args : Array Value} {below : List Frame} {meth : Method} {c : Code} {D : va_G} {dA : Nat → ClassId} {a : Nat} {k : KP a} {t0 : CS} {r : Int32} {t9 : CS} (C : cx p s m args meth c cX0_doesWin RX0 5 (some .boolean)) {N : Nat} {rec : CS → Int32 → Int32 → Option (Int32 × CS)} (hrec : ∀ (t : CS) (x1 : Int32) (x2 : Int32) (r : Int32) (t9 : CS), rec t x1 x2 = some (r, t9) → Met l yX0_doesWin (ws_ yX0_doesWin cX0_doesWin 5 (some .boolean)) (rmX0_doesWin N) (cPc D dA a k t [.ref a, .int x1, .int x2]) (cQ D dA a k 0 t t9 (some (.int r))) 0 0 (ca a)) : ∀ (n : Nat), ∀ (t : CS) (x1 : Int32) (x2 : Int32) (x3 : Int32) (x4 : Int32) (H : Heap) (locs : List Loc) (hT : cW D dA a k t H) (hS : cS a s.heap H locs t0.2.2.2 0 t) (hK : kC D dA a k t.2.2.2 s) (ls : Array Slot), C_doesWin_p44 rec n t x1 x2 x3 x4 = some (r, t9) → lv_has ls 5 [(0, .ref a), (1, .int x1), (2, .int x2), (3, .int x3), (4, .int x4)] → W p l e (rmX0_doesWin (N + 1)) s m args below meth c H locs 0 0 (MQ below (cQ D dA a k 0 t0 t9 (some (.int r))) args s 0 0 (ca a)) (F0 m 44 ls []) := by
  obtain ⟨hx, hb, hr, hml, hown, hts, hlocks⟩ := id C
  intro n
  induction n with
  | zero =>
    intro t x1 x2 x3 x4 H locs hT hS hK ls h hl
    have h : none = some _ := h
    cases h
  | succ n ih =>
    intro t x1 x2 x3 x4 H locs hT hS hK ls h hl
    rw [C_doesWin_p44] at h
    refine lv_iload hx hb dX0_doesWin_44 (lv_at hl 4 rfl) ?_
    refine lv_aload_n hx hb dX0_doesWin_46 rfl (lv_at hl 0 rfl) ?_
    refine cg12 C hK hT dX0_doesWin_47 ?_
    refine lv_icmp_ge (tgt := 89) hx hb dX0_doesWin_50 (by decide) (fun c => ?_) (fun c => ?_)
    · replace h := if_t c h
      exact bX0_doesWin_p89 C hrec t x2 x3 H locs hT hS hK ls h (lv_sub hl [0, 2, 3] rfl)
    · replace h := if_f c h
      refine lv_iload_n hx hb dX0_doesWin_53 rfl (lv_at hl 3 rfl) ?_
      refine lv_if_ne (tgt := 89) hx hb dX0_doesWin_54 (by decide) (fun c => ?_) (fun c => ?_)
      · replace h := if_f c h
        exact bX0_doesWin_p89 C hrec t x2 x3 H locs hT hS hK ls h (lv_sub hl [0, 2, 3] rfl)
      · replace h := if_t c h
        refine lv_iload_n hx hb dX0_doesWin_57 rfl (lv_at hl 2 rfl) ?_
        refine lv_iload hx hb dX0_doesWin_58 (lv_at hl 4 rfl) ?_
        obtain ⟨v1, hv1, h⟩ := bd1_some h
        refine r_int (run_s (As := [.int x2, .int x4]) (rest := []) C (mX0_has hv1) q344 q345 q158 q346 ⟨rfl, rfl⟩ hdX0_has ⟨show 0 + 1 ≤ 4 + 4 * (N + 1) from by omega, show 8 + (2 + 11) + (0) ≤ 90 + 94 * (N + 1) from by omega⟩ ⟨Nat.zero_le _, Nat.zero_le _⟩ rfl hl.1 rfl (Nat.le_of_ble_eq_true rfl) dX0_doesWin_60) ?_
        refine lv_if_ne (tgt := 81) hx hb dX0_doesWin_63 (by decide) (fun c => ?_) (fun c => ?_)
        · replace h := if_f c h
          exact bX0_doesWin_p81 C hrec ih t x1 x2 x4 H locs hT hS hK ls h (lv_sub hl [0, 1, 2, 4] rfl)
        · replace h := if_t c h
          refine lv_aload_n hx hb dX0_doesWin_66 rfl (lv_at hl 0 rfl) ?_
          refine lv_iload_n hx hb dX0_doesWin_67 rfl (lv_at hl 1 rfl) ?_
          refine lv_iload_n hx hb dX0_doesWin_68 rfl (lv_at hl 2 rfl) ?_
          refine lv_iload hx hb dX0_doesWin_69 (lv_at hl 4 rfl) ?_
          obtain ⟨v2, t3, ht3, h⟩ := bd2_some h
          refine wc_int hS hK (run_c (As := [.int x1, .int x2, .int x4]) (rest := []) C hK hT hS.2.1 (rv_X hK hT) (mX0_isGood hrec ht3) q1423 q1425 qs55 q158 q1426 ⟨rfl, rfl⟩ hdX0_isGood ⟨show 5 + 4 * N + 1 ≤ 4 + 4 * (N + 1) from by omega, show 8 + (4 + 11) + (137 + 94 * N) ≤ 90 + 94 * (N + 1) from by omega⟩ ⟨Nat.zero_le _, Nat.zero_le _⟩ rfl hl.1 rfl (Nat.le_of_ble_eq_true rfl) dX0_doesWin_71) (fun H locs hT hS hK hNt3 => ?_)
          refine lv_if_eq (tgt := 81) hx hb dX0_doesWin_74 (by decide) (fun c => ?_) (fun c => ?_)
          · replace h := if_t c h
            exact bX0_doesWin_p81 C hrec ih t3 x1 x2 x4 H locs hT hS hK ls h (lv_sub hl [0, 1, 2, 4] rfl)
          · replace h := if_f c h
            refine lv_iconst (v := 1) hx hb dX0_doesWin_77 (by decide) ?_
            refine lv_goto (tgt := 82) hx hb dX0_doesWin_78 (by decide) ?_
            exact bX0_doesWin_p82 C hrec ih t3 x1 x2 x4 (1 : Int32) H locs hT hS hK ls h (lv_sub hl [0, 1, 2, 4] rfl)
theorem bX0_doesWin {p : Program} {l : Launch} {e : Env} {s : State} {m : MethodId} {args : Array Value} {below : List Frame} {meth : Method} {c : Code} {D : va_G} {dA : Nat → ClassId} {a : Nat} {k : KP a} {t0 : CS} {r : Int32} {t9 : CS} (C : cx p s m args meth c cX0_doesWin RX0 5 (some .boolean)) {N : Nat} {rec : CS → Int32 → Int32 → Option (Int32 × CS)} (hrec : ∀ (t : CS) (x1 : Int32) (x2 : Int32) (r : Int32) (t9 : CS), rec t x1 x2 = some (r, t9) → Met l yX0_doesWin (ws_ yX0_doesWin cX0_doesWin 5 (some .boolean)) (rmX0_doesWin N) (cPc D dA a k t [.ref a, .int x1, .int x2]) (cQ D dA a k 0 t t9 (some (.int r))) 0 0 (ca a)) : ∀ (t : CS) (x1 : Int32) (x2 : Int32) (H : Heap) (locs : List Loc) (hT : cW D dA a k t H) (hS : cS a s.heap H locs t0.2.2.2 0 t) (hK : kC D dA a k t.2.2.2 s) (ls : Array Slot), C_doesWin_b rec t x1 x2 = some (r, t9) → lv_has ls 5 [(0, .ref a), (1, .int x1), (2, .int x2)] → W p l e (rmX0_doesWin (N + 1)) s m args below meth c H locs 0 0 (MQ below (cQ D dA a k 0 t0 t9 (some (.int r))) args s 0 0 (ca a)) (F0 m 0 ls []) := by
  obtain ⟨hx, hb, hr, hml, hown, hts, hlocks⟩ := id C
  intro t x1 x2 H locs hT hS hK ls h hl
  unfold C_doesWin_b at h
  refine lv_iload_n hx hb dX0_doesWin_0 rfl (lv_at hl 2 rfl) ?_
  refine lv_iconst (v := 1) hx hb dX0_doesWin_1 (by decide) ?_
  refine lv_aload_n hx hb dX0_doesWin_2 rfl (lv_at hl 0 rfl) ?_
  refine cg12 C hK hT dX0_doesWin_3 ?_
  refine lv_ishl hx hb dX0_doesWin_6 ?_
  refine lv_iconst (v := 1) hx hb dX0_doesWin_7 (by decide) ?_
  refine lv_isub hx hb dX0_doesWin_8 ?_
  refine lv_icmp_ne (tgt := 14) hx hb dX0_doesWin_9 (by decide) (fun c => ?_) (fun c => ?_)
  · replace h := if_f c h
    refine lv_aload_n hx hb dX0_doesWin_14 rfl (lv_at hl 0 rfl) ?_
    refine cg10 C hK hT dX0_doesWin_15 ?_
    refine lv_iload_n hx hb dX0_doesWin_18 rfl (lv_at hl 2 rfl) ?_
    obtain ⟨hi1, h⟩ := ck_some h
    refine c_bld C hK hT 110 1024 (by decide) (fun _ _ => rfl) hi1 dX0_doesWin_19 ?_
    refine lv_if_eq (tgt := 39) hx hb dX0_doesWin_20 (by decide) (fun c => ?_) (fun c => ?_)
    · replace h := if_t c h
      refine lv_iconst (v := 0) hx hb dX0_doesWin_39 (by decide) ?_
      refine lv_istore_n (lv' := [(3, .int (0 : Int32)), (0, .ref a), (1, .int x1), (2, .int x2)]) hx hb dX0_doesWin_40 rfl hl (by decide) rfl (fun ls hl => ?_)
      refine lv_iconst (v := 0) hx hb dX0_doesWin_41 (by decide) ?_
      refine lv_istore (lv' := [(4, .int (0 : Int32)), (3, .int (0 : Int32)), (0, .ref a), (1, .int x1), (2, .int x2)]) hx hb dX0_doesWin_42 hl (by decide) rfl (fun ls hl => ?_)
      exact bX0_doesWin_p44 C hrec fu t x1 x2 (0 : Int32) (0 : Int32) H locs hT hS hK ls h (lv_sub hl [2, 3, 4, 1, 0] rfl)
    · replace h := if_f c h
      refine lv_aload_n hx hb dX0_doesWin_23 rfl (lv_at hl 0 rfl) ?_
      refine cg10 C hK hT dX0_doesWin_24 ?_
      refine lv_iload_n hx hb dX0_doesWin_27 rfl (lv_at hl 2 rfl) ?_
      obtain ⟨hi2, h⟩ := ck_some h
      refine c_bld C hK hT 110 1024 (by decide) (fun _ _ => rfl) hi2 dX0_doesWin_28 ?_
      refine lv_iconst (v := 1) hx hb dX0_doesWin_29 (by decide) ?_
      refine lv_icmp_ne (tgt := 37) hx hb dX0_doesWin_30 (by decide) (fun c => ?_) (fun c => ?_)
      · replace h := if_f c h
        refine lv_iconst (v := 0) hx hb dX0_doesWin_37 (by decide) ?_
        exact ec_z C hT hS (Or.inl rfl) h dX0_doesWin_38
      · replace h := if_t c h
        refine lv_iconst (v := 1) hx hb dX0_doesWin_33 (by decide) ?_
        refine lv_goto (tgt := 38) hx hb dX0_doesWin_34 (by decide) ?_
        exact ec_z C hT hS (Or.inr rfl) h dX0_doesWin_38
  · replace h := if_t c h
    refine lv_iconst (v := 1) hx hb dX0_doesWin_12 (by decide) ?_
    exact ec_z C hT hS (Or.inr rfl) h dX0_doesWin_13
theorem mX0_doesWin {l : Launch} {D : va_G} {dA : Nat → ClassId} {a : Nat} {k : KP a} : ∀ (n : Nat), ∀ (t : CS) (x1 : Int32) (x2 : Int32) (r : Int32) (t9 : CS), C_doesWin n t x1 x2 = some (r, t9) → Met l yX0_doesWin (ws_ yX0_doesWin cX0_doesWin 5 (some .boolean)) (rmX0_doesWin n) (cPc D dA a k t [.ref a, .int x1, .int x2]) (cQ D dA a k 0 t t9 (some (.int r))) 0 0 (ca a) := by
  intro n
  induction n with
  | zero =>
    intro t x1 x2 r t9 h
    have h : none = some _ := h
    cases h
  | succ n ih =>
    intro t x1 x2 r t9 h
    rw [C_doesWin] at h
    exact en_C (by decide +kernel) rfl (Nat.le_of_ble_eq_true rfl) (fun p e s m below meth c ls C hK hT hl => bX0_doesWin C ih t x1 x2 _ [] hT cS.rf hK ls h hl)
set_option maxRecDepth 20000 in
abbrev rmX0_game : Room := { frames := 262, cells := 0, slots := 0, locals := 6176 }
theorem hdX0_game : yX0_game.cls = RX0 ∧ yX0_game.cls ≠ "java/lang/invoke/MethodHandle" ∧ yX0_game.cls ≠ "java/lang/invoke/VarHandle" ∧ (parseMethodDescriptor yX0_game.desc).map (fun d => d.parameters.length) = some 3 := by decide +kernel
theorem bX0_game_p75 {p : Program} {l : Launch} {e : Env} {s : State} {m : MethodId} {args : Array Value} {below : List Frame} {meth : Method} {c : Code} {D : va_G} {dA : Nat → ClassId} {a : Nat} {k : KP a} {t0 : CS} {r : Int32} {t9 : CS} (C : cx p s m args meth c cX0_game RX0 6 (some .int)) {k35 : CS → Int32 → Int32 → Int32 → Int32 → Option (Int32 × CS)} (hk35 : ∀ (t : CS) (x1 : Int32) (x2 : Int32) (x3 : Int32) (x4 : Int32) (H : Heap) (locs : List Loc) (hT : cW D dA a k t H) (hS : cS a s.heap H locs t0.2.2.2 0 t) (hK : kC D dA a k t.2.2.2 s) (ls : Array Slot), k35 t x1 x2 x3 x4 = some (r, t9) → lv_has ls 6 [(0, .ref a), (1, .int x1), (2, .int x2), (3, .int x3), (4, .int x4)] → W p l e rmX0_game s m args below meth c H locs 0 0 (MQ below (cQ D dA a k 0 t0 t9 (some (.int r))) args s 0 0 (ca a)) (F0 m 35 ls [])) : ∀ (t : CS) (x1 : Int32) (x2 : Int32) (x3 : Int32) (x4 : Int32) (H : Heap) (locs : List Loc) (hT : cW D dA a k t H) (hS : cS a s.heap H locs t0.2.2.2 0 t) (hK : kC D dA a k t.2.2.2 s) (ls : Array Slot), C_game_p75 k35 t x1 x2 x3 x4 = some (r, t9) → lv_has ls 6 [(0, .ref a), (1, .int x1), (2, .int x2), (3, .int x3), (4, .int x4)] → W p l e rmX0_game s m args below meth c H locs 0 0 (MQ below (cQ D dA a k 0 t0 t9 (some (.int r))) args s 0 0 (ca a)) (F0 m 75 ls []) := by
  obtain ⟨hx, hb, hr, hml, hown, hts, hlocks⟩ := id C
  intro t x1 x2 x3 x4 H locs hT hS hK ls h hl
  unfold C_game_p75 at h
  obtain ⟨v1, ev1⟩ : ∃ y : Int32, y = x4 + (1 : Int32) := ⟨_, rfl⟩
  replace h := lt1_sub ev1 h
  refine lv_iinc (v := v1) (lv' := [(4, .int v1), (0, .ref a), (1, .int x1), (2, .int x2), (3, .int x3)]) hx hb dX0_game_75 hl (k := 4) rfl (by rw [ev1]; rfl) (by decide) rfl (fun ls hl => ?_)
  refine lv_goto (tgt := 35) hx hb dX0_game_78 (by decide) ?_
  exact hk35 t x1 x2 x3 v1 H locs hT hS hK ls h (lv_sub hl [1, 2, 3, 4, 0] rfl)
theorem bX0_game_p115 {p : Program} {l : Launch} {e : Env} {s : State} {m : MethodId} {args : Array Value} {below : List Frame} {meth : Method} {c : Code} {D : va_G} {dA : Nat → ClassId} {a : Nat} {k : KP a} {t0 : CS} {r : Int32} {t9 : CS} (C : cx p s m args meth c cX0_game RX0 6 (some .int)) : ∀ (n : Nat), ∀ (t : CS) (x1 : Int32) (x4 : Int32) (x5 : Int32) (H : Heap) (locs : List Loc) (hT : cW D dA a k t H) (hS : cS a s.heap H locs t0.2.2.2 0 t) (hK : kC D dA a k t.2.2.2 s) (ls : Array Slot), C_game_p115 n t x1 x4 x5 = some (r, t9) → lv_has ls 6 [(0, .ref a), (1, .int x1), (4, .int x4), (5, .int x5)] → W p l e rmX0_game s m args below meth c H locs 0 0 (MQ below (cQ D dA a k 0 t0 t9 (some (.int r))) args s 0 0 (ca a)) (F0 m 115 ls []) := by
  obtain ⟨hx, hb, hr, hml, hown, hts, hlocks⟩ := id C
  intro n
  induction n with
  | zero =>
    intro t x1 x4 x5 H locs hT hS hK ls h hl
    have h : none = some _ := h
    cases h
  | succ n ih =>
    intro t x1 x4 x5 H locs hT hS hK ls h hl
    rw [C_game_p115] at h
    refine lv_iload hx hb dX0_game_115 (lv_at hl 3 rfl) ?_
    refine lv_aload_n hx hb dX0_game_117 rfl (lv_at hl 0 rfl) ?_
    refine cg12 C hK hT dX0_game_118 ?_
    refine lv_icmp_ge (tgt := 154) hx hb dX0_game_121 (by decide) (fun c => ?_) (fun c => ?_)
    · replace h := if_t c h
      refine lv_iconst (v := -1) hx hb dX0_game_154 (by decide) ?_
      exact ec_i C hT hS h dX0_game_155
    · replace h := if_f c h
      refine lv_iload hx hb dX0_game_124 (lv_at hl 2 rfl) ?_
      refine lv_if_eq (tgt := 154) hx hb dX0_game_126 (by decide) (fun c => ?_) (fun c => ?_)
      · replace h := if_t c h
        refine lv_iconst (v := -1) hx hb dX0_game_154 (by decide) ?_
        exact ec_i C hT hS h dX0_game_155
      · replace h := if_f c h
        refine lv_aload_n hx hb dX0_game_129 rfl (lv_at hl 0 rfl) ?_
        refine lv_iload_n hx hb dX0_game_130 rfl (lv_at hl 1 rfl) ?_
        refine lv_iconst (v := 0) hx hb dX0_game_131 (by decide) ?_
        refine lv_iload hx hb dX0_game_132 (lv_at hl 3 rfl) ?_
        obtain ⟨v1, t2, ht2, h⟩ := bd2_some h
        refine wc_int hS hK (run_c (As := [.int x1, .int (0 : Int32), .int x5]) (rest := []) C hK hT hS.2.1 (rv_X hK hT) (mX0_isGood (mX0_doesWin 64) ht2) q1423 q1425 qs55 q158 q1426 ⟨rfl, rfl⟩ hdX0_isGood ⟨Nat.le_of_ble_eq_true rfl, Nat.le_of_ble_eq_true rfl⟩ ⟨Nat.zero_le _, Nat.zero_le _⟩ rfl hl.1 rfl (Nat.le_of_ble_eq_true rfl) dX0_game_134) (fun H locs hT hS hK hNt2 => ?_)
        refine lv_if_eq (tgt := 148) hx hb dX0_game_137 (by decide) (fun c => ?_) (fun c => ?_)
        · replace h := if_t c h
          obtain ⟨v3, ev3⟩ : ∃ y : Int32, y = x5 + (1 : Int32) := ⟨_, rfl⟩
          replace h := lt1_sub ev3 h
          refine lv_iinc (v := v3) (lv' := [(5, .int v3), (0, .ref a), (1, .int x1), (4, .int x4)]) hx hb dX0_game_148 hl (k := 3) rfl (by rw [ev3]; rfl) (by decide) rfl (fun ls hl => ?_)
          refine lv_goto (tgt := 115) hx hb dX0_game_151 (by decide) ?_
          exact ih t2 x1 x4 v3 H locs hT hS hK ls h (lv_sub hl [1, 2, 3, 0] rfl)
        · replace h := if_f c h
          refine lv_aload_n hx hb dX0_game_140 rfl (lv_at hl 0 rfl) ?_
          refine cg11 C hK hT dX0_game_141 ?_
          refine lv_iload hx hb dX0_game_144 (lv_at hl 3 rfl) ?_
          obtain ⟨hi4, h⟩ := ck_some h
          refine c_ild C hK hT 111 10 (by decide) (fun _ _ => rfl) hi4 dX0_game_146 ?_
          exact ec_i C hT hS h dX0_game_147
theorem bX0_game_p35 {p : Program} {l : Launch} {e : Env} {s : State} {m : MethodId} {args : Array Value} {below : List Frame} {meth : Method} {c : Code} {D : va_G} {dA : Nat → ClassId} {a : Nat} {k : KP a} {t0 : CS} {r : Int32} {t9 : CS} (C : cx p s m args meth c cX0_game RX0 6 (some .int)) : ∀ (n : Nat), ∀ (t : CS) (x1 : Int32) (x2 : Int32) (x3 : Int32) (x4 : Int32) (H : Heap) (locs : List Loc) (hT : cW D dA a k t H) (hS : cS a s.heap H locs t0.2.2.2 0 t) (hK : kC D dA a k t.2.2.2 s) (ls : Array Slot), C_game_p35 n t x1 x2 x3 x4 = some (r, t9) → lv_has ls 6 [(0, .ref a), (1, .int x1), (2, .int x2), (3, .int x3), (4, .int x4)] → W p l e rmX0_game s m args below meth c H locs 0 0 (MQ below (cQ D dA a k 0 t0 t9 (some (.int r))) args s 0 0 (ca a)) (F0 m 35 ls []) := by
  obtain ⟨hx, hb, hr, hml, hown, hts, hlocks⟩ := id C
  intro n
  induction n with
  | zero =>
    intro t x1 x2 x3 x4 H locs hT hS hK ls h hl
    have h : none = some _ := h
    cases h
  | succ n ih =>
    intro t x1 x2 x3 x4 H locs hT hS hK ls h hl
    rw [C_game_p35] at h
    refine lv_iload hx hb dX0_game_35 (lv_at hl 4 rfl) ?_
    refine lv_bipush (v := 26) hx hb dX0_game_37 (by decide) ?_
    refine lv_icmp_ge (tgt := 81) hx hb dX0_game_39 (by decide) (fun c => ?_) (fun c => ?_)
    · replace h := if_t c h
      refine lv_aload_n hx hb dX0_game_81 rfl (lv_at hl 0 rfl) ?_
      refine cg10 C hK hT dX0_game_82 ?_
      refine lv_iconst (v := 0) hx hb dX0_game_85 (by decide) ?_
      obtain ⟨t1, ht1, h⟩ := bd1_some h
      refine wc_void hS hK (run_cs (As := [.ref (a + 110), .int (0 : Int32)]) (rest := []) C hK hT hS.2.1 (mJ0_fill_2_110 ht1) q1416 q1417 q160 q1418 ⟨rfl, rfl⟩ hdJ0_fill_2_110 ⟨Nat.le_of_ble_eq_true rfl, Nat.le_of_ble_eq_true rfl⟩ ⟨Nat.zero_le _, Nat.zero_le _⟩ rfl hl.1 rfl (Nat.le_of_ble_eq_true rfl) dX0_game_86) (fun H locs hT hS hK hNt1 => ?_)
      refine lv_aload_n hx hb dX0_game_89 rfl (lv_at hl 0 rfl) ?_
      refine lv_iload_n hx hb dX0_game_90 rfl (lv_at hl 1 rfl) ?_
      refine lv_iconst (v := 0) hx hb dX0_game_91 (by decide) ?_
      obtain ⟨v2, t3, ht3, h⟩ := bd2_some h
      refine wc_int hS hK (run_c (As := [.int x1, .int (0 : Int32)]) (rest := []) C hK hT hS.2.1 (rv_X hK hT) (mX0_doesWin 64 _ _ _ _ _ ht3) q1419 q1421 qs54 q158 q1422 ⟨rfl, rfl⟩ hdX0_doesWin ⟨Nat.le_of_ble_eq_true rfl, Nat.le_of_ble_eq_true rfl⟩ ⟨Nat.zero_le _, Nat.zero_le _⟩ rfl hl.1 rfl (Nat.le_of_ble_eq_true rfl) dX0_game_92) (fun H locs hT hS hK hNt3 => ?_)
      refine lv_istore (lv' := [(4, .int v2), (0, .ref a), (1, .int x1), (2, .int x2), (3, .int x3)]) hx hb dX0_game_95 hl (by decide) rfl (fun ls hl => ?_)
      refine lv_iload_n hx hb dX0_game_97 rfl (lv_at hl 4 rfl) ?_
      refine lv_if_ne (tgt := 112) hx hb dX0_game_98 (by decide) (fun c => ?_) (fun c => ?_)
      · replace h := if_f c h
        refine lv_iconst (v := 0) hx hb dX0_game_112 (by decide) ?_
        refine lv_istore (lv' := [(5, .int (0 : Int32)), (4, .int v2), (0, .ref a), (1, .int x1), (2, .int x2), (3, .int x3)]) hx hb dX0_game_113 hl (by decide) rfl (fun ls hl => ?_)
        exact bX0_game_p115 C fu t3 x1 v2 (0 : Int32) H locs hT hS hK ls h (lv_sub hl [2, 3, 1, 0] rfl)
      · replace h := if_t c h
        refine lv_iload hx hb dX0_game_101 (lv_at hl 0 rfl) ?_
        refine lv_if_eq (tgt := 110) hx hb dX0_game_103 (by decide) (fun c => ?_) (fun c => ?_)
        · replace h := if_t c h
          refine lv_iconst (v := 0) hx hb dX0_game_110 (by decide) ?_
          exact ec_i C hT hS h dX0_game_111
        · replace h := if_f c h
          refine lv_iconst (v := 1) hx hb dX0_game_106 (by decide) ?_
          refine lv_goto (tgt := 111) hx hb dX0_game_107 (by decide) ?_
          exact ec_i C hT hS h dX0_game_111
    · replace h := if_f c h
      refine lv_iload_n hx hb dX0_game_42 rfl (lv_at hl 2 rfl) ?_
      refine lv_iload hx hb dX0_game_43 (lv_at hl 4 rfl) ?_
      obtain ⟨v4, hv4, h⟩ := bd1_some h
      refine r_int (run_s (As := [.int x2, .int x4]) (rest := []) C (mX0_has hv4) q344 q345 q158 q346 ⟨rfl, rfl⟩ hdX0_has ⟨Nat.le_of_ble_eq_true rfl, Nat.le_of_ble_eq_true rfl⟩ ⟨Nat.zero_le _, Nat.zero_le _⟩ rfl hl.1 rfl (Nat.le_of_ble_eq_true rfl) dX0_game_45) ?_
      refine lv_if_ne (tgt := 54) hx hb dX0_game_48 (by decide) (fun c => ?_) (fun c => ?_)
      · replace h := if_f c h
        refine lv_aload_n hx hb dX0_game_54 rfl (lv_at hl 0 rfl) ?_
        refine cg11 C hK hT dX0_game_55 ?_
        refine lv_aload_n hx hb dX0_game_58 rfl (lv_at hl 0 rfl) ?_
        refine cg12 C hK hT dX0_game_59 ?_
        refine lv_iload hx hb dX0_game_62 (lv_at hl 4 rfl) ?_
        obtain ⟨hi5, h⟩ := ck_some h
        refine c_ist C hK hT hS 111 10 (by decide) (fun _ _ => rfl) hi5 dX0_game_64 (fun t6 H locs et6 hT hS hK => ?_)
        replace h := lt1_sub et6 h
        refine lv_aload_n hx hb dX0_game_65 rfl (lv_at hl 0 rfl) ?_
        refine lv_dup hx hb dX0_game_66 rfl ?_
        refine cg12 C hK hT dX0_game_67 ?_
        refine lv_iconst (v := 1) hx hb dX0_game_70 (by decide) ?_
        refine lv_iadd hx hb dX0_game_71 ?_
        refine cp12 C hK hT hS dX0_game_72 (fun t7 H locs et7 hT hS hK => ?_)
        replace h := lt1_sub et7 h
        exact bX0_game_p75 C ih t7 x1 x2 x3 x4 H locs hT hS hK ls h (lv_sub hl [0, 1, 2, 3, 4] rfl)
      · replace h := if_t c h
        refine lv_goto (tgt := 75) hx hb dX0_game_51 (by decide) ?_
        exact bX0_game_p75 C ih t x1 x2 x3 x4 H locs hT hS hK ls h (lv_sub hl [0, 1, 2, 3, 4] rfl)
theorem bX0_game {p : Program} {l : Launch} {e : Env} {s : State} {m : MethodId} {args : Array Value} {below : List Frame} {meth : Method} {c : Code} {D : va_G} {dA : Nat → ClassId} {a : Nat} {k : KP a} {t0 : CS} {r : Int32} {t9 : CS} (C : cx p s m args meth c cX0_game RX0 6 (some .int)) : ∀ (t : CS) (x1 : Int32) (x2 : Int32) (x3 : Int32) (H : Heap) (locs : List Loc) (hT : cW D dA a k t H) (hS : cS a s.heap H locs t0.2.2.2 0 t) (hK : kC D dA a k t.2.2.2 s) (ls : Array Slot), C_game t x1 x2 x3 = some (r, t9) → lv_has ls 6 [(0, .ref a), (1, .int x1), (2, .int x2), (3, .int x3)] → W p l e rmX0_game s m args below meth c H locs 0 0 (MQ below (cQ D dA a k 0 t0 t9 (some (.int r))) args s 0 0 (ca a)) (F0 m 0 ls []) := by
  obtain ⟨hx, hb, hr, hml, hown, hts, hlocks⟩ := id C
  intro t x1 x2 x3 H locs hT hS hK ls h hl
  unfold C_game at h
  refine lv_aload_n hx hb dX0_game_0 rfl (lv_at hl 0 rfl) ?_
  refine lv_iload_n hx hb dX0_game_1 rfl (lv_at hl 1 rfl) ?_
  obtain ⟨v1, hv1, h⟩ := bd1_some h
  refine r_int (run_c (As := [.int x1]) (rest := []) C hK hT hS.2.1 (rv_X hK hT) (mX0_isSaying hv1) q1212 q1214 qs36 q158 q1215 ⟨rfl, rfl⟩ hdX0_isSaying ⟨Nat.le_of_ble_eq_true rfl, Nat.le_of_ble_eq_true rfl⟩ ⟨Nat.zero_le _, Nat.zero_le _⟩ rfl hl.1 rfl (Nat.le_of_ble_eq_true rfl) dX0_game_2) ?_
  refine lv_if_eq (tgt := 24) hx hb dX0_game_5 (by decide) (fun c => ?_) (fun c => ?_)
  · replace h := if_t c h
    refine lv_bipush (v := -2) hx hb dX0_game_24 (by decide) ?_
    exact ec_i C hT hS h dX0_game_26
  · replace h := if_f c h
    refine lv_iload_n hx hb dX0_game_8 rfl (lv_at hl 2 rfl) ?_
    obtain ⟨v2, hv2, h⟩ := bd1_some h
    refine r_int (run_s (As := [.int x2]) (rest := []) C (mX0_isGroup hv2) q1376 q1377 q158 q1378 ⟨rfl, rfl⟩ hdX0_isGroup ⟨Nat.le_of_ble_eq_true rfl, Nat.le_of_ble_eq_true rfl⟩ ⟨Nat.zero_le _, Nat.zero_le _⟩ rfl hl.1 rfl (Nat.le_of_ble_eq_true rfl) dX0_game_9) ?_
    refine lv_if_eq (tgt := 24) hx hb dX0_game_12 (by decide) (fun c => ?_) (fun c => ?_)
    · replace h := if_t c h
      refine lv_bipush (v := -2) hx hb dX0_game_24 (by decide) ?_
      exact ec_i C hT hS h dX0_game_26
    · replace h := if_f c h
      refine lv_aload_n hx hb dX0_game_15 rfl (lv_at hl 0 rfl) ?_
      refine lv_iload_n hx hb dX0_game_16 rfl (lv_at hl 1 rfl) ?_
      refine lv_iconst (v := 0) hx hb dX0_game_17 (by decide) ?_
      obtain ⟨v3, t4, ht4, h⟩ := bd2_some h
      refine wc_int hS hK (run_c (As := [.int x1, .int (0 : Int32)]) (rest := []) C hK hT hS.2.1 (rv_X hK hT) (mX0_says ht4) q1221 q1223 qs37 q158 q1224 ⟨rfl, rfl⟩ hdX0_says ⟨Nat.le_of_ble_eq_true rfl, Nat.le_of_ble_eq_true rfl⟩ ⟨Nat.zero_le _, Nat.zero_le _⟩ rfl hl.1 rfl (Nat.le_of_ble_eq_true rfl) dX0_game_18) (fun H locs hT hS hK hNt4 => ?_)
      refine lv_if_ne (tgt := 27) hx hb dX0_game_21 (by decide) (fun c => ?_) (fun c => ?_)
      · replace h := if_f c h
        refine lv_aload_n hx hb dX0_game_27 rfl (lv_at hl 0 rfl) ?_
        refine lv_iconst (v := 0) hx hb dX0_game_28 (by decide) ?_
        refine cp12 C hK hT hS dX0_game_29 (fun t5 H locs et5 hT hS hK => ?_)
        replace h := lt1_sub et5 h
        refine lv_iconst (v := 0) hx hb dX0_game_32 (by decide) ?_
        refine lv_istore (lv' := [(4, .int (0 : Int32)), (0, .ref a), (1, .int x1), (2, .int x2), (3, .int x3)]) hx hb dX0_game_33 hl (by decide) rfl (fun ls hl => ?_)
        exact bX0_game_p35 C fu t5 x1 x2 x3 (0 : Int32) H locs hT hS hK ls h (lv_sub hl [1, 2, 3, 4, 0] rfl)
      · replace h := if_t c h
        refine lv_bipush (v := -2) hx hb dX0_game_24 (by decide) ?_
        exact ec_i C hT hS h dX0_game_26
theorem mX0_game {l : Launch} {D : va_G} {dA : Nat → ClassId} {a : Nat} {k : KP a} {t : CS} {x1 : Int32} {x2 : Int32} {x3 : Int32} {r : Int32} {t9 : CS} (h : C_game t x1 x2 x3 = some (r, t9)) : Met l yX0_game (ws_ yX0_game cX0_game 6 (some .int)) rmX0_game (cPc D dA a k t [.ref a, .int x1, .int x2, .int x3]) (cQ D dA a k 0 t t9 (some (.int r))) 0 0 (ca a) := en_C (by decide +kernel) rfl (Nat.le_of_ble_eq_true rfl) (fun p e s m below meth c ls C hK hT hl => bX0_game C t x1 x2 x3 _ [] hT cS.rf hK ls h hl)
set_option maxRecDepth 20000 in
abbrev rmJ0_fill_3_112 : Room := { frames := 0, cells := 0, slots := 0, locals := 0 }
theorem hdJ0_fill_3_112 : yJ0_fill_3.cls ≠ "java/lang/invoke/MethodHandle" ∧ yJ0_fill_3.cls ≠ "java/lang/invoke/VarHandle" ∧ (parseMethodDescriptor yJ0_fill_3.desc).map (fun d => d.parameters.length) = some 2 := by decide +kernel
theorem bJ0_fill_3_112_p5 {p : Program} {l : Launch} {e : Env} {s : State} {m : MethodId} {args : Array Value} {below : List Frame} {meth : Method} {c : Code} {D : va_G} {dA : Nat → ClassId} {a : Nat} {k : KP a} {t0 : CS} {t9 : CS} (C : cx p s m args meth c cJ0_fill_3 RJ0 4 none) : ∀ (n : Nat), ∀ (t : CS) (x1 : Int32) (x2 : Int32) (x3 : Int32) (H : Heap) (locs : List Loc) (hT : cW D dA a k t H) (hS : cS a s.heap H locs t0.2.2.2 0 t) (hK : kC D dA a k t.2.2.2 s) (ls : Array Slot), J_J0_fill_3_112_p5 n t x1 x2 x3 = some t9 → lv_has ls 4 [(0, .ref (a + 112)), (1, .int x1), (2, .int x2), (3, .int x3)] → W p l e rmJ0_fill_3_112 s m args below meth c H locs 0 0 (MQ below (cQ D dA a k 0 t0 t9 none) args s 0 0 (ca a)) (F0 m 5 ls []) := by
  obtain ⟨hx, hb, hr, hml, hown, hts, hlocks⟩ := id C
  intro n
  induction n with
  | zero =>
    intro t x1 x2 x3 H locs hT hS hK ls h hl
    have h : none = some _ := h
    cases h
  | succ n ih =>
    intro t x1 x2 x3 H locs hT hS hK ls h hl
    rw [J_J0_fill_3_112_p5] at h
    refine lv_iload_n hx hb dJ0_fill_3_5 rfl (lv_at hl 2 rfl) ?_
    refine lv_iload_n hx hb dJ0_fill_3_6 rfl (lv_at hl 3 rfl) ?_
    refine lv_icmp_ge (tgt := 20) hx hb dJ0_fill_3_7 (by decide) (fun c => ?_) (fun c => ?_)
    · replace h := if_t c h
      exact ec_v C hT hS h dJ0_fill_3_20
    · replace h := if_f c h
      refine lv_aload_n hx hb dJ0_fill_3_10 rfl (lv_at hl 0 rfl) ?_
      refine lv_iload_n hx hb dJ0_fill_3_11 rfl (lv_at hl 2 rfl) ?_
      refine lv_iload_n hx hb dJ0_fill_3_12 rfl (lv_at hl 1 rfl) ?_
      obtain ⟨hi1, h⟩ := ck_some h
      refine c_ist C hK hT hS 112 26 (by decide) (fun _ _ => rfl) hi1 dJ0_fill_3_13 (fun t2 H locs et2 hT hS hK => ?_)
      replace h := lt1_sub et2 h
      obtain ⟨v3, ev3⟩ : ∃ y : Int32, y = x2 + (1 : Int32) := ⟨_, rfl⟩
      replace h := lt1_sub ev3 h
      refine lv_iinc (v := v3) (lv' := [(2, .int v3), (0, .ref (a + 112)), (1, .int x1), (3, .int x3)]) hx hb dJ0_fill_3_14 hl (k := 2) rfl (by rw [ev3]; rfl) (by decide) rfl (fun ls hl => ?_)
      refine lv_goto (tgt := 5) hx hb dJ0_fill_3_17 (by decide) ?_
      exact ih t2 x1 v3 x3 H locs hT hS hK ls h (lv_sub hl [1, 2, 0, 3] rfl)
theorem bJ0_fill_3_112 {p : Program} {l : Launch} {e : Env} {s : State} {m : MethodId} {args : Array Value} {below : List Frame} {meth : Method} {c : Code} {D : va_G} {dA : Nat → ClassId} {a : Nat} {k : KP a} {t0 : CS} {t9 : CS} (C : cx p s m args meth c cJ0_fill_3 RJ0 4 none) : ∀ (t : CS) (x1 : Int32) (H : Heap) (locs : List Loc) (hT : cW D dA a k t H) (hS : cS a s.heap H locs t0.2.2.2 0 t) (hK : kC D dA a k t.2.2.2 s) (ls : Array Slot), J_J0_fill_3_112 t x1 = some t9 → lv_has ls 4 [(0, .ref (a + 112)), (1, .int x1)] → W p l e rmJ0_fill_3_112 s m args below meth c H locs 0 0 (MQ below (cQ D dA a k 0 t0 t9 none) args s 0 0 (ca a)) (F0 m 0 ls []) := by
  obtain ⟨hx, hb, hr, hml, hown, hts, hlocks⟩ := id C
  intro t x1 H locs hT hS hK ls h hl
  unfold J_J0_fill_3_112 at h
  refine lv_iconst (v := 0) hx hb dJ0_fill_3_0 (by decide) ?_
  refine lv_istore_n (lv' := [(2, .int (0 : Int32)), (0, .ref (a + 112)), (1, .int x1)]) hx hb dJ0_fill_3_1 rfl hl (by decide) rfl (fun ls hl => ?_)
  refine lv_aload_n hx hb dJ0_fill_3_2 rfl (lv_at hl 1 rfl) ?_
  refine c_aln C hK hT 112 26 (by decide) 0 rfl rfl (v := 26) (by decide) dJ0_fill_3_3 ?_
  refine lv_istore_n (lv' := [(3, .int (26 : Int32)), (2, .int (0 : Int32)), (0, .ref (a + 112)), (1, .int x1)]) hx hb dJ0_fill_3_4 rfl hl (by decide) rfl (fun ls hl => ?_)
  exact bJ0_fill_3_112_p5 C fu t x1 (0 : Int32) (26 : Int32) H locs hT hS hK ls h (lv_sub hl [2, 3, 1, 0] rfl)
theorem mJ0_fill_3_112 {l : Launch} {D : va_G} {dA : Nat → ClassId} {a : Nat} {k : KP a} {t : CS} {x1 : Int32} {t9 : CS} (h : J_J0_fill_3_112 t x1 = some t9) : Met l yJ0_fill_3 (ws_ yJ0_fill_3 cJ0_fill_3 4 none) rmJ0_fill_3_112 (cPc D dA a k t [.ref (a + 112), .int x1]) (cQ D dA a k 0 t t9 none) 0 0 (ca a) := en_C (by decide +kernel) rfl (Nat.le_of_ble_eq_true rfl) (fun p e s m below meth c ls C hK hT hl => bJ0_fill_3_112 C t x1 _ [] hT cS.rf hK ls h hl)
set_option maxRecDepth 20000 in
abbrev rmX0_areMistaken : Room := { frames := 1, cells := 0, slots := 0, locals := 20 }
theorem hdX0_areMistaken : yX0_areMistaken.cls = RX0 ∧ yX0_areMistaken.cls ≠ "java/lang/invoke/MethodHandle" ∧ yX0_areMistaken.cls ≠ "java/lang/invoke/VarHandle" ∧ (parseMethodDescriptor yX0_areMistaken.desc).map (fun d => d.parameters.length) = some 2 := by decide +kernel
theorem bX0_areMistaken_p79 {p : Program} {l : Launch} {e : Env} {s : State} {m : MethodId} {args : Array Value} {below : List Frame} {meth : Method} {c : Code} {D : va_G} {dA : Nat → ClassId} {a : Nat} {k : KP a} {t : CS} {r : Int32} (C : cx p s m args meth c cX0_areMistaken RX0 7 (some .boolean)) (hK : kC D dA a k t.2.2.2 s) (hT : cW D dA a k t s.heap) {k15 : Nat → Nat → Int32 → Option Int32} (hk15 : ∀ (x1 : Nat) (x2 : Nat) (x3 : Int32) (ls : Array Slot), k15 x1 x2 x3 = some r → lv_has ls 7 [(0, .ref a), (1, .ref x1), (2, .ref x2), (3, .int x3)] → W p l e rmX0_areMistaken s m args below meth c s.heap [] 0 0 (MQ below (rQi r) args s 0 0 nof) (F0 m 15 ls [])) : ∀ (x1 : Nat) (x2 : Nat) (x3 : Int32) (y0 : Int32) (ls : Array Slot), C_areMistaken_p79 k15 t x1 x2 x3 y0 = some r → lv_has ls 7 [(0, .ref a), (1, .ref x1), (2, .ref x2), (3, .int x3)] → W p l e rmX0_areMistaken s m args below meth c s.heap [] 0 0 (MQ below (rQi r) args s 0 0 nof) (F0 m 79 ls [.int y0]) := by
  obtain ⟨hx, hb, hr, hml, hown, hts, hlocks⟩ := id C
  intro x1 x2 x3 y0 ls h hl
  unfold C_areMistaken_p79 at h
  refine lv_istore (lv' := [(6, .int y0), (0, .ref a), (1, .ref x1), (2, .ref x2), (3, .int x3)]) hx hb dX0_areMistaken_79 hl (by decide) rfl (fun ls hl => ?_)
  refine lv_iload hx hb dX0_areMistaken_81 (lv_at hl 0 rfl) ?_
  refine lv_if_ne (tgt := 88) hx hb dX0_areMistaken_83 (by decide) (fun c => ?_) (fun c => ?_)
  · replace h := if_f c h
    obtain ⟨v1, ev1⟩ : ∃ y : Int32, y = x3 + (1 : Int32) := ⟨_, rfl⟩
    replace h := lt1_sub ev1 h
    refine lv_iinc (v := v1) (lv' := [(3, .int v1), (6, .int y0), (0, .ref a), (1, .ref x1), (2, .ref x2)]) hx hb dX0_areMistaken_88 hl (k := 4) rfl (by rw [ev1]; rfl) (by decide) rfl (fun ls hl => ?_)
    refine lv_goto (tgt := 15) hx hb dX0_areMistaken_91 (by decide) ?_
    exact hk15 x1 x2 v1 ls h (lv_sub hl [2, 3, 4, 0] rfl)
  · replace h := if_t c h
    refine lv_iconst (v := 0) hx hb dX0_areMistaken_86 (by decide) ?_
    exact e_rz C (Or.inl rfl) h dX0_areMistaken_87
theorem bX0_areMistaken_p74 {p : Program} {l : Launch} {e : Env} {s : State} {m : MethodId} {args : Array Value} {below : List Frame} {meth : Method} {c : Code} {D : va_G} {dA : Nat → ClassId} {a : Nat} {k : KP a} {t : CS} {r : Int32} (C : cx p s m args meth c cX0_areMistaken RX0 7 (some .boolean)) (hK : kC D dA a k t.2.2.2 s) (hT : cW D dA a k t s.heap) {k15 : Nat → Nat → Int32 → Option Int32} (hk15 : ∀ (x1 : Nat) (x2 : Nat) (x3 : Int32) (ls : Array Slot), k15 x1 x2 x3 = some r → lv_has ls 7 [(0, .ref a), (1, .ref x1), (2, .ref x2), (3, .int x3)] → W p l e rmX0_areMistaken s m args below meth c s.heap [] 0 0 (MQ below (rQi r) args s 0 0 nof) (F0 m 15 ls [])) : ∀ (x1 : Nat) (x2 : Nat) (x3 : Int32) (ls : Array Slot), C_areMistaken_p74 k15 t x1 x2 x3 = some r → lv_has ls 7 [(0, .ref a), (1, .ref x1), (2, .ref x2), (3, .int x3)] → W p l e rmX0_areMistaken s m args below meth c s.heap [] 0 0 (MQ below (rQi r) args s 0 0 nof) (F0 m 74 ls []) := by
  obtain ⟨hx, hb, hr, hml, hown, hts, hlocks⟩ := id C
  intro x1 x2 x3 ls h hl
  unfold C_areMistaken_p74 at h
  refine lv_iconst (v := 1) hx hb dX0_areMistaken_74 (by decide) ?_
  refine lv_goto (tgt := 79) hx hb dX0_areMistaken_75 (by decide) ?_
  exact bX0_areMistaken_p79 C hK hT hk15 x1 x2 x3 (1 : Int32) ls h (lv_sub hl [0, 1, 2, 3] rfl)
theorem bX0_areMistaken_p78 {p : Program} {l : Launch} {e : Env} {s : State} {m : MethodId} {args : Array Value} {below : List Frame} {meth : Method} {c : Code} {D : va_G} {dA : Nat → ClassId} {a : Nat} {k : KP a} {t : CS} {r : Int32} (C : cx p s m args meth c cX0_areMistaken RX0 7 (some .boolean)) (hK : kC D dA a k t.2.2.2 s) (hT : cW D dA a k t s.heap) {k15 : Nat → Nat → Int32 → Option Int32} (hk15 : ∀ (x1 : Nat) (x2 : Nat) (x3 : Int32) (ls : Array Slot), k15 x1 x2 x3 = some r → lv_has ls 7 [(0, .ref a), (1, .ref x1), (2, .ref x2), (3, .int x3)] → W p l e rmX0_areMistaken s m args below meth c s.heap [] 0 0 (MQ below (rQi r) args s 0 0 nof) (F0 m 15 ls [])) : ∀ (x1 : Nat) (x2 : Nat) (x3 : Int32) (ls : Array Slot), C_areMistaken_p78 k15 t x1 x2 x3 = some r → lv_has ls 7 [(0, .ref a), (1, .ref x1), (2, .ref x2), (3, .int x3)] → W p l e rmX0_areMistaken s m args below meth c s.heap [] 0 0 (MQ below (rQi r) args s 0 0 nof) (F0 m 78 ls []) := by
  obtain ⟨hx, hb, hr, hml, hown, hts, hlocks⟩ := id C
  intro x1 x2 x3 ls h hl
  unfold C_areMistaken_p78 at h
  refine lv_iconst (v := 0) hx hb dX0_areMistaken_78 (by decide) ?_
  exact bX0_areMistaken_p79 C hK hT hk15 x1 x2 x3 (0 : Int32) ls h (lv_sub hl [0, 1, 2, 3] rfl)
theorem bX0_areMistaken_p15 {p : Program} {l : Launch} {e : Env} {s : State} {m : MethodId} {args : Array Value} {below : List Frame} {meth : Method} {c : Code} {D : va_G} {dA : Nat → ClassId} {a : Nat} {k : KP a} {t : CS} {r : Int32} (C : cx p s m args meth c cX0_areMistaken RX0 7 (some .boolean)) (hK : kC D dA a k t.2.2.2 s) (hT : cW D dA a k t s.heap) : ∀ (n : Nat), ∀ (x1 : Nat) (x2 : Nat) (x3 : Int32) (ls : Array Slot), C_areMistaken_p15 t n x1 x2 x3 = some r → lv_has ls 7 [(0, .ref a), (1, .ref x1), (2, .ref x2), (3, .int x3)] → W p l e rmX0_areMistaken s m args below meth c s.heap [] 0 0 (MQ below (rQi r) args s 0 0 nof) (F0 m 15 ls []) := by
  obtain ⟨hx, hb, hr, hml, hown, hts, hlocks⟩ := id C
  intro n
  induction n with
  | zero =>
    intro x1 x2 x3 ls h hl
    have h : none = some _ := h
    cases h
  | succ n ih =>
    intro x1 x2 x3 ls h hl
    rw [C_areMistaken_p15] at h
    refine lv_iload_n hx hb dX0_areMistaken_15 rfl (lv_at hl 3 rfl) ?_
    refine lv_aload_n hx hb dX0_areMistaken_16 rfl (lv_at hl 1 rfl) ?_
    obtain ⟨hc1, h⟩ := ckC_some h
    obtain ⟨v2, hv2, h⟩ := bd1_some h
    refine r_int (run_c (As := []) (rest := [.int x3]) C hK hT (fun _ _ => rfl) (rv_D (ci := 3) rfl hK hT hc1) (mX3_length hv2) q1237 q1238 q1239 q170 q1240 ⟨rfl, rfl⟩ hdX3_length ⟨Nat.le_of_ble_eq_true rfl, Nat.le_of_ble_eq_true rfl⟩ ⟨Nat.zero_le _, Nat.zero_le _⟩ rfl hl.1 rfl (Nat.le_of_ble_eq_true rfl) dX0_areMistaken_17) ?_
    refine lv_icmp_ge (tgt := 94) hx hb dX0_areMistaken_20 (by decide) (fun c => ?_) (fun c => ?_)
    · replace h := if_t c h
      refine lv_iconst (v := 1) hx hb dX0_areMistaken_94 (by decide) ?_
      exact e_rz C (Or.inr rfl) h dX0_areMistaken_95
    · replace h := if_f c h
      refine lv_aload_n hx hb dX0_areMistaken_23 rfl (lv_at hl 1 rfl) ?_
      obtain ⟨hc3, h⟩ := ckC_some h
      obtain ⟨v4, hv4, h⟩ := bd1_some h
      refine r_ref1 (run_c (As := []) (rest := []) C hK hT (fun _ _ => rfl) (rv_D (ci := 3) rfl hK hT hc3) (mX3_letter hv4) q358 q359 q360 q170 q361 ⟨rfl, rfl⟩ hdX3_letter ⟨Nat.le_of_ble_eq_true rfl, Nat.le_of_ble_eq_true rfl⟩ ⟨Nat.zero_le _, Nat.zero_le _⟩ rfl hl.1 rfl (Nat.le_of_ble_eq_true rfl) dX0_areMistaken_24) ?_
      refine lv_iload_n hx hb dX0_areMistaken_27 rfl (lv_at hl 3 rfl) ?_
      obtain ⟨v5, hv5, h⟩ := bd1_some h
      refine d_ild C hK hT hv5 dX0_areMistaken_28 ?_
      refine lv_istore (lv' := [(4, .int v5), (0, .ref a), (1, .ref x1), (2, .ref x2), (3, .int x3)]) hx hb dX0_areMistaken_29 hl (by decide) rfl (fun ls hl => ?_)
      refine lv_aload_n hx hb dX0_areMistaken_31 rfl (lv_at hl 3 rfl) ?_
      obtain ⟨hc6, h⟩ := ckC_some h
      obtain ⟨v7, hv7, h⟩ := bd1_some h
      refine r_ref1 (run_c (As := []) (rest := []) C hK hT (fun _ _ => rfl) (rv_D (ci := 3) rfl hK hT hc6) (mX3_letter hv7) q358 q359 q360 q170 q361 ⟨rfl, rfl⟩ hdX3_letter ⟨Nat.le_of_ble_eq_true rfl, Nat.le_of_ble_eq_true rfl⟩ ⟨Nat.zero_le _, Nat.zero_le _⟩ rfl hl.1 rfl (Nat.le_of_ble_eq_true rfl) dX0_areMistaken_32) ?_
      refine lv_iload_n hx hb dX0_areMistaken_35 rfl (lv_at hl 4 rfl) ?_
      obtain ⟨v8, hv8, h⟩ := bd1_some h
      refine d_ild C hK hT hv8 dX0_areMistaken_36 ?_
      refine lv_istore (lv' := [(5, .int v8), (4, .int v5), (0, .ref a), (1, .ref x1), (2, .ref x2), (3, .int x3)]) hx hb dX0_areMistaken_37 hl (by decide) rfl (fun ls hl => ?_)
      refine lv_iload hx hb dX0_areMistaken_39 (lv_at hl 1 rfl) ?_
      refine lv_iload hx hb dX0_areMistaken_41 (lv_at hl 0 rfl) ?_
      refine lv_icmp_eq (tgt := 74) hx hb dX0_areMistaken_43 (by decide) (fun c => ?_) (fun c => ?_)
      · replace h := if_t c h
        exact bX0_areMistaken_p74 C hK hT ih x1 x2 x3 ls h (lv_sub hl [2, 3, 4, 5] rfl)
      · replace h := if_f c h
        refine lv_aload_n hx hb dX0_areMistaken_46 rfl (lv_at hl 2 rfl) ?_
        refine cg13 C hK hT dX0_areMistaken_47 ?_
        refine lv_iload hx hb dX0_areMistaken_50 (lv_at hl 1 rfl) ?_
        obtain ⟨hi9, h⟩ := ck_some h
        refine c_ild C hK hT 112 26 (by decide) (fun _ _ => rfl) hi9 dX0_areMistaken_52 ?_
        refine lv_iconst (v := -1) hx hb dX0_areMistaken_53 (by decide) ?_
        refine lv_icmp_eq (tgt := 78) hx hb dX0_areMistaken_54 (by decide) (fun c => ?_) (fun c => ?_)
        · replace h := if_t c h
          exact bX0_areMistaken_p78 C hK hT ih x1 x2 x3 ls h (lv_sub hl [2, 3, 4, 5] rfl)
        · replace h := if_f c h
          refine lv_aload_n hx hb dX0_areMistaken_57 rfl (lv_at hl 2 rfl) ?_
          refine cg13 C hK hT dX0_areMistaken_58 ?_
          refine lv_iload hx hb dX0_areMistaken_61 (lv_at hl 1 rfl) ?_
          obtain ⟨hi10, h⟩ := ck_some h
          refine c_ild C hK hT 112 26 (by decide) (fun _ _ => rfl) hi10 dX0_areMistaken_63 ?_
          refine lv_aload_n hx hb dX0_areMistaken_64 rfl (lv_at hl 2 rfl) ?_
          refine cg13 C hK hT dX0_areMistaken_65 ?_
          refine lv_iload hx hb dX0_areMistaken_68 (lv_at hl 0 rfl) ?_
          obtain ⟨hi11, h⟩ := ck_some h
          refine c_ild C hK hT 112 26 (by decide) (fun _ _ => rfl) hi11 dX0_areMistaken_70 ?_
          refine lv_icmp_ne (tgt := 78) hx hb dX0_areMistaken_71 (by decide) (fun c => ?_) (fun c => ?_)
          · replace h := if_f c h
            exact bX0_areMistaken_p78 C hK hT ih x1 x2 x3 ls h (lv_sub hl [2, 3, 4, 5] rfl)
          · replace h := if_t c h
            exact bX0_areMistaken_p74 C hK hT ih x1 x2 x3 ls h (lv_sub hl [2, 3, 4, 5] rfl)
theorem bX0_areMistaken {p : Program} {l : Launch} {e : Env} {s : State} {m : MethodId} {args : Array Value} {below : List Frame} {meth : Method} {c : Code} {D : va_G} {dA : Nat → ClassId} {a : Nat} {k : KP a} {t : CS} {r : Int32} (C : cx p s m args meth c cX0_areMistaken RX0 7 (some .boolean)) (hK : kC D dA a k t.2.2.2 s) (hT : cW D dA a k t s.heap) : ∀ (x1 : Nat) (x2 : Nat) (ls : Array Slot), C_areMistaken t x1 x2 = some r → lv_has ls 7 [(0, .ref a), (1, .ref x1), (2, .ref x2)] → W p l e rmX0_areMistaken s m args below meth c s.heap [] 0 0 (MQ below (rQi r) args s 0 0 nof) (F0 m 0 ls []) := by
  obtain ⟨hx, hb, hr, hml, hown, hts, hlocks⟩ := id C
  intro x1 x2 ls h hl
  unfold C_areMistaken at h
  refine lv_aload_n hx hb dX0_areMistaken_0 rfl (lv_at hl 1 rfl) ?_
  obtain ⟨hc1, h⟩ := ckC_some h
  obtain ⟨v2, hv2, h⟩ := bd1_some h
  refine r_int (run_c (As := []) (rest := []) C hK hT (fun _ _ => rfl) (rv_D (ci := 3) rfl hK hT hc1) (mX3_length hv2) q1237 q1238 q1239 q170 q1240 ⟨rfl, rfl⟩ hdX3_length ⟨Nat.le_of_ble_eq_true rfl, Nat.le_of_ble_eq_true rfl⟩ ⟨Nat.zero_le _, Nat.zero_le _⟩ rfl hl.1 rfl (Nat.le_of_ble_eq_true rfl) dX0_areMistaken_1) ?_
  refine lv_aload_n hx hb dX0_areMistaken_4 rfl (lv_at hl 2 rfl) ?_
  obtain ⟨hc3, h⟩ := ckC_some h
  obtain ⟨v4, hv4, h⟩ := bd1_some h
  refine r_int (run_c (As := []) (rest := [.int v2]) C hK hT (fun _ _ => rfl) (rv_D (ci := 3) rfl hK hT hc3) (mX3_length hv4) q1237 q1238 q1239 q170 q1240 ⟨rfl, rfl⟩ hdX3_length ⟨Nat.le_of_ble_eq_true rfl, Nat.le_of_ble_eq_true rfl⟩ ⟨Nat.zero_le _, Nat.zero_le _⟩ rfl hl.1 rfl (Nat.le_of_ble_eq_true rfl) dX0_areMistaken_5) ?_
  refine lv_icmp_eq (tgt := 13) hx hb dX0_areMistaken_8 (by decide) (fun c => ?_) (fun c => ?_)
  · replace h := if_t c h
    refine lv_iconst (v := 0) hx hb dX0_areMistaken_13 (by decide) ?_
    refine lv_istore_n (lv' := [(3, .int (0 : Int32)), (0, .ref a), (1, .ref x1), (2, .ref x2)]) hx hb dX0_areMistaken_14 rfl hl (by decide) rfl (fun ls hl => ?_)
    exact bX0_areMistaken_p15 C hK hT fu x1 x2 (0 : Int32) ls h (lv_sub hl [1, 2, 3, 0] rfl)
  · replace h := if_f c h
    refine lv_iconst (v := 0) hx hb dX0_areMistaken_11 (by decide) ?_
    exact e_rz C (Or.inl rfl) h dX0_areMistaken_12
theorem mX0_areMistaken {l : Launch} {D : va_G} {dA : Nat → ClassId} {a : Nat} {k : KP a} {t : CS} {x1 : Nat} {x2 : Nat} {r : Int32} (h : C_areMistaken t x1 x2 = some r) : Met l yX0_areMistaken (ws_ yX0_areMistaken cX0_areMistaken 7 (some .boolean)) rmX0_areMistaken (cPc D dA a k t [.ref a, .ref x1, .ref x2]) (rQi r) 0 0 nof := en_C (by decide +kernel) rfl (Nat.le_of_ble_eq_true rfl) (fun p e s m below meth c ls C hK hT hl => bX0_areMistaken C hK hT x1 x2 ls h hl)
set_option maxRecDepth 20000 in
abbrev rmX0_isAnyMistaken : Room := { frames := 2, cells := 0, slots := 0, locals := 46 }
theorem hdX0_isAnyMistaken : yX0_isAnyMistaken.cls = RX0 ∧ yX0_isAnyMistaken.cls ≠ "java/lang/invoke/MethodHandle" ∧ yX0_isAnyMistaken.cls ≠ "java/lang/invoke/VarHandle" ∧ (parseMethodDescriptor yX0_isAnyMistaken.desc).map (fun d => d.parameters.length) = some 0 := by decide +kernel
theorem bX0_isAnyMistaken_p17 {p : Program} {l : Launch} {e : Env} {s : State} {m : MethodId} {args : Array Value} {below : List Frame} {meth : Method} {c : Code} {D : va_G} {dA : Nat → ClassId} {a : Nat} {k : KP a} {t : CS} {r : Int32} (C : cx p s m args meth c cX0_isAnyMistaken RX0 3 (some .boolean)) (hK : kC D dA a k t.2.2.2 s) (hT : cW D dA a k t s.heap) {k2 : Int32 → Option Int32} (hk2 : ∀ (x1 : Int32) (ls : Array Slot), k2 x1 = some r → lv_has ls 3 [(0, .ref a), (1, .int x1)] → W p l e rmX0_isAnyMistaken s m args below meth c s.heap [] 0 0 (MQ below (rQi r) args s 0 0 nof) (F0 m 2 ls [])) : ∀ (n : Nat), ∀ (x1 : Int32) (x2 : Int32) (ls : Array Slot), C_isAnyMistaken_p17 k2 t n x1 x2 = some r → lv_has ls 3 [(0, .ref a), (1, .int x1), (2, .int x2)] → W p l e rmX0_isAnyMistaken s m args below meth c s.heap [] 0 0 (MQ below (rQi r) args s 0 0 nof) (F0 m 17 ls []) := by
  obtain ⟨hx, hb, hr, hml, hown, hts, hlocks⟩ := id C
  intro n
  induction n with
  | zero =>
    intro x1 x2 ls h hl
    have h : none = some _ := h
    cases h
  | succ n ih =>
    intro x1 x2 ls h hl
    rw [C_isAnyMistaken_p17] at h
    refine lv_iload_n hx hb dX0_isAnyMistaken_17 rfl (lv_at hl 2 rfl) ?_
    refine lv_iload_n hx hb dX0_isAnyMistaken_18 rfl (lv_at hl 1 rfl) ?_
    refine lv_icmp_ge (tgt := 55) hx hb dX0_isAnyMistaken_19 (by decide) (fun c => ?_) (fun c => ?_)
    · replace h := if_t c h
      obtain ⟨v1, ev1⟩ : ∃ y : Int32, y = x1 + (1 : Int32) := ⟨_, rfl⟩
      replace h := lt1_sub ev1 h
      refine lv_iinc (v := v1) (lv' := [(1, .int v1), (0, .ref a), (2, .int x2)]) hx hb dX0_isAnyMistaken_55 hl (k := 1) rfl (by rw [ev1]; rfl) (by decide) rfl (fun ls hl => ?_)
      refine lv_goto (tgt := 2) hx hb dX0_isAnyMistaken_58 (by decide) ?_
      exact hk2 v1 ls h (lv_sub hl [1, 0] rfl)
    · replace h := if_f c h
      refine lv_aload_n hx hb dX0_isAnyMistaken_22 rfl (lv_at hl 0 rfl) ?_
      refine lv_aload_n hx hb dX0_isAnyMistaken_23 rfl (lv_at hl 0 rfl) ?_
      refine cg0 C hK hT dX0_isAnyMistaken_24 ?_
      refine c_getSN C hK hT (Or.inl rfl) 4 (by decide) (nf230 hK.2.1) rfl (v := .ref (a + 6)) rfl dX0_isAnyMistaken_27 ?_
      refine lv_iload_n hx hb dX0_isAnyMistaken_30 rfl (lv_at hl 1 rfl) ?_
      obtain ⟨hi2, h⟩ := ck_some h
      obtain ⟨r3, hr3, h⟩ := bd1_some h
      refine c_ald C hK hT 6 24 4 (by decide) rfl (g := t.2.1 6) (by rfl) (by rfl) hi2 hr3 dX0_isAnyMistaken_31 ?_
      refine lv_aload_n hx hb dX0_isAnyMistaken_32 rfl (lv_at hl 0 rfl) ?_
      refine cg0 C hK hT dX0_isAnyMistaken_33 ?_
      refine c_getSN C hK hT (Or.inl rfl) 4 (by decide) (nf230 hK.2.1) rfl (v := .ref (a + 6)) rfl dX0_isAnyMistaken_36 ?_
      refine lv_iload_n hx hb dX0_isAnyMistaken_39 rfl (lv_at hl 2 rfl) ?_
      obtain ⟨hi4, h⟩ := ck_some h
      obtain ⟨r5, hr5, h⟩ := bd1_some h
      refine c_ald C hK hT 6 24 4 (by decide) rfl (g := t.2.1 6) (by rfl) (by rfl) hi4 hr5 dX0_isAnyMistaken_40 ?_
      obtain ⟨v6, hv6, h⟩ := bd1_some h
      refine r_int (run_c (As := [.ref r3, .ref r5]) (rest := []) C hK hT (fun _ _ => rfl) (rv_X hK hT) (mX0_areMistaken hv6) q1446 q1448 qs59 q158 q1449 ⟨rfl, rfl⟩ hdX0_areMistaken ⟨Nat.le_of_ble_eq_true rfl, Nat.le_of_ble_eq_true rfl⟩ ⟨Nat.zero_le _, Nat.zero_le _⟩ rfl hl.1 rfl (Nat.le_of_ble_eq_true rfl) dX0_isAnyMistaken_41) ?_
      refine lv_if_eq (tgt := 49) hx hb dX0_isAnyMistaken_44 (by decide) (fun c => ?_) (fun c => ?_)
      · replace h := if_t c h
        obtain ⟨v7, ev7⟩ : ∃ y : Int32, y = x2 + (1 : Int32) := ⟨_, rfl⟩
        replace h := lt1_sub ev7 h
        refine lv_iinc (v := v7) (lv' := [(2, .int v7), (0, .ref a), (1, .int x1)]) hx hb dX0_isAnyMistaken_49 hl (k := 2) rfl (by rw [ev7]; rfl) (by decide) rfl (fun ls hl => ?_)
        refine lv_goto (tgt := 17) hx hb dX0_isAnyMistaken_52 (by decide) ?_
        exact ih x1 v7 ls h (lv_sub hl [1, 2, 0] rfl)
      · replace h := if_f c h
        refine lv_iconst (v := 1) hx hb dX0_isAnyMistaken_47 (by decide) ?_
        exact e_rz C (Or.inr rfl) h dX0_isAnyMistaken_48
theorem bX0_isAnyMistaken_p2 {p : Program} {l : Launch} {e : Env} {s : State} {m : MethodId} {args : Array Value} {below : List Frame} {meth : Method} {c : Code} {D : va_G} {dA : Nat → ClassId} {a : Nat} {k : KP a} {t : CS} {r : Int32} (C : cx p s m args meth c cX0_isAnyMistaken RX0 3 (some .boolean)) (hK : kC D dA a k t.2.2.2 s) (hT : cW D dA a k t s.heap) : ∀ (n : Nat), ∀ (x1 : Int32) (ls : Array Slot), C_isAnyMistaken_p2 t n x1 = some r → lv_has ls 3 [(0, .ref a), (1, .int x1)] → W p l e rmX0_isAnyMistaken s m args below meth c s.heap [] 0 0 (MQ below (rQi r) args s 0 0 nof) (F0 m 2 ls []) := by
  obtain ⟨hx, hb, hr, hml, hown, hts, hlocks⟩ := id C
  intro n
  induction n with
  | zero =>
    intro x1 ls h hl
    have h : none = some _ := h
    cases h
  | succ n ih =>
    intro x1 ls h hl
    rw [C_isAnyMistaken_p2] at h
    refine lv_iload_n hx hb dX0_isAnyMistaken_2 rfl (lv_at hl 1 rfl) ?_
    refine lv_aload_n hx hb dX0_isAnyMistaken_3 rfl (lv_at hl 0 rfl) ?_
    refine cg0 C hK hT dX0_isAnyMistaken_4 ?_
    refine c_getSN C hK hT (Or.inl rfl) 0 (by decide) (nf222 hK.2.1) rfl (v := .ref (a + 2)) rfl dX0_isAnyMistaken_7 ?_
    refine lv_iconst (v := 0) hx hb dX0_isAnyMistaken_10 (by decide) ?_
    obtain ⟨hi1, h⟩ := ck_some h
    refine c_ild C hK hT 2 7 (by decide) (fun _ _ => rfl) hi1 dX0_isAnyMistaken_11 ?_
    refine lv_icmp_ge (tgt := 61) hx hb dX0_isAnyMistaken_12 (by decide) (fun c => ?_) (fun c => ?_)
    · replace h := if_t c h
      refine lv_iconst (v := 0) hx hb dX0_isAnyMistaken_61 (by decide) ?_
      exact e_rz C (Or.inl rfl) h dX0_isAnyMistaken_62
    · replace h := if_f c h
      refine lv_iconst (v := 0) hx hb dX0_isAnyMistaken_15 (by decide) ?_
      refine lv_istore_n (lv' := [(2, .int (0 : Int32)), (0, .ref a), (1, .int x1)]) hx hb dX0_isAnyMistaken_16 rfl hl (by decide) rfl (fun ls hl => ?_)
      exact bX0_isAnyMistaken_p17 C hK hT ih fu x1 (0 : Int32) ls h (lv_sub hl [1, 2, 0] rfl)
theorem bX0_isAnyMistaken {p : Program} {l : Launch} {e : Env} {s : State} {m : MethodId} {args : Array Value} {below : List Frame} {meth : Method} {c : Code} {D : va_G} {dA : Nat → ClassId} {a : Nat} {k : KP a} {t : CS} {r : Int32} (C : cx p s m args meth c cX0_isAnyMistaken RX0 3 (some .boolean)) (hK : kC D dA a k t.2.2.2 s) (hT : cW D dA a k t s.heap) : ∀ (ls : Array Slot), C_isAnyMistaken t = some r → lv_has ls 3 [(0, .ref a)] → W p l e rmX0_isAnyMistaken s m args below meth c s.heap [] 0 0 (MQ below (rQi r) args s 0 0 nof) (F0 m 0 ls []) := by
  obtain ⟨hx, hb, hr, hml, hown, hts, hlocks⟩ := id C
  intro ls h hl
  unfold C_isAnyMistaken at h
  refine lv_iconst (v := 0) hx hb dX0_isAnyMistaken_0 (by decide) ?_
  refine lv_istore_n (lv' := [(1, .int (0 : Int32)), (0, .ref a)]) hx hb dX0_isAnyMistaken_1 rfl hl (by decide) rfl (fun ls hl => ?_)
  exact bX0_isAnyMistaken_p2 C hK hT fu (0 : Int32) ls h (lv_sub hl [1, 0] rfl)
theorem mX0_isAnyMistaken {l : Launch} {D : va_G} {dA : Nat → ClassId} {a : Nat} {k : KP a} {t : CS} {r : Int32} (h : C_isAnyMistaken t = some r) : Met l yX0_isAnyMistaken (ws_ yX0_isAnyMistaken cX0_isAnyMistaken 3 (some .boolean)) rmX0_isAnyMistaken (cPc D dA a k t [.ref a]) (rQi r) 0 0 nof := en_C (by decide +kernel) rfl (Nat.le_of_ble_eq_true rfl) (fun p e s m below meth c ls C hK hT hl => bX0_isAnyMistaken C hK hT ls h hl)
set_option maxRecDepth 20000 in
abbrev rmX0_signs (N : Nat) : Room := { frames := 3 + 1 * N, cells := 0, slots := 0, locals := 68 + 26 * N }
theorem hdX0_signs : yX0_signs.cls = RX0 ∧ yX0_signs.cls ≠ "java/lang/invoke/MethodHandle" ∧ yX0_signs.cls ≠ "java/lang/invoke/VarHandle" ∧ (parseMethodDescriptor yX0_signs.desc).map (fun d => d.parameters.length) = some 4 := by decide +kernel
theorem bX0_signs_p54 {p : Program} {l : Launch} {e : Env} {s : State} {m : MethodId} {args : Array Value} {below : List Frame} {meth : Method} {c : Code} {D : va_G} {dA : Nat → ClassId} {a : Nat} {k : KP a} {t0 : CS} {r : Int32} {t9 : CS} (C : cx p s m args meth c cX0_signs RX0 7 (some .boolean)) {N : Nat} {rec : CS → Int32 → Int32 → Int32 → Int32 → Option (Int32 × CS)} (hrec : ∀ (t : CS) (x1 : Int32) (x2 : Int32) (x3 : Int32) (x4 : Int32) (r : Int32) (t9 : CS), rec t x1 x2 x3 x4 = some (r, t9) → Met l yX0_signs (ws_ yX0_signs cX0_signs 7 (some .boolean)) (rmX0_signs N) (cPc D dA a k t [.ref a, .int x1, .int x2, .int x3, .int x4]) (cQ D dA a k 0 t t9 (some (.int r))) 0 0 (ca a)) : ∀ (n : Nat), ∀ (t : CS) (x1 : Int32) (x3 : Int32) (x4 : Int32) (x5 : Int32) (x6 : Int32) (H : Heap) (locs : List Loc) (hT : cW D dA a k t H) (hS : cS a s.heap H locs t0.2.2.2 0 t) (hK : kC D dA a k t.2.2.2 s) (ls : Array Slot), C_signs_p54 rec n t x1 x3 x4 x5 x6 = some (r, t9) → lv_has ls 7 [(0, .ref a), (1, .int x1), (3, .int x3), (4, .int x4), (5, .int x5), (6, .int x6)] → W p l e (rmX0_signs (N + 1)) s m args below meth c H locs 0 0 (MQ below (cQ D dA a k 0 t0 t9 (some (.int r))) args s 0 0 (ca a)) (F0 m 54 ls []) := by
  obtain ⟨hx, hb, hr, hml, hown, hts, hlocks⟩ := id C
  intro n
  induction n with
  | zero =>
    intro t x1 x3 x4 x5 x6 H locs hT hS hK ls h hl
    have h : none = some _ := h
    cases h
  | succ n ih =>
    intro t x1 x3 x4 x5 x6 H locs hT hS hK ls h hl
    rw [C_signs_p54] at h
    refine lv_iload hx hb dX0_signs_54 (lv_at hl 5 rfl) ?_
    refine lv_iload_n hx hb dX0_signs_56 rfl (lv_at hl 2 rfl) ?_
    refine lv_icmp_gt (tgt := 106) hx hb dX0_signs_57 (by decide) (fun c => ?_) (fun c => ?_)
    · replace h := if_t c h
      refine lv_iconst (v := 0) hx hb dX0_signs_106 (by decide) ?_
      exact ec_z C hT hS (Or.inl rfl) h dX0_signs_107
    · replace h := if_f c h
      refine lv_iload hx hb dX0_signs_60 (lv_at hl 5 rfl) ?_
      refine lv_iload hx hb dX0_signs_62 (lv_at hl 3 rfl) ?_
      refine lv_icmp_ge (tgt := 106) hx hb dX0_signs_64 (by decide) (fun c => ?_) (fun c => ?_)
      · replace h := if_t c h
        refine lv_iconst (v := 0) hx hb dX0_signs_106 (by decide) ?_
        exact ec_z C hT hS (Or.inl rfl) h dX0_signs_107
      · replace h := if_f c h
        refine lv_aload_n hx hb dX0_signs_67 rfl (lv_at hl 0 rfl) ?_
        refine cg13 C hK hT dX0_signs_68 ?_
        refine lv_iload hx hb dX0_signs_71 (lv_at hl 4 rfl) ?_
        refine lv_iload hx hb dX0_signs_73 (lv_at hl 5 rfl) ?_
        obtain ⟨hi1, h⟩ := ck_some h
        refine c_ist C hK hT hS 112 26 (by decide) (fun _ _ => rfl) hi1 dX0_signs_75 (fun t2 H locs et2 hT hS hK => ?_)
        replace h := lt1_sub et2 h
        refine lv_aload_n hx hb dX0_signs_76 rfl (lv_at hl 0 rfl) ?_
        refine lv_iload_n hx hb dX0_signs_77 rfl (lv_at hl 1 rfl) ?_
        refine lv_iload hx hb dX0_signs_78 (lv_at hl 4 rfl) ?_
        refine lv_iconst (v := 1) hx hb dX0_signs_80 (by decide) ?_
        refine lv_iadd hx hb dX0_signs_81 ?_
        refine lv_iload_n hx hb dX0_signs_82 rfl (lv_at hl 2 rfl) ?_
        refine lv_iload hx hb dX0_signs_83 (lv_at hl 5 rfl) ?_
        refine lv_iconst (v := 1) hx hb dX0_signs_85 (by decide) ?_
        refine lv_iadd hx hb dX0_signs_86 ?_
        refine va_mmax hx hb (hml.trans hl.1.symm) hown (hts _ q1450) (hts _ q888) (hts _ q180) (hts _ q889) (by show 1 ≤ 3 + 1 * (N + 1); omega) (by show 3 + 13 ≤ 68 + 26 * (N + 1); omega) (Nat.zero_le _) (Nat.zero_le _) dX0_signs_87 ?_
        refine lv_iload hx hb dX0_signs_90 (lv_at hl 3 rfl) ?_
        obtain ⟨v3, t4, ht4, h⟩ := bd2_some h
        refine wc_int hS hK (run_c (As := [.int x1, .int (x5 + (1 : Int32)), .int (if x3 < (x6 + (1 : Int32)) then (x6 + (1 : Int32)) else x3), .int x4]) (rest := []) C hK hT hS.2.1 (rv_X hK hT) (hrec _ _ _ _ _ _ _ ht4) q1438 q1440 qs57 q158 q1441 ⟨rfl, rfl⟩ hdX0_signs ⟨show 3 + 1 * N + 1 ≤ 3 + 1 * (N + 1) from by omega, show 8 + (7 + 11) + (68 + 26 * N) ≤ 68 + 26 * (N + 1) from by omega⟩ ⟨Nat.zero_le _, Nat.zero_le _⟩ rfl hl.1 rfl (Nat.le_of_ble_eq_true rfl) dX0_signs_92) (fun H locs hT hS hK hNt4 => ?_)
        refine lv_if_eq (tgt := 100) hx hb dX0_signs_95 (by decide) (fun c => ?_) (fun c => ?_)
        · replace h := if_t c h
          obtain ⟨v5, ev5⟩ : ∃ y : Int32, y = x6 + (1 : Int32) := ⟨_, rfl⟩
          replace h := lt1_sub ev5 h
          refine lv_iinc (v := v5) (lv' := [(6, .int v5), (0, .ref a), (1, .int x1), (3, .int x3), (4, .int x4), (5, .int x5)]) hx hb dX0_signs_100 hl (k := 5) rfl (by rw [ev5]; rfl) (by decide) rfl (fun ls hl => ?_)
          refine lv_goto (tgt := 54) hx hb dX0_signs_103 (by decide) ?_
          exact ih t4 x1 x3 x4 x5 v5 H locs hT hS hK ls h (lv_sub hl [1, 2, 3, 4, 5, 0] rfl)
        · replace h := if_f c h
          refine lv_iconst (v := 1) hx hb dX0_signs_98 (by decide) ?_
          exact ec_z C hT hS (Or.inr rfl) h dX0_signs_99
theorem bX0_signs_p25 {p : Program} {l : Launch} {e : Env} {s : State} {m : MethodId} {args : Array Value} {below : List Frame} {meth : Method} {c : Code} {D : va_G} {dA : Nat → ClassId} {a : Nat} {k : KP a} {t0 : CS} {r : Int32} {t9 : CS} (C : cx p s m args meth c cX0_signs RX0 7 (some .boolean)) {N : Nat} {rec : CS → Int32 → Int32 → Int32 → Int32 → Option (Int32 × CS)} (hrec : ∀ (t : CS) (x1 : Int32) (x2 : Int32) (x3 : Int32) (x4 : Int32) (r : Int32) (t9 : CS), rec t x1 x2 x3 x4 = some (r, t9) → Met l yX0_signs (ws_ yX0_signs cX0_signs 7 (some .boolean)) (rmX0_signs N) (cPc D dA a k t [.ref a, .int x1, .int x2, .int x3, .int x4]) (cQ D dA a k 0 t t9 (some (.int r))) 0 0 (ca a)) : ∀ (t : CS) (x1 : Int32) (x3 : Int32) (x4 : Int32) (x5 : Int32) (H : Heap) (locs : List Loc) (hT : cW D dA a k t H) (hS : cS a s.heap H locs t0.2.2.2 0 t) (hK : kC D dA a k t.2.2.2 s) (ls : Array Slot), C_signs_p25 rec t x1 x3 x4 x5 = some (r, t9) → lv_has ls 7 [(0, .ref a), (1, .int x1), (3, .int x3), (4, .int x4), (5, .int x5)] → W p l e (rmX0_signs (N + 1)) s m args below meth c H locs 0 0 (MQ below (cQ D dA a k 0 t0 t9 (some (.int r))) args s 0 0 (ca a)) (F0 m 25 ls []) := by
  obtain ⟨hx, hb, hr, hml, hown, hts, hlocks⟩ := id C
  intro t x1 x3 x4 x5 H locs hT hS hK ls h hl
  unfold C_signs_p25 at h
  refine lv_iload hx hb dX0_signs_25 (lv_at hl 4 rfl) ?_
  refine lv_bipush (v := 26) hx hb dX0_signs_27 (by decide) ?_
  refine lv_icmp_ne (tgt := 51) hx hb dX0_signs_29 (by decide) (fun c => ?_) (fun c => ?_)
  · replace h := if_f c h
    refine lv_iconst (v := 0) hx hb dX0_signs_51 (by decide) ?_
    refine lv_istore (lv' := [(6, .int (0 : Int32)), (0, .ref a), (1, .int x1), (3, .int x3), (4, .int x4), (5, .int x5)]) hx hb dX0_signs_52 hl (by decide) rfl (fun ls hl => ?_)
    exact bX0_signs_p54 C hrec fu t x1 x3 x4 x5 (0 : Int32) H locs hT hS hK ls h (lv_sub hl [1, 2, 3, 4, 5, 0] rfl)
  · replace h := if_t c h
    refine lv_iload_n hx hb dX0_signs_32 rfl (lv_at hl 2 rfl) ?_
    refine lv_iload hx hb dX0_signs_33 (lv_at hl 3 rfl) ?_
    refine lv_icmp_ne (tgt := 49) hx hb dX0_signs_35 (by decide) (fun c => ?_) (fun c => ?_)
    · replace h := if_f c h
      refine lv_iconst (v := 0) hx hb dX0_signs_49 (by decide) ?_
      exact ec_z C hT hS (Or.inl rfl) h dX0_signs_50
    · replace h := if_t c h
      refine lv_aload_n hx hb dX0_signs_38 rfl (lv_at hl 0 rfl) ?_
      obtain ⟨v1, hv1, h⟩ := bd1_some h
      refine r_int (run_c (As := []) (rest := []) C hK hT hS.2.1 (rv_X hK hT) (mX0_isAnyMistaken hv1) q1442 q1444 qs58 q158 q1445 ⟨rfl, rfl⟩ hdX0_isAnyMistaken ⟨show 2 + 1 ≤ 3 + 1 * (N + 1) from by omega, show 8 + (3 + 11) + (46) ≤ 68 + 26 * (N + 1) from by omega⟩ ⟨Nat.zero_le _, Nat.zero_le _⟩ rfl hl.1 rfl (Nat.le_of_ble_eq_true rfl) dX0_signs_39) ?_
      refine lv_if_ne (tgt := 49) hx hb dX0_signs_42 (by decide) (fun c => ?_) (fun c => ?_)
      · replace h := if_f c h
        refine lv_iconst (v := 0) hx hb dX0_signs_49 (by decide) ?_
        exact ec_z C hT hS (Or.inl rfl) h dX0_signs_50
      · replace h := if_t c h
        refine lv_iconst (v := 1) hx hb dX0_signs_45 (by decide) ?_
        refine lv_goto (tgt := 50) hx hb dX0_signs_46 (by decide) ?_
        exact ec_z C hT hS (Or.inr rfl) h dX0_signs_50
theorem bX0_signs_p3 {p : Program} {l : Launch} {e : Env} {s : State} {m : MethodId} {args : Array Value} {below : List Frame} {meth : Method} {c : Code} {D : va_G} {dA : Nat → ClassId} {a : Nat} {k : KP a} {t0 : CS} {r : Int32} {t9 : CS} (C : cx p s m args meth c cX0_signs RX0 7 (some .boolean)) {N : Nat} {rec : CS → Int32 → Int32 → Int32 → Int32 → Option (Int32 × CS)} (hrec : ∀ (t : CS) (x1 : Int32) (x2 : Int32) (x3 : Int32) (x4 : Int32) (r : Int32) (t9 : CS), rec t x1 x2 x3 x4 = some (r, t9) → Met l yX0_signs (ws_ yX0_signs cX0_signs 7 (some .boolean)) (rmX0_signs N) (cPc D dA a k t [.ref a, .int x1, .int x2, .int x3, .int x4]) (cQ D dA a k 0 t t9 (some (.int r))) 0 0 (ca a)) : ∀ (n : Nat), ∀ (t : CS) (x1 : Int32) (x3 : Int32) (x4 : Int32) (x5 : Int32) (H : Heap) (locs : List Loc) (hT : cW D dA a k t H) (hS : cS a s.heap H locs t0.2.2.2 0 t) (hK : kC D dA a k t.2.2.2 s) (ls : Array Slot), C_signs_p3 rec n t x1 x3 x4 x5 = some (r, t9) → lv_has ls 7 [(0, .ref a), (1, .int x1), (3, .int x3), (4, .int x4), (5, .int x5)] → W p l e (rmX0_signs (N + 1)) s m args below meth c H locs 0 0 (MQ below (cQ D dA a k 0 t0 t9 (some (.int r))) args s 0 0 (ca a)) (F0 m 3 ls []) := by
  obtain ⟨hx, hb, hr, hml, hown, hts, hlocks⟩ := id C
  intro n
  induction n with
  | zero =>
    intro t x1 x3 x4 x5 H locs hT hS hK ls h hl
    have h : none = some _ := h
    cases h
  | succ n ih =>
    intro t x1 x3 x4 x5 H locs hT hS hK ls h hl
    rw [C_signs_p3] at h
    refine lv_iload hx hb dX0_signs_3 (lv_at hl 4 rfl) ?_
    refine lv_bipush (v := 26) hx hb dX0_signs_5 (by decide) ?_
    refine lv_icmp_ge (tgt := 25) hx hb dX0_signs_7 (by decide) (fun c => ?_) (fun c => ?_)
    · replace h := if_t c h
      exact bX0_signs_p25 C hrec t x1 x3 x4 x5 H locs hT hS hK ls h (lv_sub hl [0, 1, 2, 3, 4] rfl)
    · replace h := if_f c h
      refine lv_iload_n hx hb dX0_signs_10 rfl (lv_at hl 1 rfl) ?_
      refine lv_iload hx hb dX0_signs_11 (lv_at hl 4 rfl) ?_
      obtain ⟨v1, hv1, h⟩ := bd1_some h
      refine r_int (run_s (As := [.int x1, .int x5]) (rest := []) C (mX0_has hv1) q344 q345 q158 q346 ⟨rfl, rfl⟩ hdX0_has ⟨show 0 + 1 ≤ 3 + 1 * (N + 1) from by omega, show 8 + (2 + 11) + (0) ≤ 68 + 26 * (N + 1) from by omega⟩ ⟨Nat.zero_le _, Nat.zero_le _⟩ rfl hl.1 rfl (Nat.le_of_ble_eq_true rfl) dX0_signs_13) ?_
      refine lv_if_ne (tgt := 25) hx hb dX0_signs_16 (by decide) (fun c => ?_) (fun c => ?_)
      · replace h := if_f c h
        exact bX0_signs_p25 C hrec t x1 x3 x4 x5 H locs hT hS hK ls h (lv_sub hl [0, 1, 2, 3, 4] rfl)
      · replace h := if_t c h
        obtain ⟨v2, ev2⟩ : ∃ y : Int32, y = x5 + (1 : Int32) := ⟨_, rfl⟩
        replace h := lt1_sub ev2 h
        refine lv_iinc (v := v2) (lv' := [(5, .int v2), (0, .ref a), (1, .int x1), (3, .int x3), (4, .int x4)]) hx hb dX0_signs_19 hl (k := 4) rfl (by rw [ev2]; rfl) (by decide) rfl (fun ls hl => ?_)
        refine lv_goto (tgt := 3) hx hb dX0_signs_22 (by decide) ?_
        exact ih t x1 x3 x4 v2 H locs hT hS hK ls h (lv_sub hl [1, 2, 3, 4, 0] rfl)
theorem bX0_signs {p : Program} {l : Launch} {e : Env} {s : State} {m : MethodId} {args : Array Value} {below : List Frame} {meth : Method} {c : Code} {D : va_G} {dA : Nat → ClassId} {a : Nat} {k : KP a} {t0 : CS} {r : Int32} {t9 : CS} (C : cx p s m args meth c cX0_signs RX0 7 (some .boolean)) {N : Nat} {rec : CS → Int32 → Int32 → Int32 → Int32 → Option (Int32 × CS)} (hrec : ∀ (t : CS) (x1 : Int32) (x2 : Int32) (x3 : Int32) (x4 : Int32) (r : Int32) (t9 : CS), rec t x1 x2 x3 x4 = some (r, t9) → Met l yX0_signs (ws_ yX0_signs cX0_signs 7 (some .boolean)) (rmX0_signs N) (cPc D dA a k t [.ref a, .int x1, .int x2, .int x3, .int x4]) (cQ D dA a k 0 t t9 (some (.int r))) 0 0 (ca a)) : ∀ (t : CS) (x1 : Int32) (x2 : Int32) (x3 : Int32) (x4 : Int32) (H : Heap) (locs : List Loc) (hT : cW D dA a k t H) (hS : cS a s.heap H locs t0.2.2.2 0 t) (hK : kC D dA a k t.2.2.2 s) (ls : Array Slot), C_signs_b rec t x1 x2 x3 x4 = some (r, t9) → lv_has ls 7 [(0, .ref a), (1, .int x1), (2, .int x2), (3, .int x3), (4, .int x4)] → W p l e (rmX0_signs (N + 1)) s m args below meth c H locs 0 0 (MQ below (cQ D dA a k 0 t0 t9 (some (.int r))) args s 0 0 (ca a)) (F0 m 0 ls []) := by
  obtain ⟨hx, hb, hr, hml, hown, hts, hlocks⟩ := id C
  intro t x1 x2 x3 x4 H locs hT hS hK ls h hl
  unfold C_signs_b at h
  refine lv_iload_n hx hb dX0_signs_0 rfl (lv_at hl 2 rfl) ?_
  refine lv_istore (lv' := [(5, .int x2), (0, .ref a), (1, .int x1), (2, .int x2), (3, .int x3), (4, .int x4)]) hx hb dX0_signs_1 hl (by decide) rfl (fun ls hl => ?_)
  exact bX0_signs_p3 C hrec fu t x1 x3 x4 x2 H locs hT hS hK ls h (lv_sub hl [1, 2, 4, 5, 0] rfl)
theorem mX0_signs {l : Launch} {D : va_G} {dA : Nat → ClassId} {a : Nat} {k : KP a} : ∀ (n : Nat), ∀ (t : CS) (x1 : Int32) (x2 : Int32) (x3 : Int32) (x4 : Int32) (r : Int32) (t9 : CS), C_signs n t x1 x2 x3 x4 = some (r, t9) → Met l yX0_signs (ws_ yX0_signs cX0_signs 7 (some .boolean)) (rmX0_signs n) (cPc D dA a k t [.ref a, .int x1, .int x2, .int x3, .int x4]) (cQ D dA a k 0 t t9 (some (.int r))) 0 0 (ca a) := by
  intro n
  induction n with
  | zero =>
    intro t x1 x2 x3 x4 r t9 h
    have h : none = some _ := h
    cases h
  | succ n ih =>
    intro t x1 x2 x3 x4 r t9 h
    rw [C_signs] at h
    exact en_C (by decide +kernel) rfl (Nat.le_of_ble_eq_true rfl) (fun p e s m below meth c ls C hK hT hl => bX0_signs C ih t x1 x2 x3 x4 _ [] hT cS.rf hK ls h hl)
set_option maxRecDepth 20000 in
abbrev rmX0_signsFor : Room := { frames := 68, cells := 0, slots := 0, locals := 1758 }
theorem hdX0_signsFor : yX0_signsFor.cls = RX0 ∧ yX0_signsFor.cls ≠ "java/lang/invoke/MethodHandle" ∧ yX0_signsFor.cls ≠ "java/lang/invoke/VarHandle" ∧ (parseMethodDescriptor yX0_signsFor.desc).map (fun d => d.parameters.length) = some 2 := by decide +kernel
theorem bX0_signsFor_p40 {p : Program} {l : Launch} {e : Env} {s : State} {m : MethodId} {args : Array Value} {below : List Frame} {meth : Method} {c : Code} {D : va_G} {dA : Nat → ClassId} {a : Nat} {k : KP a} {t0 : CS} {r : Int32} {t9 : CS} (C : cx p s m args meth c cX0_signsFor RX0 4 (some .int)) : ∀ (n : Nat), ∀ (t : CS) (x1 : Int32) (x2 : Int32) (x3 : Int32) (H : Heap) (locs : List Loc) (hT : cW D dA a k t H) (hS : cS a s.heap H locs t0.2.2.2 0 t) (hK : kC D dA a k t.2.2.2 s) (ls : Array Slot), C_signsFor_p40 n t x1 x2 x3 = some (r, t9) → lv_has ls 4 [(0, .ref a), (1, .int x1), (2, .int x2), (3, .int x3)] → W p l e rmX0_signsFor s m args below meth c H locs 0 0 (MQ below (cQ D dA a k 0 t0 t9 (some (.int r))) args s 0 0 (ca a)) (F0 m 40 ls []) := by
  obtain ⟨hx, hb, hr, hml, hown, hts, hlocks⟩ := id C
  intro n
  induction n with
  | zero =>
    intro t x1 x2 x3 H locs hT hS hK ls h hl
    have h : none = some _ := h
    cases h
  | succ n ih =>
    intro t x1 x2 x3 H locs hT hS hK ls h hl
    rw [C_signsFor_p40] at h
    refine lv_iload_n hx hb dX0_signsFor_40 rfl (lv_at hl 3 rfl) ?_
    refine lv_bipush (v := 6) hx hb dX0_signsFor_41 (by decide) ?_
    refine lv_icmp_gt (tgt := 87) hx hb dX0_signsFor_43 (by decide) (fun c => ?_) (fun c => ?_)
    · replace h := if_t c h
      refine lv_iconst (v := -1) hx hb dX0_signsFor_87 (by decide) ?_
      exact ec_i C hT hS h dX0_signsFor_88
    · replace h := if_f c h
      refine lv_aload_n hx hb dX0_signsFor_46 rfl (lv_at hl 0 rfl) ?_
      refine cg13 C hK hT dX0_signsFor_47 ?_
      refine lv_iconst (v := -1) hx hb dX0_signsFor_50 (by decide) ?_
      obtain ⟨t1, ht1, h⟩ := bd1_some h
      refine wc_void hS hK (run_cs (As := [.ref (a + 112), .int (-1 : Int32)]) (rest := []) C hK hT hS.2.1 (mJ0_fill_3_112 ht1) q1435 q1436 q160 q1437 ⟨rfl, rfl⟩ hdJ0_fill_3_112 ⟨Nat.le_of_ble_eq_true rfl, Nat.le_of_ble_eq_true rfl⟩ ⟨Nat.zero_le _, Nat.zero_le _⟩ rfl hl.1 rfl (Nat.le_of_ble_eq_true rfl) dX0_signsFor_51) (fun H locs hT hS hK hNt1 => ?_)
      refine lv_aload_n hx hb dX0_signsFor_54 rfl (lv_at hl 0 rfl) ?_
      refine lv_iload_n hx hb dX0_signsFor_55 rfl (lv_at hl 1 rfl) ?_
      refine lv_iconst (v := 0) hx hb dX0_signsFor_56 (by decide) ?_
      refine lv_iconst (v := 0) hx hb dX0_signsFor_57 (by decide) ?_
      refine lv_iload_n hx hb dX0_signsFor_58 rfl (lv_at hl 3 rfl) ?_
      obtain ⟨v2, t3, ht3, h⟩ := bd2_some h
      refine wc_int hS hK (run_c (As := [.int x1, .int (0 : Int32), .int (0 : Int32), .int x3]) (rest := []) C hK hT hS.2.1 (rv_X hK hT) (mX0_signs 64 _ _ _ _ _ _ _ ht3) q1438 q1440 qs57 q158 q1441 ⟨rfl, rfl⟩ hdX0_signs ⟨Nat.le_of_ble_eq_true rfl, Nat.le_of_ble_eq_true rfl⟩ ⟨Nat.zero_le _, Nat.zero_le _⟩ rfl hl.1 rfl (Nat.le_of_ble_eq_true rfl) dX0_signsFor_59) (fun H locs hT hS hK hNt3 => ?_)
      refine lv_if_eq (tgt := 81) hx hb dX0_signsFor_62 (by decide) (fun c => ?_) (fun c => ?_)
      · replace h := if_t c h
        obtain ⟨v4, ev4⟩ : ∃ y : Int32, y = x3 + (1 : Int32) := ⟨_, rfl⟩
        replace h := lt1_sub ev4 h
        refine lv_iinc (v := v4) (lv' := [(3, .int v4), (0, .ref a), (1, .int x1), (2, .int x2)]) hx hb dX0_signsFor_81 hl (k := 3) rfl (by rw [ev4]; rfl) (by decide) rfl (fun ls hl => ?_)
        refine lv_goto (tgt := 40) hx hb dX0_signsFor_84 (by decide) ?_
        exact ih t3 x1 x2 v4 H locs hT hS hK ls h (lv_sub hl [1, 2, 3, 0] rfl)
      · replace h := if_f c h
        refine lv_iload_n hx hb dX0_signsFor_65 rfl (lv_at hl 2 rfl) ?_
        refine lv_iconst (v := -1) hx hb dX0_signsFor_66 (by decide) ?_
        refine lv_icmp_ne (tgt := 74) hx hb dX0_signsFor_67 (by decide) (fun c => ?_) (fun c => ?_)
        · replace h := if_f c h
          refine lv_aload_n hx hb dX0_signsFor_74 rfl (lv_at hl 0 rfl) ?_
          refine cg13 C hK hT dX0_signsFor_75 ?_
          refine lv_iload_n hx hb dX0_signsFor_78 rfl (lv_at hl 2 rfl) ?_
          obtain ⟨hi5, h⟩ := ck_some h
          refine c_ild C hK hT 112 26 (by decide) (fun _ _ => rfl) hi5 dX0_signsFor_79 ?_
          exact ec_i C hT hS h dX0_signsFor_80
        · replace h := if_t c h
          refine lv_iload_n hx hb dX0_signsFor_70 rfl (lv_at hl 3 rfl) ?_
          refine lv_goto (tgt := 80) hx hb dX0_signsFor_71 (by decide) ?_
          exact ec_i C hT hS h dX0_signsFor_80
theorem bX0_signsFor_p38 {p : Program} {l : Launch} {e : Env} {s : State} {m : MethodId} {args : Array Value} {below : List Frame} {meth : Method} {c : Code} {D : va_G} {dA : Nat → ClassId} {a : Nat} {k : KP a} {t0 : CS} {r : Int32} {t9 : CS} (C : cx p s m args meth c cX0_signsFor RX0 4 (some .int)) : ∀ (t : CS) (x1 : Int32) (x2 : Int32) (H : Heap) (locs : List Loc) (hT : cW D dA a k t H) (hS : cS a s.heap H locs t0.2.2.2 0 t) (hK : kC D dA a k t.2.2.2 s) (ls : Array Slot), C_signsFor_p38 t x1 x2 = some (r, t9) → lv_has ls 4 [(0, .ref a), (1, .int x1), (2, .int x2)] → W p l e rmX0_signsFor s m args below meth c H locs 0 0 (MQ below (cQ D dA a k 0 t0 t9 (some (.int r))) args s 0 0 (ca a)) (F0 m 38 ls []) := by
  obtain ⟨hx, hb, hr, hml, hown, hts, hlocks⟩ := id C
  intro t x1 x2 H locs hT hS hK ls h hl
  unfold C_signsFor_p38 at h
  refine lv_iconst (v := 1) hx hb dX0_signsFor_38 (by decide) ?_
  refine lv_istore_n (lv' := [(3, .int (1 : Int32)), (0, .ref a), (1, .int x1), (2, .int x2)]) hx hb dX0_signsFor_39 rfl hl (by decide) rfl (fun ls hl => ?_)
  exact bX0_signsFor_p40 C fu t x1 x2 (1 : Int32) H locs hT hS hK ls h (lv_sub hl [1, 2, 3, 0] rfl)
theorem bX0_signsFor {p : Program} {l : Launch} {e : Env} {s : State} {m : MethodId} {args : Array Value} {below : List Frame} {meth : Method} {c : Code} {D : va_G} {dA : Nat → ClassId} {a : Nat} {k : KP a} {t0 : CS} {r : Int32} {t9 : CS} (C : cx p s m args meth c cX0_signsFor RX0 4 (some .int)) : ∀ (t : CS) (x1 : Int32) (x2 : Int32) (H : Heap) (locs : List Loc) (hT : cW D dA a k t H) (hS : cS a s.heap H locs t0.2.2.2 0 t) (hK : kC D dA a k t.2.2.2 s) (ls : Array Slot), C_signsFor t x1 x2 = some (r, t9) → lv_has ls 4 [(0, .ref a), (1, .int x1), (2, .int x2)] → W p l e rmX0_signsFor s m args below meth c H locs 0 0 (MQ below (cQ D dA a k 0 t0 t9 (some (.int r))) args s 0 0 (ca a)) (F0 m 0 ls []) := by
  obtain ⟨hx, hb, hr, hml, hown, hts, hlocks⟩ := id C
  intro t x1 x2 H locs hT hS hK ls h hl
  unfold C_signsFor at h
  refine lv_iload_n hx hb dX0_signsFor_0 rfl (lv_at hl 1 rfl) ?_
  obtain ⟨v1, hv1, h⟩ := bd1_some h
  refine r_int (run_s (As := [.int x1]) (rest := []) C (mX0_isSet hv1) q1184 q1185 q158 q1186 ⟨rfl, rfl⟩ hdX0_isSet ⟨Nat.le_of_ble_eq_true rfl, Nat.le_of_ble_eq_true rfl⟩ ⟨Nat.zero_le _, Nat.zero_le _⟩ rfl hl.1 rfl (Nat.le_of_ble_eq_true rfl) dX0_signsFor_1) ?_
  refine lv_if_eq (tgt := 36) hx hb dX0_signsFor_4 (by decide) (fun c => ?_) (fun c => ?_)
  · replace h := if_t c h
    refine lv_iconst (v := -1) hx hb dX0_signsFor_36 (by decide) ?_
    exact ec_i C hT hS h dX0_signsFor_37
  · replace h := if_f c h
    refine lv_iload_n hx hb dX0_signsFor_7 rfl (lv_at hl 1 rfl) ?_
    obtain ⟨v2, hv2, h⟩ := bd1_some h
    refine r_int (run_s (As := [.int x1]) (rest := []) C (mJ5_bitCount hv2) q1079 q1080 q168 q1081 ⟨rfl, rfl⟩ hdJ5_bitCount ⟨Nat.le_of_ble_eq_true rfl, Nat.le_of_ble_eq_true rfl⟩ ⟨Nat.zero_le _, Nat.zero_le _⟩ rfl hl.1 rfl (Nat.le_of_ble_eq_true rfl) dX0_signsFor_8) ?_
    refine lv_bipush (v := 6) hx hb dX0_signsFor_11 (by decide) ?_
    refine lv_icmp_gt (tgt := 36) hx hb dX0_signsFor_13 (by decide) (fun c => ?_) (fun c => ?_)
    · replace h := if_t c h
      refine lv_iconst (v := -1) hx hb dX0_signsFor_36 (by decide) ?_
      exact ec_i C hT hS h dX0_signsFor_37
    · replace h := if_f c h
      refine lv_iload_n hx hb dX0_signsFor_16 rfl (lv_at hl 2 rfl) ?_
      refine lv_iconst (v := -1) hx hb dX0_signsFor_17 (by decide) ?_
      refine lv_icmp_eq (tgt := 38) hx hb dX0_signsFor_18 (by decide) (fun c => ?_) (fun c => ?_)
      · replace h := if_t c h
        exact bX0_signsFor_p38 C t x1 x2 H locs hT hS hK ls h (lv_sub hl [0, 1, 2] rfl)
      · replace h := if_f c h
        refine lv_iload_n hx hb dX0_signsFor_21 rfl (lv_at hl 2 rfl) ?_
        obtain ⟨v3, hv3, h⟩ := bd1_some h
        refine r_int (run_s (As := [.int x2]) (rest := []) C (mX0_isLetter hv3) q338 q339 q158 q340 ⟨rfl, rfl⟩ hdX0_isLetter ⟨Nat.le_of_ble_eq_true rfl, Nat.le_of_ble_eq_true rfl⟩ ⟨Nat.zero_le _, Nat.zero_le _⟩ rfl hl.1 rfl (Nat.le_of_ble_eq_true rfl) dX0_signsFor_22) ?_
        refine lv_if_eq (tgt := 36) hx hb dX0_signsFor_25 (by decide) (fun c => ?_) (fun c => ?_)
        · replace h := if_t c h
          refine lv_iconst (v := -1) hx hb dX0_signsFor_36 (by decide) ?_
          exact ec_i C hT hS h dX0_signsFor_37
        · replace h := if_f c h
          refine lv_iload_n hx hb dX0_signsFor_28 rfl (lv_at hl 1 rfl) ?_
          refine lv_iload_n hx hb dX0_signsFor_29 rfl (lv_at hl 2 rfl) ?_
          obtain ⟨v4, hv4, h⟩ := bd1_some h
          refine r_int (run_s (As := [.int x1, .int x2]) (rest := []) C (mX0_has hv4) q344 q345 q158 q346 ⟨rfl, rfl⟩ hdX0_has ⟨Nat.le_of_ble_eq_true rfl, Nat.le_of_ble_eq_true rfl⟩ ⟨Nat.zero_le _, Nat.zero_le _⟩ rfl hl.1 rfl (Nat.le_of_ble_eq_true rfl) dX0_signsFor_30) ?_
          refine lv_if_ne (tgt := 38) hx hb dX0_signsFor_33 (by decide) (fun c => ?_) (fun c => ?_)
          · replace h := if_f c h
            exact bX0_signsFor_p38 C t x1 x2 H locs hT hS hK ls h (lv_sub hl [0, 1, 2] rfl)
          · replace h := if_t c h
            refine lv_iconst (v := -1) hx hb dX0_signsFor_36 (by decide) ?_
            exact ec_i C hT hS h dX0_signsFor_37
theorem mX0_signsFor {l : Launch} {D : va_G} {dA : Nat → ClassId} {a : Nat} {k : KP a} {t : CS} {x1 : Int32} {x2 : Int32} {r : Int32} {t9 : CS} (h : C_signsFor t x1 x2 = some (r, t9)) : Met l yX0_signsFor (ws_ yX0_signsFor cX0_signsFor 4 (some .int)) rmX0_signsFor (cPc D dA a k t [.ref a, .int x1, .int x2]) (cQ D dA a k 0 t t9 (some (.int r))) 0 0 (ca a) := en_C (by decide +kernel) rfl (Nat.le_of_ble_eq_true rfl) (fun p e s m below meth c ls C hK hT hl => bX0_signsFor C t x1 x2 _ [] hT cS.rf hK ls h hl)
set_option maxRecDepth 20000 in
abbrev rmX0_settles (N : Nat) : Room := { frames := 1 + 1 * N, cells := 0, slots := 0, locals := 30 + 27 * N }
theorem hdX0_settles : yX0_settles.cls = RX0 ∧ yX0_settles.cls ≠ "java/lang/invoke/MethodHandle" ∧ yX0_settles.cls ≠ "java/lang/invoke/VarHandle" ∧ (parseMethodDescriptor yX0_settles.desc).map (fun d => d.parameters.length) = some 5 := by decide +kernel
theorem bX0_settles_p22 {p : Program} {l : Launch} {e : Env} {s : State} {m : MethodId} {args : Array Value} {below : List Frame} {meth : Method} {c : Code} {D : va_G} {dA : Nat → ClassId} {a : Nat} {k : KP a} {t0 : CS} {t9 : CS} (C : cx p s m args meth c cX0_settles RX0 8 none) {N : Nat} {rec : CS → Int32 → Int32 → Int32 → Int32 → Int32 → Option CS} (hrec : ∀ (t : CS) (x1 : Int32) (x2 : Int32) (x3 : Int32) (x4 : Int32) (x5 : Int32) (t9 : CS), rec t x1 x2 x3 x4 x5 = some t9 → Met l yX0_settles (ws_ yX0_settles cX0_settles 8 none) (rmX0_settles N) (cPc D dA a k t [.ref a, .int x1, .int x2, .int x3, .int x4, .int x5]) (cQ D dA a k 0 t t9 none) 0 0 (ca a)) : ∀ (n : Nat), ∀ (t : CS) (x1 : Int32) (x4 : Int32) (x5 : Int32) (x6 : Int32) (x7 : Int32) (H : Heap) (locs : List Loc) (hT : cW D dA a k t H) (hS : cS a s.heap H locs t0.2.2.2 0 t) (hK : kC D dA a k t.2.2.2 s) (ls : Array Slot), C_settles_p22 rec n t x1 x4 x5 x6 x7 = some t9 → lv_has ls 8 [(0, .ref a), (1, .int x1), (4, .int x4), (5, .int x5), (6, .int x6), (7, .int x7)] → W p l e (rmX0_settles (N + 1)) s m args below meth c H locs 0 0 (MQ below (cQ D dA a k 0 t0 t9 none) args s 0 0 (ca a)) (F0 m 22 ls []) := by
  obtain ⟨hx, hb, hr, hml, hown, hts, hlocks⟩ := id C
  intro n
  induction n with
  | zero =>
    intro t x1 x4 x5 x6 x7 H locs hT hS hK ls h hl
    have h : none = some _ := h
    cases h
  | succ n ih =>
    intro t x1 x4 x5 x6 x7 H locs hT hS hK ls h hl
    rw [C_settles_p22] at h
    refine lv_iload hx hb dX0_settles_22 (lv_at hl 5 rfl) ?_
    refine lv_iload hx hb dX0_settles_24 (lv_at hl 2 rfl) ?_
    refine lv_icmp_ge (tgt := 58) hx hb dX0_settles_26 (by decide) (fun c => ?_) (fun c => ?_)
    · replace h := if_t c h
      refine lv_iload_n hx hb dX0_settles_58 rfl (lv_at hl 1 rfl) ?_
      refine lv_iload hx hb dX0_settles_59 (lv_at hl 4 rfl) ?_
      refine lv_iconst (v := -1) hx hb dX0_settles_61 (by decide) ?_
      refine lv_ixor hx hb dX0_settles_62 ?_
      refine lv_iand hx hb dX0_settles_63 ?_
      refine lv_if_eq (tgt := 68) hx hb dX0_settles_64 (by decide) (fun c => ?_) (fun c => ?_)
      · replace h := if_t c h
        refine lv_aload_n hx hb dX0_settles_68 rfl (lv_at hl 0 rfl) ?_
        refine lv_iload hx hb dX0_settles_69 (lv_at hl 3 rfl) ?_
        refine cp17 C hK hT hS dX0_settles_71 (fun t1 H locs et1 hT hS hK => ?_)
        replace h := lt1_sub et1 h
        refine lv_aload_n hx hb dX0_settles_74 rfl (lv_at hl 0 rfl) ?_
        refine lv_iload hx hb dX0_settles_75 (lv_at hl 2 rfl) ?_
        refine cp16 C hK hT hS dX0_settles_77 (fun t2 H locs et2 hT hS hK => ?_)
        replace h := lt1_sub et2 h
        refine lv_aload_n hx hb dX0_settles_80 rfl (lv_at hl 0 rfl) ?_
        refine cg14 C hK hT dX0_settles_81 ?_
        refine lv_iconst (v := 0) hx hb dX0_settles_84 (by decide) ?_
        refine lv_aload_n hx hb dX0_settles_85 rfl (lv_at hl 0 rfl) ?_
        refine cg15 C hK hT dX0_settles_86 ?_
        refine lv_iconst (v := 0) hx hb dX0_settles_89 (by decide) ?_
        refine lv_iload hx hb dX0_settles_90 (lv_at hl 2 rfl) ?_
        obtain ⟨⟨ha3a, ha3b, ha3c, ha3d, ha3e⟩, h⟩ := acp_some h
        refine c_copyi C hK hT hS hl.1 113 114 4 4 (by decide) (by decide) (fun _ _ => rfl) (fun _ _ => rfl) q1241 ha3a ha3b ha3c ha3d ha3e ⟨by show 1 ≤ 1 + 1 * (N + 1); omega, by show 30 ≤ 30 + 27 * (N + 1); omega⟩ (Nat.le_of_ble_eq_true rfl) dX0_settles_92 (fun t4 H locs et4 hT hS hK => ?_)
        replace h := lt1_sub et4 h
        exact ec_v C hT hS h dX0_settles_95
      · replace h := if_f c h
        exact ec_v C hT hS h dX0_settles_67
    · replace h := if_f c h
      refine lv_iload hx hb dX0_settles_29 (lv_at hl 4 rfl) ?_
      refine lv_aload_n hx hb dX0_settles_31 rfl (lv_at hl 0 rfl) ?_
      refine cg0 C hK hT dX0_settles_32 ?_
      refine c_getSN C hK hT (Or.inl rfl) 4 (by decide) (nf230 hK.2.1) rfl (v := .ref (a + 6)) rfl dX0_settles_35 ?_
      refine lv_aload_n hx hb dX0_settles_38 rfl (lv_at hl 0 rfl) ?_
      refine cg14 C hK hT dX0_settles_39 ?_
      refine lv_iload hx hb dX0_settles_42 (lv_at hl 5 rfl) ?_
      obtain ⟨hi5, h⟩ := ck_some h
      refine c_ild C hK hT 113 4 (by decide) (fun _ _ => rfl) hi5 dX0_settles_44 ?_
      obtain ⟨hi6, h⟩ := ck_some h
      obtain ⟨r7, hr7, h⟩ := bd1_some h
      refine c_ald C hK hT 6 24 4 (by decide) rfl (g := t.2.1 6) (by rfl) (by rfl) hi6 hr7 dX0_settles_45 ?_
      obtain ⟨hc8, h⟩ := ckC_some h
      obtain ⟨v9, hv9, h⟩ := bd1_some h
      refine r_int (run_c (As := []) (rest := [.int x6]) C hK hT hS.2.1 (rv_D (ci := 3) rfl hK hT hc8) (mX3_bits hv9) q1098 q1099 q1100 q170 q1101 ⟨rfl, rfl⟩ hdX3_bits ⟨show 0 + 1 ≤ 1 + 1 * (N + 1) from by omega, show 8 + (1 + 11) + (0) ≤ 30 + 27 * (N + 1) from by omega⟩ ⟨Nat.zero_le _, Nat.zero_le _⟩ rfl hl.1 rfl (Nat.le_of_ble_eq_true rfl) dX0_settles_46) ?_
      refine lv_ior hx hb dX0_settles_49 ?_
      refine lv_topi (fun v10 ev10 => ?_)
      replace h := lt1_sub ev10 h
      refine lv_istore (lv' := [(6, .int v10), (0, .ref a), (1, .int x1), (4, .int x4), (5, .int x5), (7, .int x7)]) hx hb dX0_settles_50 hl (by decide) rfl (fun ls hl => ?_)
      obtain ⟨v11, ev11⟩ : ∃ y : Int32, y = x7 + (1 : Int32) := ⟨_, rfl⟩
      replace h := lt1_sub ev11 h
      refine lv_iinc (v := v11) (lv' := [(7, .int v11), (6, .int v10), (0, .ref a), (1, .int x1), (4, .int x4), (5, .int x5)]) hx hb dX0_settles_52 hl (k := 5) rfl (by rw [ev11]; rfl) (by decide) rfl (fun ls hl => ?_)
      refine lv_goto (tgt := 22) hx hb dX0_settles_55 (by decide) ?_
      exact ih t x1 x4 x5 v10 v11 H locs hT hS hK ls h (lv_sub hl [2, 3, 4, 5, 1, 0] rfl)
theorem bX0_settles_p99 {p : Program} {l : Launch} {e : Env} {s : State} {m : MethodId} {args : Array Value} {below : List Frame} {meth : Method} {c : Code} {D : va_G} {dA : Nat → ClassId} {a : Nat} {k : KP a} {t0 : CS} {t9 : CS} (C : cx p s m args meth c cX0_settles RX0 8 none) {N : Nat} {rec : CS → Int32 → Int32 → Int32 → Int32 → Int32 → Option CS} (hrec : ∀ (t : CS) (x1 : Int32) (x2 : Int32) (x3 : Int32) (x4 : Int32) (x5 : Int32) (t9 : CS), rec t x1 x2 x3 x4 x5 = some t9 → Met l yX0_settles (ws_ yX0_settles cX0_settles 8 none) (rmX0_settles N) (cPc D dA a k t [.ref a, .int x1, .int x2, .int x3, .int x4, .int x5]) (cQ D dA a k 0 t t9 none) 0 0 (ca a)) : ∀ (n : Nat), ∀ (t : CS) (x1 : Int32) (x3 : Int32) (x4 : Int32) (x5 : Int32) (x6 : Int32) (H : Heap) (locs : List Loc) (hT : cW D dA a k t H) (hS : cS a s.heap H locs t0.2.2.2 0 t) (hK : kC D dA a k t.2.2.2 s) (ls : Array Slot), C_settles_p99 rec n t x1 x3 x4 x5 x6 = some t9 → lv_has ls 8 [(0, .ref a), (1, .int x1), (3, .int x3), (4, .int x4), (5, .int x5), (6, .int x6)] → W p l e (rmX0_settles (N + 1)) s m args below meth c H locs 0 0 (MQ below (cQ D dA a k 0 t0 t9 none) args s 0 0 (ca a)) (F0 m 99 ls []) := by
  obtain ⟨hx, hb, hr, hml, hown, hts, hlocks⟩ := id C
  intro n
  induction n with
  | zero =>
    intro t x1 x3 x4 x5 x6 H locs hT hS hK ls h hl
    have h : none = some _ := h
    cases h
  | succ n ih =>
    intro t x1 x3 x4 x5 x6 H locs hT hS hK ls h hl
    rw [C_settles_p99] at h
    refine lv_iload hx hb dX0_settles_99 (lv_at hl 5 rfl) ?_
    refine lv_aload_n hx hb dX0_settles_101 rfl (lv_at hl 0 rfl) ?_
    refine cg0 C hK hT dX0_settles_102 ?_
    refine c_getSN C hK hT (Or.inl rfl) 0 (by decide) (nf222 hK.2.1) rfl (v := .ref (a + 2)) rfl dX0_settles_105 ?_
    refine lv_iconst (v := 0) hx hb dX0_settles_108 (by decide) ?_
    obtain ⟨hi1, h⟩ := ck_some h
    refine c_ild C hK hT 2 7 (by decide) (fun _ _ => rfl) hi1 dX0_settles_109 ?_
    refine lv_icmp_ge (tgt := 157) hx hb dX0_settles_110 (by decide) (fun c => ?_) (fun c => ?_)
    · replace h := if_t c h
      exact ec_v C hT hS h dX0_settles_157
    · replace h := if_f c h
      refine lv_aload_n hx hb dX0_settles_113 rfl (lv_at hl 0 rfl) ?_
      refine cg14 C hK hT dX0_settles_114 ?_
      refine lv_iload_n hx hb dX0_settles_117 rfl (lv_at hl 2 rfl) ?_
      refine lv_iload hx hb dX0_settles_118 (lv_at hl 5 rfl) ?_
      obtain ⟨hi2, h⟩ := ck_some h
      refine c_ist C hK hT hS 113 4 (by decide) (fun _ _ => rfl) hi2 dX0_settles_120 (fun t3 H locs et3 hT hS hK => ?_)
      replace h := lt1_sub et3 h
      refine lv_aload_n hx hb dX0_settles_121 rfl (lv_at hl 0 rfl) ?_
      refine lv_iload_n hx hb dX0_settles_122 rfl (lv_at hl 1 rfl) ?_
      refine lv_iload hx hb dX0_settles_123 (lv_at hl 5 rfl) ?_
      refine lv_iconst (v := 1) hx hb dX0_settles_125 (by decide) ?_
      refine lv_iadd hx hb dX0_settles_126 ?_
      refine lv_iload_n hx hb dX0_settles_127 rfl (lv_at hl 2 rfl) ?_
      refine lv_iconst (v := 1) hx hb dX0_settles_128 (by decide) ?_
      refine lv_iadd hx hb dX0_settles_129 ?_
      refine lv_iload hx hb dX0_settles_130 (lv_at hl 3 rfl) ?_
      refine lv_iload hx hb dX0_settles_132 (lv_at hl 4 rfl) ?_
      refine lv_aload_n hx hb dX0_settles_134 rfl (lv_at hl 0 rfl) ?_
      refine cg0 C hK hT dX0_settles_135 ?_
      refine c_getSN C hK hT (Or.inl rfl) 4 (by decide) (nf230 hK.2.1) rfl (v := .ref (a + 6)) rfl dX0_settles_138 ?_
      refine lv_iload hx hb dX0_settles_141 (lv_at hl 5 rfl) ?_
      obtain ⟨hi4, h⟩ := ck_some h
      obtain ⟨r5, hr5, h⟩ := bd1_some h
      refine c_ald C hK hT 6 24 4 (by decide) rfl (g := t3.2.1 6) (by rfl) (by rfl) hi4 hr5 dX0_settles_143 ?_
      obtain ⟨hc6, h⟩ := ckC_some h
      obtain ⟨v7, hv7, h⟩ := bd1_some h
      refine r_int (run_c (As := []) (rest := [.int x5, .int x4, .int (x3 + (1 : Int32)), .int (x6 + (1 : Int32)), .int x1, .ref a]) C hK hT hS.2.1 (rv_D (ci := 3) rfl hK hT hc6) (mX3_length hv7) q1237 q1238 q1239 q170 q1240 ⟨rfl, rfl⟩ hdX3_length ⟨show 0 + 1 ≤ 1 + 1 * (N + 1) from by omega, show 8 + (1 + 11) + (0) ≤ 30 + 27 * (N + 1) from by omega⟩ ⟨Nat.zero_le _, Nat.zero_le _⟩ rfl hl.1 rfl (Nat.le_of_ble_eq_true rfl) dX0_settles_144) ?_
      refine lv_iadd hx hb dX0_settles_147 ?_
      obtain ⟨t8, ht8, h⟩ := bd1_some h
      refine wc_void hS hK (run_c (As := [.int x1, .int (x6 + (1 : Int32)), .int (x3 + (1 : Int32)), .int x4, .int (x5 + v7)]) (rest := []) C hK hT hS.2.1 (rv_X hK hT) (hrec _ _ _ _ _ _ _ ht8) q1455 q1457 qs60 q158 q1458 ⟨rfl, rfl⟩ hdX0_settles ⟨show 1 + 1 * N + 1 ≤ 1 + 1 * (N + 1) from by omega, show 8 + (8 + 11) + (30 + 27 * N) ≤ 30 + 27 * (N + 1) from by omega⟩ ⟨Nat.zero_le _, Nat.zero_le _⟩ rfl hl.1 rfl (Nat.le_of_ble_eq_true rfl) dX0_settles_148) (fun H locs hT hS hK hNt8 => ?_)
      obtain ⟨v9, ev9⟩ : ∃ y : Int32, y = x6 + (1 : Int32) := ⟨_, rfl⟩
      replace h := lt1_sub ev9 h
      refine lv_iinc (v := v9) (lv' := [(6, .int v9), (0, .ref a), (1, .int x1), (3, .int x3), (4, .int x4), (5, .int x5)]) hx hb dX0_settles_151 hl (k := 5) rfl (by rw [ev9]; rfl) (by decide) rfl (fun ls hl => ?_)
      refine lv_goto (tgt := 99) hx hb dX0_settles_154 (by decide) ?_
      exact ih t8 x1 x3 x4 x5 v9 H locs hT hS hK ls h (lv_sub hl [1, 2, 3, 4, 5, 0] rfl)
theorem bX0_settles {p : Program} {l : Launch} {e : Env} {s : State} {m : MethodId} {args : Array Value} {below : List Frame} {meth : Method} {c : Code} {D : va_G} {dA : Nat → ClassId} {a : Nat} {k : KP a} {t0 : CS} {t9 : CS} (C : cx p s m args meth c cX0_settles RX0 8 none) {N : Nat} {rec : CS → Int32 → Int32 → Int32 → Int32 → Int32 → Option CS} (hrec : ∀ (t : CS) (x1 : Int32) (x2 : Int32) (x3 : Int32) (x4 : Int32) (x5 : Int32) (t9 : CS), rec t x1 x2 x3 x4 x5 = some t9 → Met l yX0_settles (ws_ yX0_settles cX0_settles 8 none) (rmX0_settles N) (cPc D dA a k t [.ref a, .int x1, .int x2, .int x3, .int x4, .int x5]) (cQ D dA a k 0 t t9 none) 0 0 (ca a)) : ∀ (t : CS) (x1 : Int32) (x2 : Int32) (x3 : Int32) (x4 : Int32) (x5 : Int32) (H : Heap) (locs : List Loc) (hT : cW D dA a k t H) (hS : cS a s.heap H locs t0.2.2.2 0 t) (hK : kC D dA a k t.2.2.2 s) (ls : Array Slot), C_settles_b rec t x1 x2 x3 x4 x5 = some t9 → lv_has ls 8 [(0, .ref a), (1, .int x1), (2, .int x2), (3, .int x3), (4, .int x4), (5, .int x5)] → W p l e (rmX0_settles (N + 1)) s m args below meth c H locs 0 0 (MQ below (cQ D dA a k 0 t0 t9 none) args s 0 0 (ca a)) (F0 m 0 ls []) := by
  obtain ⟨hx, hb, hr, hml, hown, hts, hlocks⟩ := id C
  intro t x1 x2 x3 x4 x5 H locs hT hS hK ls h hl
  unfold C_settles_b at h
  refine lv_iload hx hb dX0_settles_0 (lv_at hl 5 rfl) ?_
  refine lv_aload_n hx hb dX0_settles_2 rfl (lv_at hl 0 rfl) ?_
  refine cg17 C hK hT dX0_settles_3 ?_
  refine lv_icmp_lt (tgt := 10) hx hb dX0_settles_6 (by decide) (fun c => ?_) (fun c => ?_)
  · replace h := if_t c h
    refine lv_iload_n hx hb dX0_settles_10 rfl (lv_at hl 3 rfl) ?_
    refine lv_iload hx hb dX0_settles_11 (lv_at hl 4 rfl) ?_
    refine lv_icmp_ne (tgt := 96) hx hb dX0_settles_13 (by decide) (fun c => ?_) (fun c => ?_)
    · replace h := if_f c h
      refine lv_iload_n hx hb dX0_settles_96 rfl (lv_at hl 2 rfl) ?_
      refine lv_istore (lv' := [(6, .int x2), (0, .ref a), (1, .int x1), (2, .int x2), (3, .int x3), (4, .int x4), (5, .int x5)]) hx hb dX0_settles_97 hl (by decide) rfl (fun ls hl => ?_)
      exact bX0_settles_p99 C hrec fu t x1 x3 x4 x5 x2 H locs hT hS hK ls h (lv_sub hl [1, 2, 4, 5, 6, 0] rfl)
    · replace h := if_t c h
      refine lv_iconst (v := 0) hx hb dX0_settles_16 (by decide) ?_
      refine lv_istore (lv' := [(6, .int (0 : Int32)), (0, .ref a), (1, .int x1), (2, .int x2), (3, .int x3), (4, .int x4), (5, .int x5)]) hx hb dX0_settles_17 hl (by decide) rfl (fun ls hl => ?_)
      refine lv_iconst (v := 0) hx hb dX0_settles_19 (by decide) ?_
      refine lv_istore (lv' := [(7, .int (0 : Int32)), (6, .int (0 : Int32)), (0, .ref a), (1, .int x1), (2, .int x2), (3, .int x3), (4, .int x4), (5, .int x5)]) hx hb dX0_settles_20 hl (by decide) rfl (fun ls hl => ?_)
      exact bX0_settles_p22 C hrec fu t x1 x4 x5 (0 : Int32) (0 : Int32) H locs hT hS hK ls h (lv_sub hl [2, 3, 6, 7, 1, 0] rfl)
  · replace h := if_f c h
    exact ec_v C hT hS h dX0_settles_9
theorem mX0_settles {l : Launch} {D : va_G} {dA : Nat → ClassId} {a : Nat} {k : KP a} : ∀ (n : Nat), ∀ (t : CS) (x1 : Int32) (x2 : Int32) (x3 : Int32) (x4 : Int32) (x5 : Int32) (t9 : CS), C_settles n t x1 x2 x3 x4 x5 = some t9 → Met l yX0_settles (ws_ yX0_settles cX0_settles 8 none) (rmX0_settles n) (cPc D dA a k t [.ref a, .int x1, .int x2, .int x3, .int x4, .int x5]) (cQ D dA a k 0 t t9 none) 0 0 (ca a) := by
  intro n
  induction n with
  | zero =>
    intro t x1 x2 x3 x4 x5 t9 h
    have h : none = some _ := h
    cases h
  | succ n ih =>
    intro t x1 x2 x3 x4 x5 t9 h
    rw [C_settles] at h
    exact en_C (by decide +kernel) rfl (Nat.le_of_ble_eq_true rfl) (fun p e s m below meth c ls C hK hT hl => bX0_settles C ih t x1 x2 x3 x4 x5 _ [] hT cS.rf hK ls h hl)
set_option maxRecDepth 20000 in
abbrev rmX0_settlement : Room := { frames := 66, cells := 0, slots := 0, locals := 1785 }
theorem hdX0_settlement : yX0_settlement.cls = RX0 ∧ yX0_settlement.cls ≠ "java/lang/invoke/MethodHandle" ∧ yX0_settlement.cls ≠ "java/lang/invoke/VarHandle" ∧ (parseMethodDescriptor yX0_settlement.desc).map (fun d => d.parameters.length) = some 2 := by decide +kernel
theorem bX0_settlement_p27 {p : Program} {l : Launch} {e : Env} {s : State} {m : MethodId} {args : Array Value} {below : List Frame} {meth : Method} {c : Code} {D : va_G} {dA : Nat → ClassId} {a : Nat} {k : KP a} {t0 : CS} {r : Int32} {t9 : CS} (C : cx p s m args meth c cX0_settlement RX0 4 (some .int)) : ∀ (n : Nat), ∀ (t : CS) (x1 : Int32) (x2 : Int32) (x3 : Int32) (H : Heap) (locs : List Loc) (hT : cW D dA a k t H) (hS : cS a s.heap H locs t0.2.2.2 0 t) (hK : kC D dA a k t.2.2.2 s) (ls : Array Slot), C_settlement_p27 n t x1 x2 x3 = some (r, t9) → lv_has ls 4 [(0, .ref a), (1, .int x1), (2, .int x2), (3, .int x3)] → W p l e rmX0_settlement s m args below meth c H locs 0 0 (MQ below (cQ D dA a k 0 t0 t9 (some (.int r))) args s 0 0 (ca a)) (F0 m 27 ls []) := by
  obtain ⟨hx, hb, hr, hml, hown, hts, hlocks⟩ := id C
  intro n
  induction n with
  | zero =>
    intro t x1 x2 x3 H locs hT hS hK ls h hl
    have h : none = some _ := h
    cases h
  | succ n ih =>
    intro t x1 x2 x3 H locs hT hS hK ls h hl
    rw [C_settlement_p27] at h
    refine lv_iload_n hx hb dX0_settlement_27 rfl (lv_at hl 3 rfl) ?_
    refine lv_iconst (v := 5) hx hb dX0_settlement_28 (by decide) ?_
    refine lv_icmp_ge (tgt := 47) hx hb dX0_settlement_29 (by decide) (fun c => ?_) (fun c => ?_)
    · replace h := if_t c h
      refine lv_aload_n hx hb dX0_settlement_47 rfl (lv_at hl 0 rfl) ?_
      refine cg16 C hK hT dX0_settlement_48 ?_
      refine lv_if_ne (tgt := 58) hx hb dX0_settlement_51 (by decide) (fun c => ?_) (fun c => ?_)
      · replace h := if_f c h
        refine lv_iload_n hx hb dX0_settlement_58 rfl (lv_at hl 2 rfl) ?_
        refine lv_iconst (v := -1) hx hb dX0_settlement_59 (by decide) ?_
        refine lv_icmp_ne (tgt := 70) hx hb dX0_settlement_60 (by decide) (fun c => ?_) (fun c => ?_)
        · replace h := if_f c h
          refine lv_iload_n hx hb dX0_settlement_70 rfl (lv_at hl 2 rfl) ?_
          refine lv_aload_n hx hb dX0_settlement_71 rfl (lv_at hl 0 rfl) ?_
          refine cg16 C hK hT dX0_settlement_72 ?_
          refine lv_icmp_ge (tgt := 87) hx hb dX0_settlement_75 (by decide) (fun c => ?_) (fun c => ?_)
          · replace h := if_t c h
            refine lv_iconst (v := -1) hx hb dX0_settlement_87 (by decide) ?_
            exact ec_i C hT hS h dX0_settlement_88
          · replace h := if_f c h
            refine lv_aload_n hx hb dX0_settlement_78 rfl (lv_at hl 0 rfl) ?_
            refine cg15 C hK hT dX0_settlement_79 ?_
            refine lv_iload_n hx hb dX0_settlement_82 rfl (lv_at hl 2 rfl) ?_
            obtain ⟨hi1, h⟩ := ck_some h
            refine c_ild C hK hT 114 4 (by decide) (fun _ _ => rfl) hi1 dX0_settlement_83 ?_
            refine lv_goto (tgt := 88) hx hb dX0_settlement_84 (by decide) ?_
            exact ec_i C hT hS h dX0_settlement_88
        · replace h := if_t c h
          refine lv_aload_n hx hb dX0_settlement_63 rfl (lv_at hl 0 rfl) ?_
          refine cg17 C hK hT dX0_settlement_64 ?_
          refine lv_goto (tgt := 88) hx hb dX0_settlement_67 (by decide) ?_
          exact ec_i C hT hS h dX0_settlement_88
      · replace h := if_t c h
        refine lv_iconst (v := -1) hx hb dX0_settlement_54 (by decide) ?_
        refine lv_goto (tgt := 88) hx hb dX0_settlement_55 (by decide) ?_
        exact ec_i C hT hS h dX0_settlement_88
    · replace h := if_f c h
      refine lv_aload_n hx hb dX0_settlement_32 rfl (lv_at hl 0 rfl) ?_
      refine lv_iload_n hx hb dX0_settlement_33 rfl (lv_at hl 1 rfl) ?_
      refine lv_iconst (v := 0) hx hb dX0_settlement_34 (by decide) ?_
      refine lv_iconst (v := 0) hx hb dX0_settlement_35 (by decide) ?_
      refine lv_iload_n hx hb dX0_settlement_36 rfl (lv_at hl 3 rfl) ?_
      refine lv_iconst (v := 0) hx hb dX0_settlement_37 (by decide) ?_
      obtain ⟨t2, ht2, h⟩ := bd1_some h
      refine wc_void hS hK (run_c (As := [.int x1, .int (0 : Int32), .int (0 : Int32), .int x3, .int (0 : Int32)]) (rest := []) C hK hT hS.2.1 (rv_X hK hT) (mX0_settles 64 _ _ _ _ _ _ _ ht2) q1455 q1457 qs60 q158 q1458 ⟨rfl, rfl⟩ hdX0_settles ⟨Nat.le_of_ble_eq_true rfl, Nat.le_of_ble_eq_true rfl⟩ ⟨Nat.zero_le _, Nat.zero_le _⟩ rfl hl.1 rfl (Nat.le_of_ble_eq_true rfl) dX0_settlement_38) (fun H locs hT hS hK hNt2 => ?_)
      obtain ⟨v3, ev3⟩ : ∃ y : Int32, y = x3 + (1 : Int32) := ⟨_, rfl⟩
      replace h := lt1_sub ev3 h
      refine lv_iinc (v := v3) (lv' := [(3, .int v3), (0, .ref a), (1, .int x1), (2, .int x2)]) hx hb dX0_settlement_41 hl (k := 3) rfl (by rw [ev3]; rfl) (by decide) rfl (fun ls hl => ?_)
      refine lv_goto (tgt := 27) hx hb dX0_settlement_44 (by decide) ?_
      exact ih t2 x1 x2 v3 H locs hT hS hK ls h (lv_sub hl [1, 2, 3, 0] rfl)
theorem bX0_settlement {p : Program} {l : Launch} {e : Env} {s : State} {m : MethodId} {args : Array Value} {below : List Frame} {meth : Method} {c : Code} {D : va_G} {dA : Nat → ClassId} {a : Nat} {k : KP a} {t0 : CS} {r : Int32} {t9 : CS} (C : cx p s m args meth c cX0_settlement RX0 4 (some .int)) : ∀ (t : CS) (x1 : Int32) (x2 : Int32) (H : Heap) (locs : List Loc) (hT : cW D dA a k t H) (hS : cS a s.heap H locs t0.2.2.2 0 t) (hK : kC D dA a k t.2.2.2 s) (ls : Array Slot), C_settlement t x1 x2 = some (r, t9) → lv_has ls 4 [(0, .ref a), (1, .int x1), (2, .int x2)] → W p l e rmX0_settlement s m args below meth c H locs 0 0 (MQ below (cQ D dA a k 0 t0 t9 (some (.int r))) args s 0 0 (ca a)) (F0 m 0 ls []) := by
  obtain ⟨hx, hb, hr, hml, hown, hts, hlocks⟩ := id C
  intro t x1 x2 H locs hT hS hK ls h hl
  unfold C_settlement at h
  refine lv_iload_n hx hb dX0_settlement_0 rfl (lv_at hl 1 rfl) ?_
  obtain ⟨v1, hv1, h⟩ := bd1_some h
  refine r_int (run_s (As := [.int x1]) (rest := []) C (mX0_isSet hv1) q1184 q1185 q158 q1186 ⟨rfl, rfl⟩ hdX0_isSet ⟨Nat.le_of_ble_eq_true rfl, Nat.le_of_ble_eq_true rfl⟩ ⟨Nat.zero_le _, Nat.zero_le _⟩ rfl hl.1 rfl (Nat.le_of_ble_eq_true rfl) dX0_settlement_1) ?_
  refine lv_if_eq (tgt := 12) hx hb dX0_settlement_4 (by decide) (fun c => ?_) (fun c => ?_)
  · replace h := if_t c h
    refine lv_iconst (v := -1) hx hb dX0_settlement_12 (by decide) ?_
    exact ec_i C hT hS h dX0_settlement_13
  · replace h := if_f c h
    refine lv_iload_n hx hb dX0_settlement_7 rfl (lv_at hl 2 rfl) ?_
    refine lv_iconst (v := -1) hx hb dX0_settlement_8 (by decide) ?_
    refine lv_icmp_ge (tgt := 14) hx hb dX0_settlement_9 (by decide) (fun c => ?_) (fun c => ?_)
    · replace h := if_t c h
      refine lv_aload_n hx hb dX0_settlement_14 rfl (lv_at hl 0 rfl) ?_
      refine lv_bipush (v := 33) hx hb dX0_settlement_15 (by decide) ?_
      refine cp17 C hK hT hS dX0_settlement_17 (fun t2 H locs et2 hT hS hK => ?_)
      replace h := lt1_sub et2 h
      refine lv_aload_n hx hb dX0_settlement_20 rfl (lv_at hl 0 rfl) ?_
      refine lv_iconst (v := 0) hx hb dX0_settlement_21 (by decide) ?_
      refine cp16 C hK hT hS dX0_settlement_22 (fun t3 H locs et3 hT hS hK => ?_)
      replace h := lt1_sub et3 h
      refine lv_iconst (v := 1) hx hb dX0_settlement_25 (by decide) ?_
      refine lv_istore_n (lv' := [(3, .int (1 : Int32)), (0, .ref a), (1, .int x1), (2, .int x2)]) hx hb dX0_settlement_26 rfl hl (by decide) rfl (fun ls hl => ?_)
      exact bX0_settlement_p27 C fu t3 x1 x2 (1 : Int32) H locs hT hS hK ls h (lv_sub hl [1, 2, 3, 0] rfl)
    · replace h := if_f c h
      refine lv_iconst (v := -1) hx hb dX0_settlement_12 (by decide) ?_
      exact ec_i C hT hS h dX0_settlement_13
theorem mX0_settlement {l : Launch} {D : va_G} {dA : Nat → ClassId} {a : Nat} {k : KP a} {t : CS} {x1 : Int32} {x2 : Int32} {r : Int32} {t9 : CS} (h : C_settlement t x1 x2 = some (r, t9)) : Met l yX0_settlement (ws_ yX0_settlement cX0_settlement 4 (some .int)) rmX0_settlement (cPc D dA a k t [.ref a, .int x1, .int x2]) (cQ D dA a k 0 t t9 (some (.int r))) 0 0 (ca a) := en_C (by decide +kernel) rfl (Nat.le_of_ble_eq_true rfl) (fun p e s m below meth c ls C hK hT hl => bX0_settlement C t x1 x2 _ [] hT cS.rf hK ls h hl)
