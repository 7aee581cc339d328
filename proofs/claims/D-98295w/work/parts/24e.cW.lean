/-! the component's walks, 4 (written by gen/gen_comp.py) -/
set_option maxRecDepth 20000
set_option maxRecDepth 20000 in
abbrev rmX0_learns (N : Nat) : Room := { frames := 2 + 1 * N, cells := 0, slots := 0, locals := 42 + 26 * N }
theorem hdX0_learns : yX0_learns.cls = RX0 ∧ yX0_learns.cls ≠ "java/lang/invoke/MethodHandle" ∧ yX0_learns.cls ≠ "java/lang/invoke/VarHandle" ∧ (parseMethodDescriptor yX0_learns.desc).map (fun d => d.parameters.length) = some 4 := by decide +kernel
theorem bX0_learns_p44 {p : Program} {l : Launch} {e : Env} {s : State} {m : MethodId} {args : Array Value} {below : List Frame} {meth : Method} {c : Code} {D : va_G} {dA : Nat → ClassId} {a : Nat} {k : KP a} {t0 : CS} {t9 : CS} (C : cx p s m args meth c cX0_learns RX0 7 none) {N : Nat} {rec : CS → Int32 → Int32 → Int32 → Int32 → Option CS} (hrec : ∀ (t : CS) (x1 : Int32) (x2 : Int32) (x3 : Int32) (x4 : Int32) (t9 : CS), rec t x1 x2 x3 x4 = some t9 → Met l yX0_learns (ws_ yX0_learns cX0_learns 7 none) (rmX0_learns N) (cPc D dA a k t [.ref a, .int x1, .int x2, .int x3, .int x4]) (cQ D dA a k 0 t t9 none) 0 0 (ca a)) {k10 : CS → Int32 → Int32 → Int32 → Option CS} (hk10 : ∀ (t : CS) (x4 : Int32) (x5 : Int32) (x6 : Int32) (H : Heap) (locs : List Loc) (hT : cW D dA a k t H) (hS : cS a s.heap H locs t0.2.2.2 0 t) (hK : kC D dA a k t.2.2.2 s) (ls : Array Slot), k10 t x4 x5 x6 = some t9 → lv_has ls 7 [(0, .ref a), (4, .int x4), (5, .int x5), (6, .int x6)] → W p l e (rmX0_learns (N + 1)) s m args below meth c H locs 0 0 (MQ below (cQ D dA a k 0 t0 t9 none) args s 0 0 (ca a)) (F0 m 10 ls [])) : ∀ (t : CS) (x4 : Int32) (x6 : Int32) (y0 : Int32) (y1 : Int32) (H : Heap) (locs : List Loc) (hT : cW D dA a k t H) (hS : cS a s.heap H locs t0.2.2.2 0 t) (hK : kC D dA a k t.2.2.2 s) (ls : Array Slot), C_learns_p44 rec k10 t x4 x6 y0 y1 = some t9 → lv_has ls 7 [(0, .ref a), (4, .int x4), (6, .int x6)] → W p l e (rmX0_learns (N + 1)) s m args below meth c H locs 0 0 (MQ below (cQ D dA a k 0 t0 t9 none) args s 0 0 (ca a)) (F0 m 44 ls [.int y1, .int y0]) := by
  obtain ⟨hx, hb, hr, hml, hown, hts, hlocks⟩ := id C
  intro t x4 x6 y0 y1 H locs hT hS hK ls h hl
  unfold C_learns_p44 at h
  refine lv_iadd hx hb dX0_learns_44 ?_
  refine lv_topi (fun v1 ev1 => ?_)
  replace h := lt1_sub ev1 h
  refine lv_istore (lv' := [(5, .int v1), (0, .ref a), (4, .int x4), (6, .int x6)]) hx hb dX0_learns_45 hl (by decide) rfl (fun ls hl => ?_)
  obtain ⟨v2, ev2⟩ : ∃ y : Int32, y = x6 + (1 : Int32) := ⟨_, rfl⟩
  replace h := lt1_sub ev2 h
  refine lv_iinc (v := v2) (lv' := [(6, .int v2), (5, .int v1), (0, .ref a), (4, .int x4)]) hx hb dX0_learns_47 hl (k := 3) rfl (by rw [ev2]; rfl) (by decide) rfl (fun ls hl => ?_)
  refine lv_goto (tgt := 10) hx hb dX0_learns_50 (by decide) ?_
  exact hk10 t x4 v1 v2 H locs hT hS hK ls h (lv_sub hl [2, 3, 1, 0] rfl)
theorem bX0_learns_p10 {p : Program} {l : Launch} {e : Env} {s : State} {m : MethodId} {args : Array Value} {below : List Frame} {meth : Method} {c : Code} {D : va_G} {dA : Nat → ClassId} {a : Nat} {k : KP a} {t0 : CS} {t9 : CS} (C : cx p s m args meth c cX0_learns RX0 7 none) {N : Nat} {rec : CS → Int32 → Int32 → Int32 → Int32 → Option CS} (hrec : ∀ (t : CS) (x1 : Int32) (x2 : Int32) (x3 : Int32) (x4 : Int32) (t9 : CS), rec t x1 x2 x3 x4 = some t9 → Met l yX0_learns (ws_ yX0_learns cX0_learns 7 none) (rmX0_learns N) (cPc D dA a k t [.ref a, .int x1, .int x2, .int x3, .int x4]) (cQ D dA a k 0 t t9 none) 0 0 (ca a)) : ∀ (n : Nat), ∀ (t : CS) (x4 : Int32) (x5 : Int32) (x6 : Int32) (H : Heap) (locs : List Loc) (hT : cW D dA a k t H) (hS : cS a s.heap H locs t0.2.2.2 0 t) (hK : kC D dA a k t.2.2.2 s) (ls : Array Slot), C_learns_p10 rec n t x4 x5 x6 = some t9 → lv_has ls 7 [(0, .ref a), (4, .int x4), (5, .int x5), (6, .int x6)] → W p l e (rmX0_learns (N + 1)) s m args below meth c H locs 0 0 (MQ below (cQ D dA a k 0 t0 t9 none) args s 0 0 (ca a)) (F0 m 10 ls []) := by
  obtain ⟨hx, hb, hr, hml, hown, hts, hlocks⟩ := id C
  intro n
  induction n with
  | zero =>
    intro t x4 x5 x6 H locs hT hS hK ls h hl
    have h : none = some _ := h
    cases h
  | succ n ih =>
    intro t x4 x5 x6 H locs hT hS hK ls h hl
    rw [C_learns_p10] at h
    refine lv_iload hx hb dX0_learns_10 (lv_at hl 3 rfl) ?_
    refine lv_aload_n hx hb dX0_learns_12 rfl (lv_at hl 0 rfl) ?_
    refine cg0 C hK hT dX0_learns_13 ?_
    refine c_getSN C hK hT (Or.inl rfl) 0 (by decide) (nf222 hK.2.1) rfl (v := .ref (a + 2)) rfl dX0_learns_16 ?_
    refine lv_iconst (v := 0) hx hb dX0_learns_19 (by decide) ?_
    obtain ⟨hi1, h⟩ := ck_some h
    refine c_ild C hK hT 2 7 (by decide) (fun _ _ => rfl) hi1 dX0_learns_20 ?_
    refine lv_icmp_ge (tgt := 53) hx hb dX0_learns_21 (by decide) (fun c => ?_) (fun c => ?_)
    · replace h := if_t c h
      refine lv_iload hx hb dX0_learns_53 (lv_at hl 2 rfl) ?_
      refine lv_aload_n hx hb dX0_learns_55 rfl (lv_at hl 0 rfl) ?_
      refine cg19 C hK hT dX0_learns_56 ?_
      refine lv_icmp_gt (tgt := 63) hx hb dX0_learns_59 (by decide) (fun c => ?_) (fun c => ?_)
      · replace h := if_t c h
        refine lv_aload_n hx hb dX0_learns_63 rfl (lv_at hl 0 rfl) ?_
        refine lv_iload hx hb dX0_learns_64 (lv_at hl 2 rfl) ?_
        refine cp19 C hK hT hS dX0_learns_66 (fun t2 H locs et2 hT hS hK => ?_)
        replace h := lt1_sub et2 h
        refine lv_aload_n hx hb dX0_learns_69 rfl (lv_at hl 0 rfl) ?_
        refine lv_iload hx hb dX0_learns_70 (lv_at hl 1 rfl) ?_
        refine cp18 C hK hT hS dX0_learns_72 (fun t3 H locs et3 hT hS hK => ?_)
        replace h := lt1_sub et3 h
        exact ec_v C hT hS h dX0_learns_75
      · replace h := if_f c h
        exact ec_v C hT hS h dX0_learns_62
    · replace h := if_f c h
      refine lv_iload hx hb dX0_learns_24 (lv_at hl 2 rfl) ?_
      refine lv_aload_n hx hb dX0_learns_26 rfl (lv_at hl 0 rfl) ?_
      refine lv_iload hx hb dX0_learns_27 (lv_at hl 3 rfl) ?_
      refine lv_iload hx hb dX0_learns_29 (lv_at hl 1 rfl) ?_
      refine lv_iconst (v := -1) hx hb dX0_learns_31 (by decide) ?_
      refine lv_ixor hx hb dX0_learns_32 ?_
      obtain ⟨v4, hv4, h⟩ := bd1_some h
      refine r_int (run_c (As := [.int x6, .int (x4 ^^^ (-1 : Int32))]) (rest := [.int x5]) C hK hT hS.2.1 (rv_X hK hT) (mX0_can hv4) q1233 q1235 qs39 q158 q1236 ⟨rfl, rfl⟩ hdX0_can ⟨show 1 + 1 ≤ 2 + 1 * (N + 1) from by omega, show 8 + (3 + 11) + (20) ≤ 42 + 26 * (N + 1) from by omega⟩ ⟨Nat.zero_le _, Nat.zero_le _⟩ rfl hl.1 rfl (Nat.le_of_ble_eq_true rfl) dX0_learns_33) ?_
      refine lv_if_eq (tgt := 43) hx hb dX0_learns_36 (by decide) (fun c => ?_) (fun c => ?_)
      · replace h := if_t c h
        refine lv_iconst (v := 0) hx hb dX0_learns_43 (by decide) ?_
        exact bX0_learns_p44 C hrec ih t x4 x6 x5 (0 : Int32) H locs hT hS hK ls h (lv_sub hl [0, 1, 3] rfl)
      · replace h := if_f c h
        refine lv_iconst (v := 1) hx hb dX0_learns_39 (by decide) ?_
        refine lv_goto (tgt := 44) hx hb dX0_learns_40 (by decide) ?_
        exact bX0_learns_p44 C hrec ih t x4 x6 x5 (1 : Int32) H locs hT hS hK ls h (lv_sub hl [0, 1, 3] rfl)
theorem bX0_learns_p114 {p : Program} {l : Launch} {e : Env} {s : State} {m : MethodId} {args : Array Value} {below : List Frame} {meth : Method} {c : Code} {D : va_G} {dA : Nat → ClassId} {a : Nat} {k : KP a} {t0 : CS} {t9 : CS} (C : cx p s m args meth c cX0_learns RX0 7 none) {N : Nat} {rec : CS → Int32 → Int32 → Int32 → Int32 → Option CS} (hrec : ∀ (t : CS) (x1 : Int32) (x2 : Int32) (x3 : Int32) (x4 : Int32) (t9 : CS), rec t x1 x2 x3 x4 = some t9 → Met l yX0_learns (ws_ yX0_learns cX0_learns 7 none) (rmX0_learns N) (cPc D dA a k t [.ref a, .int x1, .int x2, .int x3, .int x4]) (cQ D dA a k 0 t t9 none) 0 0 (ca a)) {k79 : CS → Int32 → Int32 → Int32 → Int32 → Option CS} (hk79 : ∀ (t : CS) (x1 : Int32) (x3 : Int32) (x4 : Int32) (x5 : Int32) (H : Heap) (locs : List Loc) (hT : cW D dA a k t H) (hS : cS a s.heap H locs t0.2.2.2 0 t) (hK : kC D dA a k t.2.2.2 s) (ls : Array Slot), k79 t x1 x3 x4 x5 = some t9 → lv_has ls 7 [(0, .ref a), (1, .int x1), (3, .int x3), (4, .int x4), (5, .int x5)] → W p l e (rmX0_learns (N + 1)) s m args below meth c H locs 0 0 (MQ below (cQ D dA a k 0 t0 t9 none) args s 0 0 (ca a)) (F0 m 79 ls [])) : ∀ (t : CS) (x1 : Int32) (x3 : Int32) (x4 : Int32) (x5 : Int32) (H : Heap) (locs : List Loc) (hT : cW D dA a k t H) (hS : cS a s.heap H locs t0.2.2.2 0 t) (hK : kC D dA a k t.2.2.2 s) (ls : Array Slot), C_learns_p114 rec k79 t x1 x3 x4 x5 = some t9 → lv_has ls 7 [(0, .ref a), (1, .int x1), (3, .int x3), (4, .int x4), (5, .int x5)] → W p l e (rmX0_learns (N + 1)) s m args below meth c H locs 0 0 (MQ below (cQ D dA a k 0 t0 t9 none) args s 0 0 (ca a)) (F0 m 114 ls []) := by
  obtain ⟨hx, hb, hr, hml, hown, hts, hlocks⟩ := id C
  intro t x1 x3 x4 x5 H locs hT hS hK ls h hl
  unfold C_learns_p114 at h
  obtain ⟨v1, ev1⟩ : ∃ y : Int32, y = x5 + (1 : Int32) := ⟨_, rfl⟩
  replace h := lt1_sub ev1 h
  refine lv_iinc (v := v1) (lv' := [(5, .int v1), (0, .ref a), (1, .int x1), (3, .int x3), (4, .int x4)]) hx hb dX0_learns_114 hl (k := 4) rfl (by rw [ev1]; rfl) (by decide) rfl (fun ls hl => ?_)
  refine lv_goto (tgt := 79) hx hb dX0_learns_117 (by decide) ?_
  exact hk79 t x1 x3 x4 v1 H locs hT hS hK ls h (lv_sub hl [1, 2, 3, 4, 0] rfl)
theorem bX0_learns_p79 {p : Program} {l : Launch} {e : Env} {s : State} {m : MethodId} {args : Array Value} {below : List Frame} {meth : Method} {c : Code} {D : va_G} {dA : Nat → ClassId} {a : Nat} {k : KP a} {t0 : CS} {t9 : CS} (C : cx p s m args meth c cX0_learns RX0 7 none) {N : Nat} {rec : CS → Int32 → Int32 → Int32 → Int32 → Option CS} (hrec : ∀ (t : CS) (x1 : Int32) (x2 : Int32) (x3 : Int32) (x4 : Int32) (t9 : CS), rec t x1 x2 x3 x4 = some t9 → Met l yX0_learns (ws_ yX0_learns cX0_learns 7 none) (rmX0_learns N) (cPc D dA a k t [.ref a, .int x1, .int x2, .int x3, .int x4]) (cQ D dA a k 0 t t9 none) 0 0 (ca a)) : ∀ (n : Nat), ∀ (t : CS) (x1 : Int32) (x3 : Int32) (x4 : Int32) (x5 : Int32) (H : Heap) (locs : List Loc) (hT : cW D dA a k t H) (hS : cS a s.heap H locs t0.2.2.2 0 t) (hK : kC D dA a k t.2.2.2 s) (ls : Array Slot), C_learns_p79 rec n t x1 x3 x4 x5 = some t9 → lv_has ls 7 [(0, .ref a), (1, .int x1), (3, .int x3), (4, .int x4), (5, .int x5)] → W p l e (rmX0_learns (N + 1)) s m args below meth c H locs 0 0 (MQ below (cQ D dA a k 0 t0 t9 none) args s 0 0 (ca a)) (F0 m 79 ls []) := by
  obtain ⟨hx, hb, hr, hml, hown, hts, hlocks⟩ := id C
  intro n
  induction n with
  | zero =>
    intro t x1 x3 x4 x5 H locs hT hS hK ls h hl
    have h : none = some _ := h
    cases h
  | succ n ih =>
    intro t x1 x3 x4 x5 H locs hT hS hK ls h hl
    rw [C_learns_p79] at h
    refine lv_iload hx hb dX0_learns_79 (lv_at hl 4 rfl) ?_
    refine lv_bipush (v := 26) hx hb dX0_learns_81 (by decide) ?_
    refine lv_icmp_ge (tgt := 120) hx hb dX0_learns_83 (by decide) (fun c => ?_) (fun c => ?_)
    · replace h := if_t c h
      exact ec_v C hT hS h dX0_learns_120
    · replace h := if_f c h
      refine lv_iload_n hx hb dX0_learns_86 rfl (lv_at hl 1 rfl) ?_
      refine lv_iload hx hb dX0_learns_87 (lv_at hl 4 rfl) ?_
      obtain ⟨v1, hv1, h⟩ := bd1_some h
      refine r_int (run_s (As := [.int x1, .int x5]) (rest := []) C (mX0_has hv1) q344 q345 q158 q346 ⟨rfl, rfl⟩ hdX0_has ⟨show 0 + 1 ≤ 2 + 1 * (N + 1) from by omega, show 8 + (2 + 11) + (0) ≤ 42 + 26 * (N + 1) from by omega⟩ ⟨Nat.zero_le _, Nat.zero_le _⟩ rfl hl.1 rfl (Nat.le_of_ble_eq_true rfl) dX0_learns_89) ?_
      refine lv_if_eq (tgt := 114) hx hb dX0_learns_92 (by decide) (fun c => ?_) (fun c => ?_)
      · replace h := if_t c h
        exact bX0_learns_p114 C hrec ih t x1 x3 x4 x5 H locs hT hS hK ls h (lv_sub hl [0, 1, 2, 3, 4] rfl)
      · replace h := if_f c h
        refine lv_aload_n hx hb dX0_learns_95 rfl (lv_at hl 0 rfl) ?_
        refine lv_iload_n hx hb dX0_learns_96 rfl (lv_at hl 1 rfl) ?_
        refine lv_iload hx hb dX0_learns_97 (lv_at hl 4 rfl) ?_
        refine lv_iconst (v := 1) hx hb dX0_learns_99 (by decide) ?_
        refine lv_iadd hx hb dX0_learns_100 ?_
        refine lv_iload_n hx hb dX0_learns_101 rfl (lv_at hl 2 rfl) ?_
        refine lv_iconst (v := 1) hx hb dX0_learns_102 (by decide) ?_
        refine lv_isub hx hb dX0_learns_103 ?_
        refine lv_iload hx hb dX0_learns_104 (lv_at hl 3 rfl) ?_
        refine lv_iconst (v := 1) hx hb dX0_learns_106 (by decide) ?_
        refine lv_iload hx hb dX0_learns_107 (lv_at hl 4 rfl) ?_
        refine lv_ishl hx hb dX0_learns_109 ?_
        refine lv_ior hx hb dX0_learns_110 ?_
        obtain ⟨t2, ht2, h⟩ := bd1_some h
        refine wc_void hS hK (run_c (As := [.int x1, .int (x5 + (1 : Int32)), .int (x3 - (1 : Int32)), .int (x4 ||| ((1 : Int32) <<< (x5 &&& (31 : Int32))))]) (rest := []) C hK hT hS.2.1 (rv_X hK hT) (hrec _ _ _ _ _ _ ht2) q1463 q1465 qs61 q158 q1466 ⟨rfl, rfl⟩ hdX0_learns ⟨show 2 + 1 * N + 1 ≤ 2 + 1 * (N + 1) from by omega, show 8 + (7 + 11) + (42 + 26 * N) ≤ 42 + 26 * (N + 1) from by omega⟩ ⟨Nat.zero_le _, Nat.zero_le _⟩ rfl hl.1 rfl (Nat.le_of_ble_eq_true rfl) dX0_learns_111) (fun H locs hT hS hK hNt2 => ?_)
        exact bX0_learns_p114 C hrec ih t2 x1 x3 x4 x5 H locs hT hS hK ls h (lv_sub hl [0, 1, 2, 3, 4] rfl)
theorem bX0_learns {p : Program} {l : Launch} {e : Env} {s : State} {m : MethodId} {args : Array Value} {below : List Frame} {meth : Method} {c : Code} {D : va_G} {dA : Nat → ClassId} {a : Nat} {k : KP a} {t0 : CS} {t9 : CS} (C : cx p s m args meth c cX0_learns RX0 7 none) {N : Nat} {rec : CS → Int32 → Int32 → Int32 → Int32 → Option CS} (hrec : ∀ (t : CS) (x1 : Int32) (x2 : Int32) (x3 : Int32) (x4 : Int32) (t9 : CS), rec t x1 x2 x3 x4 = some t9 → Met l yX0_learns (ws_ yX0_learns cX0_learns 7 none) (rmX0_learns N) (cPc D dA a k t [.ref a, .int x1, .int x2, .int x3, .int x4]) (cQ D dA a k 0 t t9 none) 0 0 (ca a)) : ∀ (t : CS) (x1 : Int32) (x2 : Int32) (x3 : Int32) (x4 : Int32) (H : Heap) (locs : List Loc) (hT : cW D dA a k t H) (hS : cS a s.heap H locs t0.2.2.2 0 t) (hK : kC D dA a k t.2.2.2 s) (ls : Array Slot), C_learns_b rec t x1 x2 x3 x4 = some t9 → lv_has ls 7 [(0, .ref a), (1, .int x1), (2, .int x2), (3, .int x3), (4, .int x4)] → W p l e (rmX0_learns (N + 1)) s m args below meth c H locs 0 0 (MQ below (cQ D dA a k 0 t0 t9 none) args s 0 0 (ca a)) (F0 m 0 ls []) := by
  obtain ⟨hx, hb, hr, hml, hown, hts, hlocks⟩ := id C
  intro t x1 x2 x3 x4 H locs hT hS hK ls h hl
  unfold C_learns_b at h
  refine lv_iload_n hx hb dX0_learns_0 rfl (lv_at hl 3 rfl) ?_
  refine lv_if_ne (tgt := 76) hx hb dX0_learns_1 (by decide) (fun c => ?_) (fun c => ?_)
  · replace h := if_f c h
    refine lv_iload_n hx hb dX0_learns_76 rfl (lv_at hl 2 rfl) ?_
    refine lv_istore (lv' := [(5, .int x2), (0, .ref a), (1, .int x1), (2, .int x2), (3, .int x3), (4, .int x4)]) hx hb dX0_learns_77 hl (by decide) rfl (fun ls hl => ?_)
    exact bX0_learns_p79 C hrec fu t x1 x3 x4 x2 H locs hT hS hK ls h (lv_sub hl [1, 2, 4, 5, 0] rfl)
  · replace h := if_t c h
    refine lv_iconst (v := 0) hx hb dX0_learns_4 (by decide) ?_
    refine lv_istore (lv' := [(5, .int (0 : Int32)), (0, .ref a), (1, .int x1), (2, .int x2), (3, .int x3), (4, .int x4)]) hx hb dX0_learns_5 hl (by decide) rfl (fun ls hl => ?_)
    refine lv_iconst (v := 0) hx hb dX0_learns_7 (by decide) ?_
    refine lv_istore (lv' := [(6, .int (0 : Int32)), (5, .int (0 : Int32)), (0, .ref a), (1, .int x1), (2, .int x2), (3, .int x3), (4, .int x4)]) hx hb dX0_learns_8 hl (by decide) rfl (fun ls hl => ?_)
    exact bX0_learns_p10 C hrec fu t x4 (0 : Int32) (0 : Int32) H locs hT hS hK ls h (lv_sub hl [2, 6, 1, 0] rfl)
theorem mX0_learns {l : Launch} {D : va_G} {dA : Nat → ClassId} {a : Nat} {k : KP a} : ∀ (n : Nat), ∀ (t : CS) (x1 : Int32) (x2 : Int32) (x3 : Int32) (x4 : Int32) (t9 : CS), C_learns n t x1 x2 x3 x4 = some t9 → Met l yX0_learns (ws_ yX0_learns cX0_learns 7 none) (rmX0_learns n) (cPc D dA a k t [.ref a, .int x1, .int x2, .int x3, .int x4]) (cQ D dA a k 0 t t9 none) 0 0 (ca a) := by
  intro n
  induction n with
  | zero =>
    intro t x1 x2 x3 x4 t9 h
    have h : none = some _ := h
    cases h
  | succ n ih =>
    intro t x1 x2 x3 x4 t9 h
    rw [C_learns] at h
    exact en_C (by decide +kernel) rfl (Nat.le_of_ble_eq_true rfl) (fun p e s m below meth c ls C hK hT hl => bX0_learns C ih t x1 x2 x3 x4 _ [] hT cS.rf hK ls h hl)
set_option maxRecDepth 20000 in
abbrev rmX0_learn : Room := { frames := 67, cells := 0, slots := 0, locals := 1732 }
theorem hdX0_learn : yX0_learn.cls = RX0 ∧ yX0_learn.cls ≠ "java/lang/invoke/MethodHandle" ∧ yX0_learn.cls ≠ "java/lang/invoke/VarHandle" ∧ (parseMethodDescriptor yX0_learn.desc).map (fun d => d.parameters.length) = some 2 := by decide +kernel
theorem bX0_learn_p16 {p : Program} {l : Launch} {e : Env} {s : State} {m : MethodId} {args : Array Value} {below : List Frame} {meth : Method} {c : Code} {D : va_G} {dA : Nat → ClassId} {a : Nat} {k : KP a} {t0 : CS} {r : Int32} {t9 : CS} (C : cx p s m args meth c cX0_learn RX0 5 (some .int)) : ∀ (n : Nat), ∀ (t : CS) (x1 : Int32) (x2 : Int32) (x3 : Int32) (x4 : Int32) (H : Heap) (locs : List Loc) (hT : cW D dA a k t H) (hS : cS a s.heap H locs t0.2.2.2 0 t) (hK : kC D dA a k t.2.2.2 s) (ls : Array Slot), C_learn_p16 n t x1 x2 x3 x4 = some (r, t9) → lv_has ls 5 [(0, .ref a), (1, .int x1), (2, .int x2), (3, .int x3), (4, .int x4)] → W p l e rmX0_learn s m args below meth c H locs 0 0 (MQ below (cQ D dA a k 0 t0 t9 (some (.int r))) args s 0 0 (ca a)) (F0 m 16 ls []) := by
  obtain ⟨hx, hb, hr, hml, hown, hts, hlocks⟩ := id C
  intro n
  induction n with
  | zero =>
    intro t x1 x2 x3 x4 H locs hT hS hK ls h hl
    have h : none = some _ := h
    cases h
  | succ n ih =>
    intro t x1 x2 x3 x4 H locs hT hS hK ls h hl
    rw [C_learn_p16] at h
    refine lv_iload hx hb dX0_learn_16 (lv_at hl 4 rfl) ?_
    refine lv_aload_n hx hb dX0_learn_18 rfl (lv_at hl 0 rfl) ?_
    refine cg0 C hK hT dX0_learn_19 ?_
    refine c_getSN C hK hT (Or.inl rfl) 0 (by decide) (nf222 hK.2.1) rfl (v := .ref (a + 2)) rfl dX0_learn_22 ?_
    refine lv_iconst (v := 0) hx hb dX0_learn_25 (by decide) ?_
    obtain ⟨hi1, h⟩ := ck_some h
    refine c_ild C hK hT 2 7 (by decide) (fun _ _ => rfl) hi1 dX0_learn_26 ?_
    refine lv_icmp_ge (tgt := 52) hx hb dX0_learn_27 (by decide) (fun c => ?_) (fun c => ?_)
    · replace h := if_t c h
      refine lv_aload_n hx hb dX0_learn_52 rfl (lv_at hl 0 rfl) ?_
      refine lv_iconst (v := -1) hx hb dX0_learn_53 (by decide) ?_
      refine cp19 C hK hT hS dX0_learn_54 (fun t2 H locs et2 hT hS hK => ?_)
      replace h := lt1_sub et2 h
      refine lv_aload_n hx hb dX0_learn_57 rfl (lv_at hl 0 rfl) ?_
      refine lv_iload_n hx hb dX0_learn_58 rfl (lv_at hl 3 rfl) ?_
      refine lv_iconst (v := 0) hx hb dX0_learn_59 (by decide) ?_
      refine lv_iload_n hx hb dX0_learn_60 rfl (lv_at hl 1 rfl) ?_
      refine lv_iload_n hx hb dX0_learn_61 rfl (lv_at hl 3 rfl) ?_
      obtain ⟨v3, hv3, h⟩ := bd1_some h
      refine r_int (run_s (As := [.int x3]) (rest := [.int x1, .int (0 : Int32), .int x3, .ref a]) C (mJ5_bitCount hv3) q1079 q1080 q168 q1081 ⟨rfl, rfl⟩ hdJ5_bitCount ⟨Nat.le_of_ble_eq_true rfl, Nat.le_of_ble_eq_true rfl⟩ ⟨Nat.zero_le _, Nat.zero_le _⟩ rfl hl.1 rfl (Nat.le_of_ble_eq_true rfl) dX0_learn_62) ?_
      refine va_mmin hx hb (hml.trans hl.1.symm) hown (hts _ q1179) (hts _ q669) (hts _ q180) (hts _ q670) (Nat.le_of_ble_eq_true rfl) (Nat.le_of_ble_eq_true rfl) (Nat.zero_le _) (Nat.zero_le _) dX0_learn_65 ?_
      refine lv_iconst (v := 0) hx hb dX0_learn_68 (by decide) ?_
      obtain ⟨t4, ht4, h⟩ := bd1_some h
      refine wc_void hS hK (run_c (As := [.int x3, .int (0 : Int32), .int (if v3 < x1 then v3 else x1), .int (0 : Int32)]) (rest := []) C hK hT hS.2.1 (rv_X hK hT) (mX0_learns 64 _ _ _ _ _ _ ht4) q1463 q1465 qs61 q158 q1466 ⟨rfl, rfl⟩ hdX0_learns ⟨Nat.le_of_ble_eq_true rfl, Nat.le_of_ble_eq_true rfl⟩ ⟨Nat.zero_le _, Nat.zero_le _⟩ rfl hl.1 rfl (Nat.le_of_ble_eq_true rfl) dX0_learn_69) (fun H locs hT hS hK hNt4 => ?_)
      refine lv_iload_n hx hb dX0_learn_72 rfl (lv_at hl 2 rfl) ?_
      refine lv_if_eq (tgt := 83) hx hb dX0_learn_73 (by decide) (fun c => ?_) (fun c => ?_)
      · replace h := if_t c h
        refine lv_aload_n hx hb dX0_learn_83 rfl (lv_at hl 0 rfl) ?_
        refine cg18 C hK hT dX0_learn_84 ?_
        exact ec_i C hT hS h dX0_learn_87
      · replace h := if_f c h
        refine lv_aload_n hx hb dX0_learn_76 rfl (lv_at hl 0 rfl) ?_
        refine cg19 C hK hT dX0_learn_77 ?_
        refine lv_goto (tgt := 87) hx hb dX0_learn_80 (by decide) ?_
        exact ec_i C hT hS h dX0_learn_87
    · replace h := if_f c h
      refine lv_iload_n hx hb dX0_learn_30 rfl (lv_at hl 3 rfl) ?_
      refine lv_aload_n hx hb dX0_learn_31 rfl (lv_at hl 0 rfl) ?_
      refine cg0 C hK hT dX0_learn_32 ?_
      refine c_getSN C hK hT (Or.inl rfl) 4 (by decide) (nf230 hK.2.1) rfl (v := .ref (a + 6)) rfl dX0_learn_35 ?_
      refine lv_iload hx hb dX0_learn_38 (lv_at hl 4 rfl) ?_
      obtain ⟨hi5, h⟩ := ck_some h
      obtain ⟨r6, hr6, h⟩ := bd1_some h
      refine c_ald C hK hT 6 24 4 (by decide) rfl (g := t.2.1 6) (by rfl) (by rfl) hi5 hr6 dX0_learn_40 ?_
      obtain ⟨hc7, h⟩ := ckC_some h
      obtain ⟨v8, hv8, h⟩ := bd1_some h
      refine r_int (run_c (As := []) (rest := [.int x3]) C hK hT hS.2.1 (rv_D (ci := 3) rfl hK hT hc7) (mX3_bits hv8) q1098 q1099 q1100 q170 q1101 ⟨rfl, rfl⟩ hdX3_bits ⟨Nat.le_of_ble_eq_true rfl, Nat.le_of_ble_eq_true rfl⟩ ⟨Nat.zero_le _, Nat.zero_le _⟩ rfl hl.1 rfl (Nat.le_of_ble_eq_true rfl) dX0_learn_41) ?_
      refine lv_ior hx hb dX0_learn_44 ?_
      refine lv_topi (fun v9 ev9 => ?_)
      replace h := lt1_sub ev9 h
      refine lv_istore_n (lv' := [(3, .int v9), (0, .ref a), (1, .int x1), (2, .int x2), (4, .int x4)]) hx hb dX0_learn_45 rfl hl (by decide) rfl (fun ls hl => ?_)
      obtain ⟨v10, ev10⟩ : ∃ y : Int32, y = x4 + (1 : Int32) := ⟨_, rfl⟩
      replace h := lt1_sub ev10 h
      refine lv_iinc (v := v10) (lv' := [(4, .int v10), (3, .int v9), (0, .ref a), (1, .int x1), (2, .int x2)]) hx hb dX0_learn_46 hl (k := 4) rfl (by rw [ev10]; rfl) (by decide) rfl (fun ls hl => ?_)
      refine lv_goto (tgt := 16) hx hb dX0_learn_49 (by decide) ?_
      exact ih t x1 x2 v9 v10 H locs hT hS hK ls h (lv_sub hl [2, 3, 4, 1, 0] rfl)
theorem bX0_learn {p : Program} {l : Launch} {e : Env} {s : State} {m : MethodId} {args : Array Value} {below : List Frame} {meth : Method} {c : Code} {D : va_G} {dA : Nat → ClassId} {a : Nat} {k : KP a} {t0 : CS} {r : Int32} {t9 : CS} (C : cx p s m args meth c cX0_learn RX0 5 (some .int)) : ∀ (t : CS) (x1 : Int32) (x2 : Int32) (H : Heap) (locs : List Loc) (hT : cW D dA a k t H) (hS : cS a s.heap H locs t0.2.2.2 0 t) (hK : kC D dA a k t.2.2.2 s) (ls : Array Slot), C_learn t x1 x2 = some (r, t9) → lv_has ls 5 [(0, .ref a), (1, .int x1), (2, .int x2)] → W p l e rmX0_learn s m args below meth c H locs 0 0 (MQ below (cQ D dA a k 0 t0 t9 (some (.int r))) args s 0 0 (ca a)) (F0 m 0 ls []) := by
  obtain ⟨hx, hb, hr, hml, hown, hts, hlocks⟩ := id C
  intro t x1 x2 H locs hT hS hK ls h hl
  unfold C_learn at h
  refine lv_iload_n hx hb dX0_learn_0 rfl (lv_at hl 1 rfl) ?_
  refine lv_iconst (v := 1) hx hb dX0_learn_1 (by decide) ?_
  refine lv_iconst (v := 4) hx hb dX0_learn_2 (by decide) ?_
  obtain ⟨v1, hv1, h⟩ := bd1_some h
  refine r_int (run_s (As := [.int x1, .int (1 : Int32), .int (4 : Int32)]) (rest := []) C (mX0_in hv1) q341 q342 q158 q343 ⟨rfl, rfl⟩ hdX0_in ⟨Nat.le_of_ble_eq_true rfl, Nat.le_of_ble_eq_true rfl⟩ ⟨Nat.zero_le _, Nat.zero_le _⟩ rfl hl.1 rfl (Nat.le_of_ble_eq_true rfl) dX0_learn_3) ?_
  refine lv_if_ne (tgt := 11) hx hb dX0_learn_6 (by decide) (fun c => ?_) (fun c => ?_)
  · replace h := if_f c h
    refine lv_iconst (v := 0) hx hb dX0_learn_11 (by decide) ?_
    refine lv_istore_n (lv' := [(3, .int (0 : Int32)), (0, .ref a), (1, .int x1), (2, .int x2)]) hx hb dX0_learn_12 rfl hl (by decide) rfl (fun ls hl => ?_)
    refine lv_iconst (v := 0) hx hb dX0_learn_13 (by decide) ?_
    refine lv_istore (lv' := [(4, .int (0 : Int32)), (3, .int (0 : Int32)), (0, .ref a), (1, .int x1), (2, .int x2)]) hx hb dX0_learn_14 hl (by decide) rfl (fun ls hl => ?_)
    exact bX0_learn_p16 C fu t x1 x2 (0 : Int32) (0 : Int32) H locs hT hS hK ls h (lv_sub hl [2, 3, 4, 1, 0] rfl)
  · replace h := if_t c h
    refine lv_iconst (v := -1) hx hb dX0_learn_9 (by decide) ?_
    exact ec_i C hT hS h dX0_learn_10
theorem mX0_learn {l : Launch} {D : va_G} {dA : Nat → ClassId} {a : Nat} {k : KP a} {t : CS} {x1 : Int32} {x2 : Int32} {r : Int32} {t9 : CS} (h : C_learn t x1 x2 = some (r, t9)) : Met l yX0_learn (ws_ yX0_learn cX0_learn 5 (some .int)) rmX0_learn (cPc D dA a k t [.ref a, .int x1, .int x2]) (cQ D dA a k 0 t t9 (some (.int r))) 0 0 (ca a) := en_C (by decide +kernel) rfl (Nat.le_of_ble_eq_true rfl) (fun p e s m below meth c ls C hK hT hl => bX0_learn C t x1 x2 _ [] hT cS.rf hK ls h hl)
set_option maxRecDepth 20000 in
abbrev rmX0_isHair : Room := { frames := 1, cells := 0, slots := 0, locals := 20 }
theorem hdX0_isHair : yX0_isHair.cls = RX0 ∧ yX0_isHair.cls ≠ "java/lang/invoke/MethodHandle" ∧ yX0_isHair.cls ≠ "java/lang/invoke/VarHandle" ∧ (parseMethodDescriptor yX0_isHair.desc).map (fun d => d.parameters.length) = some 2 := by decide +kernel
theorem bX0_isHair_p50 {p : Program} {l : Launch} {e : Env} {s : State} {m : MethodId} {args : Array Value} {below : List Frame} {meth : Method} {c : Code} {D : va_G} {dA : Nat → ClassId} {a : Nat} {k : KP a} {t : CS} {r : Int32} (C : cx p s m args meth c cX0_isHair RX0 5 (some .boolean)) (hK : kC D dA a k t.2.2.2 s) (hT : cW D dA a k t s.heap) {k18 : Nat → Nat → Int32 → Int32 → Option Int32} (hk18 : ∀ (x1 : Nat) (x2 : Nat) (x3 : Int32) (x4 : Int32) (ls : Array Slot), k18 x1 x2 x3 x4 = some r → lv_has ls 5 [(1, .ref x1), (2, .ref x2), (3, .int x3), (4, .int x4)] → W p l e rmX0_isHair s m args below meth c s.heap [] 0 0 (MQ below (rQi r) args s 0 0 nof) (F0 m 18 ls [])) : ∀ (x1 : Nat) (x2 : Nat) (x4 : Int32) (y0 : Int32) (y1 : Int32) (ls : Array Slot), C_isHair_p50 k18 t x1 x2 x4 y0 y1 = some r → lv_has ls 5 [(1, .ref x1), (2, .ref x2), (4, .int x4)] → W p l e rmX0_isHair s m args below meth c s.heap [] 0 0 (MQ below (rQi r) args s 0 0 nof) (F0 m 50 ls [.int y1, .int y0]) := by
  obtain ⟨hx, hb, hr, hml, hown, hts, hlocks⟩ := id C
  intro x1 x2 x4 y0 y1 ls h hl
  unfold C_isHair_p50 at h
  refine lv_iadd hx hb dX0_isHair_50 ?_
  refine lv_topi (fun v1 ev1 => ?_)
  replace h := lt1_sub ev1 h
  refine lv_istore_n (lv' := [(3, .int v1), (1, .ref x1), (2, .ref x2), (4, .int x4)]) hx hb dX0_isHair_51 rfl hl (by decide) rfl (fun ls hl => ?_)
  obtain ⟨v2, ev2⟩ : ∃ y : Int32, y = x4 + (1 : Int32) := ⟨_, rfl⟩
  replace h := lt1_sub ev2 h
  refine lv_iinc (v := v2) (lv' := [(4, .int v2), (3, .int v1), (1, .ref x1), (2, .ref x2)]) hx hb dX0_isHair_52 hl (k := 3) rfl (by rw [ev2]; rfl) (by decide) rfl (fun ls hl => ?_)
  refine lv_goto (tgt := 18) hx hb dX0_isHair_55 (by decide) ?_
  exact hk18 x1 x2 v1 v2 ls h (lv_sub hl [2, 3, 1, 0] rfl)
theorem bX0_isHair_p18 {p : Program} {l : Launch} {e : Env} {s : State} {m : MethodId} {args : Array Value} {below : List Frame} {meth : Method} {c : Code} {D : va_G} {dA : Nat → ClassId} {a : Nat} {k : KP a} {t : CS} {r : Int32} (C : cx p s m args meth c cX0_isHair RX0 5 (some .boolean)) (hK : kC D dA a k t.2.2.2 s) (hT : cW D dA a k t s.heap) : ∀ (n : Nat), ∀ (x1 : Nat) (x2 : Nat) (x3 : Int32) (x4 : Int32) (ls : Array Slot), C_isHair_p18 t n x1 x2 x3 x4 = some r → lv_has ls 5 [(1, .ref x1), (2, .ref x2), (3, .int x3), (4, .int x4)] → W p l e rmX0_isHair s m args below meth c s.heap [] 0 0 (MQ below (rQi r) args s 0 0 nof) (F0 m 18 ls []) := by
  obtain ⟨hx, hb, hr, hml, hown, hts, hlocks⟩ := id C
  intro n
  induction n with
  | zero =>
    intro x1 x2 x3 x4 ls h hl
    have h : none = some _ := h
    cases h
  | succ n ih =>
    intro x1 x2 x3 x4 ls h hl
    rw [C_isHair_p18] at h
    refine lv_iload hx hb dX0_isHair_18 (lv_at hl 3 rfl) ?_
    refine lv_aload_n hx hb dX0_isHair_20 rfl (lv_at hl 0 rfl) ?_
    obtain ⟨hc1, h⟩ := ckC_some h
    obtain ⟨v2, hv2, h⟩ := bd1_some h
    refine r_int (run_c (As := []) (rest := [.int x4]) C hK hT (fun _ _ => rfl) (rv_D (ci := 3) rfl hK hT hc1) (mX3_length hv2) q1237 q1238 q1239 q170 q1240 ⟨rfl, rfl⟩ hdX3_length ⟨Nat.le_of_ble_eq_true rfl, Nat.le_of_ble_eq_true rfl⟩ ⟨Nat.zero_le _, Nat.zero_le _⟩ rfl hl.1 rfl (Nat.le_of_ble_eq_true rfl) dX0_isHair_21) ?_
    refine lv_icmp_ge (tgt := 58) hx hb dX0_isHair_24 (by decide) (fun c => ?_) (fun c => ?_)
    · replace h := if_t c h
      refine lv_iload_n hx hb dX0_isHair_58 rfl (lv_at hl 2 rfl) ?_
      refine lv_iconst (v := 1) hx hb dX0_isHair_59 (by decide) ?_
      refine lv_icmp_ne (tgt := 67) hx hb dX0_isHair_60 (by decide) (fun c => ?_) (fun c => ?_)
      · replace h := if_f c h
        refine lv_iconst (v := 0) hx hb dX0_isHair_67 (by decide) ?_
        exact e_rz C (Or.inl rfl) h dX0_isHair_68
      · replace h := if_t c h
        refine lv_iconst (v := 1) hx hb dX0_isHair_63 (by decide) ?_
        refine lv_goto (tgt := 68) hx hb dX0_isHair_64 (by decide) ?_
        exact e_rz C (Or.inr rfl) h dX0_isHair_68
    · replace h := if_f c h
      refine lv_iload_n hx hb dX0_isHair_27 rfl (lv_at hl 2 rfl) ?_
      refine lv_aload_n hx hb dX0_isHair_28 rfl (lv_at hl 0 rfl) ?_
      obtain ⟨hc3, h⟩ := ckC_some h
      obtain ⟨v4, hv4, h⟩ := bd1_some h
      refine r_ref1 (run_c (As := []) (rest := [.int x3]) C hK hT (fun _ _ => rfl) (rv_D (ci := 3) rfl hK hT hc3) (mX3_letter hv4) q358 q359 q360 q170 q361 ⟨rfl, rfl⟩ hdX3_letter ⟨Nat.le_of_ble_eq_true rfl, Nat.le_of_ble_eq_true rfl⟩ ⟨Nat.zero_le _, Nat.zero_le _⟩ rfl hl.1 rfl (Nat.le_of_ble_eq_true rfl) dX0_isHair_29) ?_
      refine lv_iload hx hb dX0_isHair_32 (lv_at hl 3 rfl) ?_
      obtain ⟨v5, hv5, h⟩ := bd1_some h
      refine d_ild C hK hT hv5 dX0_isHair_34 ?_
      refine lv_aload_n hx hb dX0_isHair_35 rfl (lv_at hl 1 rfl) ?_
      obtain ⟨hc6, h⟩ := ckC_some h
      obtain ⟨v7, hv7, h⟩ := bd1_some h
      refine r_ref1 (run_c (As := []) (rest := [.int v5, .int x3]) C hK hT (fun _ _ => rfl) (rv_D (ci := 3) rfl hK hT hc6) (mX3_letter hv7) q358 q359 q360 q170 q361 ⟨rfl, rfl⟩ hdX3_letter ⟨Nat.le_of_ble_eq_true rfl, Nat.le_of_ble_eq_true rfl⟩ ⟨Nat.zero_le _, Nat.zero_le _⟩ rfl hl.1 rfl (Nat.le_of_ble_eq_true rfl) dX0_isHair_36) ?_
      refine lv_iload hx hb dX0_isHair_39 (lv_at hl 3 rfl) ?_
      obtain ⟨v8, hv8, h⟩ := bd1_some h
      refine d_ild C hK hT hv8 dX0_isHair_41 ?_
      refine lv_icmp_ne (tgt := 49) hx hb dX0_isHair_42 (by decide) (fun c => ?_) (fun c => ?_)
      · replace h := if_f c h
        refine lv_iconst (v := 1) hx hb dX0_isHair_49 (by decide) ?_
        exact bX0_isHair_p50 C hK hT ih x1 x2 x4 x3 (1 : Int32) ls h (lv_sub hl [0, 1, 3] rfl)
      · replace h := if_t c h
        refine lv_iconst (v := 0) hx hb dX0_isHair_45 (by decide) ?_
        refine lv_goto (tgt := 50) hx hb dX0_isHair_46 (by decide) ?_
        exact bX0_isHair_p50 C hK hT ih x1 x2 x4 x3 (0 : Int32) ls h (lv_sub hl [0, 1, 3] rfl)
theorem bX0_isHair {p : Program} {l : Launch} {e : Env} {s : State} {m : MethodId} {args : Array Value} {below : List Frame} {meth : Method} {c : Code} {D : va_G} {dA : Nat → ClassId} {a : Nat} {k : KP a} {t : CS} {r : Int32} (C : cx p s m args meth c cX0_isHair RX0 5 (some .boolean)) (hK : kC D dA a k t.2.2.2 s) (hT : cW D dA a k t s.heap) : ∀ (x1 : Nat) (x2 : Nat) (ls : Array Slot), C_isHair t x1 x2 = some r → lv_has ls 5 [(0, .ref a), (1, .ref x1), (2, .ref x2)] → W p l e rmX0_isHair s m args below meth c s.heap [] 0 0 (MQ below (rQi r) args s 0 0 nof) (F0 m 0 ls []) := by
  obtain ⟨hx, hb, hr, hml, hown, hts, hlocks⟩ := id C
  intro x1 x2 ls h hl
  unfold C_isHair at h
  refine lv_aload_n hx hb dX0_isHair_0 rfl (lv_at hl 1 rfl) ?_
  obtain ⟨hc1, h⟩ := ckC_some h
  obtain ⟨v2, hv2, h⟩ := bd1_some h
  refine r_int (run_c (As := []) (rest := []) C hK hT (fun _ _ => rfl) (rv_D (ci := 3) rfl hK hT hc1) (mX3_length hv2) q1237 q1238 q1239 q170 q1240 ⟨rfl, rfl⟩ hdX3_length ⟨Nat.le_of_ble_eq_true rfl, Nat.le_of_ble_eq_true rfl⟩ ⟨Nat.zero_le _, Nat.zero_le _⟩ rfl hl.1 rfl (Nat.le_of_ble_eq_true rfl) dX0_isHair_1) ?_
  refine lv_aload_n hx hb dX0_isHair_4 rfl (lv_at hl 2 rfl) ?_
  obtain ⟨hc3, h⟩ := ckC_some h
  obtain ⟨v4, hv4, h⟩ := bd1_some h
  refine r_int (run_c (As := []) (rest := [.int v2]) C hK hT (fun _ _ => rfl) (rv_D (ci := 3) rfl hK hT hc3) (mX3_length hv4) q1237 q1238 q1239 q170 q1240 ⟨rfl, rfl⟩ hdX3_length ⟨Nat.le_of_ble_eq_true rfl, Nat.le_of_ble_eq_true rfl⟩ ⟨Nat.zero_le _, Nat.zero_le _⟩ rfl hl.1 rfl (Nat.le_of_ble_eq_true rfl) dX0_isHair_5) ?_
  refine lv_icmp_eq (tgt := 13) hx hb dX0_isHair_8 (by decide) (fun c => ?_) (fun c => ?_)
  · replace h := if_t c h
    refine lv_iconst (v := 0) hx hb dX0_isHair_13 (by decide) ?_
    refine lv_istore_n (lv' := [(3, .int (0 : Int32)), (0, .ref a), (1, .ref x1), (2, .ref x2)]) hx hb dX0_isHair_14 rfl hl (by decide) rfl (fun ls hl => ?_)
    refine lv_iconst (v := 0) hx hb dX0_isHair_15 (by decide) ?_
    refine lv_istore (lv' := [(4, .int (0 : Int32)), (3, .int (0 : Int32)), (0, .ref a), (1, .ref x1), (2, .ref x2)]) hx hb dX0_isHair_16 hl (by decide) rfl (fun ls hl => ?_)
    exact bX0_isHair_p18 C hK hT fu x1 x2 (0 : Int32) (0 : Int32) ls h (lv_sub hl [3, 4, 1, 0] rfl)
  · replace h := if_f c h
    refine lv_iconst (v := 0) hx hb dX0_isHair_11 (by decide) ?_
    exact e_rz C (Or.inl rfl) h dX0_isHair_12
theorem mX0_isHair {l : Launch} {D : va_G} {dA : Nat → ClassId} {a : Nat} {k : KP a} {t : CS} {x1 : Nat} {x2 : Nat} {r : Int32} (h : C_isHair t x1 x2 = some r) : Met l yX0_isHair (ws_ yX0_isHair cX0_isHair 5 (some .boolean)) rmX0_isHair (cPc D dA a k t [.ref a, .ref x1, .ref x2]) (rQi r) 0 0 nof := en_C (by decide +kernel) rfl (Nat.le_of_ble_eq_true rfl) (fun p e s m below meth c ls C hK hT hl => bX0_isHair C hK hT x1 x2 ls h hl)
set_option maxRecDepth 20000 in
abbrev rmX0_hair : Room := { frames := 2, cells := 0, slots := 0, locals := 44 }
theorem hdX0_hair : yX0_hair.cls = RX0 ∧ yX0_hair.cls ≠ "java/lang/invoke/MethodHandle" ∧ yX0_hair.cls ≠ "java/lang/invoke/VarHandle" ∧ (parseMethodDescriptor yX0_hair.desc).map (fun d => d.parameters.length) = some 2 := by decide +kernel
theorem bX0_hair_p74 {p : Program} {l : Launch} {e : Env} {s : State} {m : MethodId} {args : Array Value} {below : List Frame} {meth : Method} {c : Code} {D : va_G} {dA : Nat → ClassId} {a : Nat} {k : KP a} {t : CS} {r : Int32} (C : cx p s m args meth c cX0_hair RX0 5 (some .int)) (hK : kC D dA a k t.2.2.2 s) (hT : cW D dA a k t s.heap) {k20 : Int32 → Int32 → Int32 → Int32 → Option Int32} (hk20 : ∀ (x1 : Int32) (x2 : Int32) (x3 : Int32) (x4 : Int32) (ls : Array Slot), k20 x1 x2 x3 x4 = some r → lv_has ls 5 [(0, .ref a), (1, .int x1), (2, .int x2), (3, .int x3), (4, .int x4)] → W p l e rmX0_hair s m args below meth c s.heap [] 0 0 (MQ below (rQi r) args s 0 0 nof) (F0 m 20 ls [])) : ∀ (x1 : Int32) (x2 : Int32) (x3 : Int32) (x4 : Int32) (ls : Array Slot), C_hair_p74 k20 t x1 x2 x3 x4 = some r → lv_has ls 5 [(0, .ref a), (1, .int x1), (2, .int x2), (3, .int x3), (4, .int x4)] → W p l e rmX0_hair s m args below meth c s.heap [] 0 0 (MQ below (rQi r) args s 0 0 nof) (F0 m 74 ls []) := by
  obtain ⟨hx, hb, hr, hml, hown, hts, hlocks⟩ := id C
  intro x1 x2 x3 x4 ls h hl
  unfold C_hair_p74 at h
  obtain ⟨v1, ev1⟩ : ∃ y : Int32, y = x4 + (1 : Int32) := ⟨_, rfl⟩
  replace h := lt1_sub ev1 h
  refine lv_iinc (v := v1) (lv' := [(4, .int v1), (0, .ref a), (1, .int x1), (2, .int x2), (3, .int x3)]) hx hb dX0_hair_74 hl (k := 4) rfl (by rw [ev1]; rfl) (by decide) rfl (fun ls hl => ?_)
  refine lv_goto (tgt := 20) hx hb dX0_hair_77 (by decide) ?_
  exact hk20 x1 x2 x3 v1 ls h (lv_sub hl [1, 2, 3, 4, 0] rfl)
theorem bX0_hair_p20 {p : Program} {l : Launch} {e : Env} {s : State} {m : MethodId} {args : Array Value} {below : List Frame} {meth : Method} {c : Code} {D : va_G} {dA : Nat → ClassId} {a : Nat} {k : KP a} {t : CS} {r : Int32} (C : cx p s m args meth c cX0_hair RX0 5 (some .int)) (hK : kC D dA a k t.2.2.2 s) (hT : cW D dA a k t s.heap) : ∀ (n : Nat), ∀ (x1 : Int32) (x2 : Int32) (x3 : Int32) (x4 : Int32) (ls : Array Slot), C_hair_p20 t n x1 x2 x3 x4 = some r → lv_has ls 5 [(0, .ref a), (1, .int x1), (2, .int x2), (3, .int x3), (4, .int x4)] → W p l e rmX0_hair s m args below meth c s.heap [] 0 0 (MQ below (rQi r) args s 0 0 nof) (F0 m 20 ls []) := by
  obtain ⟨hx, hb, hr, hml, hown, hts, hlocks⟩ := id C
  intro n
  induction n with
  | zero =>
    intro x1 x2 x3 x4 ls h hl
    have h : none = some _ := h
    cases h
  | succ n ih =>
    intro x1 x2 x3 x4 ls h hl
    rw [C_hair_p20] at h
    refine lv_iload hx hb dX0_hair_20 (lv_at hl 4 rfl) ?_
    refine lv_aload_n hx hb dX0_hair_22 rfl (lv_at hl 0 rfl) ?_
    refine cg0 C hK hT dX0_hair_23 ?_
    refine c_getSN C hK hT (Or.inl rfl) 0 (by decide) (nf222 hK.2.1) rfl (v := .ref (a + 2)) rfl dX0_hair_26 ?_
    refine lv_iconst (v := 0) hx hb dX0_hair_29 (by decide) ?_
    obtain ⟨hi1, h⟩ := ck_some h
    refine c_ild C hK hT 2 7 (by decide) (fun _ _ => rfl) hi1 dX0_hair_30 ?_
    refine lv_icmp_ge (tgt := 80) hx hb dX0_hair_31 (by decide) (fun c => ?_) (fun c => ?_)
    · replace h := if_t c h
      refine lv_iload_n hx hb dX0_hair_80 rfl (lv_at hl 2 rfl) ?_
      refine lv_iconst (v := -1) hx hb dX0_hair_81 (by decide) ?_
      refine lv_icmp_ne (tgt := 89) hx hb dX0_hair_82 (by decide) (fun c => ?_) (fun c => ?_)
      · replace h := if_f c h
        refine lv_iconst (v := -1) hx hb dX0_hair_89 (by decide) ?_
        exact e_ri C h dX0_hair_90
      · replace h := if_t c h
        refine lv_iload_n hx hb dX0_hair_85 rfl (lv_at hl 3 rfl) ?_
        refine lv_goto (tgt := 90) hx hb dX0_hair_86 (by decide) ?_
        exact e_ri C h dX0_hair_90
    · replace h := if_f c h
      refine lv_aload_n hx hb dX0_hair_34 rfl (lv_at hl 0 rfl) ?_
      refine lv_aload_n hx hb dX0_hair_35 rfl (lv_at hl 0 rfl) ?_
      refine cg0 C hK hT dX0_hair_36 ?_
      refine c_getSN C hK hT (Or.inl rfl) 4 (by decide) (nf230 hK.2.1) rfl (v := .ref (a + 6)) rfl dX0_hair_39 ?_
      refine lv_iload_n hx hb dX0_hair_42 rfl (lv_at hl 1 rfl) ?_
      obtain ⟨hi2, h⟩ := ck_some h
      obtain ⟨r3, hr3, h⟩ := bd1_some h
      refine c_ald C hK hT 6 24 4 (by decide) rfl (g := t.2.1 6) (by rfl) (by rfl) hi2 hr3 dX0_hair_43 ?_
      refine lv_aload_n hx hb dX0_hair_44 rfl (lv_at hl 0 rfl) ?_
      refine cg0 C hK hT dX0_hair_45 ?_
      refine c_getSN C hK hT (Or.inl rfl) 4 (by decide) (nf230 hK.2.1) rfl (v := .ref (a + 6)) rfl dX0_hair_48 ?_
      refine lv_iload hx hb dX0_hair_51 (lv_at hl 4 rfl) ?_
      obtain ⟨hi4, h⟩ := ck_some h
      obtain ⟨r5, hr5, h⟩ := bd1_some h
      refine c_ald C hK hT 6 24 4 (by decide) rfl (g := t.2.1 6) (by rfl) (by rfl) hi4 hr5 dX0_hair_53 ?_
      obtain ⟨v6, hv6, h⟩ := bd1_some h
      refine r_int (run_c (As := [.ref r3, .ref r5]) (rest := []) C hK hT (fun _ _ => rfl) (rv_X hK hT) (mX0_isHair hv6) q1471 q1473 qs62 q158 q1474 ⟨rfl, rfl⟩ hdX0_isHair ⟨Nat.le_of_ble_eq_true rfl, Nat.le_of_ble_eq_true rfl⟩ ⟨Nat.zero_le _, Nat.zero_le _⟩ rfl hl.1 rfl (Nat.le_of_ble_eq_true rfl) dX0_hair_54) ?_
      refine lv_if_ne (tgt := 63) hx hb dX0_hair_57 (by decide) (fun c => ?_) (fun c => ?_)
      · replace h := if_f c h
        refine lv_iload_n hx hb dX0_hair_63 rfl (lv_at hl 3 rfl) ?_
        refine lv_iload_n hx hb dX0_hair_64 rfl (lv_at hl 2 rfl) ?_
        refine lv_icmp_ne (tgt := 71) hx hb dX0_hair_65 (by decide) (fun c => ?_) (fun c => ?_)
        · replace h := if_f c h
          obtain ⟨v7, ev7⟩ : ∃ y : Int32, y = x3 + (1 : Int32) := ⟨_, rfl⟩
          replace h := lt1_sub ev7 h
          refine lv_iinc (v := v7) (lv' := [(3, .int v7), (0, .ref a), (1, .int x1), (2, .int x2), (4, .int x4)]) hx hb dX0_hair_71 hl (k := 3) rfl (by rw [ev7]; rfl) (by decide) rfl (fun ls hl => ?_)
          exact bX0_hair_p74 C hK hT ih x1 x2 v7 x4 ls h (lv_sub hl [1, 2, 3, 0, 4] rfl)
        · replace h := if_t c h
          refine lv_iload hx hb dX0_hair_68 (lv_at hl 4 rfl) ?_
          exact e_ri C h dX0_hair_70
      · replace h := if_t c h
        refine lv_goto (tgt := 74) hx hb dX0_hair_60 (by decide) ?_
        exact bX0_hair_p74 C hK hT ih x1 x2 x3 x4 ls h (lv_sub hl [0, 1, 2, 3, 4] rfl)
theorem bX0_hair {p : Program} {l : Launch} {e : Env} {s : State} {m : MethodId} {args : Array Value} {below : List Frame} {meth : Method} {c : Code} {D : va_G} {dA : Nat → ClassId} {a : Nat} {k : KP a} {t : CS} {r : Int32} (C : cx p s m args meth c cX0_hair RX0 5 (some .int)) (hK : kC D dA a k t.2.2.2 s) (hT : cW D dA a k t s.heap) : ∀ (x1 : Int32) (x2 : Int32) (ls : Array Slot), C_hair t x1 x2 = some r → lv_has ls 5 [(0, .ref a), (1, .int x1), (2, .int x2)] → W p l e rmX0_hair s m args below meth c s.heap [] 0 0 (MQ below (rQi r) args s 0 0 nof) (F0 m 0 ls []) := by
  obtain ⟨hx, hb, hr, hml, hown, hts, hlocks⟩ := id C
  intro x1 x2 ls h hl
  unfold C_hair at h
  refine lv_aload_n hx hb dX0_hair_0 rfl (lv_at hl 0 rfl) ?_
  refine lv_iload_n hx hb dX0_hair_1 rfl (lv_at hl 1 rfl) ?_
  obtain ⟨v1, hv1, h⟩ := bd1_some h
  refine r_int (run_c (As := [.int x1]) (rest := []) C hK hT (fun _ _ => rfl) (rv_X hK hT) (mX0_isWord hv1) q1323 q1325 qs46 q158 q1326 ⟨rfl, rfl⟩ hdX0_isWord ⟨Nat.le_of_ble_eq_true rfl, Nat.le_of_ble_eq_true rfl⟩ ⟨Nat.zero_le _, Nat.zero_le _⟩ rfl hl.1 rfl (Nat.le_of_ble_eq_true rfl) dX0_hair_2) ?_
  refine lv_if_eq (tgt := 13) hx hb dX0_hair_5 (by decide) (fun c => ?_) (fun c => ?_)
  · replace h := if_t c h
    refine lv_iconst (v := -1) hx hb dX0_hair_13 (by decide) ?_
    exact e_ri C h dX0_hair_14
  · replace h := if_f c h
    refine lv_iload_n hx hb dX0_hair_8 rfl (lv_at hl 2 rfl) ?_
    refine lv_iconst (v := -1) hx hb dX0_hair_9 (by decide) ?_
    refine lv_icmp_ge (tgt := 15) hx hb dX0_hair_10 (by decide) (fun c => ?_) (fun c => ?_)
    · replace h := if_t c h
      refine lv_iconst (v := 0) hx hb dX0_hair_15 (by decide) ?_
      refine lv_istore_n (lv' := [(3, .int (0 : Int32)), (0, .ref a), (1, .int x1), (2, .int x2)]) hx hb dX0_hair_16 rfl hl (by decide) rfl (fun ls hl => ?_)
      refine lv_iconst (v := 0) hx hb dX0_hair_17 (by decide) ?_
      refine lv_istore (lv' := [(4, .int (0 : Int32)), (3, .int (0 : Int32)), (0, .ref a), (1, .int x1), (2, .int x2)]) hx hb dX0_hair_18 hl (by decide) rfl (fun ls hl => ?_)
      exact bX0_hair_p20 C hK hT fu x1 x2 (0 : Int32) (0 : Int32) ls h (lv_sub hl [2, 3, 4, 1, 0] rfl)
    · replace h := if_f c h
      refine lv_iconst (v := -1) hx hb dX0_hair_13 (by decide) ?_
      exact e_ri C h dX0_hair_14
theorem mX0_hair {l : Launch} {D : va_G} {dA : Nat → ClassId} {a : Nat} {k : KP a} {t : CS} {x1 : Int32} {x2 : Int32} {r : Int32} (h : C_hair t x1 x2 = some r) : Met l yX0_hair (ws_ yX0_hair cX0_hair 5 (some .int)) rmX0_hair (cPc D dA a k t [.ref a, .int x1, .int x2]) (rQi r) 0 0 nof := en_C (by decide +kernel) rfl (Nat.le_of_ble_eq_true rfl) (fun p e s m below meth c ls C hK hT hl => bX0_hair C hK hT x1 x2 ls h hl)
set_option maxRecDepth 20000 in
abbrev rmX0_printed (t t9 : CS) : Room := { frames := 2, cells := t9.2.2.2 0 - t.2.2.2 0, slots := t9.2.2.2 1 - t.2.2.2 1, locals := 60 }
theorem hdX0_printed : yX0_printed.cls = RX0 ∧ yX0_printed.cls ≠ "java/lang/invoke/MethodHandle" ∧ yX0_printed.cls ≠ "java/lang/invoke/VarHandle" ∧ (parseMethodDescriptor yX0_printed.desc).map (fun d => d.parameters.length) = some 3 := by decide +kernel
theorem bX0_printed_p76 {p : Program} {l : Launch} {e : Env} {s : State} {m : MethodId} {args : Array Value} {below : List Frame} {meth : Method} {c : Code} {D : va_G} {dA : Nat → ClassId} {a : Nat} {k : KP a} {t0 : CS} {r : Int32} {t9 : CS} (C : cx p s m args meth c cX0_printed RX0 5 (some .int)) : ∀ (t : CS) (y0 : Nat) (y1 : Nat) (y2 : Int32) (y3 : Int32) (H : Heap) (locs : List Loc) (hT : cW D dA a k t H) (hS : cS a s.heap H locs t0.2.2.2 2 t) (hK : kC D dA a k t.2.2.2 s) (hm : mo t0 t) (ls : Array Slot), C_printed_p76 t y0 y1 y2 y3 = some (r, t9) → lv_has ls 5 [(0, .ref a)] → W p l e (rmX0_printed t0 t9) s m args below meth c H locs (t.2.2.2 0 - t0.2.2.2 0) (t.2.2.2 1 - t0.2.2.2 1) (MQ below (cQ D dA a k 2 t0 t9 (some (.int r))) args s (t9.2.2.2 0 - t0.2.2.2 0) (t9.2.2.2 1 - t0.2.2.2 1) (ca a)) (F0 m 76 ls [.int y3, .int y2, .ref y1, .ref y0]) := by
  obtain ⟨hx, hb, hr, hml, hown, hts, hlocks⟩ := id C
  intro t y0 y1 y2 y3 H locs hT hS hK hm ls h hl
  have m9 : mo t t9 := mo_C_printed_p76 h
  unfold C_printed_p76 at h
  obtain ⟨t1, ht1, h⟩ := bd1_some h
  refine d_ist C hK hT hS ht1 dX0_printed_76 (fun H locs hT hS hK => ?_)
  have mm : mo t t1 := mo.nn (das_N ht1)
  replace hm := hm.tr mm
  replace m9 : mo t1 t9 := mo.bk (das_N ht1) m9
  refine W.widen (mo_s mm).1 (mo_s mm).2 ?_
  refine lv_astore (lv' := [(4, .ref y0), (0, .ref a)]) hx hb dX0_printed_77 hl (by decide) rfl (fun ls hl => ?_)
  refine lv_aload hx hb dX0_printed_79 (lv_at hl 0 rfl) ?_
  refine lv_aload_n hx hb dX0_printed_81 rfl (lv_at hl 1 rfl) ?_
  refine cg0 C hK hT dX0_printed_82 ?_
  refine c_getSN C hK hT (Or.inl rfl) 6 (by decide) (nf234 hK.2.1) rfl (v := .ref (a + 8)) rfl dX0_printed_85 ?_
  refine lv_aload_n hx hb dX0_printed_88 rfl (lv_at hl 1 rfl) ?_
  refine cg0 C hK hT dX0_printed_89 ?_
  refine c_getSN C hK hT (Or.inl rfl) 0 (by decide) (nf222 hK.2.1) rfl (v := .ref (a + 2)) rfl dX0_printed_92 ?_
  refine lv_bipush (v := 6) hx hb dX0_printed_95 (by decide) ?_
  obtain ⟨hi2, h⟩ := ck_some h
  refine c_ild C hK hT 2 7 (by decide) (fun _ _ => rfl) hi2 dX0_printed_97 ?_
  obtain ⟨hi3, h⟩ := ck_some h
  refine c_ald C hK hT 8 12 6 (by decide) rfl (g := fun j => some (a + (9 + j))) (by rfl) (by rfl) hi3 rfl dX0_printed_98 ?_
  obtain ⟨v4, hv4, h⟩ := bd1_some h
  refine x_copydN C hK hT hS y0 (9 + (t1.1 2 (6 : Int32).toNatClampNeg).toNatClampNeg) 3 (fam_k9 hi3) (aF_some hv4) (fam_a9 hi3) (by decide) hl.1 (Nat.le_of_ble_eq_true rfl) ⟨Nat.le_of_ble_eq_true rfl, Nat.le_of_ble_eq_true rfl⟩ (mo_s m9) (nm1314 hK.2.1) dX0_printed_99 (fun t5 H locs et5 hT hS hK => ?_)
  replace h := lt1_sub et5 h
  have mm : mo t1 t5 := mo.nn (by rw [et5]; rfl)
  replace hm := hm.tr mm
  replace m9 : mo t5 t9 := mo.bk (by rw [et5]; rfl) m9
  refine W.widen (mo_s mm).1 (mo_s mm).2 ?_
  refine lv_aload_n hx hb dX0_printed_102 rfl (lv_at hl 1 rfl) ?_
  refine cg0 C hK hT dX0_printed_103 ?_
  refine c_getSN C hK hT (Or.inl rfl) 0 (by decide) (nf222 hK.2.1) rfl (v := .ref (a + 2)) rfl dX0_printed_106 ?_
  refine lv_bipush (v := 6) hx hb dX0_printed_109 (by decide) ?_
  refine lv_dup2_11 hx hb dX0_printed_111 rfl rfl ?_
  obtain ⟨hi6, h⟩ := ck_some h
  refine c_ild C hK hT 2 7 (by decide) (fun _ _ => rfl) hi6 dX0_printed_112 ?_
  refine lv_iconst (v := 1) hx hb dX0_printed_113 (by decide) ?_
  refine lv_iadd hx hb dX0_printed_114 ?_
  obtain ⟨hi7, h⟩ := ck_some h
  refine c_ist C hK hT hS 2 7 (by decide) (fun _ _ => rfl) hi7 dX0_printed_115 (fun t8 H locs et8 hT hS hK => ?_)
  replace h := lt1_sub et8 h
  have mm : mo t5 t8 := mo.nn (by rw [et8]; rfl)
  replace hm := hm.tr mm
  replace m9 : mo t8 t9 := mo.bk (by rw [et8]; rfl) m9
  refine W.widen (mo_s mm).1 (mo_s mm).2 ?_
  refine lv_aload_n hx hb dX0_printed_116 rfl (lv_at hl 1 rfl) ?_
  refine cg0 C hK hT dX0_printed_117 ?_
  refine c_getSN C hK hT (Or.inl rfl) 0 (by decide) (nf222 hK.2.1) rfl (v := .ref (a + 2)) rfl dX0_printed_120 ?_
  refine lv_bipush (v := 6) hx hb dX0_printed_123 (by decide) ?_
  obtain ⟨hi9, h⟩ := ck_some h
  refine c_ild C hK hT 2 7 (by decide) (fun _ _ => rfl) hi9 dX0_printed_125 ?_
  cases h
  exact ec_i C hT hS rfl dX0_printed_126
theorem bX0_printed_p57 {p : Program} {l : Launch} {e : Env} {s : State} {m : MethodId} {args : Array Value} {below : List Frame} {meth : Method} {c : Code} {D : va_G} {dA : Nat → ClassId} {a : Nat} {k : KP a} {t0 : CS} {r : Int32} {t9 : CS} (C : cx p s m args meth c cX0_printed RX0 5 (some .int)) : ∀ (t : CS) (x1 : Int32) (x2 : Int32) (x3 : Int32) (y0 : Nat) (H : Heap) (locs : List Loc) (hT : cW D dA a k t H) (hS : cS a s.heap H locs t0.2.2.2 2 t) (hK : kC D dA a k t.2.2.2 s) (hm : mo t0 t) (ls : Array Slot), C_printed_p57 t x1 x2 x3 y0 = some (r, t9) → lv_has ls 5 [(0, .ref a), (1, .int x1), (2, .int x2), (3, .int x3)] → W p l e (rmX0_printed t0 t9) s m args below meth c H locs (t.2.2.2 0 - t0.2.2.2 0) (t.2.2.2 1 - t0.2.2.2 1) (MQ below (cQ D dA a k 2 t0 t9 (some (.int r))) args s (t9.2.2.2 0 - t0.2.2.2 0) (t9.2.2.2 1 - t0.2.2.2 1) (ca a)) (F0 m 57 ls [.ref y0]) := by
  obtain ⟨hx, hb, hr, hml, hown, hts, hlocks⟩ := id C
  intro t x1 x2 x3 y0 H locs hT hS hK hm ls h hl
  have m9 : mo t t9 := mo_C_printed_p57 h
  unfold C_printed_p57 at h
  refine lv_dup hx hb dX0_printed_57 rfl ?_
  refine lv_iconst (v := 0) hx hb dX0_printed_58 (by decide) ?_
  refine lv_iload_n hx hb dX0_printed_59 rfl (lv_at hl 1 rfl) ?_
  obtain ⟨t1, ht1, h⟩ := bd1_some h
  refine d_ist C hK hT hS ht1 dX0_printed_60 (fun H locs hT hS hK => ?_)
  have mm : mo t t1 := mo.nn (das_N ht1)
  replace hm := hm.tr mm
  replace m9 : mo t1 t9 := mo.bk (das_N ht1) m9
  refine W.widen (mo_s mm).1 (mo_s mm).2 ?_
  refine lv_dup hx hb dX0_printed_61 rfl ?_
  refine lv_iconst (v := 1) hx hb dX0_printed_62 (by decide) ?_
  refine lv_iload_n hx hb dX0_printed_63 rfl (lv_at hl 2 rfl) ?_
  obtain ⟨t2, ht2, h⟩ := bd1_some h
  refine d_ist C hK hT hS ht2 dX0_printed_64 (fun H locs hT hS hK => ?_)
  have mm : mo t1 t2 := mo.nn (das_N ht2)
  replace hm := hm.tr mm
  replace m9 : mo t2 t9 := mo.bk (das_N ht2) m9
  refine W.widen (mo_s mm).1 (mo_s mm).2 ?_
  refine lv_dup hx hb dX0_printed_65 rfl ?_
  refine lv_iconst (v := 2) hx hb dX0_printed_66 (by decide) ?_
  refine lv_iload_n hx hb dX0_printed_67 rfl (lv_at hl 3 rfl) ?_
  refine lv_if_eq (tgt := 75) hx hb dX0_printed_68 (by decide) (fun c => ?_) (fun c => ?_)
  · replace h := if_t c h
    refine lv_iconst (v := 0) hx hb dX0_printed_75 (by decide) ?_
    exact bX0_printed_p76 C t2 y0 y0 (2 : Int32) (0 : Int32) H locs hT hS hK hm ls h (lv_sub hl [0] rfl)
  · replace h := if_f c h
    refine lv_iconst (v := 1) hx hb dX0_printed_71 (by decide) ?_
    refine lv_goto (tgt := 76) hx hb dX0_printed_72 (by decide) ?_
    exact bX0_printed_p76 C t2 y0 y0 (2 : Int32) (1 : Int32) H locs hT hS hK hm ls h (lv_sub hl [0] rfl)
theorem bX0_printed {p : Program} {l : Launch} {e : Env} {s : State} {m : MethodId} {args : Array Value} {below : List Frame} {meth : Method} {c : Code} {D : va_G} {dA : Nat → ClassId} {a : Nat} {k : KP a} {t0 : CS} {r : Int32} {t9 : CS} (C : cx p s m args meth c cX0_printed RX0 5 (some .int)) : ∀ (t : CS) (x1 : Int32) (x2 : Int32) (x3 : Int32) (H : Heap) (locs : List Loc) (hT : cW D dA a k t H) (hS : cS a s.heap H locs t0.2.2.2 2 t) (hK : kC D dA a k t.2.2.2 s) (hm : mo t0 t) (ls : Array Slot), C_printed t x1 x2 x3 = some (r, t9) → lv_has ls 5 [(0, .ref a), (1, .int x1), (2, .int x2), (3, .int x3)] → W p l e (rmX0_printed t0 t9) s m args below meth c H locs (t.2.2.2 0 - t0.2.2.2 0) (t.2.2.2 1 - t0.2.2.2 1) (MQ below (cQ D dA a k 2 t0 t9 (some (.int r))) args s (t9.2.2.2 0 - t0.2.2.2 0) (t9.2.2.2 1 - t0.2.2.2 1) (ca a)) (F0 m 0 ls []) := by
  obtain ⟨hx, hb, hr, hml, hown, hts, hlocks⟩ := id C
  intro t x1 x2 x3 H locs hT hS hK hm ls h hl
  have m9 : mo t t9 := mo_C_printed h
  unfold C_printed at h
  refine lv_iload_n hx hb dX0_printed_0 rfl (lv_at hl 1 rfl) ?_
  refine lv_iconst (v := -1) hx hb dX0_printed_1 (by decide) ?_
  refine lv_icmp_ne (tgt := 18) hx hb dX0_printed_2 (by decide) (fun c => ?_) (fun c => ?_)
  · replace h := if_f c h
    refine lv_aload_n hx hb dX0_printed_18 rfl (lv_at hl 0 rfl) ?_
    refine lv_iload_n hx hb dX0_printed_19 rfl (lv_at hl 1 rfl) ?_
    obtain ⟨v1, hv1, h⟩ := bd1_some h
    refine r_int (run_c (As := [.int x1]) (rest := []) C hK hT hS.2.1 (rv_X hK hT) (mX0_isWord hv1) q1323 q1325 qs46 q158 q1326 ⟨rfl, rfl⟩ hdX0_isWord ⟨Nat.le_of_ble_eq_true rfl, Nat.le_of_ble_eq_true rfl⟩ (mo_z m9) rfl hl.1 rfl (Nat.le_of_ble_eq_true rfl) dX0_printed_20) ?_
    refine lv_if_eq (tgt := 51) hx hb dX0_printed_23 (by decide) (fun c => ?_) (fun c => ?_)
    · replace h := if_t c h
      refine lv_bipush (v := -2) hx hb dX0_printed_51 (by decide) ?_
      cases h
      exact ec_i C hT hS rfl dX0_printed_53
    · replace h := if_f c h
      refine lv_iload_n hx hb dX0_printed_26 rfl (lv_at hl 2 rfl) ?_
      refine lv_iconst (v := 0) hx hb dX0_printed_27 (by decide) ?_
      refine lv_bipush (v := 30) hx hb dX0_printed_28 (by decide) ?_
      obtain ⟨v2, hv2, h⟩ := bd1_some h
      refine r_int (run_s (As := [.int x2, .int (0 : Int32), .int (30 : Int32)]) (rest := []) C (mX0_in hv2) q341 q342 q158 q343 ⟨rfl, rfl⟩ hdX0_in ⟨Nat.le_of_ble_eq_true rfl, Nat.le_of_ble_eq_true rfl⟩ (mo_z m9) rfl hl.1 rfl (Nat.le_of_ble_eq_true rfl) dX0_printed_30) ?_
      refine lv_if_eq (tgt := 51) hx hb dX0_printed_33 (by decide) (fun c => ?_) (fun c => ?_)
      · replace h := if_t c h
        refine lv_bipush (v := -2) hx hb dX0_printed_51 (by decide) ?_
        cases h
        exact ec_i C hT hS rfl dX0_printed_53
      · replace h := if_f c h
        refine lv_aload_n hx hb dX0_printed_36 rfl (lv_at hl 0 rfl) ?_
        refine cg0 C hK hT dX0_printed_37 ?_
        refine c_getSN C hK hT (Or.inl rfl) 0 (by decide) (nf222 hK.2.1) rfl (v := .ref (a + 2)) rfl dX0_printed_40 ?_
        refine lv_bipush (v := 6) hx hb dX0_printed_43 (by decide) ?_
        obtain ⟨hi3, h⟩ := ck_some h
        refine c_ild C hK hT 2 7 (by decide) (fun _ _ => rfl) hi3 dX0_printed_45 ?_
        refine lv_bipush (v := 12) hx hb dX0_printed_46 (by decide) ?_
        refine lv_icmp_ne (tgt := 54) hx hb dX0_printed_48 (by decide) (fun c => ?_) (fun c => ?_)
        · replace h := if_f c h
          refine lv_iconst (v := 3) hx hb dX0_printed_54 (by decide) ?_
          obtain ⟨⟨hg5a, hg5b⟩, h⟩ := ngt_some h
          obtain ⟨t4, et4, h⟩ := lt1_ex h
          have m9 : mo t4 t9 := mo_C_printed_p57 h
          refine n_newi C hK hT hS hg5a hg5b (mo_n hm et4 m9) dX0_printed_55 (fun t_ H et_ hT hS hK => ?_)
          obtain rfl := et4.trans et_.symm
          refine W.widen (mo_n1 hm et4).1 (mo_n1 hm et4).2 ?_
          replace hm := hm.tr (mo.new et4)
          exact bX0_printed_p57 C t4 x1 x2 x3 (t.2.2.2 0) H locs hT hS hK hm ls h (lv_sub hl [0, 1, 2, 3] rfl)
        · replace h := if_t c h
          refine lv_bipush (v := -2) hx hb dX0_printed_51 (by decide) ?_
          cases h
          exact ec_i C hT hS rfl dX0_printed_53
  · replace h := if_t c h
    refine lv_aload_n hx hb dX0_printed_5 rfl (lv_at hl 0 rfl) ?_
    refine cg0 C hK hT dX0_printed_6 ?_
    refine c_getSN C hK hT (Or.inl rfl) 0 (by decide) (nf222 hK.2.1) rfl (v := .ref (a + 2)) rfl dX0_printed_9 ?_
    refine lv_bipush (v := 6) hx hb dX0_printed_12 (by decide) ?_
    refine lv_iconst (v := 0) hx hb dX0_printed_14 (by decide) ?_
    obtain ⟨hi6, h⟩ := ck_some h
    refine c_ist C hK hT hS 2 7 (by decide) (fun _ _ => rfl) hi6 dX0_printed_15 (fun t7 H locs et7 hT hS hK => ?_)
    replace h := lt1_sub et7 h
    have mm : mo t t7 := mo.nn (by rw [et7]; rfl)
    replace hm := hm.tr mm
    replace m9 : mo t7 t9 := mo.bk (by rw [et7]; rfl) m9
    refine W.widen (mo_s mm).1 (mo_s mm).2 ?_
    refine lv_iconst (v := 0) hx hb dX0_printed_16 (by decide) ?_
    cases h
    exact ec_i C hT hS rfl dX0_printed_17
theorem mX0_printed {l : Launch} {D : va_G} {dA : Nat → ClassId} {a : Nat} {k : KP a} {t : CS} {x1 : Int32} {x2 : Int32} {x3 : Int32} {r : Int32} {t9 : CS} (h : C_printed t x1 x2 x3 = some (r, t9)) : Met l yX0_printed (ws_ yX0_printed cX0_printed 5 (some .int)) (rmX0_printed t t9) (cPc D dA a k t [.ref a, .int x1, .int x2, .int x3]) (cQ D dA a k 2 t t9 (some (.int r))) (t9.2.2.2 0 - t.2.2.2 0) (t9.2.2.2 1 - t.2.2.2 1) (ca a) := en_C (by decide +kernel) rfl (Nat.le_of_ble_eq_true rfl) (fun p e s m below meth c ls C hK hT hl => sub0 (bX0_printed C t x1 x2 x3 _ [] hT cS.rf hK mo.rf ls h hl))
set_option maxRecDepth 20000 in
abbrev rmX0_thereOn : Room := { frames := 1, cells := 0, slots := 0, locals := 20 }
theorem hdX0_thereOn : yX0_thereOn.cls = RX0 ∧ yX0_thereOn.cls ≠ "java/lang/invoke/MethodHandle" ∧ yX0_thereOn.cls ≠ "java/lang/invoke/VarHandle" ∧ (parseMethodDescriptor yX0_thereOn.desc).map (fun d => d.parameters.length) = some 1 := by decide +kernel
theorem bX0_thereOn_p75 {p : Program} {l : Launch} {e : Env} {s : State} {m : MethodId} {args : Array Value} {below : List Frame} {meth : Method} {c : Code} {D : va_G} {dA : Nat → ClassId} {a : Nat} {k : KP a} {t : CS} {r : Int32} (C : cx p s m args meth c cX0_thereOn RX0 4 (some .int)) (hK : kC D dA a k t.2.2.2 s) (hT : cW D dA a k t s.heap) {k4 : Int32 → Int32 → Int32 → Option Int32} (hk4 : ∀ (x1 : Int32) (x2 : Int32) (x3 : Int32) (ls : Array Slot), k4 x1 x2 x3 = some r → lv_has ls 4 [(0, .ref a), (1, .int x1), (2, .int x2), (3, .int x3)] → W p l e rmX0_thereOn s m args below meth c s.heap [] 0 0 (MQ below (rQi r) args s 0 0 nof) (F0 m 4 ls [])) : ∀ (x1 : Int32) (x3 : Int32) (y0 : Int32) (y1 : Int32) (ls : Array Slot), C_thereOn_p75 k4 t x1 x3 y0 y1 = some r → lv_has ls 4 [(0, .ref a), (1, .int x1), (3, .int x3)] → W p l e rmX0_thereOn s m args below meth c s.heap [] 0 0 (MQ below (rQi r) args s 0 0 nof) (F0 m 75 ls [.int y1, .int y0]) := by
  obtain ⟨hx, hb, hr, hml, hown, hts, hlocks⟩ := id C
  intro x1 x3 y0 y1 ls h hl
  unfold C_thereOn_p75 at h
  refine lv_ior hx hb dX0_thereOn_75 ?_
  refine lv_topi (fun v1 ev1 => ?_)
  replace h := lt1_sub ev1 h
  refine lv_istore_n (lv' := [(2, .int v1), (0, .ref a), (1, .int x1), (3, .int x3)]) hx hb dX0_thereOn_76 rfl hl (by decide) rfl (fun ls hl => ?_)
  obtain ⟨v2, ev2⟩ : ∃ y : Int32, y = x3 + (1 : Int32) := ⟨_, rfl⟩
  replace h := lt1_sub ev2 h
  refine lv_iinc (v := v2) (lv' := [(3, .int v2), (2, .int v1), (0, .ref a), (1, .int x1)]) hx hb dX0_thereOn_77 hl (k := 3) rfl (by rw [ev2]; rfl) (by decide) rfl (fun ls hl => ?_)
  refine lv_goto (tgt := 4) hx hb dX0_thereOn_80 (by decide) ?_
  exact hk4 x1 v1 v2 ls h (lv_sub hl [2, 3, 1, 0] rfl)
theorem bX0_thereOn_p74 {p : Program} {l : Launch} {e : Env} {s : State} {m : MethodId} {args : Array Value} {below : List Frame} {meth : Method} {c : Code} {D : va_G} {dA : Nat → ClassId} {a : Nat} {k : KP a} {t : CS} {r : Int32} (C : cx p s m args meth c cX0_thereOn RX0 4 (some .int)) (hK : kC D dA a k t.2.2.2 s) (hT : cW D dA a k t s.heap) {k4 : Int32 → Int32 → Int32 → Option Int32} (hk4 : ∀ (x1 : Int32) (x2 : Int32) (x3 : Int32) (ls : Array Slot), k4 x1 x2 x3 = some r → lv_has ls 4 [(0, .ref a), (1, .int x1), (2, .int x2), (3, .int x3)] → W p l e rmX0_thereOn s m args below meth c s.heap [] 0 0 (MQ below (rQi r) args s 0 0 nof) (F0 m 4 ls [])) : ∀ (x1 : Int32) (x3 : Int32) (y0 : Int32) (ls : Array Slot), C_thereOn_p74 k4 t x1 x3 y0 = some r → lv_has ls 4 [(0, .ref a), (1, .int x1), (3, .int x3)] → W p l e rmX0_thereOn s m args below meth c s.heap [] 0 0 (MQ below (rQi r) args s 0 0 nof) (F0 m 74 ls [.int y0]) := by
  obtain ⟨hx, hb, hr, hml, hown, hts, hlocks⟩ := id C
  intro x1 x3 y0 ls h hl
  unfold C_thereOn_p74 at h
  refine lv_iconst (v := 0) hx hb dX0_thereOn_74 (by decide) ?_
  exact bX0_thereOn_p75 C hK hT hk4 x1 x3 y0 (0 : Int32) ls h (lv_sub hl [0, 1, 2] rfl)
theorem bX0_thereOn_p4 {p : Program} {l : Launch} {e : Env} {s : State} {m : MethodId} {args : Array Value} {below : List Frame} {meth : Method} {c : Code} {D : va_G} {dA : Nat → ClassId} {a : Nat} {k : KP a} {t : CS} {r : Int32} (C : cx p s m args meth c cX0_thereOn RX0 4 (some .int)) (hK : kC D dA a k t.2.2.2 s) (hT : cW D dA a k t s.heap) : ∀ (n : Nat), ∀ (x1 : Int32) (x2 : Int32) (x3 : Int32) (ls : Array Slot), C_thereOn_p4 t n x1 x2 x3 = some r → lv_has ls 4 [(0, .ref a), (1, .int x1), (2, .int x2), (3, .int x3)] → W p l e rmX0_thereOn s m args below meth c s.heap [] 0 0 (MQ below (rQi r) args s 0 0 nof) (F0 m 4 ls []) := by
  obtain ⟨hx, hb, hr, hml, hown, hts, hlocks⟩ := id C
  intro n
  induction n with
  | zero =>
    intro x1 x2 x3 ls h hl
    have h : none = some _ := h
    cases h
  | succ n ih =>
    intro x1 x2 x3 ls h hl
    rw [C_thereOn_p4] at h
    refine lv_iload_n hx hb dX0_thereOn_4 rfl (lv_at hl 3 rfl) ?_
    refine lv_aload_n hx hb dX0_thereOn_5 rfl (lv_at hl 0 rfl) ?_
    refine cg0 C hK hT dX0_thereOn_6 ?_
    refine c_getSN C hK hT (Or.inl rfl) 0 (by decide) (nf222 hK.2.1) rfl (v := .ref (a + 2)) rfl dX0_thereOn_9 ?_
    refine lv_bipush (v := 6) hx hb dX0_thereOn_12 (by decide) ?_
    obtain ⟨hi1, h⟩ := ck_some h
    refine c_ild C hK hT 2 7 (by decide) (fun _ _ => rfl) hi1 dX0_thereOn_14 ?_
    refine lv_icmp_ge (tgt := 83) hx hb dX0_thereOn_15 (by decide) (fun c => ?_) (fun c => ?_)
    · replace h := if_t c h
      refine lv_iload_n hx hb dX0_thereOn_83 rfl (lv_at hl 2 rfl) ?_
      exact e_ri C h dX0_thereOn_84
    · replace h := if_f c h
      refine lv_iload_n hx hb dX0_thereOn_18 rfl (lv_at hl 2 rfl) ?_
      refine lv_aload_n hx hb dX0_thereOn_19 rfl (lv_at hl 0 rfl) ?_
      refine cg0 C hK hT dX0_thereOn_20 ?_
      refine c_getSN C hK hT (Or.inl rfl) 6 (by decide) (nf234 hK.2.1) rfl (v := .ref (a + 8)) rfl dX0_thereOn_23 ?_
      refine lv_iload_n hx hb dX0_thereOn_26 rfl (lv_at hl 3 rfl) ?_
      obtain ⟨hi2, h⟩ := ck_some h
      refine c_ald C hK hT 8 12 6 (by decide) rfl (g := fun j => some (a + (9 + j))) (by rfl) (by rfl) hi2 rfl dX0_thereOn_27 ?_
      refine lv_iconst (v := 1) hx hb dX0_thereOn_28 (by decide) ?_
      obtain ⟨hi3, h⟩ := ck_some h
      refine c_ild C hK hT (9 + x3.toNatClampNeg) 3 (fam_k9 hi2) (fam_a9 hi2) hi3 dX0_thereOn_29 ?_
      refine lv_iload_n hx hb dX0_thereOn_30 rfl (lv_at hl 1 rfl) ?_
      refine lv_icmp_ne (tgt := 74) hx hb dX0_thereOn_31 (by decide) (fun c => ?_) (fun c => ?_)
      · replace h := if_f c h
        exact bX0_thereOn_p74 C hK hT ih x1 x3 x2 ls h (lv_sub hl [0, 1, 3] rfl)
      · replace h := if_t c h
        refine lv_aload_n hx hb dX0_thereOn_34 rfl (lv_at hl 0 rfl) ?_
        refine cg0 C hK hT dX0_thereOn_35 ?_
        refine c_getSN C hK hT (Or.inl rfl) 6 (by decide) (nf234 hK.2.1) rfl (v := .ref (a + 8)) rfl dX0_thereOn_38 ?_
        refine lv_iload_n hx hb dX0_thereOn_41 rfl (lv_at hl 3 rfl) ?_
        obtain ⟨hi4, h⟩ := ck_some h
        refine c_ald C hK hT 8 12 6 (by decide) rfl (g := fun j => some (a + (9 + j))) (by rfl) (by rfl) hi4 rfl dX0_thereOn_42 ?_
        refine lv_iconst (v := 2) hx hb dX0_thereOn_43 (by decide) ?_
        obtain ⟨hi5, h⟩ := ck_some h
        refine c_ild C hK hT (9 + x3.toNatClampNeg) 3 (fam_k9 hi4) (fam_a9 hi4) hi5 dX0_thereOn_44 ?_
        refine lv_iconst (v := 1) hx hb dX0_thereOn_45 (by decide) ?_
        refine lv_icmp_ne (tgt := 74) hx hb dX0_thereOn_46 (by decide) (fun c => ?_) (fun c => ?_)
        · replace h := if_f c h
          exact bX0_thereOn_p74 C hK hT ih x1 x3 x2 ls h (lv_sub hl [0, 1, 3] rfl)
        · replace h := if_t c h
          refine lv_aload_n hx hb dX0_thereOn_49 rfl (lv_at hl 0 rfl) ?_
          refine cg0 C hK hT dX0_thereOn_50 ?_
          refine c_getSN C hK hT (Or.inl rfl) 4 (by decide) (nf230 hK.2.1) rfl (v := .ref (a + 6)) rfl dX0_thereOn_53 ?_
          refine lv_aload_n hx hb dX0_thereOn_56 rfl (lv_at hl 0 rfl) ?_
          refine cg0 C hK hT dX0_thereOn_57 ?_
          refine c_getSN C hK hT (Or.inl rfl) 6 (by decide) (nf234 hK.2.1) rfl (v := .ref (a + 8)) rfl dX0_thereOn_60 ?_
          refine lv_iload_n hx hb dX0_thereOn_63 rfl (lv_at hl 3 rfl) ?_
          obtain ⟨hi6, h⟩ := ck_some h
          refine c_ald C hK hT 8 12 6 (by decide) rfl (g := fun j => some (a + (9 + j))) (by rfl) (by rfl) hi6 rfl dX0_thereOn_64 ?_
          refine lv_iconst (v := 0) hx hb dX0_thereOn_65 (by decide) ?_
          obtain ⟨hi7, h⟩ := ck_some h
          refine c_ild C hK hT (9 + x3.toNatClampNeg) 3 (fam_k9 hi6) (fam_a9 hi6) hi7 dX0_thereOn_66 ?_
          obtain ⟨hi8, h⟩ := ck_some h
          obtain ⟨r9, hr9, h⟩ := bd1_some h
          refine c_ald C hK hT 6 24 4 (by decide) rfl (g := t.2.1 6) (by rfl) (by rfl) hi8 hr9 dX0_thereOn_67 ?_
          obtain ⟨hc10, h⟩ := ckC_some h
          obtain ⟨v11, hv11, h⟩ := bd1_some h
          refine r_int (run_c (As := []) (rest := [.int x2]) C hK hT (fun _ _ => rfl) (rv_D (ci := 3) rfl hK hT hc10) (mX3_bits hv11) q1098 q1099 q1100 q170 q1101 ⟨rfl, rfl⟩ hdX3_bits ⟨Nat.le_of_ble_eq_true rfl, Nat.le_of_ble_eq_true rfl⟩ ⟨Nat.zero_le _, Nat.zero_le _⟩ rfl hl.1 rfl (Nat.le_of_ble_eq_true rfl) dX0_thereOn_68) ?_
          refine lv_goto (tgt := 75) hx hb dX0_thereOn_71 (by decide) ?_
          exact bX0_thereOn_p75 C hK hT ih x1 x3 x2 v11 ls h (lv_sub hl [0, 1, 3] rfl)
theorem bX0_thereOn {p : Program} {l : Launch} {e : Env} {s : State} {m : MethodId} {args : Array Value} {below : List Frame} {meth : Method} {c : Code} {D : va_G} {dA : Nat → ClassId} {a : Nat} {k : KP a} {t : CS} {r : Int32} (C : cx p s m args meth c cX0_thereOn RX0 4 (some .int)) (hK : kC D dA a k t.2.2.2 s) (hT : cW D dA a k t s.heap) : ∀ (x1 : Int32) (ls : Array Slot), C_thereOn t x1 = some r → lv_has ls 4 [(0, .ref a), (1, .int x1)] → W p l e rmX0_thereOn s m args below meth c s.heap [] 0 0 (MQ below (rQi r) args s 0 0 nof) (F0 m 0 ls []) := by
  obtain ⟨hx, hb, hr, hml, hown, hts, hlocks⟩ := id C
  intro x1 ls h hl
  unfold C_thereOn at h
  refine lv_iconst (v := 0) hx hb dX0_thereOn_0 (by decide) ?_
  refine lv_istore_n (lv' := [(2, .int (0 : Int32)), (0, .ref a), (1, .int x1)]) hx hb dX0_thereOn_1 rfl hl (by decide) rfl (fun ls hl => ?_)
  refine lv_iconst (v := 0) hx hb dX0_thereOn_2 (by decide) ?_
  refine lv_istore_n (lv' := [(3, .int (0 : Int32)), (2, .int (0 : Int32)), (0, .ref a), (1, .int x1)]) hx hb dX0_thereOn_3 rfl hl (by decide) rfl (fun ls hl => ?_)
  exact bX0_thereOn_p4 C hK hT fu x1 (0 : Int32) (0 : Int32) ls h (lv_sub hl [2, 3, 1, 0] rfl)
theorem mX0_thereOn {l : Launch} {D : va_G} {dA : Nat → ClassId} {a : Nat} {k : KP a} {t : CS} {x1 : Int32} {r : Int32} (h : C_thereOn t x1 = some r) : Met l yX0_thereOn (ws_ yX0_thereOn cX0_thereOn 4 (some .int)) rmX0_thereOn (cPc D dA a k t [.ref a, .int x1]) (rQi r) 0 0 nof := en_C (by decide +kernel) rfl (Nat.le_of_ble_eq_true rfl) (fun p e s m below meth c ls C hK hT hl => bX0_thereOn C hK hT x1 ls h hl)
set_option maxRecDepth 20000 in
abbrev rmX0_goes : Room := { frames := 2, cells := 0, slots := 0, locals := 43 }
theorem hdX0_goes : yX0_goes.cls = RX0 ∧ yX0_goes.cls ≠ "java/lang/invoke/MethodHandle" ∧ yX0_goes.cls ≠ "java/lang/invoke/VarHandle" ∧ (parseMethodDescriptor yX0_goes.desc).map (fun d => d.parameters.length) = some 3 := by decide +kernel
theorem bX0_goes_p138 {p : Program} {l : Launch} {e : Env} {s : State} {m : MethodId} {args : Array Value} {below : List Frame} {meth : Method} {c : Code} {D : va_G} {dA : Nat → ClassId} {a : Nat} {k : KP a} {t : CS} {r : Int32} (C : cx p s m args meth c cX0_goes RX0 9 (some .boolean)) (hK : kC D dA a k t.2.2.2 s) (hT : cW D dA a k t s.heap) {k3 : Int32 → Int32 → Int32 → Int32 → Option Int32} (hk3 : ∀ (x1 : Int32) (x2 : Int32) (x3 : Int32) (x4 : Int32) (ls : Array Slot), k3 x1 x2 x3 x4 = some r → lv_has ls 9 [(0, .ref a), (1, .int x1), (2, .int x2), (3, .int x3), (4, .int x4)] → W p l e rmX0_goes s m args below meth c s.heap [] 0 0 (MQ below (rQi r) args s 0 0 nof) (F0 m 3 ls [])) : ∀ (x1 : Int32) (x2 : Int32) (x3 : Int32) (x4 : Int32) (ls : Array Slot), C_goes_p138 k3 t x1 x2 x3 x4 = some r → lv_has ls 9 [(0, .ref a), (1, .int x1), (2, .int x2), (3, .int x3), (4, .int x4)] → W p l e rmX0_goes s m args below meth c s.heap [] 0 0 (MQ below (rQi r) args s 0 0 nof) (F0 m 138 ls []) := by
  obtain ⟨hx, hb, hr, hml, hown, hts, hlocks⟩ := id C
  intro x1 x2 x3 x4 ls h hl
  unfold C_goes_p138 at h
  obtain ⟨v1, ev1⟩ : ∃ y : Int32, y = x4 + (1 : Int32) := ⟨_, rfl⟩
  replace h := lt1_sub ev1 h
  refine lv_iinc (v := v1) (lv' := [(4, .int v1), (0, .ref a), (1, .int x1), (2, .int x2), (3, .int x3)]) hx hb dX0_goes_138 hl (k := 4) rfl (by rw [ev1]; rfl) (by decide) rfl (fun ls hl => ?_)
  refine lv_goto (tgt := 3) hx hb dX0_goes_141 (by decide) ?_
  exact hk3 x1 x2 x3 v1 ls h (lv_sub hl [1, 2, 3, 4, 0] rfl)
theorem bX0_goes_p3 {p : Program} {l : Launch} {e : Env} {s : State} {m : MethodId} {args : Array Value} {below : List Frame} {meth : Method} {c : Code} {D : va_G} {dA : Nat → ClassId} {a : Nat} {k : KP a} {t : CS} {r : Int32} (C : cx p s m args meth c cX0_goes RX0 9 (some .boolean)) (hK : kC D dA a k t.2.2.2 s) (hT : cW D dA a k t s.heap) : ∀ (n : Nat), ∀ (x1 : Int32) (x2 : Int32) (x3 : Int32) (x4 : Int32) (ls : Array Slot), C_goes_p3 t n x1 x2 x3 x4 = some r → lv_has ls 9 [(0, .ref a), (1, .int x1), (2, .int x2), (3, .int x3), (4, .int x4)] → W p l e rmX0_goes s m args below meth c s.heap [] 0 0 (MQ below (rQi r) args s 0 0 nof) (F0 m 3 ls []) := by
  obtain ⟨hx, hb, hr, hml, hown, hts, hlocks⟩ := id C
  intro n
  induction n with
  | zero =>
    intro x1 x2 x3 x4 ls h hl
    have h : none = some _ := h
    cases h
  | succ n ih =>
    intro x1 x2 x3 x4 ls h hl
    rw [C_goes_p3] at h
    refine lv_iload hx hb dX0_goes_3 (lv_at hl 4 rfl) ?_
    refine lv_aload_n hx hb dX0_goes_5 rfl (lv_at hl 0 rfl) ?_
    refine cg0 C hK hT dX0_goes_6 ?_
    refine c_getSN C hK hT (Or.inl rfl) 0 (by decide) (nf222 hK.2.1) rfl (v := .ref (a + 2)) rfl dX0_goes_9 ?_
    refine lv_bipush (v := 6) hx hb dX0_goes_12 (by decide) ?_
    obtain ⟨hi1, h⟩ := ck_some h
    refine c_ild C hK hT 2 7 (by decide) (fun _ _ => rfl) hi1 dX0_goes_14 ?_
    refine lv_icmp_ge (tgt := 144) hx hb dX0_goes_15 (by decide) (fun c => ?_) (fun c => ?_)
    · replace h := if_t c h
      refine lv_iconst (v := 1) hx hb dX0_goes_144 (by decide) ?_
      exact e_rz C (Or.inr rfl) h dX0_goes_145
    · replace h := if_f c h
      refine lv_aload_n hx hb dX0_goes_18 rfl (lv_at hl 0 rfl) ?_
      refine cg0 C hK hT dX0_goes_19 ?_
      refine c_getSN C hK hT (Or.inl rfl) 4 (by decide) (nf230 hK.2.1) rfl (v := .ref (a + 6)) rfl dX0_goes_22 ?_
      refine lv_aload_n hx hb dX0_goes_25 rfl (lv_at hl 0 rfl) ?_
      refine cg0 C hK hT dX0_goes_26 ?_
      refine c_getSN C hK hT (Or.inl rfl) 6 (by decide) (nf234 hK.2.1) rfl (v := .ref (a + 8)) rfl dX0_goes_29 ?_
      refine lv_iload hx hb dX0_goes_32 (lv_at hl 4 rfl) ?_
      obtain ⟨hi2, h⟩ := ck_some h
      refine c_ald C hK hT 8 12 6 (by decide) rfl (g := fun j => some (a + (9 + j))) (by rfl) (by rfl) hi2 rfl dX0_goes_34 ?_
      refine lv_iconst (v := 0) hx hb dX0_goes_35 (by decide) ?_
      obtain ⟨hi3, h⟩ := ck_some h
      refine c_ild C hK hT (9 + x4.toNatClampNeg) 3 (fam_k9 hi2) (fam_a9 hi2) hi3 dX0_goes_36 ?_
      obtain ⟨hi4, h⟩ := ck_some h
      obtain ⟨r5, hr5, h⟩ := bd1_some h
      refine c_ald C hK hT 6 24 4 (by decide) rfl (g := t.2.1 6) (by rfl) (by rfl) hi4 hr5 dX0_goes_37 ?_
      obtain ⟨hc6, h⟩ := ckC_some h
      obtain ⟨v7, hv7, h⟩ := bd1_some h
      refine r_int (run_c (As := []) (rest := []) C hK hT (fun _ _ => rfl) (rv_D (ci := 3) rfl hK hT hc6) (mX3_bits hv7) q1098 q1099 q1100 q170 q1101 ⟨rfl, rfl⟩ hdX3_bits ⟨Nat.le_of_ble_eq_true rfl, Nat.le_of_ble_eq_true rfl⟩ ⟨Nat.zero_le _, Nat.zero_le _⟩ rfl hl.1 rfl (Nat.le_of_ble_eq_true rfl) dX0_goes_38) ?_
      refine lv_istore (lv' := [(5, .int v7), (0, .ref a), (1, .int x1), (2, .int x2), (3, .int x3), (4, .int x4)]) hx hb dX0_goes_41 hl (by decide) rfl (fun ls hl => ?_)
      refine lv_aload_n hx hb dX0_goes_43 rfl (lv_at hl 1 rfl) ?_
      refine cg0 C hK hT dX0_goes_44 ?_
      refine c_getSN C hK hT (Or.inl rfl) 6 (by decide) (nf234 hK.2.1) rfl (v := .ref (a + 8)) rfl dX0_goes_47 ?_
      refine lv_iload hx hb dX0_goes_50 (lv_at hl 5 rfl) ?_
      obtain ⟨hi8, h⟩ := ck_some h
      refine c_ald C hK hT 8 12 6 (by decide) rfl (g := fun j => some (a + (9 + j))) (by rfl) (by rfl) hi8 rfl dX0_goes_52 ?_
      refine lv_iconst (v := 1) hx hb dX0_goes_53 (by decide) ?_
      obtain ⟨hi9, h⟩ := ck_some h
      refine c_ild C hK hT (9 + x4.toNatClampNeg) 3 (fam_k9 hi8) (fam_a9 hi8) hi9 dX0_goes_54 ?_
      refine lv_topi (fun v10 ev10 => ?_)
      replace h := lt1_sub ev10 h
      refine lv_istore (lv' := [(6, .int v10), (5, .int v7), (0, .ref a), (1, .int x1), (2, .int x2), (3, .int x3), (4, .int x4)]) hx hb dX0_goes_55 hl (by decide) rfl (fun ls hl => ?_)
      refine lv_iload hx hb dX0_goes_57 (lv_at hl 0 rfl) ?_
      refine lv_iload_n hx hb dX0_goes_59 rfl (lv_at hl 4 rfl) ?_
      refine lv_iload_n hx hb dX0_goes_60 rfl (lv_at hl 5 rfl) ?_
      obtain ⟨v11, hv11, h⟩ := bd1_some h
      refine r_int (run_s (As := [.int v10, .int x2, .int x3]) (rest := []) C (mX0_in hv11) q341 q342 q158 q343 ⟨rfl, rfl⟩ hdX0_in ⟨Nat.le_of_ble_eq_true rfl, Nat.le_of_ble_eq_true rfl⟩ ⟨Nat.zero_le _, Nat.zero_le _⟩ rfl hl.1 rfl (Nat.le_of_ble_eq_true rfl) dX0_goes_61) ?_
      refine lv_istore (lv' := [(7, .int v11), (6, .int v10), (5, .int v7), (0, .ref a), (1, .int x1), (2, .int x2), (3, .int x3), (4, .int x4)]) hx hb dX0_goes_64 hl (by decide) rfl (fun ls hl => ?_)
      refine lv_aload_n hx hb dX0_goes_66 rfl (lv_at hl 3 rfl) ?_
      refine cg0 C hK hT dX0_goes_67 ?_
      refine c_getSN C hK hT (Or.inl rfl) 6 (by decide) (nf234 hK.2.1) rfl (v := .ref (a + 8)) rfl dX0_goes_70 ?_
      refine lv_iload hx hb dX0_goes_73 (lv_at hl 7 rfl) ?_
      obtain ⟨hi12, h⟩ := ck_some h
      refine c_ald C hK hT 8 12 6 (by decide) rfl (g := fun j => some (a + (9 + j))) (by rfl) (by rfl) hi12 rfl dX0_goes_75 ?_
      refine lv_iconst (v := 2) hx hb dX0_goes_76 (by decide) ?_
      obtain ⟨hi13, h⟩ := ck_some h
      refine c_ild C hK hT (9 + x4.toNatClampNeg) 3 (fam_k9 hi12) (fam_a9 hi12) hi13 dX0_goes_77 ?_
      refine lv_iconst (v := 1) hx hb dX0_goes_78 (by decide) ?_
      refine lv_icmp_ne (tgt := 98) hx hb dX0_goes_79 (by decide) (fun c => ?_) (fun c => ?_)
      · replace h := if_f c h
        refine lv_iload hx hb dX0_goes_98 (lv_at hl 2 rfl) ?_
        refine lv_aload_n hx hb dX0_goes_100 rfl (lv_at hl 3 rfl) ?_
        refine lv_iload hx hb dX0_goes_101 (lv_at hl 1 rfl) ?_
        obtain ⟨v14, hv14, h⟩ := bd1_some h
        refine r_int (run_c (As := [.int v10]) (rest := [.int v7]) C hK hT (fun _ _ => rfl) (rv_X hK hT) (mX0_thereOn hv14) q1487 q1489 qs64 q158 q1490 ⟨rfl, rfl⟩ hdX0_thereOn ⟨Nat.le_of_ble_eq_true rfl, Nat.le_of_ble_eq_true rfl⟩ ⟨Nat.zero_le _, Nat.zero_le _⟩ rfl hl.1 rfl (Nat.le_of_ble_eq_true rfl) dX0_goes_103) ?_
        refine lv_iconst (v := -1) hx hb dX0_goes_106 (by decide) ?_
        refine lv_ixor hx hb dX0_goes_107 ?_
        refine lv_iand hx hb dX0_goes_108 ?_
        refine lv_iconst (v := 1) hx hb dX0_goes_109 (by decide) ?_
        refine lv_iload_n hx hb dX0_goes_110 rfl (lv_at hl 4 rfl) ?_
        refine lv_ishl hx hb dX0_goes_111 ?_
        refine lv_iconst (v := -1) hx hb dX0_goes_112 (by decide) ?_
        refine lv_ixor hx hb dX0_goes_113 ?_
        refine lv_iand hx hb dX0_goes_114 ?_
        refine lv_topi (fun v15 ev15 => ?_)
        replace h := lt1_sub ev15 h
        refine lv_istore (lv' := [(8, .int v15), (7, .int v11), (6, .int v10), (5, .int v7), (0, .ref a), (1, .int x1), (2, .int x2), (3, .int x3), (4, .int x4)]) hx hb dX0_goes_115 hl (by decide) rfl (fun ls hl => ?_)
        refine lv_iload hx hb dX0_goes_117 (lv_at hl 0 rfl) ?_
        refine lv_if_ne (tgt := 138) hx hb dX0_goes_119 (by decide) (fun c => ?_) (fun c => ?_)
        · replace h := if_f c h
          exact bX0_goes_p138 C hK hT ih x1 x2 x3 x4 ls h (lv_sub hl [4, 5, 6, 7, 8] rfl)
        · replace h := if_t c h
          refine lv_iload hx hb dX0_goes_122 (lv_at hl 1 rfl) ?_
          refine lv_if_eq (tgt := 136) hx hb dX0_goes_124 (by decide) (fun c => ?_) (fun c => ?_)
          · replace h := if_t c h
            refine lv_iconst (v := 0) hx hb dX0_goes_136 (by decide) ?_
            exact e_rz C (Or.inl rfl) h dX0_goes_137
          · replace h := if_f c h
            refine lv_iload hx hb dX0_goes_127 (lv_at hl 3 rfl) ?_
            refine lv_iload_n hx hb dX0_goes_129 rfl (lv_at hl 5 rfl) ?_
            obtain ⟨v16, hv16, h⟩ := bd1_some h
            refine r_int (run_s (As := [.int v7, .int x1]) (rest := []) C (mX0_has hv16) q344 q345 q158 q346 ⟨rfl, rfl⟩ hdX0_has ⟨Nat.le_of_ble_eq_true rfl, Nat.le_of_ble_eq_true rfl⟩ ⟨Nat.zero_le _, Nat.zero_le _⟩ rfl hl.1 rfl (Nat.le_of_ble_eq_true rfl) dX0_goes_130) ?_
            refine lv_if_ne (tgt := 138) hx hb dX0_goes_133 (by decide) (fun c => ?_) (fun c => ?_)
            · replace h := if_f c h
              exact bX0_goes_p138 C hK hT ih x1 x2 x3 x4 ls h (lv_sub hl [4, 5, 6, 7, 8] rfl)
            · replace h := if_t c h
              refine lv_iconst (v := 0) hx hb dX0_goes_136 (by decide) ?_
              exact e_rz C (Or.inl rfl) h dX0_goes_137
      · replace h := if_t c h
        refine lv_iload hx hb dX0_goes_82 (lv_at hl 0 rfl) ?_
        refine lv_if_eq (tgt := 138) hx hb dX0_goes_84 (by decide) (fun c => ?_) (fun c => ?_)
        · replace h := if_t c h
          exact bX0_goes_p138 C hK hT ih x1 x2 x3 x4 ls h (lv_sub hl [3, 4, 5, 6, 7] rfl)
        · replace h := if_f c h
          refine lv_iload hx hb dX0_goes_87 (lv_at hl 2 rfl) ?_
          refine lv_iload_n hx hb dX0_goes_89 rfl (lv_at hl 4 rfl) ?_
          obtain ⟨v17, hv17, h⟩ := bd1_some h
          refine r_int (run_s (As := [.int v7, .int x1]) (rest := []) C (mX0_has hv17) q344 q345 q158 q346 ⟨rfl, rfl⟩ hdX0_has ⟨Nat.le_of_ble_eq_true rfl, Nat.le_of_ble_eq_true rfl⟩ ⟨Nat.zero_le _, Nat.zero_le _⟩ rfl hl.1 rfl (Nat.le_of_ble_eq_true rfl) dX0_goes_90) ?_
          refine lv_if_eq (tgt := 138) hx hb dX0_goes_93 (by decide) (fun c => ?_) (fun c => ?_)
          · replace h := if_t c h
            exact bX0_goes_p138 C hK hT ih x1 x2 x3 x4 ls h (lv_sub hl [3, 4, 5, 6, 7] rfl)
          · replace h := if_f c h
            refine lv_iconst (v := 0) hx hb dX0_goes_96 (by decide) ?_
            exact e_rz C (Or.inl rfl) h dX0_goes_97
theorem bX0_goes {p : Program} {l : Launch} {e : Env} {s : State} {m : MethodId} {args : Array Value} {below : List Frame} {meth : Method} {c : Code} {D : va_G} {dA : Nat → ClassId} {a : Nat} {k : KP a} {t : CS} {r : Int32} (C : cx p s m args meth c cX0_goes RX0 9 (some .boolean)) (hK : kC D dA a k t.2.2.2 s) (hT : cW D dA a k t s.heap) : ∀ (x1 : Int32) (x2 : Int32) (x3 : Int32) (ls : Array Slot), C_goes t x1 x2 x3 = some r → lv_has ls 9 [(0, .ref a), (1, .int x1), (2, .int x2), (3, .int x3)] → W p l e rmX0_goes s m args below meth c s.heap [] 0 0 (MQ below (rQi r) args s 0 0 nof) (F0 m 0 ls []) := by
  obtain ⟨hx, hb, hr, hml, hown, hts, hlocks⟩ := id C
  intro x1 x2 x3 ls h hl
  unfold C_goes at h
  refine lv_iconst (v := 0) hx hb dX0_goes_0 (by decide) ?_
  refine lv_istore (lv' := [(4, .int (0 : Int32)), (0, .ref a), (1, .int x1), (2, .int x2), (3, .int x3)]) hx hb dX0_goes_1 hl (by decide) rfl (fun ls hl => ?_)
  exact bX0_goes_p3 C hK hT fu x1 x2 x3 (0 : Int32) ls h (lv_sub hl [1, 2, 3, 4, 0] rfl)
theorem mX0_goes {l : Launch} {D : va_G} {dA : Nat → ClassId} {a : Nat} {k : KP a} {t : CS} {x1 : Int32} {x2 : Int32} {x3 : Int32} {r : Int32} (h : C_goes t x1 x2 x3 = some r) : Met l yX0_goes (ws_ yX0_goes cX0_goes 9 (some .boolean)) rmX0_goes (cPc D dA a k t [.ref a, .int x1, .int x2, .int x3]) (rQi r) 0 0 nof := en_C (by decide +kernel) rfl (Nat.le_of_ble_eq_true rfl) (fun p e s m below meth c ls C hK hT hl => bX0_goes C hK hT x1 x2 x3 ls h hl)
set_option maxRecDepth 20000 in
abbrev rmX0_spells : Room := { frames := 3, cells := 0, slots := 0, locals := 71 }
theorem hdX0_spells : yX0_spells.cls = RX0 ∧ yX0_spells.cls ≠ "java/lang/invoke/MethodHandle" ∧ yX0_spells.cls ≠ "java/lang/invoke/VarHandle" ∧ (parseMethodDescriptor yX0_spells.desc).map (fun d => d.parameters.length) = some 2 := by decide +kernel
theorem bX0_spells_p101 {p : Program} {l : Launch} {e : Env} {s : State} {m : MethodId} {args : Array Value} {below : List Frame} {meth : Method} {c : Code} {D : va_G} {dA : Nat → ClassId} {a : Nat} {k : KP a} {t : CS} {r : Int32} (C : cx p s m args meth c cX0_spells RX0 7 (some .int)) (hK : kC D dA a k t.2.2.2 s) (hT : cW D dA a k t s.heap) {k20 : Int32 → Int32 → Int32 → Int32 → Option Int32} (hk20 : ∀ (x1 : Int32) (x2 : Int32) (x3 : Int32) (x4 : Int32) (ls : Array Slot), k20 x1 x2 x3 x4 = some r → lv_has ls 7 [(0, .ref a), (1, .int x1), (2, .int x2), (3, .int x3), (4, .int x4)] → W p l e rmX0_spells s m args below meth c s.heap [] 0 0 (MQ below (rQi r) args s 0 0 nof) (F0 m 20 ls [])) : ∀ (x1 : Int32) (x2 : Int32) (x3 : Int32) (x4 : Int32) (ls : Array Slot), C_spells_p101 k20 t x1 x2 x3 x4 = some r → lv_has ls 7 [(0, .ref a), (1, .int x1), (2, .int x2), (3, .int x3), (4, .int x4)] → W p l e rmX0_spells s m args below meth c s.heap [] 0 0 (MQ below (rQi r) args s 0 0 nof) (F0 m 101 ls []) := by
  obtain ⟨hx, hb, hr, hml, hown, hts, hlocks⟩ := id C
  intro x1 x2 x3 x4 ls h hl
  unfold C_spells_p101 at h
  obtain ⟨v1, ev1⟩ : ∃ y : Int32, y = x4 + (1 : Int32) := ⟨_, rfl⟩
  replace h := lt1_sub ev1 h
  refine lv_iinc (v := v1) (lv' := [(4, .int v1), (0, .ref a), (1, .int x1), (2, .int x2), (3, .int x3)]) hx hb dX0_spells_101 hl (k := 4) rfl (by rw [ev1]; rfl) (by decide) rfl (fun ls hl => ?_)
  refine lv_goto (tgt := 20) hx hb dX0_spells_104 (by decide) ?_
  exact hk20 x1 x2 x3 v1 ls h (lv_sub hl [1, 2, 3, 4, 0] rfl)
theorem bX0_spells_p75 {p : Program} {l : Launch} {e : Env} {s : State} {m : MethodId} {args : Array Value} {below : List Frame} {meth : Method} {c : Code} {D : va_G} {dA : Nat → ClassId} {a : Nat} {k : KP a} {t : CS} {r : Int32} (C : cx p s m args meth c cX0_spells RX0 7 (some .int)) (hK : kC D dA a k t.2.2.2 s) (hT : cW D dA a k t s.heap) {k20 : Int32 → Int32 → Int32 → Int32 → Option Int32} (hk20 : ∀ (x1 : Int32) (x2 : Int32) (x3 : Int32) (x4 : Int32) (ls : Array Slot), k20 x1 x2 x3 x4 = some r → lv_has ls 7 [(0, .ref a), (1, .int x1), (2, .int x2), (3, .int x3), (4, .int x4)] → W p l e rmX0_spells s m args below meth c s.heap [] 0 0 (MQ below (rQi r) args s 0 0 nof) (F0 m 20 ls [])) : ∀ (x1 : Int32) (x2 : Int32) (x3 : Int32) (x4 : Int32) (x5 : Int32) (x6 : Int32) (ls : Array Slot), C_spells_p75 k20 t x1 x2 x3 x4 x5 x6 = some r → lv_has ls 7 [(0, .ref a), (1, .int x1), (2, .int x2), (3, .int x3), (4, .int x4), (5, .int x5), (6, .int x6)] → W p l e rmX0_spells s m args below meth c s.heap [] 0 0 (MQ below (rQi r) args s 0 0 nof) (F0 m 75 ls []) := by
  obtain ⟨hx, hb, hr, hml, hown, hts, hlocks⟩ := id C
  intro x1 x2 x3 x4 x5 x6 ls h hl
  unfold C_spells_p75 at h
  refine lv_aload_n hx hb dX0_spells_75 rfl (lv_at hl 0 rfl) ?_
  refine lv_iload_n hx hb dX0_spells_76 rfl (lv_at hl 1 rfl) ?_
  refine lv_iload hx hb dX0_spells_77 (lv_at hl 5 rfl) ?_
  refine lv_iload hx hb dX0_spells_79 (lv_at hl 6 rfl) ?_
  obtain ⟨v1, hv1, h⟩ := bd1_some h
  refine r_int (run_c (As := [.int x1, .int x5, .int x6]) (rest := []) C hK hT (fun _ _ => rfl) (rv_X hK hT) (mX0_goes hv1) q1483 q1485 qs63 q158 q1486 ⟨rfl, rfl⟩ hdX0_goes ⟨Nat.le_of_ble_eq_true rfl, Nat.le_of_ble_eq_true rfl⟩ ⟨Nat.zero_le _, Nat.zero_le _⟩ rfl hl.1 rfl (Nat.le_of_ble_eq_true rfl) dX0_spells_81) ?_
  refine lv_if_ne (tgt := 90) hx hb dX0_spells_84 (by decide) (fun c => ?_) (fun c => ?_)
  · replace h := if_f c h
    refine lv_iload_n hx hb dX0_spells_90 rfl (lv_at hl 3 rfl) ?_
    refine lv_iload_n hx hb dX0_spells_91 rfl (lv_at hl 2 rfl) ?_
    refine lv_icmp_ne (tgt := 98) hx hb dX0_spells_92 (by decide) (fun c => ?_) (fun c => ?_)
    · replace h := if_f c h
      obtain ⟨v2, ev2⟩ : ∃ y : Int32, y = x3 + (1 : Int32) := ⟨_, rfl⟩
      replace h := lt1_sub ev2 h
      refine lv_iinc (v := v2) (lv' := [(3, .int v2), (0, .ref a), (1, .int x1), (2, .int x2), (4, .int x4), (5, .int x5), (6, .int x6)]) hx hb dX0_spells_98 hl (k := 3) rfl (by rw [ev2]; rfl) (by decide) rfl (fun ls hl => ?_)
      exact bX0_spells_p101 C hK hT hk20 x1 x2 v2 x4 ls h (lv_sub hl [1, 2, 3, 0, 4] rfl)
    · replace h := if_t c h
      refine lv_iload hx hb dX0_spells_95 (lv_at hl 4 rfl) ?_
      exact e_ri C h dX0_spells_97
  · replace h := if_t c h
    refine lv_goto (tgt := 101) hx hb dX0_spells_87 (by decide) ?_
    exact bX0_spells_p101 C hK hT hk20 x1 x2 x3 x4 ls h (lv_sub hl [0, 1, 2, 3, 4] rfl)
theorem bX0_spells_p60 {p : Program} {l : Launch} {e : Env} {s : State} {m : MethodId} {args : Array Value} {below : List Frame} {meth : Method} {c : Code} {D : va_G} {dA : Nat → ClassId} {a : Nat} {k : KP a} {t : CS} {r : Int32} (C : cx p s m args meth c cX0_spells RX0 7 (some .int)) (hK : kC D dA a k t.2.2.2 s) (hT : cW D dA a k t s.heap) {k20 : Int32 → Int32 → Int32 → Int32 → Option Int32} (hk20 : ∀ (x1 : Int32) (x2 : Int32) (x3 : Int32) (x4 : Int32) (ls : Array Slot), k20 x1 x2 x3 x4 = some r → lv_has ls 7 [(0, .ref a), (1, .int x1), (2, .int x2), (3, .int x3), (4, .int x4)] → W p l e rmX0_spells s m args below meth c s.heap [] 0 0 (MQ below (rQi r) args s 0 0 nof) (F0 m 20 ls [])) : ∀ (x1 : Int32) (x2 : Int32) (x3 : Int32) (x4 : Int32) (x5 : Int32) (y0 : Int32) (ls : Array Slot), C_spells_p60 k20 t x1 x2 x3 x4 x5 y0 = some r → lv_has ls 7 [(0, .ref a), (1, .int x1), (2, .int x2), (3, .int x3), (4, .int x4), (5, .int x5)] → W p l e rmX0_spells s m args below meth c s.heap [] 0 0 (MQ below (rQi r) args s 0 0 nof) (F0 m 60 ls [.int y0]) := by
  obtain ⟨hx, hb, hr, hml, hown, hts, hlocks⟩ := id C
  intro x1 x2 x3 x4 x5 y0 ls h hl
  unfold C_spells_p60 at h
  refine lv_istore (lv' := [(6, .int y0), (0, .ref a), (1, .int x1), (2, .int x2), (3, .int x3), (4, .int x4), (5, .int x5)]) hx hb dX0_spells_60 hl (by decide) rfl (fun ls hl => ?_)
  refine lv_iload hx hb dX0_spells_62 (lv_at hl 5 rfl) ?_
  refine lv_iconst (v := -1) hx hb dX0_spells_64 (by decide) ?_
  refine lv_icmp_eq (tgt := 75) hx hb dX0_spells_65 (by decide) (fun c => ?_) (fun c => ?_)
  · replace h := if_t c h
    exact bX0_spells_p75 C hK hT hk20 x1 x2 x3 x4 x5 y0 ls h (lv_sub hl [1, 2, 3, 4, 5, 6, 0] rfl)
  · replace h := if_f c h
    refine lv_iload hx hb dX0_spells_68 (lv_at hl 6 rfl) ?_
    refine lv_iload hx hb dX0_spells_70 (lv_at hl 0 rfl) ?_
    refine lv_icmp_gt (tgt := 101) hx hb dX0_spells_72 (by decide) (fun c => ?_) (fun c => ?_)
    · replace h := if_t c h
      exact bX0_spells_p101 C hK hT hk20 x1 x2 x3 x4 ls h (lv_sub hl [1, 2, 3, 4, 5] rfl)
    · replace h := if_f c h
      exact bX0_spells_p75 C hK hT hk20 x1 x2 x3 x4 x5 y0 ls h (lv_sub hl [1, 2, 3, 4, 5, 6, 0] rfl)
theorem bX0_spells_p43 {p : Program} {l : Launch} {e : Env} {s : State} {m : MethodId} {args : Array Value} {below : List Frame} {meth : Method} {c : Code} {D : va_G} {dA : Nat → ClassId} {a : Nat} {k : KP a} {t : CS} {r : Int32} (C : cx p s m args meth c cX0_spells RX0 7 (some .int)) (hK : kC D dA a k t.2.2.2 s) (hT : cW D dA a k t s.heap) {k20 : Int32 → Int32 → Int32 → Int32 → Option Int32} (hk20 : ∀ (x1 : Int32) (x2 : Int32) (x3 : Int32) (x4 : Int32) (ls : Array Slot), k20 x1 x2 x3 x4 = some r → lv_has ls 7 [(0, .ref a), (1, .int x1), (2, .int x2), (3, .int x3), (4, .int x4)] → W p l e rmX0_spells s m args below meth c s.heap [] 0 0 (MQ below (rQi r) args s 0 0 nof) (F0 m 20 ls [])) : ∀ (x1 : Int32) (x2 : Int32) (x3 : Int32) (x4 : Int32) (y0 : Int32) (ls : Array Slot), C_spells_p43 k20 t x1 x2 x3 x4 y0 = some r → lv_has ls 7 [(0, .ref a), (1, .int x1), (2, .int x2), (3, .int x3), (4, .int x4)] → W p l e rmX0_spells s m args below meth c s.heap [] 0 0 (MQ below (rQi r) args s 0 0 nof) (F0 m 43 ls [.int y0]) := by
  obtain ⟨hx, hb, hr, hml, hown, hts, hlocks⟩ := id C
  intro x1 x2 x3 x4 y0 ls h hl
  unfold C_spells_p43 at h
  refine lv_istore (lv' := [(5, .int y0), (0, .ref a), (1, .int x1), (2, .int x2), (3, .int x3), (4, .int x4)]) hx hb dX0_spells_43 hl (by decide) rfl (fun ls hl => ?_)
  refine lv_iload hx hb dX0_spells_45 (lv_at hl 5 rfl) ?_
  refine lv_iconst (v := -1) hx hb dX0_spells_47 (by decide) ?_
  refine lv_icmp_ne (tgt := 55) hx hb dX0_spells_48 (by decide) (fun c => ?_) (fun c => ?_)
  · replace h := if_f c h
    refine lv_iload hx hb dX0_spells_55 (lv_at hl 5 rfl) ?_
    refine lv_bipush (v := 31) hx hb dX0_spells_57 (by decide) ?_
    refine lv_irem hx hb dX0_spells_59 (by decide) ?_
    exact bX0_spells_p60 C hK hT hk20 x1 x2 x3 x4 y0 (x4 - x4 / (31 : Int32) * (31 : Int32)) ls h (lv_sub hl [1, 2, 3, 4, 5, 0] rfl)
  · replace h := if_t c h
    refine lv_iconst (v := 0) hx hb dX0_spells_51 (by decide) ?_
    refine lv_goto (tgt := 60) hx hb dX0_spells_52 (by decide) ?_
    exact bX0_spells_p60 C hK hT hk20 x1 x2 x3 x4 y0 (0 : Int32) ls h (lv_sub hl [1, 2, 3, 4, 5, 0] rfl)
theorem bX0_spells_p20 {p : Program} {l : Launch} {e : Env} {s : State} {m : MethodId} {args : Array Value} {below : List Frame} {meth : Method} {c : Code} {D : va_G} {dA : Nat → ClassId} {a : Nat} {k : KP a} {t : CS} {r : Int32} (C : cx p s m args meth c cX0_spells RX0 7 (some .int)) (hK : kC D dA a k t.2.2.2 s) (hT : cW D dA a k t s.heap) : ∀ (n : Nat), ∀ (x1 : Int32) (x2 : Int32) (x3 : Int32) (x4 : Int32) (ls : Array Slot), C_spells_p20 t n x1 x2 x3 x4 = some r → lv_has ls 7 [(0, .ref a), (1, .int x1), (2, .int x2), (3, .int x3), (4, .int x4)] → W p l e rmX0_spells s m args below meth c s.heap [] 0 0 (MQ below (rQi r) args s 0 0 nof) (F0 m 20 ls []) := by
  obtain ⟨hx, hb, hr, hml, hown, hts, hlocks⟩ := id C
  intro n
  induction n with
  | zero =>
    intro x1 x2 x3 x4 ls h hl
    have h : none = some _ := h
    cases h
  | succ n ih =>
    intro x1 x2 x3 x4 ls h hl
    rw [C_spells_p20] at h
    refine lv_iload hx hb dX0_spells_20 (lv_at hl 4 rfl) ?_
    refine lv_sipush (v := 961) hx hb dX0_spells_22 (by decide) ?_
    refine lv_icmp_ge (tgt := 107) hx hb dX0_spells_25 (by decide) (fun c => ?_) (fun c => ?_)
    · replace h := if_t c h
      refine lv_iload_n hx hb dX0_spells_107 rfl (lv_at hl 2 rfl) ?_
      refine lv_iconst (v := -1) hx hb dX0_spells_108 (by decide) ?_
      refine lv_icmp_ne (tgt := 116) hx hb dX0_spells_109 (by decide) (fun c => ?_) (fun c => ?_)
      · replace h := if_f c h
        refine lv_bipush (v := -2) hx hb dX0_spells_116 (by decide) ?_
        exact e_ri C h dX0_spells_118
      · replace h := if_t c h
        refine lv_iload_n hx hb dX0_spells_112 rfl (lv_at hl 3 rfl) ?_
        refine lv_goto (tgt := 118) hx hb dX0_spells_113 (by decide) ?_
        exact e_ri C h dX0_spells_118
    · replace h := if_f c h
      refine lv_iload hx hb dX0_spells_28 (lv_at hl 4 rfl) ?_
      refine lv_iconst (v := -1) hx hb dX0_spells_30 (by decide) ?_
      refine lv_icmp_ne (tgt := 38) hx hb dX0_spells_31 (by decide) (fun c => ?_) (fun c => ?_)
      · replace h := if_f c h
        refine lv_iload hx hb dX0_spells_38 (lv_at hl 4 rfl) ?_
        refine lv_bipush (v := 31) hx hb dX0_spells_40 (by decide) ?_
        refine lv_idiv hx hb dX0_spells_42 (by decide) ?_
        exact bX0_spells_p43 C hK hT ih x1 x2 x3 x4 (x4 / (31 : Int32)) ls h (lv_sub hl [0, 1, 2, 3, 4] rfl)
      · replace h := if_t c h
        refine lv_iconst (v := 1) hx hb dX0_spells_34 (by decide) ?_
        refine lv_goto (tgt := 43) hx hb dX0_spells_35 (by decide) ?_
        exact bX0_spells_p43 C hK hT ih x1 x2 x3 x4 (1 : Int32) ls h (lv_sub hl [0, 1, 2, 3, 4] rfl)
theorem bX0_spells {p : Program} {l : Launch} {e : Env} {s : State} {m : MethodId} {args : Array Value} {below : List Frame} {meth : Method} {c : Code} {D : va_G} {dA : Nat → ClassId} {a : Nat} {k : KP a} {t : CS} {r : Int32} (C : cx p s m args meth c cX0_spells RX0 7 (some .int)) (hK : kC D dA a k t.2.2.2 s) (hT : cW D dA a k t s.heap) : ∀ (x1 : Int32) (x2 : Int32) (ls : Array Slot), C_spells t x1 x2 = some r → lv_has ls 7 [(0, .ref a), (1, .int x1), (2, .int x2)] → W p l e rmX0_spells s m args below meth c s.heap [] 0 0 (MQ below (rQi r) args s 0 0 nof) (F0 m 0 ls []) := by
  obtain ⟨hx, hb, hr, hml, hown, hts, hlocks⟩ := id C
  intro x1 x2 ls h hl
  unfold C_spells at h
  refine lv_iload_n hx hb dX0_spells_0 rfl (lv_at hl 1 rfl) ?_
  obtain ⟨v1, hv1, h⟩ := bd1_some h
  refine r_int (run_s (As := [.int x1]) (rest := []) C (mX0_isLetter hv1) q338 q339 q158 q340 ⟨rfl, rfl⟩ hdX0_isLetter ⟨Nat.le_of_ble_eq_true rfl, Nat.le_of_ble_eq_true rfl⟩ ⟨Nat.zero_le _, Nat.zero_le _⟩ rfl hl.1 rfl (Nat.le_of_ble_eq_true rfl) dX0_spells_1) ?_
  refine lv_if_eq (tgt := 12) hx hb dX0_spells_4 (by decide) (fun c => ?_) (fun c => ?_)
  · replace h := if_t c h
    refine lv_bipush (v := -2) hx hb dX0_spells_12 (by decide) ?_
    exact e_ri C h dX0_spells_14
  · replace h := if_f c h
    refine lv_iload_n hx hb dX0_spells_7 rfl (lv_at hl 2 rfl) ?_
    refine lv_iconst (v := -1) hx hb dX0_spells_8 (by decide) ?_
    refine lv_icmp_ge (tgt := 15) hx hb dX0_spells_9 (by decide) (fun c => ?_) (fun c => ?_)
    · replace h := if_t c h
      refine lv_iconst (v := 0) hx hb dX0_spells_15 (by decide) ?_
      refine lv_istore_n (lv' := [(3, .int (0 : Int32)), (0, .ref a), (1, .int x1), (2, .int x2)]) hx hb dX0_spells_16 rfl hl (by decide) rfl (fun ls hl => ?_)
      refine lv_iconst (v := -1) hx hb dX0_spells_17 (by decide) ?_
      refine lv_istore (lv' := [(4, .int (-1 : Int32)), (3, .int (0 : Int32)), (0, .ref a), (1, .int x1), (2, .int x2)]) hx hb dX0_spells_18 hl (by decide) rfl (fun ls hl => ?_)
      exact bX0_spells_p20 C hK hT fu x1 x2 (0 : Int32) (-1 : Int32) ls h (lv_sub hl [2, 3, 4, 1, 0] rfl)
    · replace h := if_f c h
      refine lv_bipush (v := -2) hx hb dX0_spells_12 (by decide) ?_
      exact e_ri C h dX0_spells_14
theorem mX0_spells {l : Launch} {D : va_G} {dA : Nat → ClassId} {a : Nat} {k : KP a} {t : CS} {x1 : Int32} {x2 : Int32} {r : Int32} (h : C_spells t x1 x2 = some r) : Met l yX0_spells (ws_ yX0_spells cX0_spells 7 (some .int)) rmX0_spells (cPc D dA a k t [.ref a, .int x1, .int x2]) (rQi r) 0 0 nof := en_C (by decide +kernel) rfl (Nat.le_of_ble_eq_true rfl) (fun p e s m below meth c ls C hK hT hl => bX0_spells C hK hT x1 x2 ls h hl)
set_option maxRecDepth 20000 in
abbrev rmX0_brokenBy : Room := { frames := 2, cells := 0, slots := 0, locals := 42 }
theorem hdX0_brokenBy : yX0_brokenBy.cls = RX0 ∧ yX0_brokenBy.cls ≠ "java/lang/invoke/MethodHandle" ∧ yX0_brokenBy.cls ≠ "java/lang/invoke/VarHandle" ∧ (parseMethodDescriptor yX0_brokenBy.desc).map (fun d => d.parameters.length) = some 2 := by decide +kernel
theorem bX0_brokenBy_p49 {p : Program} {l : Launch} {e : Env} {s : State} {m : MethodId} {args : Array Value} {below : List Frame} {meth : Method} {c : Code} {D : va_G} {dA : Nat → ClassId} {a : Nat} {k : KP a} {t : CS} {r : Int32} (C : cx p s m args meth c cX0_brokenBy RX0 5 (some .int)) (hK : kC D dA a k t.2.2.2 s) (hT : cW D dA a k t s.heap) {k5 : Int32 → Int32 → Int32 → Int32 → Option Int32} (hk5 : ∀ (x1 : Int32) (x2 : Int32) (x3 : Int32) (x4 : Int32) (ls : Array Slot), k5 x1 x2 x3 x4 = some r → lv_has ls 5 [(0, .ref a), (1, .int x1), (2, .int x2), (3, .int x3), (4, .int x4)] → W p l e rmX0_brokenBy s m args below meth c s.heap [] 0 0 (MQ below (rQi r) args s 0 0 nof) (F0 m 5 ls [])) : ∀ (x1 : Int32) (x2 : Int32) (x4 : Int32) (y0 : Int32) (y1 : Int32) (ls : Array Slot), C_brokenBy_p49 k5 t x1 x2 x4 y0 y1 = some r → lv_has ls 5 [(0, .ref a), (1, .int x1), (2, .int x2), (4, .int x4)] → W p l e rmX0_brokenBy s m args below meth c s.heap [] 0 0 (MQ below (rQi r) args s 0 0 nof) (F0 m 49 ls [.int y1, .int y0]) := by
  obtain ⟨hx, hb, hr, hml, hown, hts, hlocks⟩ := id C
  intro x1 x2 x4 y0 y1 ls h hl
  unfold C_brokenBy_p49 at h
  refine lv_iadd hx hb dX0_brokenBy_49 ?_
  refine lv_topi (fun v1 ev1 => ?_)
  replace h := lt1_sub ev1 h
  refine lv_istore_n (lv' := [(3, .int v1), (0, .ref a), (1, .int x1), (2, .int x2), (4, .int x4)]) hx hb dX0_brokenBy_50 rfl hl (by decide) rfl (fun ls hl => ?_)
  obtain ⟨v2, ev2⟩ : ∃ y : Int32, y = x4 + (1 : Int32) := ⟨_, rfl⟩
  replace h := lt1_sub ev2 h
  refine lv_iinc (v := v2) (lv' := [(4, .int v2), (3, .int v1), (0, .ref a), (1, .int x1), (2, .int x2)]) hx hb dX0_brokenBy_51 hl (k := 4) rfl (by rw [ev2]; rfl) (by decide) rfl (fun ls hl => ?_)
  refine lv_goto (tgt := 5) hx hb dX0_brokenBy_54 (by decide) ?_
  exact hk5 x1 x2 v1 v2 ls h (lv_sub hl [2, 3, 4, 1, 0] rfl)
theorem bX0_brokenBy_p5 {p : Program} {l : Launch} {e : Env} {s : State} {m : MethodId} {args : Array Value} {below : List Frame} {meth : Method} {c : Code} {D : va_G} {dA : Nat → ClassId} {a : Nat} {k : KP a} {t : CS} {r : Int32} (C : cx p s m args meth c cX0_brokenBy RX0 5 (some .int)) (hK : kC D dA a k t.2.2.2 s) (hT : cW D dA a k t s.heap) : ∀ (n : Nat), ∀ (x1 : Int32) (x2 : Int32) (x3 : Int32) (x4 : Int32) (ls : Array Slot), C_brokenBy_p5 t n x1 x2 x3 x4 = some r → lv_has ls 5 [(0, .ref a), (1, .int x1), (2, .int x2), (3, .int x3), (4, .int x4)] → W p l e rmX0_brokenBy s m args below meth c s.heap [] 0 0 (MQ below (rQi r) args s 0 0 nof) (F0 m 5 ls []) := by
  obtain ⟨hx, hb, hr, hml, hown, hts, hlocks⟩ := id C
  intro n
  induction n with
  | zero =>
    intro x1 x2 x3 x4 ls h hl
    have h : none = some _ := h
    cases h
  | succ n ih =>
    intro x1 x2 x3 x4 ls h hl
    rw [C_brokenBy_p5] at h
    refine lv_iload hx hb dX0_brokenBy_5 (lv_at hl 4 rfl) ?_
    refine lv_aload_n hx hb dX0_brokenBy_7 rfl (lv_at hl 0 rfl) ?_
    refine cg0 C hK hT dX0_brokenBy_8 ?_
    refine c_getSN C hK hT (Or.inl rfl) 1 (by decide) (nf224 hK.2.1) rfl (v := .ref (a + 3)) rfl dX0_brokenBy_11 ?_
    refine lv_iload_n hx hb dX0_brokenBy_14 rfl (lv_at hl 1 rfl) ?_
    refine lv_iconst (v := 2) hx hb dX0_brokenBy_15 (by decide) ?_
    refine lv_iadd hx hb dX0_brokenBy_16 ?_
    obtain ⟨hi1, h⟩ := ck_some h
    refine c_ild C hK hT 3 192 (by decide) (fun _ _ => rfl) hi1 dX0_brokenBy_17 ?_
    refine lv_icmp_ge (tgt := 57) hx hb dX0_brokenBy_18 (by decide) (fun c => ?_) (fun c => ?_)
    · replace h := if_t c h
      refine lv_iload_n hx hb dX0_brokenBy_57 rfl (lv_at hl 3 rfl) ?_
      exact e_ri C h dX0_brokenBy_58
    · replace h := if_f c h
      refine lv_iload_n hx hb dX0_brokenBy_21 rfl (lv_at hl 3 rfl) ?_
      refine lv_aload_n hx hb dX0_brokenBy_22 rfl (lv_at hl 0 rfl) ?_
      refine lv_aload_n hx hb dX0_brokenBy_23 rfl (lv_at hl 0 rfl) ?_
      refine cg0 C hK hT dX0_brokenBy_24 ?_
      refine c_getSN C hK hT (Or.inl rfl) 1 (by decide) (nf224 hK.2.1) rfl (v := .ref (a + 3)) rfl dX0_brokenBy_27 ?_
      refine lv_iload_n hx hb dX0_brokenBy_30 rfl (lv_at hl 1 rfl) ?_
      refine lv_iconst (v := 3) hx hb dX0_brokenBy_31 (by decide) ?_
      refine lv_iadd hx hb dX0_brokenBy_32 ?_
      refine lv_iload hx hb dX0_brokenBy_33 (lv_at hl 4 rfl) ?_
      refine lv_iadd hx hb dX0_brokenBy_35 ?_
      obtain ⟨hi2, h⟩ := ck_some h
      refine c_ild C hK hT 3 192 (by decide) (fun _ _ => rfl) hi2 dX0_brokenBy_36 ?_
      refine lv_iload_n hx hb dX0_brokenBy_37 rfl (lv_at hl 2 rfl) ?_
      obtain ⟨v3, hv3, h⟩ := bd1_some h
      refine r_int (run_c (As := [.int (t.1 3 ((x1 + (3 : Int32)) + x4).toNatClampNeg), .int x2]) (rest := [.int x3]) C hK hT (fun _ _ => rfl) (rv_X hK hT) (mX0_can hv3) q1233 q1235 qs39 q158 q1236 ⟨rfl, rfl⟩ hdX0_can ⟨Nat.le_of_ble_eq_true rfl, Nat.le_of_ble_eq_true rfl⟩ ⟨Nat.zero_le _, Nat.zero_le _⟩ rfl hl.1 rfl (Nat.le_of_ble_eq_true rfl) dX0_brokenBy_38) ?_
      refine lv_if_eq (tgt := 48) hx hb dX0_brokenBy_41 (by decide) (fun c => ?_) (fun c => ?_)
      · replace h := if_t c h
        refine lv_iconst (v := 1) hx hb dX0_brokenBy_48 (by decide) ?_
        exact bX0_brokenBy_p49 C hK hT ih x1 x2 x4 x3 (1 : Int32) ls h (lv_sub hl [0, 1, 2, 4] rfl)
      · replace h := if_f c h
        refine lv_iconst (v := 0) hx hb dX0_brokenBy_44 (by decide) ?_
        refine lv_goto (tgt := 49) hx hb dX0_brokenBy_45 (by decide) ?_
        exact bX0_brokenBy_p49 C hK hT ih x1 x2 x4 x3 (0 : Int32) ls h (lv_sub hl [0, 1, 2, 4] rfl)
theorem bX0_brokenBy {p : Program} {l : Launch} {e : Env} {s : State} {m : MethodId} {args : Array Value} {below : List Frame} {meth : Method} {c : Code} {D : va_G} {dA : Nat → ClassId} {a : Nat} {k : KP a} {t : CS} {r : Int32} (C : cx p s m args meth c cX0_brokenBy RX0 5 (some .int)) (hK : kC D dA a k t.2.2.2 s) (hT : cW D dA a k t s.heap) : ∀ (x1 : Int32) (x2 : Int32) (ls : Array Slot), C_brokenBy t x1 x2 = some r → lv_has ls 5 [(0, .ref a), (1, .int x1), (2, .int x2)] → W p l e rmX0_brokenBy s m args below meth c s.heap [] 0 0 (MQ below (rQi r) args s 0 0 nof) (F0 m 0 ls []) := by
  obtain ⟨hx, hb, hr, hml, hown, hts, hlocks⟩ := id C
  intro x1 x2 ls h hl
  unfold C_brokenBy at h
  refine lv_iconst (v := 0) hx hb dX0_brokenBy_0 (by decide) ?_
  refine lv_istore_n (lv' := [(3, .int (0 : Int32)), (0, .ref a), (1, .int x1), (2, .int x2)]) hx hb dX0_brokenBy_1 rfl hl (by decide) rfl (fun ls hl => ?_)
  refine lv_iconst (v := 0) hx hb dX0_brokenBy_2 (by decide) ?_
  refine lv_istore (lv' := [(4, .int (0 : Int32)), (3, .int (0 : Int32)), (0, .ref a), (1, .int x1), (2, .int x2)]) hx hb dX0_brokenBy_3 hl (by decide) rfl (fun ls hl => ?_)
  exact bX0_brokenBy_p5 C hK hT fu x1 x2 (0 : Int32) (0 : Int32) ls h (lv_sub hl [2, 3, 4, 1, 0] rfl)
theorem mX0_brokenBy {l : Launch} {D : va_G} {dA : Nat → ClassId} {a : Nat} {k : KP a} {t : CS} {x1 : Int32} {x2 : Int32} {r : Int32} (h : C_brokenBy t x1 x2 = some r) : Met l yX0_brokenBy (ws_ yX0_brokenBy cX0_brokenBy 5 (some .int)) rmX0_brokenBy (cPc D dA a k t [.ref a, .int x1, .int x2]) (rQi r) 0 0 nof := en_C (by decide +kernel) rfl (Nat.le_of_ble_eq_true rfl) (fun p e s m below meth c ls C hK hT hl => bX0_brokenBy C hK hT x1 x2 ls h hl)
set_option maxRecDepth 20000 in
abbrev rmX0_binds : Room := { frames := 164, cells := 0, slots := 0, locals := 5960 }
theorem hdX0_binds : yX0_binds.cls = RX0 ∧ yX0_binds.cls ≠ "java/lang/invoke/MethodHandle" ∧ yX0_binds.cls ≠ "java/lang/invoke/VarHandle" ∧ (parseMethodDescriptor yX0_binds.desc).map (fun d => d.parameters.length) = some 3 := by decide +kernel
theorem bX0_binds {p : Program} {l : Launch} {e : Env} {s : State} {m : MethodId} {args : Array Value} {below : List Frame} {meth : Method} {c : Code} {D : va_G} {dA : Nat → ClassId} {a : Nat} {k : KP a} {t0 : CS} {r : Int32} {t9 : CS} (C : cx p s m args meth c cX0_binds RX0 5 (some .boolean)) : ∀ (t : CS) (x1 : Int32) (x2 : Int32) (x3 : Int32) (H : Heap) (locs : List Loc) (hT : cW D dA a k t H) (hS : cS a s.heap H locs t0.2.2.2 0 t) (hK : kC D dA a k t.2.2.2 s) (ls : Array Slot), C_binds t x1 x2 x3 = some (r, t9) → lv_has ls 5 [(0, .ref a), (1, .int x1), (2, .int x2), (3, .int x3)] → W p l e rmX0_binds s m args below meth c H locs 0 0 (MQ below (cQ D dA a k 0 t0 t9 (some (.int r))) args s 0 0 (ca a)) (F0 m 0 ls []) := by
  obtain ⟨hx, hb, hr, hml, hown, hts, hlocks⟩ := id C
  intro t x1 x2 x3 H locs hT hS hK ls h hl
  unfold C_binds at h
  refine lv_aload_n hx hb dX0_binds_0 rfl (lv_at hl 0 rfl) ?_
  refine lv_iload_n hx hb dX0_binds_1 rfl (lv_at hl 1 rfl) ?_
  refine lv_iload_n hx hb dX0_binds_2 rfl (lv_at hl 2 rfl) ?_
  obtain ⟨v1, hv1, h⟩ := bd1_some h
  refine r_int (run_c (As := [.int x1, .int x2]) (rest := []) C hK hT hS.2.1 (rv_X hK hT) (mX0_brokenBy hv1) q1499 q1501 qs66 q158 q1502 ⟨rfl, rfl⟩ hdX0_brokenBy ⟨Nat.le_of_ble_eq_true rfl, Nat.le_of_ble_eq_true rfl⟩ ⟨Nat.zero_le _, Nat.zero_le _⟩ rfl hl.1 rfl (Nat.le_of_ble_eq_true rfl) dX0_binds_3) ?_
  refine lv_istore (lv' := [(4, .int v1), (0, .ref a), (1, .int x1), (2, .int x2), (3, .int x3)]) hx hb dX0_binds_6 hl (by decide) rfl (fun ls hl => ?_)
  refine lv_aload_n hx hb dX0_binds_8 rfl (lv_at hl 1 rfl) ?_
  obtain ⟨v2, hv2, h⟩ := bd1_some h
  refine r_ref1 (run_c (As := []) (rest := []) C hK hT hS.2.1 (rv_X hK hT) (mX0_rules hv2) q1069 q1071 qs29 q158 q1072 ⟨rfl, rfl⟩ hdX0_rules ⟨Nat.le_of_ble_eq_true rfl, Nat.le_of_ble_eq_true rfl⟩ ⟨Nat.zero_le _, Nat.zero_le _⟩ rfl hl.1 rfl (Nat.le_of_ble_eq_true rfl) dX0_binds_9) ?_
  obtain ⟨v3, hv3, h⟩ := bd1_some h
  refine d_getN (ci := 5) in_X5 rfl C hK hT 2 (by decide) (nf583 hK.2.1) rfl (gO_some hv3) dX0_binds_12 ?_
  replace h := on1_some h
  rcases h with ⟨ho, h⟩ | ⟨r4, ho, h⟩
  · subst ho
    refine lv_ifnonnullN hx hb dX0_binds_15 ?_
    refine lv_iload hx hb dX0_binds_18 (lv_at hl 0 rfl) ?_
    refine lv_if_ne (tgt := 27) hx hb dX0_binds_20 (by decide) (fun c => ?_) (fun c => ?_)
    · replace h := if_f c h
      refine lv_iconst (v := 0) hx hb dX0_binds_27 (by decide) ?_
      exact ec_z C hT hS (Or.inl rfl) h dX0_binds_28
    · replace h := if_t c h
      refine lv_iconst (v := 1) hx hb dX0_binds_23 (by decide) ?_
      refine lv_goto (tgt := 28) hx hb dX0_binds_24 (by decide) ?_
      exact ec_z C hT hS (Or.inr rfl) h dX0_binds_28
  · subst ho
    refine lv_ifnonnull (tgt := 29) hx hb dX0_binds_15 (by decide) ?_
    refine lv_aload_n hx hb dX0_binds_29 rfl (lv_at hl 1 rfl) ?_
    refine cg6 C hK hT dX0_binds_30 ?_
    refine lv_iconst (v := 0) hx hb dX0_binds_33 (by decide) ?_
    refine lv_aload_n hx hb dX0_binds_34 rfl (lv_at hl 1 rfl) ?_
    refine cg0 C hK hT dX0_binds_35 ?_
    refine c_getSN C hK hT (Or.inl rfl) 1 (by decide) (nf224 hK.2.1) rfl (v := .ref (a + 3)) rfl dX0_binds_38 ?_
    refine lv_iconst (v := 1) hx hb dX0_binds_41 (by decide) ?_
    obtain ⟨hi5, h⟩ := ck_some h
    refine c_ild C hK hT 3 192 (by decide) (fun _ _ => rfl) hi5 dX0_binds_42 ?_
    obtain ⟨hi6, h⟩ := ck_some h
    refine c_ist C hK hT hS 106 14 (by decide) (fun _ _ => rfl) hi6 dX0_binds_43 (fun t7 H locs et7 hT hS hK => ?_)
    replace h := lt1_sub et7 h
    refine lv_aload_n hx hb dX0_binds_44 rfl (lv_at hl 1 rfl) ?_
    refine cg6 C hK hT dX0_binds_45 ?_
    refine lv_iconst (v := 1) hx hb dX0_binds_48 (by decide) ?_
    refine lv_iload_n hx hb dX0_binds_49 rfl (lv_at hl 4 rfl) ?_
    obtain ⟨hi8, h⟩ := ck_some h
    refine c_ist C hK hT hS 106 14 (by decide) (fun _ _ => rfl) hi8 dX0_binds_50 (fun t9 H locs et9 hT hS hK => ?_)
    replace h := lt1_sub et9 h
    refine lv_aload_n hx hb dX0_binds_51 rfl (lv_at hl 1 rfl) ?_
    refine cg6 C hK hT dX0_binds_52 ?_
    refine lv_bipush (v := 11) hx hb dX0_binds_55 (by decide) ?_
    refine lv_iload hx hb dX0_binds_57 (lv_at hl 0 rfl) ?_
    obtain ⟨hi10, h⟩ := ck_some h
    refine c_ist C hK hT hS 106 14 (by decide) (fun _ _ => rfl) hi10 dX0_binds_59 (fun t11 H locs et11 hT hS hK => ?_)
    replace h := lt1_sub et11 h
    refine lv_aload_n hx hb dX0_binds_60 rfl (lv_at hl 1 rfl) ?_
    refine cg6 C hK hT dX0_binds_61 ?_
    refine lv_bipush (v := 12) hx hb dX0_binds_64 (by decide) ?_
    refine lv_aload_n hx hb dX0_binds_66 rfl (lv_at hl 1 rfl) ?_
    refine cg0 C hK hT dX0_binds_67 ?_
    refine c_getSN C hK hT (Or.inl rfl) 1 (by decide) (nf224 hK.2.1) rfl (v := .ref (a + 3)) rfl dX0_binds_70 ?_
    refine lv_iload_n hx hb dX0_binds_73 rfl (lv_at hl 2 rfl) ?_
    refine lv_iconst (v := 2) hx hb dX0_binds_74 (by decide) ?_
    refine lv_iadd hx hb dX0_binds_75 ?_
    obtain ⟨hi12, h⟩ := ck_some h
    refine c_ild C hK hT 3 192 (by decide) (fun _ _ => rfl) hi12 dX0_binds_76 ?_
    obtain ⟨hi13, h⟩ := ck_some h
    refine c_ist C hK hT hS 106 14 (by decide) (fun _ _ => rfl) hi13 dX0_binds_77 (fun t14 H locs et14 hT hS hK => ?_)
    replace h := lt1_sub et14 h
    refine lv_aload_n hx hb dX0_binds_78 rfl (lv_at hl 1 rfl) ?_
    refine cg6 C hK hT dX0_binds_79 ?_
    refine lv_bipush (v := 13) hx hb dX0_binds_82 (by decide) ?_
    refine lv_aload_n hx hb dX0_binds_84 rfl (lv_at hl 1 rfl) ?_
    refine cg0 C hK hT dX0_binds_85 ?_
    refine c_getSN C hK hT (Or.inl rfl) 1 (by decide) (nf224 hK.2.1) rfl (v := .ref (a + 3)) rfl dX0_binds_88 ?_
    refine lv_iconst (v := 1) hx hb dX0_binds_91 (by decide) ?_
    obtain ⟨hi15, h⟩ := ck_some h
    refine c_ild C hK hT 3 192 (by decide) (fun _ _ => rfl) hi15 dX0_binds_92 ?_
    refine lv_aload_n hx hb dX0_binds_93 rfl (lv_at hl 1 rfl) ?_
    refine cg0 C hK hT dX0_binds_94 ?_
    refine c_getSN C hK hT (Or.inl rfl) 1 (by decide) (nf224 hK.2.1) rfl (v := .ref (a + 3)) rfl dX0_binds_97 ?_
    refine lv_iload_n hx hb dX0_binds_100 rfl (lv_at hl 2 rfl) ?_
    refine lv_iconst (v := 1) hx hb dX0_binds_101 (by decide) ?_
    refine lv_iadd hx hb dX0_binds_102 ?_
    obtain ⟨hi16, h⟩ := ck_some h
    refine c_ild C hK hT 3 192 (by decide) (fun _ _ => rfl) hi16 dX0_binds_103 ?_
    refine lv_isub hx hb dX0_binds_104 ?_
    obtain ⟨hi17, h⟩ := ck_some h
    refine c_ist C hK hT hS 106 14 (by decide) (fun _ _ => rfl) hi17 dX0_binds_105 (fun t18 H locs et18 hT hS hK => ?_)
    replace h := lt1_sub et18 h
    refine lv_aload_n hx hb dX0_binds_106 rfl (lv_at hl 1 rfl) ?_
    obtain ⟨v19, hv19, h⟩ := bd1_some h
    refine r_ref1 (run_c (As := []) (rest := []) C hK hT hS.2.1 (rv_X hK hT) (mX0_rules hv19) q1069 q1071 qs29 q158 q1072 ⟨rfl, rfl⟩ hdX0_rules ⟨Nat.le_of_ble_eq_true rfl, Nat.le_of_ble_eq_true rfl⟩ ⟨Nat.zero_le _, Nat.zero_le _⟩ rfl hl.1 rfl (Nat.le_of_ble_eq_true rfl) dX0_binds_107) ?_
    obtain ⟨v20, hv20, h⟩ := bd1_some h
    refine d_getN (ci := 5) in_X5 rfl C hK hT 2 (by decide) (nf583 hK.2.1) rfl (gO_some hv20) dX0_binds_110 ?_
    refine lv_aload_n hx hb dX0_binds_113 rfl (lv_at hl 1 rfl) ?_
    refine cg6 C hK hT dX0_binds_114 ?_
    replace h := bd1_some h
    obtain ⟨r21, hr_, h⟩ := h
    subst hr_
    obtain ⟨v22, hv22, h⟩ := bd1_some h
    refine r_int5 (run_if (rest := []) C hK hT hS.2.1 (mE_is 64 _ _ _ hv22) ⟨Nat.le_of_ble_eq_true rfl, Nat.le_of_ble_eq_true rfl⟩ q1103 hdxIs ⟨Nat.zero_le _, Nat.zero_le _⟩ hl.1 rfl (Nat.le_of_ble_eq_true rfl) dX0_binds_117) ?_
    obtain ⟨hz, h⟩ := zr_some h
    exact ec_z C hT hS hz h dX0_binds_122
theorem mX0_binds {l : Launch} {D : va_G} {dA : Nat → ClassId} {a : Nat} {k : KP a} {t : CS} {x1 : Int32} {x2 : Int32} {x3 : Int32} {r : Int32} {t9 : CS} (h : C_binds t x1 x2 x3 = some (r, t9)) : Met l yX0_binds (ws_ yX0_binds cX0_binds 5 (some .boolean)) rmX0_binds (cPc D dA a k t [.ref a, .int x1, .int x2, .int x3]) (cQ D dA a k 0 t t9 (some (.int r))) 0 0 (ca a) := en_C (by decide +kernel) rfl (Nat.le_of_ble_eq_true rfl) (fun p e s m below meth c ls C hK hT hl => bX0_binds C t x1 x2 x3 _ [] hT cS.rf hK ls h hl)
set_option maxRecDepth 20000 in
abbrev rmX0_loopholeOf : Room := { frames := 165, cells := 0, slots := 0, locals := 5984 }
theorem hdX0_loopholeOf : yX0_loopholeOf.cls = RX0 ∧ yX0_loopholeOf.cls ≠ "java/lang/invoke/MethodHandle" ∧ yX0_loopholeOf.cls ≠ "java/lang/invoke/VarHandle" ∧ (parseMethodDescriptor yX0_loopholeOf.desc).map (fun d => d.parameters.length) = some 1 := by decide +kernel
theorem bX0_loopholeOf_p86 {p : Program} {l : Launch} {e : Env} {s : State} {m : MethodId} {args : Array Value} {below : List Frame} {meth : Method} {c : Code} {D : va_G} {dA : Nat → ClassId} {a : Nat} {k : KP a} {t0 : CS} {r : Int32} {t9 : CS} (C : cx p s m args meth c cX0_loopholeOf RX0 4 (some .int)) {k25 : CS → Int32 → Int32 → Int32 → Option (Int32 × CS)} (hk25 : ∀ (t : CS) (x1 : Int32) (x2 : Int32) (x3 : Int32) (H : Heap) (locs : List Loc) (hT : cW D dA a k t H) (hS : cS a s.heap H locs t0.2.2.2 0 t) (hK : kC D dA a k t.2.2.2 s) (ls : Array Slot), k25 t x1 x2 x3 = some (r, t9) → lv_has ls 4 [(0, .ref a), (1, .int x1), (2, .int x2), (3, .int x3)] → W p l e rmX0_loopholeOf s m args below meth c H locs 0 0 (MQ below (cQ D dA a k 0 t0 t9 (some (.int r))) args s 0 0 (ca a)) (F0 m 25 ls [])) : ∀ (t : CS) (x1 : Int32) (x2 : Int32) (x3 : Int32) (H : Heap) (locs : List Loc) (hT : cW D dA a k t H) (hS : cS a s.heap H locs t0.2.2.2 0 t) (hK : kC D dA a k t.2.2.2 s) (ls : Array Slot), C_loopholeOf_p86 k25 t x1 x2 x3 = some (r, t9) → lv_has ls 4 [(0, .ref a), (1, .int x1), (2, .int x2), (3, .int x3)] → W p l e rmX0_loopholeOf s m args below meth c H locs 0 0 (MQ below (cQ D dA a k 0 t0 t9 (some (.int r))) args s 0 0 (ca a)) (F0 m 86 ls []) := by
  obtain ⟨hx, hb, hr, hml, hown, hts, hlocks⟩ := id C
  intro t x1 x2 x3 H locs hT hS hK ls h hl
  unfold C_loopholeOf_p86 at h
  obtain ⟨v1, ev1⟩ : ∃ y : Int32, y = x3 + (1 : Int32) := ⟨_, rfl⟩
  replace h := lt1_sub ev1 h
  refine lv_iinc (v := v1) (lv' := [(3, .int v1), (0, .ref a), (1, .int x1), (2, .int x2)]) hx hb dX0_loopholeOf_86 hl (k := 3) rfl (by rw [ev1]; rfl) (by decide) rfl (fun ls hl => ?_)
  refine lv_goto (tgt := 25) hx hb dX0_loopholeOf_89 (by decide) ?_
  exact hk25 t x1 x2 v1 H locs hT hS hK ls h (lv_sub hl [1, 2, 3, 0] rfl)
theorem bX0_loopholeOf_p71 {p : Program} {l : Launch} {e : Env} {s : State} {m : MethodId} {args : Array Value} {below : List Frame} {meth : Method} {c : Code} {D : va_G} {dA : Nat → ClassId} {a : Nat} {k : KP a} {t0 : CS} {r : Int32} {t9 : CS} (C : cx p s m args meth c cX0_loopholeOf RX0 4 (some .int)) {k25 : CS → Int32 → Int32 → Int32 → Option (Int32 × CS)} (hk25 : ∀ (t : CS) (x1 : Int32) (x2 : Int32) (x3 : Int32) (H : Heap) (locs : List Loc) (hT : cW D dA a k t H) (hS : cS a s.heap H locs t0.2.2.2 0 t) (hK : kC D dA a k t.2.2.2 s) (ls : Array Slot), k25 t x1 x2 x3 = some (r, t9) → lv_has ls 4 [(0, .ref a), (1, .int x1), (2, .int x2), (3, .int x3)] → W p l e rmX0_loopholeOf s m args below meth c H locs 0 0 (MQ below (cQ D dA a k 0 t0 t9 (some (.int r))) args s 0 0 (ca a)) (F0 m 25 ls [])) : ∀ (t : CS) (x1 : Int32) (x2 : Int32) (x3 : Int32) (y1 : Int32) (y2 : Int32) (y3 : Int32) (H : Heap) (locs : List Loc) (hT : cW D dA a k t H) (hS : cS a s.heap H locs t0.2.2.2 0 t) (hK : kC D dA a k t.2.2.2 s) (ls : Array Slot), C_loopholeOf_p71 k25 t x1 x2 x3 y1 y2 y3 = some (r, t9) → lv_has ls 4 [(0, .ref a), (1, .int x1), (2, .int x2), (3, .int x3)] → W p l e rmX0_loopholeOf s m args below meth c H locs 0 0 (MQ below (cQ D dA a k 0 t0 t9 (some (.int r))) args s 0 0 (ca a)) (F0 m 71 ls [.int y3, .int y2, .int y1, .ref a]) := by
  obtain ⟨hx, hb, hr, hml, hown, hts, hlocks⟩ := id C
  intro t x1 x2 x3 y1 y2 y3 H locs hT hS hK ls h hl
  unfold C_loopholeOf_p71 at h
  refine lv_ior hx hb dX0_loopholeOf_71 ?_
  refine lv_aload_n hx hb dX0_loopholeOf_72 rfl (lv_at hl 0 rfl) ?_
  obtain ⟨v1, hv1, h⟩ := bd1_some h
  refine r_int (run_c (As := []) (rest := [.int (y2 ||| y3), .int y1, .ref a]) C hK hT hS.2.1 (rv_X hK hT) (mX0_outs hv1) q1089 q1091 qs32 q158 q1092 ⟨rfl, rfl⟩ hdX0_outs ⟨Nat.le_of_ble_eq_true rfl, Nat.le_of_ble_eq_true rfl⟩ ⟨Nat.zero_le _, Nat.zero_le _⟩ rfl hl.1 rfl (Nat.le_of_ble_eq_true rfl) dX0_loopholeOf_73) ?_
  refine lv_iconst (v := 1) hx hb dX0_loopholeOf_76 (by decide) ?_
  refine lv_iadd hx hb dX0_loopholeOf_77 ?_
  obtain ⟨v2, t3, ht3, h⟩ := bd2_some h
  refine wc_int hS hK (run_c (As := [.int y1, .int (y2 ||| y3), .int (v1 + (1 : Int32))]) (rest := []) C hK hT hS.2.1 (rv_X hK hT) (mX0_binds ht3) q1495 q1497 qs65 q158 q1498 ⟨rfl, rfl⟩ hdX0_binds ⟨Nat.le_of_ble_eq_true rfl, Nat.le_of_ble_eq_true rfl⟩ ⟨Nat.zero_le _, Nat.zero_le _⟩ rfl hl.1 rfl (Nat.le_of_ble_eq_true rfl) dX0_loopholeOf_78) (fun H locs hT hS hK hNt3 => ?_)
  refine lv_if_ne (tgt := 86) hx hb dX0_loopholeOf_81 (by decide) (fun c => ?_) (fun c => ?_)
  · replace h := if_f c h
    exact bX0_loopholeOf_p86 C hk25 t3 x1 x2 x3 H locs hT hS hK ls h (lv_sub hl [0, 1, 2, 3] rfl)
  · replace h := if_t c h
    refine lv_iload_n hx hb dX0_loopholeOf_84 rfl (lv_at hl 3 rfl) ?_
    exact ec_i C hT hS h dX0_loopholeOf_85
theorem bX0_loopholeOf_p25 {p : Program} {l : Launch} {e : Env} {s : State} {m : MethodId} {args : Array Value} {below : List Frame} {meth : Method} {c : Code} {D : va_G} {dA : Nat → ClassId} {a : Nat} {k : KP a} {t0 : CS} {r : Int32} {t9 : CS} (C : cx p s m args meth c cX0_loopholeOf RX0 4 (some .int)) : ∀ (n : Nat), ∀ (t : CS) (x1 : Int32) (x2 : Int32) (x3 : Int32) (H : Heap) (locs : List Loc) (hT : cW D dA a k t H) (hS : cS a s.heap H locs t0.2.2.2 0 t) (hK : kC D dA a k t.2.2.2 s) (ls : Array Slot), C_loopholeOf_p25 n t x1 x2 x3 = some (r, t9) → lv_has ls 4 [(0, .ref a), (1, .int x1), (2, .int x2), (3, .int x3)] → W p l e rmX0_loopholeOf s m args below meth c H locs 0 0 (MQ below (cQ D dA a k 0 t0 t9 (some (.int r))) args s 0 0 (ca a)) (F0 m 25 ls []) := by
  obtain ⟨hx, hb, hr, hml, hown, hts, hlocks⟩ := id C
  intro n
  induction n with
  | zero =>
    intro t x1 x2 x3 H locs hT hS hK ls h hl
    have h : none = some _ := h
    cases h
  | succ n ih =>
    intro t x1 x2 x3 H locs hT hS hK ls h hl
    rw [C_loopholeOf_p25] at h
    refine lv_iload_n hx hb dX0_loopholeOf_25 rfl (lv_at hl 3 rfl) ?_
    refine lv_bipush (v := 26) hx hb dX0_loopholeOf_26 (by decide) ?_
    refine lv_icmp_ge (tgt := 92) hx hb dX0_loopholeOf_28 (by decide) (fun c => ?_) (fun c => ?_)
    · replace h := if_t c h
      refine lv_iconst (v := -1) hx hb dX0_loopholeOf_92 (by decide) ?_
      exact ec_i C hT hS h dX0_loopholeOf_93
    · replace h := if_f c h
      refine lv_aload_n hx hb dX0_loopholeOf_31 rfl (lv_at hl 0 rfl) ?_
      refine cg0 C hK hT dX0_loopholeOf_32 ?_
      refine lv_iload_n hx hb dX0_loopholeOf_35 rfl (lv_at hl 3 rfl) ?_
      obtain ⟨v1, hv1, h⟩ := bd1_some h
      refine r_int (run_c (As := [.int x3]) (rest := []) C hK hT hS.2.1 (rv_S hK hT (Or.inl rfl)) (mX1_isOut hv1) q1064 q1065 q1066 q159 q1067 ⟨rfl, rfl⟩ hdX1_isOut ⟨Nat.le_of_ble_eq_true rfl, Nat.le_of_ble_eq_true rfl⟩ ⟨Nat.zero_le _, Nat.zero_le _⟩ rfl hl.1 rfl (Nat.le_of_ble_eq_true rfl) dX0_loopholeOf_36) ?_
      refine lv_if_eq (tgt := 45) hx hb dX0_loopholeOf_39 (by decide) (fun c => ?_) (fun c => ?_)
      · replace h := if_t c h
        refine lv_aload_n hx hb dX0_loopholeOf_45 rfl (lv_at hl 0 rfl) ?_
        refine lv_iload_n hx hb dX0_loopholeOf_46 rfl (lv_at hl 1 rfl) ?_
        refine lv_iload_n hx hb dX0_loopholeOf_47 rfl (lv_at hl 2 rfl) ?_
        refine lv_aload_n hx hb dX0_loopholeOf_48 rfl (lv_at hl 0 rfl) ?_
        refine cg0 C hK hT dX0_loopholeOf_49 ?_
        refine c_getSN C hK hT (Or.inl rfl) 1 (by decide) (nf224 hK.2.1) rfl (v := .ref (a + 3)) rfl dX0_loopholeOf_52 ?_
        refine lv_bipush (v := 55) hx hb dX0_loopholeOf_55 (by decide) ?_
        refine lv_iload_n hx hb dX0_loopholeOf_57 rfl (lv_at hl 3 rfl) ?_
        refine lv_iadd hx hb dX0_loopholeOf_58 ?_
        obtain ⟨hi2, h⟩ := ck_some h
        refine c_ild C hK hT 3 192 (by decide) (fun _ _ => rfl) hi2 dX0_loopholeOf_59 ?_
        refine lv_iconst (v := -1) hx hb dX0_loopholeOf_60 (by decide) ?_
        refine lv_icmp_ne (tgt := 70) hx hb dX0_loopholeOf_61 (by decide) (fun c => ?_) (fun c => ?_)
        · replace h := if_f c h
          refine lv_iconst (v := 0) hx hb dX0_loopholeOf_70 (by decide) ?_
          exact bX0_loopholeOf_p71 C ih t x1 x2 x3 x1 x2 (0 : Int32) H locs hT hS hK ls h (lv_sub hl [0, 1, 2, 3] rfl)
        · replace h := if_t c h
          refine lv_iconst (v := 1) hx hb dX0_loopholeOf_64 (by decide) ?_
          refine lv_iload_n hx hb dX0_loopholeOf_65 rfl (lv_at hl 3 rfl) ?_
          refine lv_ishl hx hb dX0_loopholeOf_66 ?_
          refine lv_goto (tgt := 71) hx hb dX0_loopholeOf_67 (by decide) ?_
          exact bX0_loopholeOf_p71 C ih t x1 x2 x3 x1 x2 ((1 : Int32) <<< (x3 &&& (31 : Int32))) H locs hT hS hK ls h (lv_sub hl [0, 1, 2, 3] rfl)
      · replace h := if_f c h
        refine lv_goto (tgt := 86) hx hb dX0_loopholeOf_42 (by decide) ?_
        exact bX0_loopholeOf_p86 C ih t x1 x2 x3 H locs hT hS hK ls h (lv_sub hl [0, 1, 2, 3] rfl)
theorem bX0_loopholeOf {p : Program} {l : Launch} {e : Env} {s : State} {m : MethodId} {args : Array Value} {below : List Frame} {meth : Method} {c : Code} {D : va_G} {dA : Nat → ClassId} {a : Nat} {k : KP a} {t0 : CS} {r : Int32} {t9 : CS} (C : cx p s m args meth c cX0_loopholeOf RX0 4 (some .int)) : ∀ (t : CS) (x1 : Int32) (H : Heap) (locs : List Loc) (hT : cW D dA a k t H) (hS : cS a s.heap H locs t0.2.2.2 0 t) (hK : kC D dA a k t.2.2.2 s) (ls : Array Slot), C_loopholeOf t x1 = some (r, t9) → lv_has ls 4 [(0, .ref a), (1, .int x1)] → W p l e rmX0_loopholeOf s m args below meth c H locs 0 0 (MQ below (cQ D dA a k 0 t0 t9 (some (.int r))) args s 0 0 (ca a)) (F0 m 0 ls []) := by
  obtain ⟨hx, hb, hr, hml, hown, hts, hlocks⟩ := id C
  intro t x1 H locs hT hS hK ls h hl
  unfold C_loopholeOf at h
  refine lv_aload_n hx hb dX0_loopholeOf_0 rfl (lv_at hl 0 rfl) ?_
  refine cg0 C hK hT dX0_loopholeOf_1 ?_
  obtain ⟨v1, hv1, h⟩ := bd1_some h
  refine r_int (run_c (As := []) (rest := []) C hK hT hS.2.1 (rv_S hK hT (Or.inl rfl)) (mX1_silent hv1) q1216 q1217 q1218 q159 q1219 ⟨rfl, rfl⟩ hdX1_silent ⟨Nat.le_of_ble_eq_true rfl, Nat.le_of_ble_eq_true rfl⟩ ⟨Nat.zero_le _, Nat.zero_le _⟩ rfl hl.1 rfl (Nat.le_of_ble_eq_true rfl) dX0_loopholeOf_4) ?_
  refine lv_istore_n (lv' := [(2, .int v1), (0, .ref a), (1, .int x1)]) hx hb dX0_loopholeOf_7 rfl hl (by decide) rfl (fun ls hl => ?_)
  refine lv_aload_n hx hb dX0_loopholeOf_8 rfl (lv_at hl 1 rfl) ?_
  refine lv_iload_n hx hb dX0_loopholeOf_9 rfl (lv_at hl 2 rfl) ?_
  refine lv_iload_n hx hb dX0_loopholeOf_10 rfl (lv_at hl 0 rfl) ?_
  refine lv_aload_n hx hb dX0_loopholeOf_11 rfl (lv_at hl 1 rfl) ?_
  obtain ⟨v2, hv2, h⟩ := bd1_some h
  refine r_int (run_c (As := []) (rest := [.int v1, .int x1, .ref a]) C hK hT hS.2.1 (rv_X hK hT) (mX0_outs hv2) q1089 q1091 qs32 q158 q1092 ⟨rfl, rfl⟩ hdX0_outs ⟨Nat.le_of_ble_eq_true rfl, Nat.le_of_ble_eq_true rfl⟩ ⟨Nat.zero_le _, Nat.zero_le _⟩ rfl hl.1 rfl (Nat.le_of_ble_eq_true rfl) dX0_loopholeOf_12) ?_
  obtain ⟨v3, t4, ht4, h⟩ := bd2_some h
  refine wc_int hS hK (run_c (As := [.int x1, .int v1, .int v2]) (rest := []) C hK hT hS.2.1 (rv_X hK hT) (mX0_binds ht4) q1495 q1497 qs65 q158 q1498 ⟨rfl, rfl⟩ hdX0_binds ⟨Nat.le_of_ble_eq_true rfl, Nat.le_of_ble_eq_true rfl⟩ ⟨Nat.zero_le _, Nat.zero_le _⟩ rfl hl.1 rfl (Nat.le_of_ble_eq_true rfl) dX0_loopholeOf_15) (fun H locs hT hS hK hNt4 => ?_)
  refine lv_if_ne (tgt := 23) hx hb dX0_loopholeOf_18 (by decide) (fun c => ?_) (fun c => ?_)
  · replace h := if_f c h
    refine lv_iconst (v := 0) hx hb dX0_loopholeOf_23 (by decide) ?_
    refine lv_istore_n (lv' := [(3, .int (0 : Int32)), (2, .int v1), (0, .ref a), (1, .int x1)]) hx hb dX0_loopholeOf_24 rfl hl (by decide) rfl (fun ls hl => ?_)
    exact bX0_loopholeOf_p25 C fu t4 x1 v1 (0 : Int32) H locs hT hS hK ls h (lv_sub hl [2, 3, 1, 0] rfl)
  · replace h := if_t c h
    refine lv_iconst (v := -1) hx hb dX0_loopholeOf_21 (by decide) ?_
    exact ec_i C hT hS h dX0_loopholeOf_22
theorem mX0_loopholeOf {l : Launch} {D : va_G} {dA : Nat → ClassId} {a : Nat} {k : KP a} {t : CS} {x1 : Int32} {r : Int32} {t9 : CS} (h : C_loopholeOf t x1 = some (r, t9)) : Met l yX0_loopholeOf (ws_ yX0_loopholeOf cX0_loopholeOf 4 (some .int)) rmX0_loopholeOf (cPc D dA a k t [.ref a, .int x1]) (cQ D dA a k 0 t t9 (some (.int r))) 0 0 (ca a) := en_C (by decide +kernel) rfl (Nat.le_of_ble_eq_true rfl) (fun p e s m below meth c ls C hK hT hl => bX0_loopholeOf C t x1 _ [] hT cS.rf hK ls h hl)
set_option maxRecDepth 20000 in
abbrev rmX0_signed : Room := { frames := 166, cells := 0, slots := 0, locals := 6007 }
theorem hdX0_signed : yX0_signed.cls = RX0 ∧ yX0_signed.cls ≠ "java/lang/invoke/MethodHandle" ∧ yX0_signed.cls ≠ "java/lang/invoke/VarHandle" ∧ (parseMethodDescriptor yX0_signed.desc).map (fun d => d.parameters.length) = some 2 := by decide +kernel
theorem bX0_signed {p : Program} {l : Launch} {e : Env} {s : State} {m : MethodId} {args : Array Value} {below : List Frame} {meth : Method} {c : Code} {D : va_G} {dA : Nat → ClassId} {a : Nat} {k : KP a} {t0 : CS} {r : Int32} {t9 : CS} (C : cx p s m args meth c cX0_signed RX0 4 (some .int)) : ∀ (t : CS) (x1 : Int32) (x2 : Int32) (H : Heap) (locs : List Loc) (hT : cW D dA a k t H) (hS : cS a s.heap H locs t0.2.2.2 0 t) (hK : kC D dA a k t.2.2.2 s) (ls : Array Slot), C_signed t x1 x2 = some (r, t9) → lv_has ls 4 [(0, .ref a), (1, .int x1), (2, .int x2)] → W p l e rmX0_signed s m args below meth c H locs 0 0 (MQ below (cQ D dA a k 0 t0 t9 (some (.int r))) args s 0 0 (ca a)) (F0 m 0 ls []) := by
  obtain ⟨hx, hb, hr, hml, hown, hts, hlocks⟩ := id C
  intro t x1 x2 H locs hT hS hK ls h hl
  unfold C_signed at h
  refine lv_iload_n hx hb dX0_signed_0 rfl (lv_at hl 1 rfl) ?_
  refine lv_iconst (v := -1) hx hb dX0_signed_1 (by decide) ?_
  refine lv_icmp_ne (tgt := 16) hx hb dX0_signed_2 (by decide) (fun c => ?_) (fun c => ?_)
  · replace h := if_f c h
    refine lv_iload_n hx hb dX0_signed_16 rfl (lv_at hl 1 rfl) ?_
    refine lv_iconst (v := 0) hx hb dX0_signed_17 (by decide) ?_
    refine lv_aload_n hx hb dX0_signed_18 rfl (lv_at hl 0 rfl) ?_
    refine cg0 C hK hT dX0_signed_19 ?_
    refine c_getSN C hK hT (Or.inl rfl) 1 (by decide) (nf224 hK.2.1) rfl (v := .ref (a + 3)) rfl dX0_signed_22 ?_
    refine lv_bipush (v := 81) hx hb dX0_signed_25 (by decide) ?_
    obtain ⟨hi1, h⟩ := ck_some h
    refine c_ild C hK hT 3 192 (by decide) (fun _ _ => rfl) hi1 dX0_signed_27 ?_
    refine lv_iconst (v := 1) hx hb dX0_signed_28 (by decide) ?_
    refine lv_isub hx hb dX0_signed_29 ?_
    obtain ⟨v2, hv2, h⟩ := bd1_some h
    refine r_int (run_s (As := [.int x1, .int (0 : Int32), .int ((t.1 3 (81 : Int32).toNatClampNeg) - (1 : Int32))]) (rest := []) C (mX0_in hv2) q341 q342 q158 q343 ⟨rfl, rfl⟩ hdX0_in ⟨Nat.le_of_ble_eq_true rfl, Nat.le_of_ble_eq_true rfl⟩ ⟨Nat.zero_le _, Nat.zero_le _⟩ rfl hl.1 rfl (Nat.le_of_ble_eq_true rfl) dX0_signed_30) ?_
    refine lv_if_ne (tgt := 39) hx hb dX0_signed_33 (by decide) (fun c => ?_) (fun c => ?_)
    · replace h := if_f c h
      refine lv_bipush (v := 82) hx hb dX0_signed_39 (by decide) ?_
      refine lv_bipush (v := 11) hx hb dX0_signed_41 (by decide) ?_
      refine lv_iload_n hx hb dX0_signed_43 rfl (lv_at hl 1 rfl) ?_
      refine lv_imul hx hb dX0_signed_44 ?_
      refine lv_iadd hx hb dX0_signed_45 ?_
      refine lv_topi (fun v3 ev3 => ?_)
      replace h := lt1_sub ev3 h
      refine lv_istore_n (lv' := [(3, .int v3), (0, .ref a), (1, .int x1), (2, .int x2)]) hx hb dX0_signed_46 rfl hl (by decide) rfl (fun ls hl => ?_)
      refine lv_iload_n hx hb dX0_signed_47 rfl (lv_at hl 3 rfl) ?_
      by_cases c : x2 = (0 : Int32)
      · replace h := if_t c h
        rw [c]
        refine lv_tableIn (off := 40) (tgt := 88) hx hb dX0_signed_48 (by decide) (by decide) rfl (by decide) ?_
        refine lv_aload_n hx hb dX0_signed_88 rfl (lv_at hl 1 rfl) ?_
        refine cg0 C hK hT dX0_signed_89 ?_
        refine c_getSN C hK hT (Or.inl rfl) 1 (by decide) (nf224 hK.2.1) rfl (v := .ref (a + 3)) rfl dX0_signed_92 ?_
        refine lv_iload_n hx hb dX0_signed_95 rfl (lv_at hl 0 rfl) ?_
        refine lv_iload_n hx hb dX0_signed_96 rfl (lv_at hl 3 rfl) ?_
        refine lv_iadd hx hb dX0_signed_97 ?_
        obtain ⟨hi4, h⟩ := ck_some h
        refine c_ild C hK hT 3 192 (by decide) (fun _ _ => rfl) hi4 dX0_signed_98 ?_
        exact ec_i C hT hS h dX0_signed_99
      replace h := if_f c h
      have g0 := tI_ne (k := 0) (by decide) c
      by_cases c : x2 = (1 : Int32)
      · replace h := if_t c h
        rw [c]
        refine lv_tableIn (off := 40) (tgt := 88) hx hb dX0_signed_48 (by decide) (by decide) rfl (by decide) ?_
        refine lv_aload_n hx hb dX0_signed_88 rfl (lv_at hl 1 rfl) ?_
        refine cg0 C hK hT dX0_signed_89 ?_
        refine c_getSN C hK hT (Or.inl rfl) 1 (by decide) (nf224 hK.2.1) rfl (v := .ref (a + 3)) rfl dX0_signed_92 ?_
        refine lv_iload_n hx hb dX0_signed_95 rfl (lv_at hl 0 rfl) ?_
        refine lv_iload_n hx hb dX0_signed_96 rfl (lv_at hl 3 rfl) ?_
        refine lv_iadd hx hb dX0_signed_97 ?_
        obtain ⟨hi5, h⟩ := ck_some h
        refine c_ild C hK hT 3 192 (by decide) (fun _ _ => rfl) hi5 dX0_signed_98 ?_
        exact ec_i C hT hS h dX0_signed_99
      replace h := if_f c h
      have g1 := tI_ne (k := 1) (by decide) c
      by_cases c : x2 = (2 : Int32)
      · replace h := if_t c h
        rw [c]
        refine lv_tableIn (off := 40) (tgt := 88) hx hb dX0_signed_48 (by decide) (by decide) rfl (by decide) ?_
        refine lv_aload_n hx hb dX0_signed_88 rfl (lv_at hl 1 rfl) ?_
        refine cg0 C hK hT dX0_signed_89 ?_
        refine c_getSN C hK hT (Or.inl rfl) 1 (by decide) (nf224 hK.2.1) rfl (v := .ref (a + 3)) rfl dX0_signed_92 ?_
        refine lv_iload_n hx hb dX0_signed_95 rfl (lv_at hl 0 rfl) ?_
        refine lv_iload_n hx hb dX0_signed_96 rfl (lv_at hl 3 rfl) ?_
        refine lv_iadd hx hb dX0_signed_97 ?_
        obtain ⟨hi6, h⟩ := ck_some h
        refine c_ild C hK hT 3 192 (by decide) (fun _ _ => rfl) hi6 dX0_signed_98 ?_
        exact ec_i C hT hS h dX0_signed_99
      replace h := if_f c h
      have g2 := tI_ne (k := 2) (by decide) c
      by_cases c : x2 = (3 : Int32)
      · replace h := if_t c h
        rw [c]
        refine lv_tableIn (off := 52) (tgt := 100) hx hb dX0_signed_48 (by decide) (by decide) rfl (by decide) ?_
        refine lv_aload_n hx hb dX0_signed_100 rfl (lv_at hl 1 rfl) ?_
        refine lv_iload_n hx hb dX0_signed_101 rfl (lv_at hl 0 rfl) ?_
        refine lv_aload_n hx hb dX0_signed_102 rfl (lv_at hl 1 rfl) ?_
        refine cg0 C hK hT dX0_signed_103 ?_
        obtain ⟨v7, hv7, h⟩ := bd1_some h
        refine r_int (run_c (As := []) (rest := [.int v3, .ref a]) C hK hT hS.2.1 (rv_S hK hT (Or.inl rfl)) (mX1_silent hv7) q1216 q1217 q1218 q159 q1219 ⟨rfl, rfl⟩ hdX1_silent ⟨Nat.le_of_ble_eq_true rfl, Nat.le_of_ble_eq_true rfl⟩ ⟨Nat.zero_le _, Nat.zero_le _⟩ rfl hl.1 rfl (Nat.le_of_ble_eq_true rfl) dX0_signed_106) ?_
        refine lv_aload_n hx hb dX0_signed_109 rfl (lv_at hl 1 rfl) ?_
        obtain ⟨v8, hv8, h⟩ := bd1_some h
        refine r_int (run_c (As := []) (rest := [.int v7, .int v3, .ref a]) C hK hT hS.2.1 (rv_X hK hT) (mX0_outs hv8) q1089 q1091 qs32 q158 q1092 ⟨rfl, rfl⟩ hdX0_outs ⟨Nat.le_of_ble_eq_true rfl, Nat.le_of_ble_eq_true rfl⟩ ⟨Nat.zero_le _, Nat.zero_le _⟩ rfl hl.1 rfl (Nat.le_of_ble_eq_true rfl) dX0_signed_110) ?_
        obtain ⟨v9, t10, ht10, h⟩ := bd2_some h
        refine wc_int hS hK (run_c (As := [.int v3, .int v7, .int v8]) (rest := []) C hK hT hS.2.1 (rv_X hK hT) (mX0_binds ht10) q1495 q1497 qs65 q158 q1498 ⟨rfl, rfl⟩ hdX0_binds ⟨Nat.le_of_ble_eq_true rfl, Nat.le_of_ble_eq_true rfl⟩ ⟨Nat.zero_le _, Nat.zero_le _⟩ rfl hl.1 rfl (Nat.le_of_ble_eq_true rfl) dX0_signed_113) (fun H locs hT hS hK hNt10 => ?_)
        refine lv_if_eq (tgt := 123) hx hb dX0_signed_116 (by decide) (fun c => ?_) (fun c => ?_)
        · replace h := if_t c h
          refine lv_iconst (v := 0) hx hb dX0_signed_123 (by decide) ?_
          exact ec_i C hT hS h dX0_signed_124
        · replace h := if_f c h
          refine lv_iconst (v := 1) hx hb dX0_signed_119 (by decide) ?_
          refine lv_goto (tgt := 124) hx hb dX0_signed_120 (by decide) ?_
          exact ec_i C hT hS h dX0_signed_124
      replace h := if_f c h
      have g3 := tI_ne (k := 3) (by decide) c
      by_cases c : x2 = (4 : Int32)
      · replace h := if_t c h
        rw [c]
        refine lv_tableIn (off := 77) (tgt := 125) hx hb dX0_signed_48 (by decide) (by decide) rfl (by decide) ?_
        refine lv_aload_n hx hb dX0_signed_125 rfl (lv_at hl 1 rfl) ?_
        refine lv_iload_n hx hb dX0_signed_126 rfl (lv_at hl 0 rfl) ?_
        refine lv_aload_n hx hb dX0_signed_127 rfl (lv_at hl 1 rfl) ?_
        refine cg0 C hK hT dX0_signed_128 ?_
        obtain ⟨v11, hv11, h⟩ := bd1_some h
        refine r_int (run_c (As := []) (rest := [.int v3, .ref a]) C hK hT hS.2.1 (rv_S hK hT (Or.inl rfl)) (mX1_silent hv11) q1216 q1217 q1218 q159 q1219 ⟨rfl, rfl⟩ hdX1_silent ⟨Nat.le_of_ble_eq_true rfl, Nat.le_of_ble_eq_true rfl⟩ ⟨Nat.zero_le _, Nat.zero_le _⟩ rfl hl.1 rfl (Nat.le_of_ble_eq_true rfl) dX0_signed_131) ?_
        obtain ⟨v12, hv12, h⟩ := bd1_some h
        refine r_int (run_c (As := [.int v3, .int v11]) (rest := []) C hK hT hS.2.1 (rv_X hK hT) (mX0_brokenBy hv12) q1499 q1501 qs66 q158 q1502 ⟨rfl, rfl⟩ hdX0_brokenBy ⟨Nat.le_of_ble_eq_true rfl, Nat.le_of_ble_eq_true rfl⟩ ⟨Nat.zero_le _, Nat.zero_le _⟩ rfl hl.1 rfl (Nat.le_of_ble_eq_true rfl) dX0_signed_134) ?_
        exact ec_i C hT hS h dX0_signed_137
      replace h := if_f c h
      have g4 := tI_ne (k := 4) (by decide) c
      by_cases c : x2 = (5 : Int32)
      · replace h := if_t c h
        rw [c]
        refine lv_tableIn (off := 90) (tgt := 138) hx hb dX0_signed_48 (by decide) (by decide) rfl (by decide) ?_
        refine lv_aload_n hx hb dX0_signed_138 rfl (lv_at hl 1 rfl) ?_
        refine lv_iload_n hx hb dX0_signed_139 rfl (lv_at hl 0 rfl) ?_
        obtain ⟨v13, t14, ht14, h⟩ := bd2_some h
        refine wc_int hS hK (run_c (As := [.int v3]) (rest := []) C hK hT hS.2.1 (rv_X hK hT) (mX0_loopholeOf ht14) q1503 q1505 qs67 q158 q1506 ⟨rfl, rfl⟩ hdX0_loopholeOf ⟨Nat.le_of_ble_eq_true rfl, Nat.le_of_ble_eq_true rfl⟩ ⟨Nat.zero_le _, Nat.zero_le _⟩ rfl hl.1 rfl (Nat.le_of_ble_eq_true rfl) dX0_signed_140) (fun H locs hT hS hK hNt14 => ?_)
        exact ec_i C hT hS h dX0_signed_143
      replace h := if_f c h
      have g5 := tI_ne (k := 5) (by decide) c
      refine lv_tableOut (tgt := 144) hx hb dX0_signed_48 (by omega) (by decide) ?_
      refine lv_iload_n hx hb dX0_signed_144 rfl (lv_at hl 3 rfl) ?_
      refine lv_bipush (v := 10) hx hb dX0_signed_145 (by decide) ?_
      refine lv_bipush (v := 9) hx hb dX0_signed_147 (by decide) ?_
      refine lv_aload_n hx hb dX0_signed_149 rfl (lv_at hl 1 rfl) ?_
      refine cg0 C hK hT dX0_signed_150 ?_
      refine c_getSN C hK hT (Or.inl rfl) 1 (by decide) (nf224 hK.2.1) rfl (v := .ref (a + 3)) rfl dX0_signed_153 ?_
      refine lv_iload_n hx hb dX0_signed_156 rfl (lv_at hl 0 rfl) ?_
      refine lv_iconst (v := 2) hx hb dX0_signed_157 (by decide) ?_
      refine lv_iadd hx hb dX0_signed_158 ?_
      obtain ⟨hi15, h⟩ := ck_some h
      refine c_ild C hK hT 3 192 (by decide) (fun _ _ => rfl) hi15 dX0_signed_159 ?_
      refine lv_iadd hx hb dX0_signed_160 ?_
      obtain ⟨v16, hv16, h⟩ := bd1_some h
      refine r_int (run_s (As := [.int x2, .int (10 : Int32), .int ((9 : Int32) + (t.1 3 (v3 + (2 : Int32)).toNatClampNeg))]) (rest := []) C (mX0_in hv16) q341 q342 q158 q343 ⟨rfl, rfl⟩ hdX0_in ⟨Nat.le_of_ble_eq_true rfl, Nat.le_of_ble_eq_true rfl⟩ ⟨Nat.zero_le _, Nat.zero_le _⟩ rfl hl.1 rfl (Nat.le_of_ble_eq_true rfl) dX0_signed_161) ?_
      refine lv_if_eq (tgt := 184) hx hb dX0_signed_164 (by decide) (fun c => ?_) (fun c => ?_)
      · replace h := if_t c h
        refine lv_bipush (v := -2) hx hb dX0_signed_184 (by decide) ?_
        exact ec_i C hT hS h dX0_signed_186
      · replace h := if_f c h
        refine lv_aload_n hx hb dX0_signed_167 rfl (lv_at hl 1 rfl) ?_
        refine cg0 C hK hT dX0_signed_168 ?_
        refine c_getSN C hK hT (Or.inl rfl) 1 (by decide) (nf224 hK.2.1) rfl (v := .ref (a + 3)) rfl dX0_signed_171 ?_
        refine lv_iload_n hx hb dX0_signed_174 rfl (lv_at hl 0 rfl) ?_
        refine lv_iload_n hx hb dX0_signed_175 rfl (lv_at hl 3 rfl) ?_
        refine lv_iadd hx hb dX0_signed_176 ?_
        refine lv_bipush (v := 7) hx hb dX0_signed_177 (by decide) ?_
        refine lv_isub hx hb dX0_signed_179 ?_
        obtain ⟨hi17, h⟩ := ck_some h
        refine c_ild C hK hT 3 192 (by decide) (fun _ _ => rfl) hi17 dX0_signed_180 ?_
        refine lv_goto (tgt := 186) hx hb dX0_signed_181 (by decide) ?_
        exact ec_i C hT hS h dX0_signed_186
    · replace h := if_t c h
      refine lv_bipush (v := -2) hx hb dX0_signed_36 (by decide) ?_
      exact ec_i C hT hS h dX0_signed_38
  · replace h := if_t c h
    refine lv_aload_n hx hb dX0_signed_5 rfl (lv_at hl 0 rfl) ?_
    refine cg0 C hK hT dX0_signed_6 ?_
    refine c_getSN C hK hT (Or.inl rfl) 1 (by decide) (nf224 hK.2.1) rfl (v := .ref (a + 3)) rfl dX0_signed_9 ?_
    refine lv_bipush (v := 81) hx hb dX0_signed_12 (by decide) ?_
    obtain ⟨hi18, h⟩ := ck_some h
    refine c_ild C hK hT 3 192 (by decide) (fun _ _ => rfl) hi18 dX0_signed_14 ?_
    exact ec_i C hT hS h dX0_signed_15
theorem mX0_signed {l : Launch} {D : va_G} {dA : Nat → ClassId} {a : Nat} {k : KP a} {t : CS} {x1 : Int32} {x2 : Int32} {r : Int32} {t9 : CS} (h : C_signed t x1 x2 = some (r, t9)) : Met l yX0_signed (ws_ yX0_signed cX0_signed 4 (some .int)) rmX0_signed (cPc D dA a k t [.ref a, .int x1, .int x2]) (cQ D dA a k 0 t t9 (some (.int r))) 0 0 (ca a) := en_C (by decide +kernel) rfl (Nat.le_of_ble_eq_true rfl) (fun p e s m below meth c ls C hK hT hl => bX0_signed C t x1 x2 _ [] hT cS.rf hK ls h hl)
set_option maxRecDepth 20000 in
abbrev rmX1_copy_2_8_60 : Room := { frames := 2, cells := 0, slots := 0, locals := 60 }
theorem hdX1_copy_2_8_60 : yX1_copy_2.cls ≠ "java/lang/invoke/MethodHandle" ∧ yX1_copy_2.cls ≠ "java/lang/invoke/VarHandle" ∧ (parseMethodDescriptor yX1_copy_2.desc).map (fun d => d.parameters.length) = some 2 := by decide +kernel
theorem bX1_copy_2_8_60_p2 {p : Program} {l : Launch} {e : Env} {s : State} {m : MethodId} {args : Array Value} {below : List Frame} {meth : Method} {c : Code} {D : va_G} {dA : Nat → ClassId} {a : Nat} {k : KP a} {t0 : CS} {t9 : CS} (C : cx p s m args meth c cX1_copy_2 RX1 3 none) : ∀ (n : Nat), ∀ (t : CS) (x2 : Int32) (H : Heap) (locs : List Loc) (hT : cW D dA a k t H) (hS : cS a s.heap H locs t0.2.2.2 0 t) (hK : kC D dA a k t.2.2.2 s) (ls : Array Slot), C_X1_copy_2_8_60_p2 n t x2 = some t9 → lv_has ls 3 [(0, .ref (a + 8)), (1, .ref (a + 60)), (2, .int x2)] → W p l e rmX1_copy_2_8_60 s m args below meth c H locs 0 0 (MQ below (cQ D dA a k 0 t0 t9 none) args s 0 0 (ca a)) (F0 m 2 ls []) := by
  obtain ⟨hx, hb, hr, hml, hown, hts, hlocks⟩ := id C
  intro n
  induction n with
  | zero =>
    intro t x2 H locs hT hS hK ls h hl
    have h : none = some _ := h
    cases h
  | succ n ih =>
    intro t x2 H locs hT hS hK ls h hl
    rw [C_X1_copy_2_8_60_p2] at h
    refine lv_iload_n hx hb dX1_copy_2_2 rfl (lv_at hl 2 rfl) ?_
    refine lv_aload_n hx hb dX1_copy_2_3 rfl (lv_at hl 0 rfl) ?_
    refine c_aln C hK hT 8 12 (by decide) 6 rfl rfl (v := 12) (by decide) dX1_copy_2_4 ?_
    refine lv_icmp_ge (tgt := 23) hx hb dX1_copy_2_5 (by decide) (fun c => ?_) (fun c => ?_)
    · replace h := if_t c h
      exact ec_v C hT hS h dX1_copy_2_23
    · replace h := if_f c h
      refine lv_aload_n hx hb dX1_copy_2_8 rfl (lv_at hl 0 rfl) ?_
      refine lv_iload_n hx hb dX1_copy_2_9 rfl (lv_at hl 2 rfl) ?_
      obtain ⟨hi1, h⟩ := ck_some h
      refine c_ald C hK hT 8 12 6 (by decide) rfl (g := fun j => some (a + (9 + j))) (by rfl) (by rfl) hi1 rfl dX1_copy_2_10 ?_
      refine lv_aload_n hx hb dX1_copy_2_11 rfl (lv_at hl 1 rfl) ?_
      refine lv_iload_n hx hb dX1_copy_2_12 rfl (lv_at hl 2 rfl) ?_
      obtain ⟨hi2, h⟩ := ck_some h
      refine c_ald C hK hT 60 12 6 (by decide) rfl (g := fun j => some (a + (61 + j))) (by rfl) (by rfl) hi2 rfl dX1_copy_2_13 ?_
      refine x_copy C hK hT hS (9 + x2.toNatClampNeg) (61 + x2.toNatClampNeg) 3 (fam_k9 hi1) (fam_k61 hi2) (fam_a9 hi1) (fam_a61 hi2) (by decide) hl.1 (Nat.le_of_ble_eq_true rfl) ⟨Nat.le_of_ble_eq_true rfl, Nat.le_of_ble_eq_true rfl⟩ ⟨Nat.zero_le _, Nat.zero_le _⟩ q263 dX1_copy_2_14 (fun t3 H locs et3 hT hS hK => ?_)
      replace h := lt1_sub et3 h
      obtain ⟨v4, ev4⟩ : ∃ y : Int32, y = x2 + (1 : Int32) := ⟨_, rfl⟩
      replace h := lt1_sub ev4 h
      refine lv_iinc (v := v4) (lv' := [(2, .int v4), (0, .ref (a + 8)), (1, .ref (a + 60))]) hx hb dX1_copy_2_17 hl (k := 2) rfl (by rw [ev4]; rfl) (by decide) rfl (fun ls hl => ?_)
      refine lv_goto (tgt := 2) hx hb dX1_copy_2_20 (by decide) ?_
      exact ih t3 v4 H locs hT hS hK ls h (lv_sub hl [1, 2, 0] rfl)
theorem bX1_copy_2_8_60 {p : Program} {l : Launch} {e : Env} {s : State} {m : MethodId} {args : Array Value} {below : List Frame} {meth : Method} {c : Code} {D : va_G} {dA : Nat → ClassId} {a : Nat} {k : KP a} {t0 : CS} {t9 : CS} (C : cx p s m args meth c cX1_copy_2 RX1 3 none) : ∀ (t : CS) (H : Heap) (locs : List Loc) (hT : cW D dA a k t H) (hS : cS a s.heap H locs t0.2.2.2 0 t) (hK : kC D dA a k t.2.2.2 s) (ls : Array Slot), C_X1_copy_2_8_60 t = some t9 → lv_has ls 3 [(0, .ref (a + 8)), (1, .ref (a + 60))] → W p l e rmX1_copy_2_8_60 s m args below meth c H locs 0 0 (MQ below (cQ D dA a k 0 t0 t9 none) args s 0 0 (ca a)) (F0 m 0 ls []) := by
  obtain ⟨hx, hb, hr, hml, hown, hts, hlocks⟩ := id C
  intro t H locs hT hS hK ls h hl
  unfold C_X1_copy_2_8_60 at h
  refine lv_iconst (v := 0) hx hb dX1_copy_2_0 (by decide) ?_
  refine lv_istore_n (lv' := [(2, .int (0 : Int32)), (0, .ref (a + 8)), (1, .ref (a + 60))]) hx hb dX1_copy_2_1 rfl hl (by decide) rfl (fun ls hl => ?_)
  exact bX1_copy_2_8_60_p2 C fu t (0 : Int32) H locs hT hS hK ls h (lv_sub hl [1, 2, 0] rfl)
theorem mX1_copy_2_8_60 {l : Launch} {D : va_G} {dA : Nat → ClassId} {a : Nat} {k : KP a} {t : CS} {t9 : CS} (h : C_X1_copy_2_8_60 t = some t9) : Met l yX1_copy_2 (ws_ yX1_copy_2 cX1_copy_2 3 none) rmX1_copy_2_8_60 (cPc D dA a k t [.ref (a + 8), .ref (a + 60)]) (cQ D dA a k 0 t t9 none) 0 0 (ca a) := en_C (by decide +kernel) rfl (Nat.le_of_ble_eq_true rfl) (fun p e s m below meth c ls C hK hT hl => bX1_copy_2_8_60 C t _ [] hT cS.rf hK ls h hl)
set_option maxRecDepth 20000 in
abbrev rmX1_copy_2_21_73 : Room := { frames := 2, cells := 0, slots := 0, locals := 60 }
theorem hdX1_copy_2_21_73 : yX1_copy_2.cls ≠ "java/lang/invoke/MethodHandle" ∧ yX1_copy_2.cls ≠ "java/lang/invoke/VarHandle" ∧ (parseMethodDescriptor yX1_copy_2.desc).map (fun d => d.parameters.length) = some 2 := by decide +kernel
theorem bX1_copy_2_21_73_p2 {p : Program} {l : Launch} {e : Env} {s : State} {m : MethodId} {args : Array Value} {below : List Frame} {meth : Method} {c : Code} {D : va_G} {dA : Nat → ClassId} {a : Nat} {k : KP a} {t0 : CS} {t9 : CS} (C : cx p s m args meth c cX1_copy_2 RX1 3 none) : ∀ (n : Nat), ∀ (t : CS) (x2 : Int32) (H : Heap) (locs : List Loc) (hT : cW D dA a k t H) (hS : cS a s.heap H locs t0.2.2.2 0 t) (hK : kC D dA a k t.2.2.2 s) (ls : Array Slot), C_X1_copy_2_21_73_p2 n t x2 = some t9 → lv_has ls 3 [(0, .ref (a + 21)), (1, .ref (a + 73)), (2, .int x2)] → W p l e rmX1_copy_2_21_73 s m args below meth c H locs 0 0 (MQ below (cQ D dA a k 0 t0 t9 none) args s 0 0 (ca a)) (F0 m 2 ls []) := by
  obtain ⟨hx, hb, hr, hml, hown, hts, hlocks⟩ := id C
  intro n
  induction n with
  | zero =>
    intro t x2 H locs hT hS hK ls h hl
    have h : none = some _ := h
    cases h
  | succ n ih =>
    intro t x2 H locs hT hS hK ls h hl
    rw [C_X1_copy_2_21_73_p2] at h
    refine lv_iload_n hx hb dX1_copy_2_2 rfl (lv_at hl 2 rfl) ?_
    refine lv_aload_n hx hb dX1_copy_2_3 rfl (lv_at hl 0 rfl) ?_
    refine c_aln C hK hT 21 30 (by decide) 6 rfl rfl (v := 30) (by decide) dX1_copy_2_4 ?_
    refine lv_icmp_ge (tgt := 23) hx hb dX1_copy_2_5 (by decide) (fun c => ?_) (fun c => ?_)
    · replace h := if_t c h
      exact ec_v C hT hS h dX1_copy_2_23
    · replace h := if_f c h
      refine lv_aload_n hx hb dX1_copy_2_8 rfl (lv_at hl 0 rfl) ?_
      refine lv_iload_n hx hb dX1_copy_2_9 rfl (lv_at hl 2 rfl) ?_
      obtain ⟨hi1, h⟩ := ck_some h
      refine c_ald C hK hT 21 30 6 (by decide) rfl (g := fun j => some (a + (22 + j))) (by rfl) (by rfl) hi1 rfl dX1_copy_2_10 ?_
      refine lv_aload_n hx hb dX1_copy_2_11 rfl (lv_at hl 1 rfl) ?_
      refine lv_iload_n hx hb dX1_copy_2_12 rfl (lv_at hl 2 rfl) ?_
      obtain ⟨hi2, h⟩ := ck_some h
      refine c_ald C hK hT 73 30 6 (by decide) rfl (g := fun j => some (a + (74 + j))) (by rfl) (by rfl) hi2 rfl dX1_copy_2_13 ?_
      refine x_copy C hK hT hS (22 + x2.toNatClampNeg) (74 + x2.toNatClampNeg) 192 (fam_k22 hi1) (fam_k74 hi2) (fam_a22 hi1) (fam_a74 hi2) (by decide) hl.1 (Nat.le_of_ble_eq_true rfl) ⟨Nat.le_of_ble_eq_true rfl, Nat.le_of_ble_eq_true rfl⟩ ⟨Nat.zero_le _, Nat.zero_le _⟩ q263 dX1_copy_2_14 (fun t3 H locs et3 hT hS hK => ?_)
      replace h := lt1_sub et3 h
      obtain ⟨v4, ev4⟩ : ∃ y : Int32, y = x2 + (1 : Int32) := ⟨_, rfl⟩
      replace h := lt1_sub ev4 h
      refine lv_iinc (v := v4) (lv' := [(2, .int v4), (0, .ref (a + 21)), (1, .ref (a + 73))]) hx hb dX1_copy_2_17 hl (k := 2) rfl (by rw [ev4]; rfl) (by decide) rfl (fun ls hl => ?_)
      refine lv_goto (tgt := 2) hx hb dX1_copy_2_20 (by decide) ?_
      exact ih t3 v4 H locs hT hS hK ls h (lv_sub hl [1, 2, 0] rfl)
theorem bX1_copy_2_21_73 {p : Program} {l : Launch} {e : Env} {s : State} {m : MethodId} {args : Array Value} {below : List Frame} {meth : Method} {c : Code} {D : va_G} {dA : Nat → ClassId} {a : Nat} {k : KP a} {t0 : CS} {t9 : CS} (C : cx p s m args meth c cX1_copy_2 RX1 3 none) : ∀ (t : CS) (H : Heap) (locs : List Loc) (hT : cW D dA a k t H) (hS : cS a s.heap H locs t0.2.2.2 0 t) (hK : kC D dA a k t.2.2.2 s) (ls : Array Slot), C_X1_copy_2_21_73 t = some t9 → lv_has ls 3 [(0, .ref (a + 21)), (1, .ref (a + 73))] → W p l e rmX1_copy_2_21_73 s m args below meth c H locs 0 0 (MQ below (cQ D dA a k 0 t0 t9 none) args s 0 0 (ca a)) (F0 m 0 ls []) := by
  obtain ⟨hx, hb, hr, hml, hown, hts, hlocks⟩ := id C
  intro t H locs hT hS hK ls h hl
  unfold C_X1_copy_2_21_73 at h
  refine lv_iconst (v := 0) hx hb dX1_copy_2_0 (by decide) ?_
  refine lv_istore_n (lv' := [(2, .int (0 : Int32)), (0, .ref (a + 21)), (1, .ref (a + 73))]) hx hb dX1_copy_2_1 rfl hl (by decide) rfl (fun ls hl => ?_)
  exact bX1_copy_2_21_73_p2 C fu t (0 : Int32) H locs hT hS hK ls h (lv_sub hl [1, 2, 0] rfl)
theorem mX1_copy_2_21_73 {l : Launch} {D : va_G} {dA : Nat → ClassId} {a : Nat} {k : KP a} {t : CS} {t9 : CS} (h : C_X1_copy_2_21_73 t = some t9) : Met l yX1_copy_2 (ws_ yX1_copy_2 cX1_copy_2 3 none) rmX1_copy_2_21_73 (cPc D dA a k t [.ref (a + 21), .ref (a + 73)]) (cQ D dA a k 0 t t9 none) 0 0 (ca a) := en_C (by decide +kernel) rfl (Nat.le_of_ble_eq_true rfl) (fun p e s m below meth c ls C hK hT hl => bX1_copy_2_21_73 C t _ [] hT cS.rf hK ls h hl)
set_option maxRecDepth 20000 in
abbrev rmX1_be_53_1 : Room := { frames := 3, cells := 0, slots := 0, locals := 82 }
theorem hdX1_be_53_1 : yX1_be.cls = RX1 ∧ yX1_be.cls ≠ "java/lang/invoke/MethodHandle" ∧ yX1_be.cls ≠ "java/lang/invoke/VarHandle" ∧ (parseMethodDescriptor yX1_be.desc).map (fun d => d.parameters.length) = some 1 := by decide +kernel
theorem bX1_be_53_1 {p : Program} {l : Launch} {e : Env} {s : State} {m : MethodId} {args : Array Value} {below : List Frame} {meth : Method} {c : Code} {D : va_G} {dA : Nat → ClassId} {a : Nat} {k : KP a} {t0 : CS} {t9 : CS} (C : cx p s m args meth c cX1_be RX1 2 none) : ∀ (t : CS) (H : Heap) (locs : List Loc) (hT : cW D dA a k t H) (hS : cS a s.heap H locs t0.2.2.2 0 t) (hK : kC D dA a k t.2.2.2 s) (ls : Array Slot), C_X1_be_53_1 t = some t9 → lv_has ls 2 [(0, .ref (a + 53)), (1, .ref (a + 1))] → W p l e rmX1_be_53_1 s m args below meth c H locs 0 0 (MQ below (cQ D dA a k 0 t0 t9 none) args s 0 0 (ca a)) (F0 m 0 ls []) := by
  obtain ⟨hx, hb, hr, hml, hown, hts, hlocks⟩ := id C
  intro t H locs hT hS hK ls h hl
  unfold C_X1_be_53_1 at h
  refine lv_aload_n hx hb dX1_be_0 rfl (lv_at hl 1 rfl) ?_
  refine c_getS C hK hT (Or.inl rfl) 0 (by decide) q221 rfl (v := .ref (a + 2)) rfl dX1_be_1 ?_
  refine lv_aload_n hx hb dX1_be_4 rfl (lv_at hl 0 rfl) ?_
  refine c_getS C hK hT (Or.inr rfl) 0 (by decide) q221 rfl (v := .ref (a + 54)) rfl dX1_be_5 ?_
  refine x_copy C hK hT hS 2 54 7 (by decide) (by decide) (fun _ _ => rfl) (fun _ _ => rfl) (by decide) hl.1 (Nat.le_of_ble_eq_true rfl) ⟨Nat.le_of_ble_eq_true rfl, Nat.le_of_ble_eq_true rfl⟩ ⟨Nat.zero_le _, Nat.zero_le _⟩ q263 dX1_be_8 (fun t1 H locs et1 hT hS hK => ?_)
  replace h := lt1_sub et1 h
  refine lv_aload_n hx hb dX1_be_11 rfl (lv_at hl 1 rfl) ?_
  refine c_getS C hK hT (Or.inl rfl) 1 (by decide) q223 rfl (v := .ref (a + 3)) rfl dX1_be_12 ?_
  refine lv_aload_n hx hb dX1_be_15 rfl (lv_at hl 0 rfl) ?_
  refine c_getS C hK hT (Or.inr rfl) 1 (by decide) q223 rfl (v := .ref (a + 55)) rfl dX1_be_16 ?_
  refine x_copy C hK hT hS 3 55 192 (by decide) (by decide) (fun _ _ => rfl) (fun _ _ => rfl) (by decide) hl.1 (Nat.le_of_ble_eq_true rfl) ⟨Nat.le_of_ble_eq_true rfl, Nat.le_of_ble_eq_true rfl⟩ ⟨Nat.zero_le _, Nat.zero_le _⟩ q263 dX1_be_19 (fun t2 H locs et2 hT hS hK => ?_)
  replace h := lt1_sub et2 h
  refine lv_aload_n hx hb dX1_be_22 rfl (lv_at hl 1 rfl) ?_
  refine c_getS C hK hT (Or.inl rfl) 2 (by decide) q225 rfl (v := .ref (a + 4)) rfl dX1_be_23 ?_
  refine lv_aload_n hx hb dX1_be_26 rfl (lv_at hl 0 rfl) ?_
  refine c_getS C hK hT (Or.inr rfl) 2 (by decide) q225 rfl (v := .ref (a + 56)) rfl dX1_be_27 ?_
  refine x_copy C hK hT hS 4 56 26 (by decide) (by decide) (fun _ _ => rfl) (fun _ _ => rfl) (by decide) hl.1 (Nat.le_of_ble_eq_true rfl) ⟨Nat.le_of_ble_eq_true rfl, Nat.le_of_ble_eq_true rfl⟩ ⟨Nat.zero_le _, Nat.zero_le _⟩ q263 dX1_be_30 (fun t3 H locs et3 hT hS hK => ?_)
  replace h := lt1_sub et3 h
  refine lv_aload_n hx hb dX1_be_33 rfl (lv_at hl 1 rfl) ?_
  refine c_getS C hK hT (Or.inl rfl) 3 (by decide) q227 rfl (v := .ref (a + 5)) rfl dX1_be_34 ?_
  refine lv_aload_n hx hb dX1_be_37 rfl (lv_at hl 0 rfl) ?_
  refine c_getS C hK hT (Or.inr rfl) 3 (by decide) q227 rfl (v := .ref (a + 57)) rfl dX1_be_38 ?_
  refine x_copy C hK hT hS 5 57 4 (by decide) (by decide) (fun _ _ => rfl) (fun _ _ => rfl) (by decide) hl.1 (Nat.le_of_ble_eq_true rfl) ⟨Nat.le_of_ble_eq_true rfl, Nat.le_of_ble_eq_true rfl⟩ ⟨Nat.zero_le _, Nat.zero_le _⟩ q263 dX1_be_41 (fun t4 H locs et4 hT hS hK => ?_)
  replace h := lt1_sub et4 h
  refine lv_aload_n hx hb dX1_be_44 rfl (lv_at hl 1 rfl) ?_
  refine c_getS C hK hT (Or.inl rfl) 4 (by decide) q229 rfl (v := .ref (a + 6)) rfl dX1_be_45 ?_
  refine lv_iconst (v := 0) hx hb dX1_be_48 (by decide) ?_
  refine lv_aload_n hx hb dX1_be_49 rfl (lv_at hl 0 rfl) ?_
  refine c_getS C hK hT (Or.inr rfl) 4 (by decide) q229 rfl (v := .ref (a + 58)) rfl dX1_be_50 ?_
  refine lv_iconst (v := 0) hx hb dX1_be_53 (by decide) ?_
  refine lv_bipush (v := 24) hx hb dX1_be_54 (by decide) ?_
  obtain ⟨ha5, h⟩ := ckL_some h
  refine c_copyC (ci := 3) rfl C hK hT hS hl.1 6 58 24 4 (by decide) (by decide) (fun _ _ => rfl) (fun _ _ => rfl) rfl q266 (by decide) (by decide) ha5 ⟨Nat.le_of_ble_eq_true rfl, Nat.le_of_ble_eq_true rfl⟩ (Nat.le_of_ble_eq_true rfl) dX1_be_56 (fun t6 H locs et6 hT hS hK => ?_)
  replace h := lt1_sub et6 h
  refine lv_aload_n hx hb dX1_be_59 rfl (lv_at hl 1 rfl) ?_
  refine c_getS C hK hT (Or.inl rfl) 5 (by decide) q231 rfl (v := .ref (a + 7)) rfl dX1_be_60 ?_
  refine lv_iconst (v := 0) hx hb dX1_be_63 (by decide) ?_
  refine lv_aload_n hx hb dX1_be_64 rfl (lv_at hl 0 rfl) ?_
  refine c_getS C hK hT (Or.inr rfl) 5 (by decide) q231 rfl (v := .ref (a + 59)) rfl dX1_be_65 ?_
  refine lv_iconst (v := 0) hx hb dX1_be_68 (by decide) ?_
  refine lv_bipush (v := 8) hx hb dX1_be_69 (by decide) ?_
  obtain ⟨ha7, h⟩ := ckL_some h
  refine c_copyG C hK hT hS hl.1 7 59 8 (by decide) (by decide) (fun _ _ => rfl) (fun _ _ => rfl) q266 (by decide) (by decide) ha7 ⟨Nat.le_of_ble_eq_true rfl, Nat.le_of_ble_eq_true rfl⟩ (Nat.le_of_ble_eq_true rfl) dX1_be_71 (fun t8 H locs et8 hT hS hK => ?_)
  replace h := lt1_sub et8 h
  refine lv_aload_n hx hb dX1_be_74 rfl (lv_at hl 1 rfl) ?_
  refine c_getS C hK hT (Or.inl rfl) 6 (by decide) q233 rfl (v := .ref (a + 8)) rfl dX1_be_75 ?_
  refine lv_aload_n hx hb dX1_be_78 rfl (lv_at hl 0 rfl) ?_
  refine c_getS C hK hT (Or.inr rfl) 6 (by decide) q233 rfl (v := .ref (a + 60)) rfl dX1_be_79 ?_
  obtain ⟨t9, ht9, h⟩ := bd1_some h
  refine wc_void hS hK (run_cs (As := [.ref (a + 8), .ref (a + 60)]) (rest := []) C hK hT hS.2.1 (mX1_copy_2_8_60 ht9) q269 q270 q159 q271 ⟨rfl, rfl⟩ hdX1_copy_2_8_60 ⟨Nat.le_of_ble_eq_true rfl, Nat.le_of_ble_eq_true rfl⟩ ⟨Nat.zero_le _, Nat.zero_le _⟩ rfl hl.1 rfl (Nat.le_of_ble_eq_true rfl) dX1_be_82) (fun H locs hT hS hK hNt9 => ?_)
  refine lv_aload_n hx hb dX1_be_85 rfl (lv_at hl 1 rfl) ?_
  refine c_getS C hK hT (Or.inl rfl) 7 (by decide) q235 rfl (v := .ref (a + 21)) rfl dX1_be_86 ?_
  refine lv_aload_n hx hb dX1_be_89 rfl (lv_at hl 0 rfl) ?_
  refine c_getS C hK hT (Or.inr rfl) 7 (by decide) q235 rfl (v := .ref (a + 73)) rfl dX1_be_90 ?_
  obtain ⟨t10, ht10, h⟩ := bd1_some h
  refine wc_void hS hK (run_cs (As := [.ref (a + 21), .ref (a + 73)]) (rest := []) C hK hT hS.2.1 (mX1_copy_2_21_73 ht10) q269 q270 q159 q271 ⟨rfl, rfl⟩ hdX1_copy_2_21_73 ⟨Nat.le_of_ble_eq_true rfl, Nat.le_of_ble_eq_true rfl⟩ ⟨Nat.zero_le _, Nat.zero_le _⟩ rfl hl.1 rfl (Nat.le_of_ble_eq_true rfl) dX1_be_93) (fun H locs hT hS hK hNt10 => ?_)
  refine lv_aload_n hx hb dX1_be_96 rfl (lv_at hl 1 rfl) ?_
  refine c_getS C hK hT (Or.inl rfl) 8 (by decide) q237 rfl (v := .ref (a + 52)) rfl dX1_be_97 ?_
  refine lv_iconst (v := 0) hx hb dX1_be_100 (by decide) ?_
  refine lv_aload_n hx hb dX1_be_101 rfl (lv_at hl 0 rfl) ?_
  refine c_getS C hK hT (Or.inr rfl) 8 (by decide) q237 rfl (v := .ref (a + 104)) rfl dX1_be_102 ?_
  refine lv_iconst (v := 0) hx hb dX1_be_105 (by decide) ?_
  refine lv_iconst (v := 4) hx hb dX1_be_106 (by decide) ?_
  obtain ⟨ha11, h⟩ := ckL_some h
  refine c_copyC (ci := 5) rfl C hK hT hS hl.1 52 104 4 5 (by decide) (by decide) (fun _ _ => rfl) (fun _ _ => rfl) rfl q266 (by decide) (by decide) ha11 ⟨Nat.le_of_ble_eq_true rfl, Nat.le_of_ble_eq_true rfl⟩ (Nat.le_of_ble_eq_true rfl) dX1_be_107 (fun t12 H locs et12 hT hS hK => ?_)
  replace h := lt1_sub et12 h
  exact ec_v C hT hS h dX1_be_110
theorem mX1_be_53_1 {l : Launch} {D : va_G} {dA : Nat → ClassId} {a : Nat} {k : KP a} {t : CS} {t9 : CS} (h : C_X1_be_53_1 t = some t9) : Met l yX1_be (ws_ yX1_be cX1_be 2 none) rmX1_be_53_1 (cPc D dA a k t [.ref (a + 53), .ref (a + 1)]) (cQ D dA a k 0 t t9 none) 0 0 (ca a) := en_C (by decide +kernel) rfl (Nat.le_of_ble_eq_true rfl) (fun p e s m below meth c ls C hK hT hl => bX1_be_53_1 C t _ [] hT cS.rf hK ls h hl)
set_option maxRecDepth 20000 in
abbrev rmX0_image : Room := { frames := 4, cells := 0, slots := 0, locals := 103 }
theorem hdX0_image : yX0_image.cls = RX0 ∧ yX0_image.cls ≠ "java/lang/invoke/MethodHandle" ∧ yX0_image.cls ≠ "java/lang/invoke/VarHandle" ∧ (parseMethodDescriptor yX0_image.desc).map (fun d => d.parameters.length) = some 0 := by decide +kernel
theorem bX0_image {p : Program} {l : Launch} {e : Env} {s : State} {m : MethodId} {args : Array Value} {below : List Frame} {meth : Method} {c : Code} {D : va_G} {dA : Nat → ClassId} {a : Nat} {k : KP a} {t0 : CS} {r : Int32} {t9 : CS} (C : cx p s m args meth c cX0_image RX0 1 (some .int)) : ∀ (t : CS) (H : Heap) (locs : List Loc) (hT : cW D dA a k t H) (hS : cS a s.heap H locs t0.2.2.2 0 t) (hK : kC D dA a k t.2.2.2 s) (ls : Array Slot), C_image t = some (r, t9) → lv_has ls 1 [(0, .ref a)] → W p l e rmX0_image s m args below meth c H locs 0 0 (MQ below (cQ D dA a k 0 t0 t9 (some (.int r))) args s 0 0 (ca a)) (F0 m 0 ls []) := by
  obtain ⟨hx, hb, hr, hml, hown, hts, hlocks⟩ := id C
  intro t H locs hT hS hK ls h hl
  unfold C_image at h
  refine lv_aload_n hx hb dX0_image_0 rfl (lv_at hl 0 rfl) ?_
  refine cg1 C hK hT dX0_image_1 ?_
  refine lv_aload_n hx hb dX0_image_4 rfl (lv_at hl 0 rfl) ?_
  refine cg0 C hK hT dX0_image_5 ?_
  obtain ⟨t1, ht1, h⟩ := bd1_some h
  refine wc_void hS hK (run_c (As := [.ref (a + 1)]) (rest := []) C hK hT hS.2.1 (rv_S hK hT (Or.inr rfl)) (mX1_be_53_1 ht1) q259 q260 q261 q159 q262 ⟨rfl, rfl⟩ hdX1_be_53_1 ⟨Nat.le_of_ble_eq_true rfl, Nat.le_of_ble_eq_true rfl⟩ ⟨Nat.zero_le _, Nat.zero_le _⟩ rfl hl.1 rfl (Nat.le_of_ble_eq_true rfl) dX0_image_8) (fun H locs hT hS hK hNt1 => ?_)
  refine lv_aload_n hx hb dX0_image_11 rfl (lv_at hl 0 rfl) ?_
  refine cg0 C hK hT dX0_image_12 ?_
  refine c_getSN C hK hT (Or.inl rfl) 1 (by decide) (nf224 hK.2.1) rfl (v := .ref (a + 3)) rfl dX0_image_15 ?_
  refine lv_iconst (v := 1) hx hb dX0_image_18 (by decide) ?_
  obtain ⟨hi2, h⟩ := ck_some h
  refine c_ild C hK hT 3 192 (by decide) (fun _ _ => rfl) hi2 dX0_image_19 ?_
  exact ec_i C hT hS h dX0_image_20
theorem mX0_image {l : Launch} {D : va_G} {dA : Nat → ClassId} {a : Nat} {k : KP a} {t : CS} {r : Int32} {t9 : CS} (h : C_image t = some (r, t9)) : Met l yX0_image (ws_ yX0_image cX0_image 1 (some .int)) rmX0_image (cPc D dA a k t [.ref a]) (cQ D dA a k 0 t t9 (some (.int r))) 0 0 (ca a) := en_C (by decide +kernel) rfl (Nat.le_of_ble_eq_true rfl) (fun p e s m below meth c ls C hK hT hl => bX0_image C t _ [] hT cS.rf hK ls h hl)
set_option maxRecDepth 20000 in
abbrev rmX1_copy_2_60_8 : Room := { frames := 2, cells := 0, slots := 0, locals := 60 }
theorem hdX1_copy_2_60_8 : yX1_copy_2.cls ≠ "java/lang/invoke/MethodHandle" ∧ yX1_copy_2.cls ≠ "java/lang/invoke/VarHandle" ∧ (parseMethodDescriptor yX1_copy_2.desc).map (fun d => d.parameters.length) = some 2 := by decide +kernel
theorem bX1_copy_2_60_8_p2 {p : Program} {l : Launch} {e : Env} {s : State} {m : MethodId} {args : Array Value} {below : List Frame} {meth : Method} {c : Code} {D : va_G} {dA : Nat → ClassId} {a : Nat} {k : KP a} {t0 : CS} {t9 : CS} (C : cx p s m args meth c cX1_copy_2 RX1 3 none) : ∀ (n : Nat), ∀ (t : CS) (x2 : Int32) (H : Heap) (locs : List Loc) (hT : cW D dA a k t H) (hS : cS a s.heap H locs t0.2.2.2 0 t) (hK : kC D dA a k t.2.2.2 s) (ls : Array Slot), C_X1_copy_2_60_8_p2 n t x2 = some t9 → lv_has ls 3 [(0, .ref (a + 60)), (1, .ref (a + 8)), (2, .int x2)] → W p l e rmX1_copy_2_60_8 s m args below meth c H locs 0 0 (MQ below (cQ D dA a k 0 t0 t9 none) args s 0 0 (ca a)) (F0 m 2 ls []) := by
  obtain ⟨hx, hb, hr, hml, hown, hts, hlocks⟩ := id C
  intro n
  induction n with
  | zero =>
    intro t x2 H locs hT hS hK ls h hl
    have h : none = some _ := h
    cases h
  | succ n ih =>
    intro t x2 H locs hT hS hK ls h hl
    rw [C_X1_copy_2_60_8_p2] at h
    refine lv_iload_n hx hb dX1_copy_2_2 rfl (lv_at hl 2 rfl) ?_
    refine lv_aload_n hx hb dX1_copy_2_3 rfl (lv_at hl 0 rfl) ?_
    refine c_aln C hK hT 60 12 (by decide) 6 rfl rfl (v := 12) (by decide) dX1_copy_2_4 ?_
    refine lv_icmp_ge (tgt := 23) hx hb dX1_copy_2_5 (by decide) (fun c => ?_) (fun c => ?_)
    · replace h := if_t c h
      exact ec_v C hT hS h dX1_copy_2_23
    · replace h := if_f c h
      refine lv_aload_n hx hb dX1_copy_2_8 rfl (lv_at hl 0 rfl) ?_
      refine lv_iload_n hx hb dX1_copy_2_9 rfl (lv_at hl 2 rfl) ?_
      obtain ⟨hi1, h⟩ := ck_some h
      refine c_ald C hK hT 60 12 6 (by decide) rfl (g := fun j => some (a + (61 + j))) (by rfl) (by rfl) hi1 rfl dX1_copy_2_10 ?_
      refine lv_aload_n hx hb dX1_copy_2_11 rfl (lv_at hl 1 rfl) ?_
      refine lv_iload_n hx hb dX1_copy_2_12 rfl (lv_at hl 2 rfl) ?_
      obtain ⟨hi2, h⟩ := ck_some h
      refine c_ald C hK hT 8 12 6 (by decide) rfl (g := fun j => some (a + (9 + j))) (by rfl) (by rfl) hi2 rfl dX1_copy_2_13 ?_
      refine x_copy C hK hT hS (61 + x2.toNatClampNeg) (9 + x2.toNatClampNeg) 3 (fam_k61 hi1) (fam_k9 hi2) (fam_a61 hi1) (fam_a9 hi2) (by decide) hl.1 (Nat.le_of_ble_eq_true rfl) ⟨Nat.le_of_ble_eq_true rfl, Nat.le_of_ble_eq_true rfl⟩ ⟨Nat.zero_le _, Nat.zero_le _⟩ q263 dX1_copy_2_14 (fun t3 H locs et3 hT hS hK => ?_)
      replace h := lt1_sub et3 h
      obtain ⟨v4, ev4⟩ : ∃ y : Int32, y = x2 + (1 : Int32) := ⟨_, rfl⟩
      replace h := lt1_sub ev4 h
      refine lv_iinc (v := v4) (lv' := [(2, .int v4), (0, .ref (a + 60)), (1, .ref (a + 8))]) hx hb dX1_copy_2_17 hl (k := 2) rfl (by rw [ev4]; rfl) (by decide) rfl (fun ls hl => ?_)
      refine lv_goto (tgt := 2) hx hb dX1_copy_2_20 (by decide) ?_
      exact ih t3 v4 H locs hT hS hK ls h (lv_sub hl [1, 2, 0] rfl)
theorem bX1_copy_2_60_8 {p : Program} {l : Launch} {e : Env} {s : State} {m : MethodId} {args : Array Value} {below : List Frame} {meth : Method} {c : Code} {D : va_G} {dA : Nat → ClassId} {a : Nat} {k : KP a} {t0 : CS} {t9 : CS} (C : cx p s m args meth c cX1_copy_2 RX1 3 none) : ∀ (t : CS) (H : Heap) (locs : List Loc) (hT : cW D dA a k t H) (hS : cS a s.heap H locs t0.2.2.2 0 t) (hK : kC D dA a k t.2.2.2 s) (ls : Array Slot), C_X1_copy_2_60_8 t = some t9 → lv_has ls 3 [(0, .ref (a + 60)), (1, .ref (a + 8))] → W p l e rmX1_copy_2_60_8 s m args below meth c H locs 0 0 (MQ below (cQ D dA a k 0 t0 t9 none) args s 0 0 (ca a)) (F0 m 0 ls []) := by
  obtain ⟨hx, hb, hr, hml, hown, hts, hlocks⟩ := id C
  intro t H locs hT hS hK ls h hl
  unfold C_X1_copy_2_60_8 at h
  refine lv_iconst (v := 0) hx hb dX1_copy_2_0 (by decide) ?_
  refine lv_istore_n (lv' := [(2, .int (0 : Int32)), (0, .ref (a + 60)), (1, .ref (a + 8))]) hx hb dX1_copy_2_1 rfl hl (by decide) rfl (fun ls hl => ?_)
  exact bX1_copy_2_60_8_p2 C fu t (0 : Int32) H locs hT hS hK ls h (lv_sub hl [1, 2, 0] rfl)
theorem mX1_copy_2_60_8 {l : Launch} {D : va_G} {dA : Nat → ClassId} {a : Nat} {k : KP a} {t : CS} {t9 : CS} (h : C_X1_copy_2_60_8 t = some t9) : Met l yX1_copy_2 (ws_ yX1_copy_2 cX1_copy_2 3 none) rmX1_copy_2_60_8 (cPc D dA a k t [.ref (a + 60), .ref (a + 8)]) (cQ D dA a k 0 t t9 none) 0 0 (ca a) := en_C (by decide +kernel) rfl (Nat.le_of_ble_eq_true rfl) (fun p e s m below meth c ls C hK hT hl => bX1_copy_2_60_8 C t _ [] hT cS.rf hK ls h hl)
set_option maxRecDepth 20000 in
abbrev rmX1_copy_2_73_21 : Room := { frames := 2, cells := 0, slots := 0, locals := 60 }
theorem hdX1_copy_2_73_21 : yX1_copy_2.cls ≠ "java/lang/invoke/MethodHandle" ∧ yX1_copy_2.cls ≠ "java/lang/invoke/VarHandle" ∧ (parseMethodDescriptor yX1_copy_2.desc).map (fun d => d.parameters.length) = some 2 := by decide +kernel
theorem bX1_copy_2_73_21_p2 {p : Program} {l : Launch} {e : Env} {s : State} {m : MethodId} {args : Array Value} {below : List Frame} {meth : Method} {c : Code} {D : va_G} {dA : Nat → ClassId} {a : Nat} {k : KP a} {t0 : CS} {t9 : CS} (C : cx p s m args meth c cX1_copy_2 RX1 3 none) : ∀ (n : Nat), ∀ (t : CS) (x2 : Int32) (H : Heap) (locs : List Loc) (hT : cW D dA a k t H) (hS : cS a s.heap H locs t0.2.2.2 0 t) (hK : kC D dA a k t.2.2.2 s) (ls : Array Slot), C_X1_copy_2_73_21_p2 n t x2 = some t9 → lv_has ls 3 [(0, .ref (a + 73)), (1, .ref (a + 21)), (2, .int x2)] → W p l e rmX1_copy_2_73_21 s m args below meth c H locs 0 0 (MQ below (cQ D dA a k 0 t0 t9 none) args s 0 0 (ca a)) (F0 m 2 ls []) := by
  obtain ⟨hx, hb, hr, hml, hown, hts, hlocks⟩ := id C
  intro n
  induction n with
  | zero =>
    intro t x2 H locs hT hS hK ls h hl
    have h : none = some _ := h
    cases h
  | succ n ih =>
    intro t x2 H locs hT hS hK ls h hl
    rw [C_X1_copy_2_73_21_p2] at h
    refine lv_iload_n hx hb dX1_copy_2_2 rfl (lv_at hl 2 rfl) ?_
    refine lv_aload_n hx hb dX1_copy_2_3 rfl (lv_at hl 0 rfl) ?_
    refine c_aln C hK hT 73 30 (by decide) 6 rfl rfl (v := 30) (by decide) dX1_copy_2_4 ?_
    refine lv_icmp_ge (tgt := 23) hx hb dX1_copy_2_5 (by decide) (fun c => ?_) (fun c => ?_)
    · replace h := if_t c h
      exact ec_v C hT hS h dX1_copy_2_23
    · replace h := if_f c h
      refine lv_aload_n hx hb dX1_copy_2_8 rfl (lv_at hl 0 rfl) ?_
      refine lv_iload_n hx hb dX1_copy_2_9 rfl (lv_at hl 2 rfl) ?_
      obtain ⟨hi1, h⟩ := ck_some h
      refine c_ald C hK hT 73 30 6 (by decide) rfl (g := fun j => some (a + (74 + j))) (by rfl) (by rfl) hi1 rfl dX1_copy_2_10 ?_
      refine lv_aload_n hx hb dX1_copy_2_11 rfl (lv_at hl 1 rfl) ?_
      refine lv_iload_n hx hb dX1_copy_2_12 rfl (lv_at hl 2 rfl) ?_
      obtain ⟨hi2, h⟩ := ck_some h
      refine c_ald C hK hT 21 30 6 (by decide) rfl (g := fun j => some (a + (22 + j))) (by rfl) (by rfl) hi2 rfl dX1_copy_2_13 ?_
      refine x_copy C hK hT hS (74 + x2.toNatClampNeg) (22 + x2.toNatClampNeg) 192 (fam_k74 hi1) (fam_k22 hi2) (fam_a74 hi1) (fam_a22 hi2) (by decide) hl.1 (Nat.le_of_ble_eq_true rfl) ⟨Nat.le_of_ble_eq_true rfl, Nat.le_of_ble_eq_true rfl⟩ ⟨Nat.zero_le _, Nat.zero_le _⟩ q263 dX1_copy_2_14 (fun t3 H locs et3 hT hS hK => ?_)
      replace h := lt1_sub et3 h
      obtain ⟨v4, ev4⟩ : ∃ y : Int32, y = x2 + (1 : Int32) := ⟨_, rfl⟩
      replace h := lt1_sub ev4 h
      refine lv_iinc (v := v4) (lv' := [(2, .int v4), (0, .ref (a + 73)), (1, .ref (a + 21))]) hx hb dX1_copy_2_17 hl (k := 2) rfl (by rw [ev4]; rfl) (by decide) rfl (fun ls hl => ?_)
      refine lv_goto (tgt := 2) hx hb dX1_copy_2_20 (by decide) ?_
      exact ih t3 v4 H locs hT hS hK ls h (lv_sub hl [1, 2, 0] rfl)
theorem bX1_copy_2_73_21 {p : Program} {l : Launch} {e : Env} {s : State} {m : MethodId} {args : Array Value} {below : List Frame} {meth : Method} {c : Code} {D : va_G} {dA : Nat → ClassId} {a : Nat} {k : KP a} {t0 : CS} {t9 : CS} (C : cx p s m args meth c cX1_copy_2 RX1 3 none) : ∀ (t : CS) (H : Heap) (locs : List Loc) (hT : cW D dA a k t H) (hS : cS a s.heap H locs t0.2.2.2 0 t) (hK : kC D dA a k t.2.2.2 s) (ls : Array Slot), C_X1_copy_2_73_21 t = some t9 → lv_has ls 3 [(0, .ref (a + 73)), (1, .ref (a + 21))] → W p l e rmX1_copy_2_73_21 s m args below meth c H locs 0 0 (MQ below (cQ D dA a k 0 t0 t9 none) args s 0 0 (ca a)) (F0 m 0 ls []) := by
  obtain ⟨hx, hb, hr, hml, hown, hts, hlocks⟩ := id C
  intro t H locs hT hS hK ls h hl
  unfold C_X1_copy_2_73_21 at h
  refine lv_iconst (v := 0) hx hb dX1_copy_2_0 (by decide) ?_
  refine lv_istore_n (lv' := [(2, .int (0 : Int32)), (0, .ref (a + 73)), (1, .ref (a + 21))]) hx hb dX1_copy_2_1 rfl hl (by decide) rfl (fun ls hl => ?_)
  exact bX1_copy_2_73_21_p2 C fu t (0 : Int32) H locs hT hS hK ls h (lv_sub hl [1, 2, 0] rfl)
theorem mX1_copy_2_73_21 {l : Launch} {D : va_G} {dA : Nat → ClassId} {a : Nat} {k : KP a} {t : CS} {t9 : CS} (h : C_X1_copy_2_73_21 t = some t9) : Met l yX1_copy_2 (ws_ yX1_copy_2 cX1_copy_2 3 none) rmX1_copy_2_73_21 (cPc D dA a k t [.ref (a + 73), .ref (a + 21)]) (cQ D dA a k 0 t t9 none) 0 0 (ca a) := en_C (by decide +kernel) rfl (Nat.le_of_ble_eq_true rfl) (fun p e s m below meth c ls C hK hT hl => bX1_copy_2_73_21 C t _ [] hT cS.rf hK ls h hl)
set_option maxRecDepth 20000 in
abbrev rmX1_be_53 : Room := { frames := 3, cells := 0, slots := 0, locals := 82 }
theorem hdX1_be_53 : yX1_be.cls = RX1 ∧ yX1_be.cls ≠ "java/lang/invoke/MethodHandle" ∧ yX1_be.cls ≠ "java/lang/invoke/VarHandle" ∧ (parseMethodDescriptor yX1_be.desc).map (fun d => d.parameters.length) = some 1 := by decide +kernel
theorem bX1_be_53 {p : Program} {l : Launch} {e : Env} {s : State} {m : MethodId} {args : Array Value} {below : List Frame} {meth : Method} {c : Code} {D : va_G} {dA : Nat → ClassId} {a : Nat} {k : KP a} {t0 : CS} {t9 : CS} (C : cx p s m args meth c cX1_be RX1 2 none) : ∀ (t : CS) (H : Heap) (locs : List Loc) (hT : cW D dA a k t H) (hS : cS a s.heap H locs t0.2.2.2 0 t) (hK : kC D dA a k t.2.2.2 s) (ls : Array Slot), C_X1_be_53 t = some t9 → lv_has ls 2 [(0, .ref (a + 1)), (1, .ref (a + 53))] → W p l e rmX1_be_53 s m args below meth c H locs 0 0 (MQ below (cQ D dA a k 0 t0 t9 none) args s 0 0 (ca a)) (F0 m 0 ls []) := by
  obtain ⟨hx, hb, hr, hml, hown, hts, hlocks⟩ := id C
  intro t H locs hT hS hK ls h hl
  unfold C_X1_be_53 at h
  refine lv_aload_n hx hb dX1_be_0 rfl (lv_at hl 1 rfl) ?_
  refine c_getS C hK hT (Or.inr rfl) 0 (by decide) q221 rfl (v := .ref (a + 54)) rfl dX1_be_1 ?_
  refine lv_aload_n hx hb dX1_be_4 rfl (lv_at hl 0 rfl) ?_
  refine c_getS C hK hT (Or.inl rfl) 0 (by decide) q221 rfl (v := .ref (a + 2)) rfl dX1_be_5 ?_
  refine x_copy C hK hT hS 54 2 7 (by decide) (by decide) (fun _ _ => rfl) (fun _ _ => rfl) (by decide) hl.1 (Nat.le_of_ble_eq_true rfl) ⟨Nat.le_of_ble_eq_true rfl, Nat.le_of_ble_eq_true rfl⟩ ⟨Nat.zero_le _, Nat.zero_le _⟩ q263 dX1_be_8 (fun t1 H locs et1 hT hS hK => ?_)
  replace h := lt1_sub et1 h
  refine lv_aload_n hx hb dX1_be_11 rfl (lv_at hl 1 rfl) ?_
  refine c_getS C hK hT (Or.inr rfl) 1 (by decide) q223 rfl (v := .ref (a + 55)) rfl dX1_be_12 ?_
  refine lv_aload_n hx hb dX1_be_15 rfl (lv_at hl 0 rfl) ?_
  refine c_getS C hK hT (Or.inl rfl) 1 (by decide) q223 rfl (v := .ref (a + 3)) rfl dX1_be_16 ?_
  refine x_copy C hK hT hS 55 3 192 (by decide) (by decide) (fun _ _ => rfl) (fun _ _ => rfl) (by decide) hl.1 (Nat.le_of_ble_eq_true rfl) ⟨Nat.le_of_ble_eq_true rfl, Nat.le_of_ble_eq_true rfl⟩ ⟨Nat.zero_le _, Nat.zero_le _⟩ q263 dX1_be_19 (fun t2 H locs et2 hT hS hK => ?_)
  replace h := lt1_sub et2 h
  refine lv_aload_n hx hb dX1_be_22 rfl (lv_at hl 1 rfl) ?_
  refine c_getS C hK hT (Or.inr rfl) 2 (by decide) q225 rfl (v := .ref (a + 56)) rfl dX1_be_23 ?_
  refine lv_aload_n hx hb dX1_be_26 rfl (lv_at hl 0 rfl) ?_
  refine c_getS C hK hT (Or.inl rfl) 2 (by decide) q225 rfl (v := .ref (a + 4)) rfl dX1_be_27 ?_
  refine x_copy C hK hT hS 56 4 26 (by decide) (by decide) (fun _ _ => rfl) (fun _ _ => rfl) (by decide) hl.1 (Nat.le_of_ble_eq_true rfl) ⟨Nat.le_of_ble_eq_true rfl, Nat.le_of_ble_eq_true rfl⟩ ⟨Nat.zero_le _, Nat.zero_le _⟩ q263 dX1_be_30 (fun t3 H locs et3 hT hS hK => ?_)
  replace h := lt1_sub et3 h
  refine lv_aload_n hx hb dX1_be_33 rfl (lv_at hl 1 rfl) ?_
  refine c_getS C hK hT (Or.inr rfl) 3 (by decide) q227 rfl (v := .ref (a + 57)) rfl dX1_be_34 ?_
  refine lv_aload_n hx hb dX1_be_37 rfl (lv_at hl 0 rfl) ?_
  refine c_getS C hK hT (Or.inl rfl) 3 (by decide) q227 rfl (v := .ref (a + 5)) rfl dX1_be_38 ?_
  refine x_copy C hK hT hS 57 5 4 (by decide) (by decide) (fun _ _ => rfl) (fun _ _ => rfl) (by decide) hl.1 (Nat.le_of_ble_eq_true rfl) ⟨Nat.le_of_ble_eq_true rfl, Nat.le_of_ble_eq_true rfl⟩ ⟨Nat.zero_le _, Nat.zero_le _⟩ q263 dX1_be_41 (fun t4 H locs et4 hT hS hK => ?_)
  replace h := lt1_sub et4 h
  refine lv_aload_n hx hb dX1_be_44 rfl (lv_at hl 1 rfl) ?_
  refine c_getS C hK hT (Or.inr rfl) 4 (by decide) q229 rfl (v := .ref (a + 58)) rfl dX1_be_45 ?_
  refine lv_iconst (v := 0) hx hb dX1_be_48 (by decide) ?_
  refine lv_aload_n hx hb dX1_be_49 rfl (lv_at hl 0 rfl) ?_
  refine c_getS C hK hT (Or.inl rfl) 4 (by decide) q229 rfl (v := .ref (a + 6)) rfl dX1_be_50 ?_
  refine lv_iconst (v := 0) hx hb dX1_be_53 (by decide) ?_
  refine lv_bipush (v := 24) hx hb dX1_be_54 (by decide) ?_
  obtain ⟨ha5, h⟩ := ckL_some h
  refine c_copyC (ci := 3) rfl C hK hT hS hl.1 58 6 24 4 (by decide) (by decide) (fun _ _ => rfl) (fun _ _ => rfl) rfl q266 (by decide) (by decide) ha5 ⟨Nat.le_of_ble_eq_true rfl, Nat.le_of_ble_eq_true rfl⟩ (Nat.le_of_ble_eq_true rfl) dX1_be_56 (fun t6 H locs et6 hT hS hK => ?_)
  replace h := lt1_sub et6 h
  refine lv_aload_n hx hb dX1_be_59 rfl (lv_at hl 1 rfl) ?_
  refine c_getS C hK hT (Or.inr rfl) 5 (by decide) q231 rfl (v := .ref (a + 59)) rfl dX1_be_60 ?_
  refine lv_iconst (v := 0) hx hb dX1_be_63 (by decide) ?_
  refine lv_aload_n hx hb dX1_be_64 rfl (lv_at hl 0 rfl) ?_
  refine c_getS C hK hT (Or.inl rfl) 5 (by decide) q231 rfl (v := .ref (a + 7)) rfl dX1_be_65 ?_
  refine lv_iconst (v := 0) hx hb dX1_be_68 (by decide) ?_
  refine lv_bipush (v := 8) hx hb dX1_be_69 (by decide) ?_
  obtain ⟨ha7, h⟩ := ckL_some h
  refine c_copyG C hK hT hS hl.1 59 7 8 (by decide) (by decide) (fun _ _ => rfl) (fun _ _ => rfl) q266 (by decide) (by decide) ha7 ⟨Nat.le_of_ble_eq_true rfl, Nat.le_of_ble_eq_true rfl⟩ (Nat.le_of_ble_eq_true rfl) dX1_be_71 (fun t8 H locs et8 hT hS hK => ?_)
  replace h := lt1_sub et8 h
  refine lv_aload_n hx hb dX1_be_74 rfl (lv_at hl 1 rfl) ?_
  refine c_getS C hK hT (Or.inr rfl) 6 (by decide) q233 rfl (v := .ref (a + 60)) rfl dX1_be_75 ?_
  refine lv_aload_n hx hb dX1_be_78 rfl (lv_at hl 0 rfl) ?_
  refine c_getS C hK hT (Or.inl rfl) 6 (by decide) q233 rfl (v := .ref (a + 8)) rfl dX1_be_79 ?_
  obtain ⟨t9, ht9, h⟩ := bd1_some h
  refine wc_void hS hK (run_cs (As := [.ref (a + 60), .ref (a + 8)]) (rest := []) C hK hT hS.2.1 (mX1_copy_2_60_8 ht9) q269 q270 q159 q271 ⟨rfl, rfl⟩ hdX1_copy_2_60_8 ⟨Nat.le_of_ble_eq_true rfl, Nat.le_of_ble_eq_true rfl⟩ ⟨Nat.zero_le _, Nat.zero_le _⟩ rfl hl.1 rfl (Nat.le_of_ble_eq_true rfl) dX1_be_82) (fun H locs hT hS hK hNt9 => ?_)
  refine lv_aload_n hx hb dX1_be_85 rfl (lv_at hl 1 rfl) ?_
  refine c_getS C hK hT (Or.inr rfl) 7 (by decide) q235 rfl (v := .ref (a + 73)) rfl dX1_be_86 ?_
  refine lv_aload_n hx hb dX1_be_89 rfl (lv_at hl 0 rfl) ?_
  refine c_getS C hK hT (Or.inl rfl) 7 (by decide) q235 rfl (v := .ref (a + 21)) rfl dX1_be_90 ?_
  obtain ⟨t10, ht10, h⟩ := bd1_some h
  refine wc_void hS hK (run_cs (As := [.ref (a + 73), .ref (a + 21)]) (rest := []) C hK hT hS.2.1 (mX1_copy_2_73_21 ht10) q269 q270 q159 q271 ⟨rfl, rfl⟩ hdX1_copy_2_73_21 ⟨Nat.le_of_ble_eq_true rfl, Nat.le_of_ble_eq_true rfl⟩ ⟨Nat.zero_le _, Nat.zero_le _⟩ rfl hl.1 rfl (Nat.le_of_ble_eq_true rfl) dX1_be_93) (fun H locs hT hS hK hNt10 => ?_)
  refine lv_aload_n hx hb dX1_be_96 rfl (lv_at hl 1 rfl) ?_
  refine c_getS C hK hT (Or.inr rfl) 8 (by decide) q237 rfl (v := .ref (a + 104)) rfl dX1_be_97 ?_
  refine lv_iconst (v := 0) hx hb dX1_be_100 (by decide) ?_
  refine lv_aload_n hx hb dX1_be_101 rfl (lv_at hl 0 rfl) ?_
  refine c_getS C hK hT (Or.inl rfl) 8 (by decide) q237 rfl (v := .ref (a + 52)) rfl dX1_be_102 ?_
  refine lv_iconst (v := 0) hx hb dX1_be_105 (by decide) ?_
  refine lv_iconst (v := 4) hx hb dX1_be_106 (by decide) ?_
  obtain ⟨ha11, h⟩ := ckL_some h
  refine c_copyC (ci := 5) rfl C hK hT hS hl.1 104 52 4 5 (by decide) (by decide) (fun _ _ => rfl) (fun _ _ => rfl) rfl q266 (by decide) (by decide) ha11 ⟨Nat.le_of_ble_eq_true rfl, Nat.le_of_ble_eq_true rfl⟩ (Nat.le_of_ble_eq_true rfl) dX1_be_107 (fun t12 H locs et12 hT hS hK => ?_)
  replace h := lt1_sub et12 h
  exact ec_v C hT hS h dX1_be_110
theorem mX1_be_53 {l : Launch} {D : va_G} {dA : Nat → ClassId} {a : Nat} {k : KP a} {t : CS} {t9 : CS} (h : C_X1_be_53 t = some t9) : Met l yX1_be (ws_ yX1_be cX1_be 2 none) rmX1_be_53 (cPc D dA a k t [.ref (a + 1), .ref (a + 53)]) (cQ D dA a k 0 t t9 none) 0 0 (ca a) := en_C (by decide +kernel) rfl (Nat.le_of_ble_eq_true rfl) (fun p e s m below meth c ls C hK hT hl => bX1_be_53 C t _ [] hT cS.rf hK ls h hl)
set_option maxRecDepth 20000 in
abbrev rmX0_back : Room := { frames := 4, cells := 0, slots := 0, locals := 103 }
theorem hdX0_back : yX0_back.cls = RX0 ∧ yX0_back.cls ≠ "java/lang/invoke/MethodHandle" ∧ yX0_back.cls ≠ "java/lang/invoke/VarHandle" ∧ (parseMethodDescriptor yX0_back.desc).map (fun d => d.parameters.length) = some 0 := by decide +kernel
theorem bX0_back {p : Program} {l : Launch} {e : Env} {s : State} {m : MethodId} {args : Array Value} {below : List Frame} {meth : Method} {c : Code} {D : va_G} {dA : Nat → ClassId} {a : Nat} {k : KP a} {t0 : CS} {r : Int32} {t9 : CS} (C : cx p s m args meth c cX0_back RX0 1 (some .int)) : ∀ (t : CS) (H : Heap) (locs : List Loc) (hT : cW D dA a k t H) (hS : cS a s.heap H locs t0.2.2.2 0 t) (hK : kC D dA a k t.2.2.2 s) (ls : Array Slot), C_back t = some (r, t9) → lv_has ls 1 [(0, .ref a)] → W p l e rmX0_back s m args below meth c H locs 0 0 (MQ below (cQ D dA a k 0 t0 t9 (some (.int r))) args s 0 0 (ca a)) (F0 m 0 ls []) := by
  obtain ⟨hx, hb, hr, hml, hown, hts, hlocks⟩ := id C
  intro t H locs hT hS hK ls h hl
  unfold C_back at h
  refine lv_aload_n hx hb dX0_back_0 rfl (lv_at hl 0 rfl) ?_
  refine cg0 C hK hT dX0_back_1 ?_
  refine lv_aload_n hx hb dX0_back_4 rfl (lv_at hl 0 rfl) ?_
  refine cg1 C hK hT dX0_back_5 ?_
  obtain ⟨t1, ht1, h⟩ := bd1_some h
  refine wc_void hS hK (run_c (As := [.ref (a + 53)]) (rest := []) C hK hT hS.2.1 (rv_S hK hT (Or.inl rfl)) (mX1_be_53 ht1) q259 q260 q261 q159 q262 ⟨rfl, rfl⟩ hdX1_be_53 ⟨Nat.le_of_ble_eq_true rfl, Nat.le_of_ble_eq_true rfl⟩ ⟨Nat.zero_le _, Nat.zero_le _⟩ rfl hl.1 rfl (Nat.le_of_ble_eq_true rfl) dX0_back_8) (fun H locs hT hS hK hNt1 => ?_)
  refine lv_aload_n hx hb dX0_back_11 rfl (lv_at hl 0 rfl) ?_
  refine cg0 C hK hT dX0_back_12 ?_
  refine c_getSN C hK hT (Or.inl rfl) 1 (by decide) (nf224 hK.2.1) rfl (v := .ref (a + 3)) rfl dX0_back_15 ?_
  refine lv_iconst (v := 1) hx hb dX0_back_18 (by decide) ?_
  obtain ⟨hi2, h⟩ := ck_some h
  refine c_ild C hK hT 3 192 (by decide) (fun _ _ => rfl) hi2 dX0_back_19 ?_
  exact ec_i C hT hS h dX0_back_20
theorem mX0_back {l : Launch} {D : va_G} {dA : Nat → ClassId} {a : Nat} {k : KP a} {t : CS} {r : Int32} {t9 : CS} (h : C_back t = some (r, t9)) : Met l yX0_back (ws_ yX0_back cX0_back 1 (some .int)) rmX0_back (cPc D dA a k t [.ref a]) (cQ D dA a k 0 t t9 (some (.int r))) 0 0 (ca a) := en_C (by decide +kernel) rfl (Nat.le_of_ble_eq_true rfl) (fun p e s m below meth c ls C hK hT hl => bX0_back C t _ [] hT cS.rf hK ls h hl)
set_option maxRecDepth 20000 in
abbrev rmX0_about : Room := { frames := 2, cells := 0, slots := 0, locals := 40 }
theorem hdX0_about : yX0_about.cls = RX0 ∧ yX0_about.cls ≠ "java/lang/invoke/MethodHandle" ∧ yX0_about.cls ≠ "java/lang/invoke/VarHandle" ∧ (parseMethodDescriptor yX0_about.desc).map (fun d => d.parameters.length) = some 1 := by decide +kernel
theorem bX0_about {p : Program} {l : Launch} {e : Env} {s : State} {m : MethodId} {args : Array Value} {below : List Frame} {meth : Method} {c : Code} {D : va_G} {dA : Nat → ClassId} {a : Nat} {k : KP a} {t : CS} {r : Int32} (C : cx p s m args meth c cX0_about RX0 2 (some .int)) (hK : kC D dA a k t.2.2.2 s) (hT : cW D dA a k t s.heap) : ∀ (x1 : Int32) (ls : Array Slot), C_about t x1 = some r → lv_has ls 2 [(0, .ref a), (1, .int x1)] → W p l e rmX0_about s m args below meth c s.heap [] 0 0 (MQ below (rQi r) args s 0 0 nof) (F0 m 0 ls []) := by
  obtain ⟨hx, hb, hr, hml, hown, hts, hlocks⟩ := id C
  intro x1 ls h hl
  unfold C_about at h
  refine lv_iload_n hx hb dX0_about_0 rfl (lv_at hl 1 rfl) ?_
  by_cases c : x1 = (0 : Int32)
  · replace h := if_t c h
    rw [c]
    refine lv_tableIn (off := 63) (tgt := 64) hx hb dX0_about_1 (by decide) (by decide) rfl (by decide) ?_
    refine lv_aload_n hx hb dX0_about_64 rfl (lv_at hl 0 rfl) ?_
    refine cg0 C hK hT dX0_about_65 ?_
    refine c_getSN C hK hT (Or.inl rfl) 0 (by decide) (nf222 hK.2.1) rfl (v := .ref (a + 2)) rfl dX0_about_68 ?_
    refine lv_iconst (v := 0) hx hb dX0_about_71 (by decide) ?_
    obtain ⟨hi1, h⟩ := ck_some h
    refine c_ild C hK hT 2 7 (by decide) (fun _ _ => rfl) hi1 dX0_about_72 ?_
    exact e_ri C h dX0_about_73
  replace h := if_f c h
  have g0 := tI_ne (k := 0) (by decide) c
  by_cases c : x1 = (1 : Int32)
  · replace h := if_t c h
    rw [c]
    refine lv_tableIn (off := 73) (tgt := 74) hx hb dX0_about_1 (by decide) (by decide) rfl (by decide) ?_
    refine lv_aload_n hx hb dX0_about_74 rfl (lv_at hl 0 rfl) ?_
    refine cg0 C hK hT dX0_about_75 ?_
    refine c_getSN C hK hT (Or.inl rfl) 0 (by decide) (nf222 hK.2.1) rfl (v := .ref (a + 2)) rfl dX0_about_78 ?_
    refine lv_iconst (v := 1) hx hb dX0_about_81 (by decide) ?_
    obtain ⟨hi2, h⟩ := ck_some h
    refine c_ild C hK hT 2 7 (by decide) (fun _ _ => rfl) hi2 dX0_about_82 ?_
    exact e_ri C h dX0_about_83
  replace h := if_f c h
  have g1 := tI_ne (k := 1) (by decide) c
  by_cases c : x1 = (2 : Int32)
  · replace h := if_t c h
    rw [c]
    refine lv_tableIn (off := 83) (tgt := 84) hx hb dX0_about_1 (by decide) (by decide) rfl (by decide) ?_
    refine lv_aload_n hx hb dX0_about_84 rfl (lv_at hl 0 rfl) ?_
    refine cg0 C hK hT dX0_about_85 ?_
    refine c_getSN C hK hT (Or.inl rfl) 1 (by decide) (nf224 hK.2.1) rfl (v := .ref (a + 3)) rfl dX0_about_88 ?_
    refine lv_iconst (v := 1) hx hb dX0_about_91 (by decide) ?_
    obtain ⟨hi3, h⟩ := ck_some h
    refine c_ild C hK hT 3 192 (by decide) (fun _ _ => rfl) hi3 dX0_about_92 ?_
    exact e_ri C h dX0_about_93
  replace h := if_f c h
  have g2 := tI_ne (k := 2) (by decide) c
  by_cases c : x1 = (3 : Int32)
  · replace h := if_t c h
    rw [c]
    refine lv_tableIn (off := 93) (tgt := 94) hx hb dX0_about_1 (by decide) (by decide) rfl (by decide) ?_
    refine lv_aload_n hx hb dX0_about_94 rfl (lv_at hl 0 rfl) ?_
    refine cg0 C hK hT dX0_about_95 ?_
    refine c_getSN C hK hT (Or.inl rfl) 1 (by decide) (nf224 hK.2.1) rfl (v := .ref (a + 3)) rfl dX0_about_98 ?_
    refine lv_iconst (v := 2) hx hb dX0_about_101 (by decide) ?_
    obtain ⟨hi4, h⟩ := ck_some h
    refine c_ild C hK hT 3 192 (by decide) (fun _ _ => rfl) hi4 dX0_about_102 ?_
    exact e_ri C h dX0_about_103
  replace h := if_f c h
  have g3 := tI_ne (k := 3) (by decide) c
  by_cases c : x1 = (4 : Int32)
  · replace h := if_t c h
    rw [c]
    refine lv_tableIn (off := 103) (tgt := 104) hx hb dX0_about_1 (by decide) (by decide) rfl (by decide) ?_
    refine lv_aload_n hx hb dX0_about_104 rfl (lv_at hl 0 rfl) ?_
    refine cg0 C hK hT dX0_about_105 ?_
    refine c_getSN C hK hT (Or.inl rfl) 0 (by decide) (nf222 hK.2.1) rfl (v := .ref (a + 2)) rfl dX0_about_108 ?_
    refine lv_iconst (v := 2) hx hb dX0_about_111 (by decide) ?_
    obtain ⟨hi5, h⟩ := ck_some h
    refine c_ild C hK hT 2 7 (by decide) (fun _ _ => rfl) hi5 dX0_about_112 ?_
    exact e_ri C h dX0_about_113
  replace h := if_f c h
  have g4 := tI_ne (k := 4) (by decide) c
  by_cases c : x1 = (5 : Int32)
  · replace h := if_t c h
    rw [c]
    refine lv_tableIn (off := 113) (tgt := 114) hx hb dX0_about_1 (by decide) (by decide) rfl (by decide) ?_
    refine lv_aload_n hx hb dX0_about_114 rfl (lv_at hl 0 rfl) ?_
    refine cg0 C hK hT dX0_about_115 ?_
    refine c_getSN C hK hT (Or.inl rfl) 0 (by decide) (nf222 hK.2.1) rfl (v := .ref (a + 2)) rfl dX0_about_118 ?_
    refine lv_iconst (v := 3) hx hb dX0_about_121 (by decide) ?_
    obtain ⟨hi6, h⟩ := ck_some h
    refine c_ild C hK hT 2 7 (by decide) (fun _ _ => rfl) hi6 dX0_about_122 ?_
    exact e_ri C h dX0_about_123
  replace h := if_f c h
  have g5 := tI_ne (k := 5) (by decide) c
  by_cases c : x1 = (6 : Int32)
  · replace h := if_t c h
    rw [c]
    refine lv_tableIn (off := 123) (tgt := 124) hx hb dX0_about_1 (by decide) (by decide) rfl (by decide) ?_
    refine lv_aload_n hx hb dX0_about_124 rfl (lv_at hl 0 rfl) ?_
    refine cg0 C hK hT dX0_about_125 ?_
    refine c_getSN C hK hT (Or.inl rfl) 0 (by decide) (nf222 hK.2.1) rfl (v := .ref (a + 2)) rfl dX0_about_128 ?_
    refine lv_iconst (v := 4) hx hb dX0_about_131 (by decide) ?_
    obtain ⟨hi7, h⟩ := ck_some h
    refine c_ild C hK hT 2 7 (by decide) (fun _ _ => rfl) hi7 dX0_about_132 ?_
    exact e_ri C h dX0_about_133
  replace h := if_f c h
  have g6 := tI_ne (k := 6) (by decide) c
  by_cases c : x1 = (7 : Int32)
  · replace h := if_t c h
    rw [c]
    refine lv_tableIn (off := 133) (tgt := 134) hx hb dX0_about_1 (by decide) (by decide) rfl (by decide) ?_
    refine lv_aload_n hx hb dX0_about_134 rfl (lv_at hl 0 rfl) ?_
    refine cg0 C hK hT dX0_about_135 ?_
    refine c_getSN C hK hT (Or.inl rfl) 1 (by decide) (nf224 hK.2.1) rfl (v := .ref (a + 3)) rfl dX0_about_138 ?_
    refine lv_iconst (v := 0) hx hb dX0_about_141 (by decide) ?_
    obtain ⟨hi8, h⟩ := ck_some h
    refine c_ild C hK hT 3 192 (by decide) (fun _ _ => rfl) hi8 dX0_about_142 ?_
    exact e_ri C h dX0_about_143
  replace h := if_f c h
  have g7 := tI_ne (k := 7) (by decide) c
  by_cases c : x1 = (8 : Int32)
  · replace h := if_t c h
    rw [c]
    refine lv_tableIn (off := 143) (tgt := 144) hx hb dX0_about_1 (by decide) (by decide) rfl (by decide) ?_
    refine lv_aload_n hx hb dX0_about_144 rfl (lv_at hl 0 rfl) ?_
    refine cg0 C hK hT dX0_about_145 ?_
    refine c_getSN C hK hT (Or.inl rfl) 0 (by decide) (nf222 hK.2.1) rfl (v := .ref (a + 2)) rfl dX0_about_148 ?_
    refine lv_iconst (v := 5) hx hb dX0_about_151 (by decide) ?_
    obtain ⟨hi9, h⟩ := ck_some h
    refine c_ild C hK hT 2 7 (by decide) (fun _ _ => rfl) hi9 dX0_about_152 ?_
    exact e_ri C h dX0_about_153
  replace h := if_f c h
  have g8 := tI_ne (k := 8) (by decide) c
  by_cases c : x1 = (9 : Int32)
  · replace h := if_t c h
    rw [c]
    refine lv_tableIn (off := 153) (tgt := 154) hx hb dX0_about_1 (by decide) (by decide) rfl (by decide) ?_
    refine lv_aload_n hx hb dX0_about_154 rfl (lv_at hl 0 rfl) ?_
    refine cg0 C hK hT dX0_about_155 ?_
    refine c_getSN C hK hT (Or.inl rfl) 0 (by decide) (nf222 hK.2.1) rfl (v := .ref (a + 2)) rfl dX0_about_158 ?_
    refine lv_bipush (v := 6) hx hb dX0_about_161 (by decide) ?_
    obtain ⟨hi10, h⟩ := ck_some h
    refine c_ild C hK hT 2 7 (by decide) (fun _ _ => rfl) hi10 dX0_about_163 ?_
    exact e_ri C h dX0_about_164
  replace h := if_f c h
  have g9 := tI_ne (k := 9) (by decide) c
  by_cases c : x1 = (10 : Int32)
  · replace h := if_t c h
    rw [c]
    refine lv_tableIn (off := 164) (tgt := 165) hx hb dX0_about_1 (by decide) (by decide) rfl (by decide) ?_
    refine lv_aload_n hx hb dX0_about_165 rfl (lv_at hl 0 rfl) ?_
    refine cg3 C hK hT dX0_about_166 ?_
    exact e_ri C h dX0_about_169
  replace h := if_f c h
  have g10 := tI_ne (k := 10) (by decide) c
  by_cases c : x1 = (11 : Int32)
  · replace h := if_t c h
    rw [c]
    refine lv_tableIn (off := 169) (tgt := 170) hx hb dX0_about_1 (by decide) (by decide) rfl (by decide) ?_
    refine lv_aload_n hx hb dX0_about_170 rfl (lv_at hl 0 rfl) ?_
    obtain ⟨v11, hv11, h⟩ := bd1_some h
    refine r_int (run_c (As := []) (rest := []) C hK hT (fun _ _ => rfl) (rv_X hK hT) (mX0_outs hv11) q1089 q1091 qs32 q158 q1092 ⟨rfl, rfl⟩ hdX0_outs ⟨Nat.le_of_ble_eq_true rfl, Nat.le_of_ble_eq_true rfl⟩ ⟨Nat.zero_le _, Nat.zero_le _⟩ rfl hl.1 rfl (Nat.le_of_ble_eq_true rfl) dX0_about_171) ?_
    exact e_ri C h dX0_about_174
  replace h := if_f c h
  have g11 := tI_ne (k := 11) (by decide) c
  refine lv_tableOut (tgt := 175) hx hb dX0_about_1 (by omega) (by decide) ?_
  refine lv_bipush (v := -2) hx hb dX0_about_175 (by decide) ?_
  exact e_ri C h dX0_about_177
theorem mX0_about {l : Launch} {D : va_G} {dA : Nat → ClassId} {a : Nat} {k : KP a} {t : CS} {x1 : Int32} {r : Int32} (h : C_about t x1 = some r) : Met l yX0_about (ws_ yX0_about cX0_about 2 (some .int)) rmX0_about (cPc D dA a k t [.ref a, .int x1]) (rQi r) 0 0 nof := en_C (by decide +kernel) rfl (Nat.le_of_ble_eq_true rfl) (fun p e s m below meth c ls C hK hT hl => bX0_about C hK hT x1 ls h hl)
