/-! the component's walks, 1 (written by gen/gen_comp.py) -/
set_option maxRecDepth 20000
set_option maxRecDepth 20000 in
abbrev rmX13_is_106 (N : Nat) : Room := { frames := 100 + 1 * N, cells := 0, slots := 0, locals := 3400 + 40 * N }
theorem hdX13_is_106 : yX13_is.cls = RX13 ∧ yX13_is.cls ≠ "java/lang/invoke/MethodHandle" ∧ yX13_is.cls ≠ "java/lang/invoke/VarHandle" ∧ (parseMethodDescriptor yX13_is.desc).map (fun d => d.parameters.length) = some 1 := by decide +kernel
theorem bX13_is_106_p41 {p : Program} {l : Launch} {e : Env} {s : State} {m : MethodId} {args : Array Value} {below : List Frame} {meth : Method} {c : Code} {D : va_G} {dA : Nat → ClassId} {a : Nat} {k : KP a} {t : CS} {r : Int32} (C : cx p s m args meth c cX13_is RX13 4 (some .boolean)) (hK : kC D dA a k t.2.2.2 s) (hT : cW D dA a k t s.heap) {N : Nat} {rec : CS → Nat → Option Int32} (hrec : ∀ (t : CS) (r : Nat) (v : Int32), rec t r = some v → ifM l D dA a k xIs .boolean (100 + 1 * N) (3400 + 40 * N) t r (rQi v)) {k4 : Nat → Int32 → Int32 → Option Int32} (hk4 : ∀ (x0 : Nat) (x2 : Int32) (x3 : Int32) (ls : Array Slot), k4 x0 x2 x3 = some r → lv_has ls 4 [(0, .ref x0), (1, .ref (a + 106)), (2, .int x2), (3, .int x3)] → W p l e (rmX13_is_106 N) s m args below meth c s.heap [] 0 0 (MQ below (rQi r) args s 0 0 nof) (F0 m 4 ls [])) : ∀ (x0 : Nat) (x3 : Int32) (y0 : Int32) (y1 : Int32) (ls : Array Slot), C_X13_is_106_p41 rec k4 t x0 x3 y0 y1 = some r → lv_has ls 4 [(0, .ref x0), (1, .ref (a + 106)), (3, .int x3)] → W p l e (rmX13_is_106 N) s m args below meth c s.heap [] 0 0 (MQ below (rQi r) args s 0 0 nof) (F0 m 41 ls [.int y1, .int y0]) := by
  obtain ⟨hx, hb, hr, hml, hown, hts, hlocks⟩ := id C
  intro x0 x3 y0 y1 ls h hl
  unfold C_X13_is_106_p41 at h
  refine lv_iadd hx hb dX13_is_41 ?_
  refine lv_topi (fun v1 ev1 => ?_)
  replace h := lt1_sub ev1 h
  refine lv_istore_n (lv' := [(2, .int v1), (0, .ref x0), (1, .ref (a + 106)), (3, .int x3)]) hx hb dX13_is_42 rfl hl (by decide) rfl (fun ls hl => ?_)
  obtain ⟨v2, ev2⟩ : ∃ y : Int32, y = x3 + (1 : Int32) := ⟨_, rfl⟩
  replace h := lt1_sub ev2 h
  refine lv_iinc (v := v2) (lv' := [(3, .int v2), (2, .int v1), (0, .ref x0), (1, .ref (a + 106))]) hx hb dX13_is_43 hl (k := 3) rfl (by rw [ev2]; rfl) (by decide) rfl (fun ls hl => ?_)
  refine lv_goto (tgt := 4) hx hb dX13_is_46 (by decide) ?_
  exact hk4 x0 v1 v2 ls h (lv_sub hl [2, 3, 1, 0] rfl)
theorem bX13_is_106_p4 {p : Program} {l : Launch} {e : Env} {s : State} {m : MethodId} {args : Array Value} {below : List Frame} {meth : Method} {c : Code} {D : va_G} {dA : Nat → ClassId} {a : Nat} {k : KP a} {t : CS} {r : Int32} (C : cx p s m args meth c cX13_is RX13 4 (some .boolean)) (hK : kC D dA a k t.2.2.2 s) (hT : cW D dA a k t s.heap) {N : Nat} {rec : CS → Nat → Option Int32} (hrec : ∀ (t : CS) (r : Nat) (v : Int32), rec t r = some v → ifM l D dA a k xIs .boolean (100 + 1 * N) (3400 + 40 * N) t r (rQi v)) : ∀ (n : Nat), ∀ (x0 : Nat) (x2 : Int32) (x3 : Int32) (ls : Array Slot), C_X13_is_106_p4 rec t n x0 x2 x3 = some r → lv_has ls 4 [(0, .ref x0), (1, .ref (a + 106)), (2, .int x2), (3, .int x3)] → W p l e (rmX13_is_106 N) s m args below meth c s.heap [] 0 0 (MQ below (rQi r) args s 0 0 nof) (F0 m 4 ls []) := by
  obtain ⟨hx, hb, hr, hml, hown, hts, hlocks⟩ := id C
  intro n
  induction n with
  | zero =>
    intro x0 x2 x3 ls h hl
    have h : none = some _ := h
    cases h
  | succ n ih =>
    intro x0 x2 x3 ls h hl
    rw [C_X13_is_106_p4] at h
    refine lv_iload_n hx hb dX13_is_4 rfl (lv_at hl 3 rfl) ?_
    refine lv_aload_n hx hb dX13_is_5 rfl (lv_at hl 0 rfl) ?_
    obtain ⟨v1, hv1, h⟩ := bd1_some h
    refine d_get (ci := 13) in_X13 rfl C hK hT 1 (by decide) q978 rfl (gR_some hv1) dX13_is_6 ?_
    obtain ⟨hc2, h⟩ := ckC_some h
    obtain ⟨v3, hv3, h⟩ := bd1_some h
    refine r_int (run_c (As := []) (rest := [.int x3]) C hK hT (fun _ _ => rfl) (rv_D (ci := 15) rfl hK hT hc2) (mJ9_size hv3) q1112 q955 q956 q175 q957 ⟨rfl, rfl⟩ hdJ9_size ⟨show 0 + 1 ≤ 100 + 1 * N from by omega, show 8 + (1 + 11) + (0) ≤ 3400 + 40 * N from by omega⟩ ⟨Nat.zero_le _, Nat.zero_le _⟩ rfl hl.1 rfl (Nat.le_of_ble_eq_true rfl) dX13_is_9) ?_
    refine lv_icmp_ge (tgt := 49) hx hb dX13_is_12 (by decide) (fun c => ?_) (fun c => ?_)
    · replace h := if_t c h
      refine lv_aload_n hx hb dX13_is_49 rfl (lv_at hl 0 rfl) ?_
      obtain ⟨v4, hv4, h⟩ := bd1_some h
      refine d_get (ci := 13) in_X13 rfl C hK hT 0 (by decide) q977 rfl (gI_some hv4) dX13_is_50 ?_
      refine lv_if_eq (tgt := 75) hx hb dX13_is_53 (by decide) (fun c => ?_) (fun c => ?_)
      · replace h := if_t c h
        refine lv_iload_n hx hb dX13_is_75 rfl (lv_at hl 2 rfl) ?_
        refine lv_if_le (tgt := 83) hx hb dX13_is_76 (by decide) (fun c => ?_) (fun c => ?_)
        · replace h := if_t c h
          refine lv_iconst (v := 0) hx hb dX13_is_83 (by decide) ?_
          exact e_rz C (Or.inl rfl) h dX13_is_84
        · replace h := if_f c h
          refine lv_iconst (v := 1) hx hb dX13_is_79 (by decide) ?_
          refine lv_goto (tgt := 84) hx hb dX13_is_80 (by decide) ?_
          exact e_rz C (Or.inr rfl) h dX13_is_84
      · replace h := if_f c h
        refine lv_iload_n hx hb dX13_is_56 rfl (lv_at hl 2 rfl) ?_
        refine lv_aload_n hx hb dX13_is_57 rfl (lv_at hl 0 rfl) ?_
        obtain ⟨v5, hv5, h⟩ := bd1_some h
        refine d_get (ci := 13) in_X13 rfl C hK hT 1 (by decide) q978 rfl (gR_some hv5) dX13_is_58 ?_
        obtain ⟨hc6, h⟩ := ckC_some h
        obtain ⟨v7, hv7, h⟩ := bd1_some h
        refine r_int (run_c (As := []) (rest := [.int x2]) C hK hT (fun _ _ => rfl) (rv_D (ci := 15) rfl hK hT hc6) (mJ9_size hv7) q1112 q955 q956 q175 q957 ⟨rfl, rfl⟩ hdJ9_size ⟨show 0 + 1 ≤ 100 + 1 * N from by omega, show 8 + (1 + 11) + (0) ≤ 3400 + 40 * N from by omega⟩ ⟨Nat.zero_le _, Nat.zero_le _⟩ rfl hl.1 rfl (Nat.le_of_ble_eq_true rfl) dX13_is_61) ?_
        refine lv_icmp_ne (tgt := 71) hx hb dX13_is_64 (by decide) (fun c => ?_) (fun c => ?_)
        · replace h := if_f c h
          refine lv_iconst (v := 0) hx hb dX13_is_71 (by decide) ?_
          refine lv_goto (tgt := 84) hx hb dX13_is_72 (by decide) ?_
          exact e_rz C (Or.inl rfl) h dX13_is_84
        · replace h := if_t c h
          refine lv_iconst (v := 1) hx hb dX13_is_67 (by decide) ?_
          refine lv_goto (tgt := 84) hx hb dX13_is_68 (by decide) ?_
          exact e_rz C (Or.inr rfl) h dX13_is_84
    · replace h := if_f c h
      refine lv_iload_n hx hb dX13_is_15 rfl (lv_at hl 2 rfl) ?_
      refine lv_aload_n hx hb dX13_is_16 rfl (lv_at hl 0 rfl) ?_
      obtain ⟨v8, hv8, h⟩ := bd1_some h
      refine d_get (ci := 13) in_X13 rfl C hK hT 1 (by decide) q978 rfl (gR_some hv8) dX13_is_17 ?_
      refine lv_iload_n hx hb dX13_is_20 rfl (lv_at hl 3 rfl) ?_
      obtain ⟨hc9, h⟩ := ckC_some h
      obtain ⟨v10, hv10, h⟩ := bd1_some h
      refine r_ref1 (run_c (As := [.int x3]) (rest := [.int x2]) C hK hT (fun _ _ => rfl) (rv_D (ci := 15) rfl hK hT hc9) (mJ9_get hv10) q1113 q959 q960 q175 q961 ⟨rfl, rfl⟩ hdJ9_get ⟨show 2 + 1 ≤ 100 + 1 * N from by omega, show 8 + (2 + 11) + (43) ≤ 3400 + 40 * N from by omega⟩ ⟨Nat.zero_le _, Nat.zero_le _⟩ rfl hl.1 rfl (Nat.le_of_ble_eq_true rfl) dX13_is_21) ?_
      obtain ⟨hc11, h⟩ := ckK_some h
      refine c_castAsk C hK hT hc11 q1114 dX13_is_24 ?_
      refine lv_aload_n hx hb dX13_is_27 rfl (lv_at hl 1 rfl) ?_
      obtain ⟨v12, hv12, h⟩ := bd1_some h
      refine r_int5 (run_if (rest := [.int x2]) C hK hT (fun _ _ => rfl) (hrec _ _ _ hv12) ⟨Nat.le_refl _, Nat.le_refl _⟩ q1116 hdxIs ⟨Nat.zero_le _, Nat.zero_le _⟩ hl.1 rfl (Nat.le_of_ble_eq_true rfl) dX13_is_28) ?_
      refine lv_if_eq (tgt := 40) hx hb dX13_is_33 (by decide) (fun c => ?_) (fun c => ?_)
      · replace h := if_t c h
        refine lv_iconst (v := 0) hx hb dX13_is_40 (by decide) ?_
        exact bX13_is_106_p41 C hK hT hrec ih x0 x3 x2 (0 : Int32) ls h (lv_sub hl [0, 1, 3] rfl)
      · replace h := if_f c h
        refine lv_iconst (v := 1) hx hb dX13_is_36 (by decide) ?_
        refine lv_goto (tgt := 41) hx hb dX13_is_37 (by decide) ?_
        exact bX13_is_106_p41 C hK hT hrec ih x0 x3 x2 (1 : Int32) ls h (lv_sub hl [0, 1, 3] rfl)
theorem bX13_is_106 {p : Program} {l : Launch} {e : Env} {s : State} {m : MethodId} {args : Array Value} {below : List Frame} {meth : Method} {c : Code} {D : va_G} {dA : Nat → ClassId} {a : Nat} {k : KP a} {t : CS} {r : Int32} (C : cx p s m args meth c cX13_is RX13 4 (some .boolean)) (hK : kC D dA a k t.2.2.2 s) (hT : cW D dA a k t s.heap) {N : Nat} {rec : CS → Nat → Option Int32} (hrec : ∀ (t : CS) (r : Nat) (v : Int32), rec t r = some v → ifM l D dA a k xIs .boolean (100 + 1 * N) (3400 + 40 * N) t r (rQi v)) : ∀ (x0 : Nat) (ls : Array Slot), C_X13_is_106 rec t x0 = some r → lv_has ls 4 [(0, .ref x0), (1, .ref (a + 106))] → W p l e (rmX13_is_106 N) s m args below meth c s.heap [] 0 0 (MQ below (rQi r) args s 0 0 nof) (F0 m 0 ls []) := by
  obtain ⟨hx, hb, hr, hml, hown, hts, hlocks⟩ := id C
  intro x0 ls h hl
  unfold C_X13_is_106 at h
  refine lv_iconst (v := 0) hx hb dX13_is_0 (by decide) ?_
  refine lv_istore_n (lv' := [(2, .int (0 : Int32)), (0, .ref x0), (1, .ref (a + 106))]) hx hb dX13_is_1 rfl hl (by decide) rfl (fun ls hl => ?_)
  refine lv_iconst (v := 0) hx hb dX13_is_2 (by decide) ?_
  refine lv_istore_n (lv' := [(3, .int (0 : Int32)), (2, .int (0 : Int32)), (0, .ref x0), (1, .ref (a + 106))]) hx hb dX13_is_3 rfl hl (by decide) rfl (fun ls hl => ?_)
  exact bX13_is_106_p4 C hK hT hrec fu x0 (0 : Int32) (0 : Int32) ls h (lv_sub hl [2, 3, 1, 0] rfl)
theorem mX13_is_106 {l : Launch} {D : va_G} {dA : Nat → ClassId} {a : Nat} {k : KP a} {x0 : Nat} {r : Int32} {N : Nat} {rec : CS → Nat → Option Int32} (hrec : ∀ (t : CS) (r : Nat) (v : Int32), rec t r = some v → ifM l D dA a k xIs .boolean (100 + 1 * N) (3400 + 40 * N) t r (rQi v)) {t : CS} (h : C_X13_is_106 rec t x0 = some r) : Met l yX13_is (ws_ yX13_is cX13_is 4 (some .boolean)) (rmX13_is_106 N) (cPc D dA a k t [.ref x0, .ref (a + 106)]) (rQi r) 0 0 nof := en_C (by decide +kernel) rfl (Nat.le_of_ble_eq_true rfl) (fun p e s m below meth c ls C hK hT hl => bX13_is_106 C hK hT hrec x0 ls h hl)
set_option maxRecDepth 20000 in
theorem mE_is {l : Launch} {D : va_G} {dA : Nat → ClassId} {a : Nat} {k : KP a} : ∀ (n : Nat) (t : CS) (r : Nat) (v : Int32), E_is n t r = some v → ifM l D dA a k xIs .boolean (100 + 1 * n) (3400 + 40 * n) t r (rQi v) := by
  intro n
  induction n with
  | zero =>
    intro t r v h
    have h : none = some _ := h
    cases h
  | succ n ih =>
    intro t r v h
    rw [E_is] at h
    split at h
    · rename_i hc
      exact ⟨7, RX7, TX7, 1, yX7_is, cX7_is, 2, rmX7_is_106 n, rfl, hc, mX7_is_106 ih h, q1172, q1174, q184, q1176, List.mem_of_getElem? (i := 6) rfl, rfl, rfl, (show 100 + 1 * n + 1 ≤ 100 + 1 * (n + 1) from by omega), (show 8 + (2 + 11) + (3400 + 40 * n) ≤ 3400 + 40 * (n + 1) from by omega)⟩
    · rename_i hc
      exact ⟨12, RX12, TX12, 3, yX12_is, cX12_is, 4, rmX12_is_106, rfl, hc, mX12_is_106 h, q1118, q1120, q190, q1122, List.mem_of_getElem? (i := 1) rfl, rfl, rfl, (show 84 + 1 ≤ 100 + 1 * (n + 1) from by omega), (show 8 + (4 + 11) + (2960) ≤ 3400 + 40 * (n + 1) from by omega)⟩
    · rename_i hc
      exact ⟨13, RX13, TX13, 2, yX13_is, cX13_is, 4, rmX13_is_106 n, rfl, hc, mX13_is_106 ih h, q1107, q1109, q192, q1111, List.mem_of_getElem? (i := 0) rfl, rfl, rfl, (show 100 + 1 * n + 1 ≤ 100 + 1 * (n + 1) from by omega), (show 8 + (4 + 11) + (3400 + 40 * n) ≤ 3400 + 40 * (n + 1) from by omega)⟩
    · cases h
set_option maxRecDepth 20000 in
abbrev rmX0_changes : Room := { frames := 164, cells := 0, slots := 0, locals := 5960 }
theorem hdX0_changes : yX0_changes.cls = RX0 ∧ yX0_changes.cls ≠ "java/lang/invoke/MethodHandle" ∧ yX0_changes.cls ≠ "java/lang/invoke/VarHandle" ∧ (parseMethodDescriptor yX0_changes.desc).map (fun d => d.parameters.length) = some 1 := by decide +kernel
theorem bX0_changes_p145 {p : Program} {l : Launch} {e : Env} {s : State} {m : MethodId} {args : Array Value} {below : List Frame} {meth : Method} {c : Code} {D : va_G} {dA : Nat → ClassId} {a : Nat} {k : KP a} {t0 : CS} {r : Int32} {t9 : CS} (C : cx p s m args meth c cX0_changes RX0 6 (some .boolean)) : ∀ (t : CS) (x1 : Int32) (x5 : Nat) (y1 : Int32) (y2 : Int32) (H : Heap) (locs : List Loc) (hT : cW D dA a k t H) (hS : cS a s.heap H locs t0.2.2.2 0 t) (hK : kC D dA a k t.2.2.2 s) (ls : Array Slot), C_changes_p145 t x1 x5 y1 y2 = some (r, t9) → lv_has ls 6 [(0, .ref a), (1, .int x1), (5, .ref x5)] → W p l e rmX0_changes s m args below meth c H locs 0 0 (MQ below (cQ D dA a k 0 t0 t9 (some (.int r))) args s 0 0 (ca a)) (F0 m 145 ls [.int y2, .int y1, .ref (a + 106)]) := by
  obtain ⟨hx, hb, hr, hml, hown, hts, hlocks⟩ := id C
  intro t x1 x5 y1 y2 H locs hT hS hK ls h hl
  unfold C_changes_p145 at h
  obtain ⟨hi1, h⟩ := ck_some h
  refine c_ist C hK hT hS 106 14 (by decide) (fun _ _ => rfl) hi1 dX0_changes_145 (fun t2 H locs et2 hT hS hK => ?_)
  replace h := lt1_sub et2 h
  refine lv_aload_n hx hb dX0_changes_146 rfl (lv_at hl 0 rfl) ?_
  refine cg6 C hK hT dX0_changes_147 ?_
  refine lv_bipush (v := 6) hx hb dX0_changes_150 (by decide) ?_
  refine lv_aload_n hx hb dX0_changes_152 rfl (lv_at hl 0 rfl) ?_
  refine lv_iload_n hx hb dX0_changes_153 rfl (lv_at hl 1 rfl) ?_
  obtain ⟨v3, hv3, h⟩ := bd1_some h
  refine r_int (run_c (As := [.int x1]) (rest := [.int (6 : Int32), .ref (a + 106)]) C hK hT hS.2.1 (rv_X hK hT) (mX0_tiedOf hv3) q1075 q1077 qs30 q158 q1078 ⟨rfl, rfl⟩ hdX0_tiedOf ⟨Nat.le_of_ble_eq_true rfl, Nat.le_of_ble_eq_true rfl⟩ ⟨Nat.zero_le _, Nat.zero_le _⟩ rfl hl.1 rfl (Nat.le_of_ble_eq_true rfl) dX0_changes_154) ?_
  obtain ⟨hi4, h⟩ := ck_some h
  refine c_ist C hK hT hS 106 14 (by decide) (fun _ _ => rfl) hi4 dX0_changes_157 (fun t5 H locs et5 hT hS hK => ?_)
  replace h := lt1_sub et5 h
  refine lv_aload_n hx hb dX0_changes_158 rfl (lv_at hl 0 rfl) ?_
  refine cg6 C hK hT dX0_changes_159 ?_
  refine lv_bipush (v := 7) hx hb dX0_changes_162 (by decide) ?_
  refine lv_aload_n hx hb dX0_changes_164 rfl (lv_at hl 0 rfl) ?_
  refine lv_iload_n hx hb dX0_changes_165 rfl (lv_at hl 1 rfl) ?_
  obtain ⟨v6, hv6, h⟩ := bd1_some h
  refine r_int (run_c (As := [.int x1]) (rest := [.int (7 : Int32), .ref (a + 106)]) C hK hT hS.2.1 (rv_X hK hT) (mX0_usesOf hv6) q1094 q1096 qs33 q158 q1097 ⟨rfl, rfl⟩ hdX0_usesOf ⟨Nat.le_of_ble_eq_true rfl, Nat.le_of_ble_eq_true rfl⟩ ⟨Nat.zero_le _, Nat.zero_le _⟩ rfl hl.1 rfl (Nat.le_of_ble_eq_true rfl) dX0_changes_166) ?_
  obtain ⟨hi7, h⟩ := ck_some h
  refine c_ist C hK hT hS 106 14 (by decide) (fun _ _ => rfl) hi7 dX0_changes_169 (fun t8 H locs et8 hT hS hK => ?_)
  replace h := lt1_sub et8 h
  refine lv_aload hx hb dX0_changes_170 (lv_at hl 2 rfl) ?_
  refine lv_aload_n hx hb dX0_changes_172 rfl (lv_at hl 0 rfl) ?_
  refine cg6 C hK hT dX0_changes_173 ?_
  obtain ⟨v9, hv9, h⟩ := bd1_some h
  refine r_int5 (run_if (rest := []) C hK hT hS.2.1 (mE_is 64 _ _ _ hv9) ⟨Nat.le_of_ble_eq_true rfl, Nat.le_of_ble_eq_true rfl⟩ q1103 hdxIs ⟨Nat.zero_le _, Nat.zero_le _⟩ hl.1 rfl (Nat.le_of_ble_eq_true rfl) dX0_changes_176) ?_
  obtain ⟨hz, h⟩ := zr_some h
  exact ec_z C hT hS hz h dX0_changes_181
theorem bX0_changes_p56 {p : Program} {l : Launch} {e : Env} {s : State} {m : MethodId} {args : Array Value} {below : List Frame} {meth : Method} {c : Code} {D : va_G} {dA : Nat → ClassId} {a : Nat} {k : KP a} {t0 : CS} {r : Int32} {t9 : CS} (C : cx p s m args meth c cX0_changes RX0 6 (some .boolean)) : ∀ (t : CS) (x1 : Int32) (x2 : Int32) (x3 : Int32) (x4 : Int32) (y0 : Option Nat) (H : Heap) (locs : List Loc) (hT : cW D dA a k t H) (hS : cS a s.heap H locs t0.2.2.2 0 t) (hK : kC D dA a k t.2.2.2 s) (ls : Array Slot), C_changes_p56 t x1 x2 x3 x4 y0 = some (r, t9) → lv_has ls 6 [(0, .ref a), (1, .int x1), (2, .int x2), (3, .int x3), (4, .int x4)] → W p l e rmX0_changes s m args below meth c H locs 0 0 (MQ below (cQ D dA a k 0 t0 t9 (some (.int r))) args s 0 0 (ca a)) (F0 m 56 ls [va_rf y0]) := by
  obtain ⟨hx, hb, hr, hml, hown, hts, hlocks⟩ := id C
  intro t x1 x2 x3 x4 y0 H locs hT hS hK ls h hl
  unfold C_changes_p56 at h
  refine lv_astoreO (lv' := [(5, va_rf y0), (0, .ref a), (1, .int x1), (2, .int x2), (3, .int x3), (4, .int x4)]) hx hb dX0_changes_56 hl (by decide) rfl (fun ls hl => ?_)
  refine lv_aloadO hx hb dX0_changes_58 (lv_at hl 0 rfl) ?_
  replace h := on1_some h
  rcases h with ⟨ho, h⟩ | ⟨r1, ho, h⟩
  · subst ho
    refine lv_ifnonnullN hx hb dX0_changes_60 ?_
    refine lv_iload_n hx hb dX0_changes_63 rfl (lv_at hl 3 rfl) ?_
    refine lv_if_eq (tgt := 81) hx hb dX0_changes_64 (by decide) (fun c => ?_) (fun c => ?_)
    · replace h := if_t c h
      refine lv_aload_n hx hb dX0_changes_81 rfl (lv_at hl 1 rfl) ?_
      refine lv_iload_n hx hb dX0_changes_82 rfl (lv_at hl 2 rfl) ?_
      obtain ⟨v2, hv2, h⟩ := bd1_some h
      refine r_int (run_c (As := [.int x1]) (rest := []) C hK hT hS.2.1 (rv_X hK hT) (mX0_tiedOf hv2) q1075 q1077 qs30 q158 q1078 ⟨rfl, rfl⟩ hdX0_tiedOf ⟨Nat.le_of_ble_eq_true rfl, Nat.le_of_ble_eq_true rfl⟩ ⟨Nat.zero_le _, Nat.zero_le _⟩ rfl hl.1 rfl (Nat.le_of_ble_eq_true rfl) dX0_changes_83) ?_
      refine lv_if_le (tgt := 98) hx hb dX0_changes_86 (by decide) (fun c => ?_) (fun c => ?_)
      · replace h := if_t c h
        refine lv_iconst (v := 0) hx hb dX0_changes_98 (by decide) ?_
        exact ec_z C hT hS (Or.inl rfl) h dX0_changes_99
      · replace h := if_f c h
        refine lv_iload hx hb dX0_changes_89 (lv_at hl 5 rfl) ?_
        refine lv_if_le (tgt := 98) hx hb dX0_changes_91 (by decide) (fun c => ?_) (fun c => ?_)
        · replace h := if_t c h
          refine lv_iconst (v := 0) hx hb dX0_changes_98 (by decide) ?_
          exact ec_z C hT hS (Or.inl rfl) h dX0_changes_99
        · replace h := if_f c h
          refine lv_iconst (v := 1) hx hb dX0_changes_94 (by decide) ?_
          refine lv_goto (tgt := 99) hx hb dX0_changes_95 (by decide) ?_
          exact ec_z C hT hS (Or.inr rfl) h dX0_changes_99
    · replace h := if_f c h
      refine lv_iload_n hx hb dX0_changes_67 rfl (lv_at hl 4 rfl) ?_
      refine lv_bipush (v := 9) hx hb dX0_changes_68 (by decide) ?_
      refine lv_icmp_le (tgt := 77) hx hb dX0_changes_70 (by decide) (fun c => ?_) (fun c => ?_)
      · replace h := if_t c h
        refine lv_iconst (v := 0) hx hb dX0_changes_77 (by decide) ?_
        refine lv_goto (tgt := 99) hx hb dX0_changes_78 (by decide) ?_
        exact ec_z C hT hS (Or.inl rfl) h dX0_changes_99
      · replace h := if_f c h
        refine lv_iconst (v := 1) hx hb dX0_changes_73 (by decide) ?_
        refine lv_goto (tgt := 99) hx hb dX0_changes_74 (by decide) ?_
        exact ec_z C hT hS (Or.inr rfl) h dX0_changes_99
  · subst ho
    refine lv_ifnonnull (tgt := 100) hx hb dX0_changes_60 (by decide) ?_
    refine lv_aload_n hx hb dX0_changes_100 rfl (lv_at hl 1 rfl) ?_
    obtain ⟨t3, ht3, h⟩ := bd1_some h
    refine wc_void hS hK (run_c (As := []) (rest := []) C hK hT hS.2.1 (rv_X hK hT) (mX0_names ht3) q1085 q1087 qs31 q158 q1088 ⟨rfl, rfl⟩ hdX0_names ⟨Nat.le_of_ble_eq_true rfl, Nat.le_of_ble_eq_true rfl⟩ ⟨Nat.zero_le _, Nat.zero_le _⟩ rfl hl.1 rfl (Nat.le_of_ble_eq_true rfl) dX0_changes_101) (fun H locs hT hS hK hNt3 => ?_)
    refine lv_aload_n hx hb dX0_changes_104 rfl (lv_at hl 1 rfl) ?_
    refine cg6 C hK hT dX0_changes_105 ?_
    refine lv_iconst (v := 2) hx hb dX0_changes_108 (by decide) ?_
    refine lv_iload_n hx hb dX0_changes_109 rfl (lv_at hl 2 rfl) ?_
    obtain ⟨hi4, h⟩ := ck_some h
    refine c_ist C hK hT hS 106 14 (by decide) (fun _ _ => rfl) hi4 dX0_changes_110 (fun t5 H locs et5 hT hS hK => ?_)
    replace h := lt1_sub et5 h
    refine lv_aload_n hx hb dX0_changes_111 rfl (lv_at hl 1 rfl) ?_
    refine cg6 C hK hT dX0_changes_112 ?_
    refine lv_iconst (v := 3) hx hb dX0_changes_115 (by decide) ?_
    refine lv_iload_n hx hb dX0_changes_116 rfl (lv_at hl 4 rfl) ?_
    obtain ⟨hi6, h⟩ := ck_some h
    refine c_ist C hK hT hS 106 14 (by decide) (fun _ _ => rfl) hi6 dX0_changes_117 (fun t7 H locs et7 hT hS hK => ?_)
    replace h := lt1_sub et7 h
    refine lv_aload_n hx hb dX0_changes_118 rfl (lv_at hl 1 rfl) ?_
    refine cg6 C hK hT dX0_changes_119 ?_
    refine lv_iconst (v := 4) hx hb dX0_changes_122 (by decide) ?_
    refine lv_iload hx hb dX0_changes_123 (lv_at hl 5 rfl) ?_
    obtain ⟨hi8, h⟩ := ck_some h
    refine c_ist C hK hT hS 106 14 (by decide) (fun _ _ => rfl) hi8 dX0_changes_125 (fun t9 H locs et9 hT hS hK => ?_)
    replace h := lt1_sub et9 h
    refine lv_aload_n hx hb dX0_changes_126 rfl (lv_at hl 1 rfl) ?_
    refine cg6 C hK hT dX0_changes_127 ?_
    refine lv_iconst (v := 5) hx hb dX0_changes_130 (by decide) ?_
    refine lv_ldc hx hb hown (hts _ q1093) dX0_changes_131 ?_
    refine lv_iload_n hx hb dX0_changes_133 rfl (lv_at hl 2 rfl) ?_
    obtain ⟨v10, hv10, h⟩ := bd1_some h
    refine r_int (run_s (As := [.int (1065233 : Int32), .int x1]) (rest := [.int (5 : Int32), .ref (a + 106)]) C (mX0_has hv10) q344 q345 q158 q346 ⟨rfl, rfl⟩ hdX0_has ⟨Nat.le_of_ble_eq_true rfl, Nat.le_of_ble_eq_true rfl⟩ ⟨Nat.zero_le _, Nat.zero_le _⟩ rfl hl.1 rfl (Nat.le_of_ble_eq_true rfl) dX0_changes_134) ?_
    refine lv_if_eq (tgt := 144) hx hb dX0_changes_137 (by decide) (fun c => ?_) (fun c => ?_)
    · replace h := if_t c h
      refine lv_iconst (v := 0) hx hb dX0_changes_144 (by decide) ?_
      exact bX0_changes_p145 C t9 x1 r1 (5 : Int32) (0 : Int32) H locs hT hS hK ls h (lv_sub hl [1, 2, 0] rfl)
    · replace h := if_f c h
      refine lv_iconst (v := 1) hx hb dX0_changes_140 (by decide) ?_
      refine lv_goto (tgt := 145) hx hb dX0_changes_141 (by decide) ?_
      exact bX0_changes_p145 C t9 x1 r1 (5 : Int32) (1 : Int32) H locs hT hS hK ls h (lv_sub hl [1, 2, 0] rfl)
theorem bX0_changes {p : Program} {l : Launch} {e : Env} {s : State} {m : MethodId} {args : Array Value} {below : List Frame} {meth : Method} {c : Code} {D : va_G} {dA : Nat → ClassId} {a : Nat} {k : KP a} {t0 : CS} {r : Int32} {t9 : CS} (C : cx p s m args meth c cX0_changes RX0 6 (some .boolean)) : ∀ (t : CS) (x1 : Int32) (H : Heap) (locs : List Loc) (hT : cW D dA a k t H) (hS : cS a s.heap H locs t0.2.2.2 0 t) (hK : kC D dA a k t.2.2.2 s) (ls : Array Slot), C_changes t x1 = some (r, t9) → lv_has ls 6 [(0, .ref a), (1, .int x1)] → W p l e rmX0_changes s m args below meth c H locs 0 0 (MQ below (cQ D dA a k 0 t0 t9 (some (.int r))) args s 0 0 (ca a)) (F0 m 0 ls []) := by
  obtain ⟨hx, hb, hr, hml, hown, hts, hlocks⟩ := id C
  intro t x1 H locs hT hS hK ls h hl
  unfold C_changes at h
  refine lv_aload_n hx hb dX0_changes_0 rfl (lv_at hl 0 rfl) ?_
  refine cg0 C hK hT dX0_changes_1 ?_
  refine lv_iload_n hx hb dX0_changes_4 rfl (lv_at hl 1 rfl) ?_
  obtain ⟨v1, hv1, h⟩ := bd1_some h
  refine r_int (run_c (As := [.int x1]) (rest := []) C hK hT hS.2.1 (rv_S hK hT (Or.inl rfl)) (mX1_isOut hv1) q1064 q1065 q1066 q159 q1067 ⟨rfl, rfl⟩ hdX1_isOut ⟨Nat.le_of_ble_eq_true rfl, Nat.le_of_ble_eq_true rfl⟩ ⟨Nat.zero_le _, Nat.zero_le _⟩ rfl hl.1 rfl (Nat.le_of_ble_eq_true rfl) dX0_changes_5) ?_
  refine lv_istore_n (lv' := [(2, .int v1), (0, .ref a), (1, .int x1)]) hx hb dX0_changes_8 rfl hl (by decide) rfl (fun ls hl => ?_)
  refine lv_aload_n hx hb dX0_changes_9 rfl (lv_at hl 1 rfl) ?_
  refine cg0 C hK hT dX0_changes_10 ?_
  refine c_getSN C hK hT (Or.inl rfl) 1 (by decide) (nf224 hK.2.1) rfl (v := .ref (a + 3)) rfl dX0_changes_13 ?_
  refine lv_bipush (v := 29) hx hb dX0_changes_16 (by decide) ?_
  refine lv_iload_n hx hb dX0_changes_18 rfl (lv_at hl 2 rfl) ?_
  refine lv_iadd hx hb dX0_changes_19 ?_
  obtain ⟨hi2, h⟩ := ck_some h
  refine c_ild C hK hT 3 192 (by decide) (fun _ _ => rfl) hi2 dX0_changes_20 ?_
  refine lv_topi (fun v3 ev3 => ?_)
  replace h := lt1_sub ev3 h
  refine lv_istore_n (lv' := [(3, .int v3), (2, .int v1), (0, .ref a), (1, .int x1)]) hx hb dX0_changes_21 rfl hl (by decide) rfl (fun ls hl => ?_)
  refine lv_aload_n hx hb dX0_changes_22 rfl (lv_at hl 2 rfl) ?_
  refine cg0 C hK hT dX0_changes_23 ?_
  refine c_getSN C hK hT (Or.inl rfl) 1 (by decide) (nf224 hK.2.1) rfl (v := .ref (a + 3)) rfl dX0_changes_26 ?_
  refine lv_iconst (v := 3) hx hb dX0_changes_29 (by decide) ?_
  refine lv_iload_n hx hb dX0_changes_30 rfl (lv_at hl 3 rfl) ?_
  refine lv_iadd hx hb dX0_changes_31 ?_
  obtain ⟨hi4, h⟩ := ck_some h
  refine c_ild C hK hT 3 192 (by decide) (fun _ _ => rfl) hi4 dX0_changes_32 ?_
  refine lv_topi (fun v5 ev5 => ?_)
  replace h := lt1_sub ev5 h
  refine lv_istore (lv' := [(4, .int v5), (3, .int v3), (2, .int v1), (0, .ref a), (1, .int x1)]) hx hb dX0_changes_33 hl (by decide) rfl (fun ls hl => ?_)
  refine lv_iload_n hx hb dX0_changes_35 rfl (lv_at hl 2 rfl) ?_
  refine lv_if_eq (tgt := 49) hx hb dX0_changes_36 (by decide) (fun c => ?_) (fun c => ?_)
  · replace h := if_t c h
    refine lv_aload_n hx hb dX0_changes_49 rfl (lv_at hl 3 rfl) ?_
    obtain ⟨v6, hv6, h⟩ := bd1_some h
    refine r_ref1 (run_c (As := []) (rest := []) C hK hT hS.2.1 (rv_X hK hT) (mX0_rules hv6) q1069 q1071 qs29 q158 q1072 ⟨rfl, rfl⟩ hdX0_rules ⟨Nat.le_of_ble_eq_true rfl, Nat.le_of_ble_eq_true rfl⟩ ⟨Nat.zero_le _, Nat.zero_le _⟩ rfl hl.1 rfl (Nat.le_of_ble_eq_true rfl) dX0_changes_50) ?_
    obtain ⟨v7, hv7, h⟩ := bd1_some h
    refine d_getN (ci := 5) in_X5 rfl C hK hT 0 (by decide) (nf579 hK.2.1) rfl (gO_some hv7) dX0_changes_53 ?_
    exact bX0_changes_p56 C t x1 v1 v3 v5 v7 H locs hT hS hK ls h (lv_sub hl [3, 4, 2, 1, 0] rfl)
  · replace h := if_f c h
    refine lv_aload_n hx hb dX0_changes_39 rfl (lv_at hl 3 rfl) ?_
    obtain ⟨v8, hv8, h⟩ := bd1_some h
    refine r_ref1 (run_c (As := []) (rest := []) C hK hT hS.2.1 (rv_X hK hT) (mX0_rules hv8) q1069 q1071 qs29 q158 q1072 ⟨rfl, rfl⟩ hdX0_rules ⟨Nat.le_of_ble_eq_true rfl, Nat.le_of_ble_eq_true rfl⟩ ⟨Nat.zero_le _, Nat.zero_le _⟩ rfl hl.1 rfl (Nat.le_of_ble_eq_true rfl) dX0_changes_40) ?_
    obtain ⟨v9, hv9, h⟩ := bd1_some h
    refine d_getN (ci := 5) in_X5 rfl C hK hT 1 (by decide) (nf581 hK.2.1) rfl (gO_some hv9) dX0_changes_43 ?_
    refine lv_goto (tgt := 56) hx hb dX0_changes_46 (by decide) ?_
    exact bX0_changes_p56 C t x1 v1 v3 v5 v9 H locs hT hS hK ls h (lv_sub hl [3, 4, 2, 1, 0] rfl)
theorem mX0_changes {l : Launch} {D : va_G} {dA : Nat → ClassId} {a : Nat} {k : KP a} {t : CS} {x1 : Int32} {r : Int32} {t9 : CS} (h : C_changes t x1 = some (r, t9)) : Met l yX0_changes (ws_ yX0_changes cX0_changes 6 (some .boolean)) rmX0_changes (cPc D dA a k t [.ref a, .int x1]) (cQ D dA a k 0 t t9 (some (.int r))) 0 0 (ca a) := en_C (by decide +kernel) rfl (Nat.le_of_ble_eq_true rfl) (fun p e s m below meth c ls C hK hT hl => bX0_changes C t x1 _ [] hT cS.rf hK ls h hl)
set_option maxRecDepth 20000 in
abbrev rmX0_mornings : Room := { frames := 165, cells := 0, slots := 0, locals := 5985 }
theorem hdX0_mornings : yX0_mornings.cls = RX0 ∧ yX0_mornings.cls ≠ "java/lang/invoke/MethodHandle" ∧ yX0_mornings.cls ≠ "java/lang/invoke/VarHandle" ∧ (parseMethodDescriptor yX0_mornings.desc).map (fun d => d.parameters.length) = some 0 := by decide +kernel
theorem bX0_mornings_p26 {p : Program} {l : Launch} {e : Env} {s : State} {m : MethodId} {args : Array Value} {below : List Frame} {meth : Method} {c : Code} {D : va_G} {dA : Nat → ClassId} {a : Nat} {k : KP a} {t0 : CS} {t9 : CS} (C : cx p s m args meth c cX0_mornings RX0 3 none) {k4 : CS → Int32 → Int32 → Option CS} (hk4 : ∀ (t : CS) (x1 : Int32) (x2 : Int32) (H : Heap) (locs : List Loc) (hT : cW D dA a k t H) (hS : cS a s.heap H locs t0.2.2.2 0 t) (hK : kC D dA a k t.2.2.2 s) (ls : Array Slot), k4 t x1 x2 = some t9 → lv_has ls 3 [(0, .ref a), (1, .int x1), (2, .int x2)] → W p l e rmX0_mornings s m args below meth c H locs 0 0 (MQ below (cQ D dA a k 0 t0 t9 none) args s 0 0 (ca a)) (F0 m 4 ls [])) : ∀ (t : CS) (x2 : Int32) (y0 : Int32) (y1 : Int32) (H : Heap) (locs : List Loc) (hT : cW D dA a k t H) (hS : cS a s.heap H locs t0.2.2.2 0 t) (hK : kC D dA a k t.2.2.2 s) (ls : Array Slot), C_mornings_p26 k4 t x2 y0 y1 = some t9 → lv_has ls 3 [(0, .ref a), (2, .int x2)] → W p l e rmX0_mornings s m args below meth c H locs 0 0 (MQ below (cQ D dA a k 0 t0 t9 none) args s 0 0 (ca a)) (F0 m 26 ls [.int y1, .int y0]) := by
  obtain ⟨hx, hb, hr, hml, hown, hts, hlocks⟩ := id C
  intro t x2 y0 y1 H locs hT hS hK ls h hl
  unfold C_mornings_p26 at h
  refine lv_ior hx hb dX0_mornings_26 ?_
  refine lv_topi (fun v1 ev1 => ?_)
  replace h := lt1_sub ev1 h
  refine lv_istore_n (lv' := [(1, .int v1), (0, .ref a), (2, .int x2)]) hx hb dX0_mornings_27 rfl hl (by decide) rfl (fun ls hl => ?_)
  obtain ⟨v2, ev2⟩ : ∃ y : Int32, y = x2 + (1 : Int32) := ⟨_, rfl⟩
  replace h := lt1_sub ev2 h
  refine lv_iinc (v := v2) (lv' := [(2, .int v2), (1, .int v1), (0, .ref a)]) hx hb dX0_mornings_28 hl (k := 2) rfl (by rw [ev2]; rfl) (by decide) rfl (fun ls hl => ?_)
  refine lv_goto (tgt := 4) hx hb dX0_mornings_31 (by decide) ?_
  exact hk4 t v1 v2 H locs hT hS hK ls h (lv_sub hl [2, 1, 0] rfl)
theorem bX0_mornings_p83 {p : Program} {l : Launch} {e : Env} {s : State} {m : MethodId} {args : Array Value} {below : List Frame} {meth : Method} {c : Code} {D : va_G} {dA : Nat → ClassId} {a : Nat} {k : KP a} {t0 : CS} {t9 : CS} (C : cx p s m args meth c cX0_mornings RX0 3 none) {k36 : CS → Int32 → Int32 → Option CS} (hk36 : ∀ (t : CS) (x1 : Int32) (x2 : Int32) (H : Heap) (locs : List Loc) (hT : cW D dA a k t H) (hS : cS a s.heap H locs t0.2.2.2 0 t) (hK : kC D dA a k t.2.2.2 s) (ls : Array Slot), k36 t x1 x2 = some t9 → lv_has ls 3 [(0, .ref a), (1, .int x1), (2, .int x2)] → W p l e rmX0_mornings s m args below meth c H locs 0 0 (MQ below (cQ D dA a k 0 t0 t9 none) args s 0 0 (ca a)) (F0 m 36 ls [])) : ∀ (t : CS) (x1 : Int32) (x2 : Int32) (y1 : Int32) (y2 : Int32) (H : Heap) (locs : List Loc) (hT : cW D dA a k t H) (hS : cS a s.heap H locs t0.2.2.2 0 t) (hK : kC D dA a k t.2.2.2 s) (ls : Array Slot), C_mornings_p83 k36 t x1 x2 y1 y2 = some t9 → lv_has ls 3 [(0, .ref a), (1, .int x1), (2, .int x2)] → W p l e rmX0_mornings s m args below meth c H locs 0 0 (MQ below (cQ D dA a k 0 t0 t9 none) args s 0 0 (ca a)) (F0 m 83 ls [.int y2, .int y1, .ref (a + 3)]) := by
  obtain ⟨hx, hb, hr, hml, hown, hts, hlocks⟩ := id C
  intro t x1 x2 y1 y2 H locs hT hS hK ls h hl
  unfold C_mornings_p83 at h
  obtain ⟨hi1, h⟩ := ck_some h
  refine c_ist C hK hT hS 3 192 (by decide) (fun _ _ => rfl) hi1 dX0_mornings_83 (fun t2 H locs et2 hT hS hK => ?_)
  replace h := lt1_sub et2 h
  obtain ⟨v3, ev3⟩ : ∃ y : Int32, y = x2 + (1 : Int32) := ⟨_, rfl⟩
  replace h := lt1_sub ev3 h
  refine lv_iinc (v := v3) (lv' := [(2, .int v3), (0, .ref a), (1, .int x1)]) hx hb dX0_mornings_84 hl (k := 2) rfl (by rw [ev3]; rfl) (by decide) rfl (fun ls hl => ?_)
  refine lv_goto (tgt := 36) hx hb dX0_mornings_87 (by decide) ?_
  exact hk36 t2 x1 v3 H locs hT hS hK ls h (lv_sub hl [1, 2, 0] rfl)
theorem bX0_mornings_p36 {p : Program} {l : Launch} {e : Env} {s : State} {m : MethodId} {args : Array Value} {below : List Frame} {meth : Method} {c : Code} {D : va_G} {dA : Nat → ClassId} {a : Nat} {k : KP a} {t0 : CS} {t9 : CS} (C : cx p s m args meth c cX0_mornings RX0 3 none) : ∀ (n : Nat), ∀ (t : CS) (x1 : Int32) (x2 : Int32) (H : Heap) (locs : List Loc) (hT : cW D dA a k t H) (hS : cS a s.heap H locs t0.2.2.2 0 t) (hK : kC D dA a k t.2.2.2 s) (ls : Array Slot), C_mornings_p36 n t x1 x2 = some t9 → lv_has ls 3 [(0, .ref a), (1, .int x1), (2, .int x2)] → W p l e rmX0_mornings s m args below meth c H locs 0 0 (MQ below (cQ D dA a k 0 t0 t9 none) args s 0 0 (ca a)) (F0 m 36 ls []) := by
  obtain ⟨hx, hb, hr, hml, hown, hts, hlocks⟩ := id C
  intro n
  induction n with
  | zero =>
    intro t x1 x2 H locs hT hS hK ls h hl
    have h : none = some _ := h
    cases h
  | succ n ih =>
    intro t x1 x2 H locs hT hS hK ls h hl
    rw [C_mornings_p36] at h
    refine lv_iload_n hx hb dX0_mornings_36 rfl (lv_at hl 2 rfl) ?_
    refine lv_bipush (v := 26) hx hb dX0_mornings_37 (by decide) ?_
    refine lv_icmp_ge (tgt := 90) hx hb dX0_mornings_39 (by decide) (fun c => ?_) (fun c => ?_)
    · replace h := if_t c h
      refine lv_aload_n hx hb dX0_mornings_90 rfl (lv_at hl 0 rfl) ?_
      refine cg0 C hK hT dX0_mornings_91 ?_
      refine c_getSN C hK hT (Or.inl rfl) 1 (by decide) (nf224 hK.2.1) rfl (v := .ref (a + 3)) rfl dX0_mornings_94 ?_
      refine lv_iconst (v := 0) hx hb dX0_mornings_97 (by decide) ?_
      refine lv_dup2_11 hx hb dX0_mornings_98 rfl rfl ?_
      obtain ⟨hi1, h⟩ := ck_some h
      refine c_ild C hK hT 3 192 (by decide) (fun _ _ => rfl) hi1 dX0_mornings_99 ?_
      refine lv_iload_n hx hb dX0_mornings_100 rfl (lv_at hl 1 rfl) ?_
      refine lv_ixor hx hb dX0_mornings_101 ?_
      obtain ⟨hi2, h⟩ := ck_some h
      refine c_ist C hK hT hS 3 192 (by decide) (fun _ _ => rfl) hi2 dX0_mornings_102 (fun t3 H locs et3 hT hS hK => ?_)
      replace h := lt1_sub et3 h
      refine lv_aload_n hx hb dX0_mornings_103 rfl (lv_at hl 0 rfl) ?_
      refine cg0 C hK hT dX0_mornings_104 ?_
      refine c_getSN C hK hT (Or.inl rfl) 1 (by decide) (nf224 hK.2.1) rfl (v := .ref (a + 3)) rfl dX0_mornings_107 ?_
      refine lv_iconst (v := 1) hx hb dX0_mornings_110 (by decide) ?_
      refine lv_dup2_11 hx hb dX0_mornings_111 rfl rfl ?_
      obtain ⟨hi4, h⟩ := ck_some h
      refine c_ild C hK hT 3 192 (by decide) (fun _ _ => rfl) hi4 dX0_mornings_112 ?_
      refine lv_iconst (v := 1) hx hb dX0_mornings_113 (by decide) ?_
      refine lv_iadd hx hb dX0_mornings_114 ?_
      obtain ⟨hi5, h⟩ := ck_some h
      refine c_ist C hK hT hS 3 192 (by decide) (fun _ _ => rfl) hi5 dX0_mornings_115 (fun t6 H locs et6 hT hS hK => ?_)
      replace h := lt1_sub et6 h
      exact ec_v C hT hS h dX0_mornings_116
    · replace h := if_f c h
      refine lv_aload_n hx hb dX0_mornings_42 rfl (lv_at hl 0 rfl) ?_
      refine cg0 C hK hT dX0_mornings_43 ?_
      refine c_getSN C hK hT (Or.inl rfl) 1 (by decide) (nf224 hK.2.1) rfl (v := .ref (a + 3)) rfl dX0_mornings_46 ?_
      refine lv_iconst (v := 3) hx hb dX0_mornings_49 (by decide) ?_
      refine lv_iload_n hx hb dX0_mornings_50 rfl (lv_at hl 2 rfl) ?_
      refine lv_iadd hx hb dX0_mornings_51 ?_
      refine lv_iload_n hx hb dX0_mornings_52 rfl (lv_at hl 1 rfl) ?_
      refine lv_iload_n hx hb dX0_mornings_53 rfl (lv_at hl 2 rfl) ?_
      obtain ⟨v7, hv7, h⟩ := bd1_some h
      refine r_int (run_s (As := [.int x1, .int x2]) (rest := [.int ((3 : Int32) + x2), .ref (a + 3)]) C (mX0_has hv7) q344 q345 q158 q346 ⟨rfl, rfl⟩ hdX0_has ⟨Nat.le_of_ble_eq_true rfl, Nat.le_of_ble_eq_true rfl⟩ ⟨Nat.zero_le _, Nat.zero_le _⟩ rfl hl.1 rfl (Nat.le_of_ble_eq_true rfl) dX0_mornings_54) ?_
      refine lv_if_eq (tgt := 64) hx hb dX0_mornings_57 (by decide) (fun c => ?_) (fun c => ?_)
      · replace h := if_t c h
        refine lv_sipush (v := 999) hx hb dX0_mornings_64 (by decide) ?_
        refine lv_aload_n hx hb dX0_mornings_67 rfl (lv_at hl 0 rfl) ?_
        refine cg0 C hK hT dX0_mornings_68 ?_
        refine c_getSN C hK hT (Or.inl rfl) 1 (by decide) (nf224 hK.2.1) rfl (v := .ref (a + 3)) rfl dX0_mornings_71 ?_
        refine lv_iconst (v := 3) hx hb dX0_mornings_74 (by decide) ?_
        refine lv_iload_n hx hb dX0_mornings_75 rfl (lv_at hl 2 rfl) ?_
        refine lv_iadd hx hb dX0_mornings_76 ?_
        obtain ⟨hi8, h⟩ := ck_some h
        refine c_ild C hK hT 3 192 (by decide) (fun _ _ => rfl) hi8 dX0_mornings_77 ?_
        refine lv_iconst (v := 1) hx hb dX0_mornings_78 (by decide) ?_
        refine lv_iadd hx hb dX0_mornings_79 ?_
        refine va_mmin hx hb (hml.trans hl.1.symm) hown (hts _ q1179) (hts _ q669) (hts _ q180) (hts _ q670) (Nat.le_of_ble_eq_true rfl) (Nat.le_of_ble_eq_true rfl) (Nat.zero_le _) (Nat.zero_le _) dX0_mornings_80 ?_
        exact bX0_mornings_p83 C ih t x1 x2 ((3 : Int32) + x2) (if ((t.1 3 ((3 : Int32) + x2).toNatClampNeg) + (1 : Int32)) < (999 : Int32) then ((t.1 3 ((3 : Int32) + x2).toNatClampNeg) + (1 : Int32)) else (999 : Int32)) H locs hT hS hK ls h (lv_sub hl [0, 1, 2] rfl)
      · replace h := if_f c h
        refine lv_iconst (v := 0) hx hb dX0_mornings_60 (by decide) ?_
        refine lv_goto (tgt := 83) hx hb dX0_mornings_61 (by decide) ?_
        exact bX0_mornings_p83 C ih t x1 x2 ((3 : Int32) + x2) (0 : Int32) H locs hT hS hK ls h (lv_sub hl [0, 1, 2] rfl)
theorem bX0_mornings_p4 {p : Program} {l : Launch} {e : Env} {s : State} {m : MethodId} {args : Array Value} {below : List Frame} {meth : Method} {c : Code} {D : va_G} {dA : Nat → ClassId} {a : Nat} {k : KP a} {t0 : CS} {t9 : CS} (C : cx p s m args meth c cX0_mornings RX0 3 none) : ∀ (n : Nat), ∀ (t : CS) (x1 : Int32) (x2 : Int32) (H : Heap) (locs : List Loc) (hT : cW D dA a k t H) (hS : cS a s.heap H locs t0.2.2.2 0 t) (hK : kC D dA a k t.2.2.2 s) (ls : Array Slot), C_mornings_p4 n t x1 x2 = some t9 → lv_has ls 3 [(0, .ref a), (1, .int x1), (2, .int x2)] → W p l e rmX0_mornings s m args below meth c H locs 0 0 (MQ below (cQ D dA a k 0 t0 t9 none) args s 0 0 (ca a)) (F0 m 4 ls []) := by
  obtain ⟨hx, hb, hr, hml, hown, hts, hlocks⟩ := id C
  intro n
  induction n with
  | zero =>
    intro t x1 x2 H locs hT hS hK ls h hl
    have h : none = some _ := h
    cases h
  | succ n ih =>
    intro t x1 x2 H locs hT hS hK ls h hl
    rw [C_mornings_p4] at h
    refine lv_iload_n hx hb dX0_mornings_4 rfl (lv_at hl 2 rfl) ?_
    refine lv_bipush (v := 26) hx hb dX0_mornings_5 (by decide) ?_
    refine lv_icmp_ge (tgt := 34) hx hb dX0_mornings_7 (by decide) (fun c => ?_) (fun c => ?_)
    · replace h := if_t c h
      refine lv_iconst (v := 0) hx hb dX0_mornings_34 (by decide) ?_
      refine lv_istore_n (lv' := [(2, .int (0 : Int32)), (0, .ref a), (1, .int x1)]) hx hb dX0_mornings_35 rfl hl (by decide) rfl (fun ls hl => ?_)
      exact bX0_mornings_p36 C fu t x1 (0 : Int32) H locs hT hS hK ls h (lv_sub hl [1, 2, 0] rfl)
    · replace h := if_f c h
      refine lv_iload_n hx hb dX0_mornings_10 rfl (lv_at hl 1 rfl) ?_
      refine lv_aload_n hx hb dX0_mornings_11 rfl (lv_at hl 0 rfl) ?_
      refine lv_iload_n hx hb dX0_mornings_12 rfl (lv_at hl 2 rfl) ?_
      obtain ⟨v1, t2, ht2, h⟩ := bd2_some h
      refine wc_int hS hK (run_c (As := [.int x2]) (rest := [.int x1]) C hK hT hS.2.1 (rv_X hK hT) (mX0_changes ht2) q1060 q1062 qs28 q158 q1063 ⟨rfl, rfl⟩ hdX0_changes ⟨Nat.le_of_ble_eq_true rfl, Nat.le_of_ble_eq_true rfl⟩ ⟨Nat.zero_le _, Nat.zero_le _⟩ rfl hl.1 rfl (Nat.le_of_ble_eq_true rfl) dX0_mornings_13) (fun H locs hT hS hK hNt2 => ?_)
      refine lv_if_eq (tgt := 25) hx hb dX0_mornings_16 (by decide) (fun c => ?_) (fun c => ?_)
      · replace h := if_t c h
        refine lv_iconst (v := 0) hx hb dX0_mornings_25 (by decide) ?_
        exact bX0_mornings_p26 C ih t2 x2 x1 (0 : Int32) H locs hT hS hK ls h (lv_sub hl [0, 2] rfl)
      · replace h := if_f c h
        refine lv_iconst (v := 1) hx hb dX0_mornings_19 (by decide) ?_
        refine lv_iload_n hx hb dX0_mornings_20 rfl (lv_at hl 2 rfl) ?_
        refine lv_ishl hx hb dX0_mornings_21 ?_
        refine lv_goto (tgt := 26) hx hb dX0_mornings_22 (by decide) ?_
        exact bX0_mornings_p26 C ih t2 x2 x1 ((1 : Int32) <<< (x2 &&& (31 : Int32))) H locs hT hS hK ls h (lv_sub hl [0, 2] rfl)
theorem bX0_mornings {p : Program} {l : Launch} {e : Env} {s : State} {m : MethodId} {args : Array Value} {below : List Frame} {meth : Method} {c : Code} {D : va_G} {dA : Nat → ClassId} {a : Nat} {k : KP a} {t0 : CS} {t9 : CS} (C : cx p s m args meth c cX0_mornings RX0 3 none) : ∀ (t : CS) (H : Heap) (locs : List Loc) (hT : cW D dA a k t H) (hS : cS a s.heap H locs t0.2.2.2 0 t) (hK : kC D dA a k t.2.2.2 s) (ls : Array Slot), C_mornings t = some t9 → lv_has ls 3 [(0, .ref a)] → W p l e rmX0_mornings s m args below meth c H locs 0 0 (MQ below (cQ D dA a k 0 t0 t9 none) args s 0 0 (ca a)) (F0 m 0 ls []) := by
  obtain ⟨hx, hb, hr, hml, hown, hts, hlocks⟩ := id C
  intro t H locs hT hS hK ls h hl
  unfold C_mornings at h
  refine lv_iconst (v := 0) hx hb dX0_mornings_0 (by decide) ?_
  refine lv_istore_n (lv' := [(1, .int (0 : Int32)), (0, .ref a)]) hx hb dX0_mornings_1 rfl hl (by decide) rfl (fun ls hl => ?_)
  refine lv_iconst (v := 0) hx hb dX0_mornings_2 (by decide) ?_
  refine lv_istore_n (lv' := [(2, .int (0 : Int32)), (1, .int (0 : Int32)), (0, .ref a)]) hx hb dX0_mornings_3 rfl hl (by decide) rfl (fun ls hl => ?_)
  exact bX0_mornings_p4 C fu t (0 : Int32) (0 : Int32) H locs hT hS hK ls h (lv_sub hl [2, 1, 0] rfl)
theorem mX0_mornings {l : Launch} {D : va_G} {dA : Nat → ClassId} {a : Nat} {k : KP a} {t : CS} {t9 : CS} (h : C_mornings t = some t9) : Met l yX0_mornings (ws_ yX0_mornings cX0_mornings 3 none) rmX0_mornings (cPc D dA a k t [.ref a]) (cQ D dA a k 0 t t9 none) 0 0 (ca a) := en_C (by decide +kernel) rfl (Nat.le_of_ble_eq_true rfl) (fun p e s m below meth c ls C hK hT hl => bX0_mornings C t _ [] hT cS.rf hK ls h hl)
set_option maxRecDepth 20000 in
abbrev rmX0_morning : Room := { frames := 166, cells := 0, slots := 0, locals := 6007 }
theorem hdX0_morning : yX0_morning.cls = RX0 ∧ yX0_morning.cls ≠ "java/lang/invoke/MethodHandle" ∧ yX0_morning.cls ≠ "java/lang/invoke/VarHandle" ∧ (parseMethodDescriptor yX0_morning.desc).map (fun d => d.parameters.length) = some 1 := by decide +kernel
theorem bX0_morning_p31 {p : Program} {l : Launch} {e : Env} {s : State} {m : MethodId} {args : Array Value} {below : List Frame} {meth : Method} {c : Code} {D : va_G} {dA : Nat → ClassId} {a : Nat} {k : KP a} {t0 : CS} {r : Int32} {t9 : CS} (C : cx p s m args meth c cX0_morning RX0 3 (some .int)) : ∀ (n : Nat), ∀ (t : CS) (x1 : Int32) (x2 : Int32) (H : Heap) (locs : List Loc) (hT : cW D dA a k t H) (hS : cS a s.heap H locs t0.2.2.2 0 t) (hK : kC D dA a k t.2.2.2 s) (ls : Array Slot), C_morning_p31 n t x1 x2 = some (r, t9) → lv_has ls 3 [(0, .ref a), (1, .int x1), (2, .int x2)] → W p l e rmX0_morning s m args below meth c H locs 0 0 (MQ below (cQ D dA a k 0 t0 t9 (some (.int r))) args s 0 0 (ca a)) (F0 m 31 ls []) := by
  obtain ⟨hx, hb, hr, hml, hown, hts, hlocks⟩ := id C
  intro n
  induction n with
  | zero =>
    intro t x1 x2 H locs hT hS hK ls h hl
    have h : none = some _ := h
    cases h
  | succ n ih =>
    intro t x1 x2 H locs hT hS hK ls h hl
    rw [C_morning_p31] at h
    refine lv_iload_n hx hb dX0_morning_31 rfl (lv_at hl 2 rfl) ?_
    refine lv_iload_n hx hb dX0_morning_32 rfl (lv_at hl 1 rfl) ?_
    refine lv_icmp_ge (tgt := 53) hx hb dX0_morning_33 (by decide) (fun c => ?_) (fun c => ?_)
    · replace h := if_t c h
      refine lv_aload_n hx hb dX0_morning_53 rfl (lv_at hl 0 rfl) ?_
      obtain ⟨v1, hv1, h⟩ := bd1_some h
      refine r_int (run_c (As := []) (rest := []) C hK hT hS.2.1 (rv_X hK hT) (mX0_outs hv1) q1089 q1091 qs32 q158 q1092 ⟨rfl, rfl⟩ hdX0_outs ⟨Nat.le_of_ble_eq_true rfl, Nat.le_of_ble_eq_true rfl⟩ ⟨Nat.zero_le _, Nat.zero_le _⟩ rfl hl.1 rfl (Nat.le_of_ble_eq_true rfl) dX0_morning_54) ?_
      exact ec_i C hT hS h dX0_morning_57
    · replace h := if_f c h
      refine lv_aload_n hx hb dX0_morning_36 rfl (lv_at hl 0 rfl) ?_
      refine cg0 C hK hT dX0_morning_37 ?_
      obtain ⟨t2, ht2, h⟩ := bd1_some h
      refine wc_void hS hK (run_c (As := []) (rest := []) C hK hT hS.2.1 (rv_S hK hT (Or.inl rfl)) (mX1_keeps ht2) q1052 q1053 q1054 q159 q1055 ⟨rfl, rfl⟩ hdX1_keeps ⟨Nat.le_of_ble_eq_true rfl, Nat.le_of_ble_eq_true rfl⟩ ⟨Nat.zero_le _, Nat.zero_le _⟩ rfl hl.1 rfl (Nat.le_of_ble_eq_true rfl) dX0_morning_40) (fun H locs hT hS hK hNt2 => ?_)
      refine lv_aload_n hx hb dX0_morning_43 rfl (lv_at hl 0 rfl) ?_
      obtain ⟨t3, ht3, h⟩ := bd1_some h
      refine wc_void hS hK (run_c (As := []) (rest := []) C hK hT hS.2.1 (rv_X hK hT) (mX0_mornings ht3) q1056 q1058 qs27 q158 q1059 ⟨rfl, rfl⟩ hdX0_mornings ⟨Nat.le_of_ble_eq_true rfl, Nat.le_of_ble_eq_true rfl⟩ ⟨Nat.zero_le _, Nat.zero_le _⟩ rfl hl.1 rfl (Nat.le_of_ble_eq_true rfl) dX0_morning_44) (fun H locs hT hS hK hNt3 => ?_)
      obtain ⟨v4, ev4⟩ : ∃ y : Int32, y = x2 + (1 : Int32) := ⟨_, rfl⟩
      replace h := lt1_sub ev4 h
      refine lv_iinc (v := v4) (lv' := [(2, .int v4), (0, .ref a), (1, .int x1)]) hx hb dX0_morning_47 hl (k := 2) rfl (by rw [ev4]; rfl) (by decide) rfl (fun ls hl => ?_)
      refine lv_goto (tgt := 31) hx hb dX0_morning_50 (by decide) ?_
      exact ih t3 x1 v4 H locs hT hS hK ls h (lv_sub hl [1, 2, 0] rfl)
theorem bX0_morning {p : Program} {l : Launch} {e : Env} {s : State} {m : MethodId} {args : Array Value} {below : List Frame} {meth : Method} {c : Code} {D : va_G} {dA : Nat → ClassId} {a : Nat} {k : KP a} {t0 : CS} {r : Int32} {t9 : CS} (C : cx p s m args meth c cX0_morning RX0 3 (some .int)) : ∀ (t : CS) (x1 : Int32) (H : Heap) (locs : List Loc) (hT : cW D dA a k t H) (hS : cS a s.heap H locs t0.2.2.2 0 t) (hK : kC D dA a k t.2.2.2 s) (ls : Array Slot), C_morning t x1 = some (r, t9) → lv_has ls 3 [(0, .ref a), (1, .int x1)] → W p l e rmX0_morning s m args below meth c H locs 0 0 (MQ below (cQ D dA a k 0 t0 t9 (some (.int r))) args s 0 0 (ca a)) (F0 m 0 ls []) := by
  obtain ⟨hx, hb, hr, hml, hown, hts, hlocks⟩ := id C
  intro t x1 H locs hT hS hK ls h hl
  unfold C_morning at h
  refine lv_iload_n hx hb dX0_morning_0 rfl (lv_at hl 1 rfl) ?_
  refine lv_iconst (v := 1) hx hb dX0_morning_1 (by decide) ?_
  refine lv_bipush (v := 99) hx hb dX0_morning_2 (by decide) ?_
  obtain ⟨v1, hv1, h⟩ := bd1_some h
  refine r_int (run_s (As := [.int x1, .int (1 : Int32), .int (99 : Int32)]) (rest := []) C (mX0_in hv1) q341 q342 q158 q343 ⟨rfl, rfl⟩ hdX0_in ⟨Nat.le_of_ble_eq_true rfl, Nat.le_of_ble_eq_true rfl⟩ ⟨Nat.zero_le _, Nat.zero_le _⟩ rfl hl.1 rfl (Nat.le_of_ble_eq_true rfl) dX0_morning_4) ?_
  refine lv_if_eq (tgt := 27) hx hb dX0_morning_7 (by decide) (fun c => ?_) (fun c => ?_)
  · replace h := if_t c h
    refine lv_iconst (v := -1) hx hb dX0_morning_27 (by decide) ?_
    exact ec_i C hT hS h dX0_morning_28
  · replace h := if_f c h
    refine lv_aload_n hx hb dX0_morning_10 rfl (lv_at hl 0 rfl) ?_
    refine cg0 C hK hT dX0_morning_11 ?_
    refine c_getSN C hK hT (Or.inl rfl) 1 (by decide) (nf224 hK.2.1) rfl (v := .ref (a + 3)) rfl dX0_morning_14 ?_
    refine lv_iconst (v := 1) hx hb dX0_morning_17 (by decide) ?_
    obtain ⟨hi2, h⟩ := ck_some h
    refine c_ild C hK hT 3 192 (by decide) (fun _ _ => rfl) hi2 dX0_morning_18 ?_
    refine lv_iload_n hx hb dX0_morning_19 rfl (lv_at hl 1 rfl) ?_
    refine lv_iadd hx hb dX0_morning_20 ?_
    refine lv_sipush (v := 999) hx hb dX0_morning_21 (by decide) ?_
    refine lv_icmp_le (tgt := 29) hx hb dX0_morning_24 (by decide) (fun c => ?_) (fun c => ?_)
    · replace h := if_t c h
      refine lv_iconst (v := 0) hx hb dX0_morning_29 (by decide) ?_
      refine lv_istore_n (lv' := [(2, .int (0 : Int32)), (0, .ref a), (1, .int x1)]) hx hb dX0_morning_30 rfl hl (by decide) rfl (fun ls hl => ?_)
      exact bX0_morning_p31 C fu t x1 (0 : Int32) H locs hT hS hK ls h (lv_sub hl [1, 2, 0] rfl)
    · replace h := if_f c h
      refine lv_iconst (v := -1) hx hb dX0_morning_27 (by decide) ?_
      exact ec_i C hT hS h dX0_morning_28
theorem mX0_morning {l : Launch} {D : va_G} {dA : Nat → ClassId} {a : Nat} {k : KP a} {t : CS} {x1 : Int32} {r : Int32} {t9 : CS} (h : C_morning t x1 = some (r, t9)) : Met l yX0_morning (ws_ yX0_morning cX0_morning 3 (some .int)) rmX0_morning (cPc D dA a k t [.ref a, .int x1]) (cQ D dA a k 0 t t9 (some (.int r))) 0 0 (ca a) := en_C (by decide +kernel) rfl (Nat.le_of_ble_eq_true rfl) (fun p e s m below meth c ls C hK hT hl => bX0_morning C t x1 _ [] hT cS.rf hK ls h hl)
set_option maxRecDepth 20000 in
abbrev rmX0_isSet : Room := { frames := 1, cells := 0, slots := 0, locals := 22 }
theorem hdX0_isSet : yX0_isSet.cls ≠ "java/lang/invoke/MethodHandle" ∧ yX0_isSet.cls ≠ "java/lang/invoke/VarHandle" ∧ (parseMethodDescriptor yX0_isSet.desc).map (fun d => d.parameters.length) = some 1 := by decide +kernel
theorem bX0_isSet {p : Program} {l : Launch} {e : Env} {s : State} {m : MethodId} {args : Array Value} {below : List Frame} {meth : Method} {c : Code} {r : Int32} (C : cx p s m args meth c cX0_isSet RX0 1 (some .boolean)) : ∀ (x0 : Int32) (ls : Array Slot), C_isSet x0 = some r → lv_has ls 1 [(0, .int x0)] → W p l e rmX0_isSet s m args below meth c s.heap [] 0 0 (MQ below (rQi r) args s 0 0 nof) (F0 m 0 ls []) := by
  obtain ⟨hx, hb, hr, hml, hown, hts, hlocks⟩ := id C
  intro x0 ls h hl
  unfold C_isSet at h
  refine lv_iload_n hx hb dX0_isSet_0 rfl (lv_at hl 0 rfl) ?_
  refine lv_iconst (v := 1) hx hb dX0_isSet_1 (by decide) ?_
  refine lv_ldc hx hb hown (hts _ q1187) dX0_isSet_2 ?_
  obtain ⟨v1, hv1, h⟩ := bd1_some h
  refine r_int (run_s (As := [.int x0, .int (1 : Int32), .int (67108863 : Int32)]) (rest := []) C (mX0_in hv1) q341 q342 q158 q343 ⟨rfl, rfl⟩ hdX0_in ⟨Nat.le_of_ble_eq_true rfl, Nat.le_of_ble_eq_true rfl⟩ ⟨Nat.zero_le _, Nat.zero_le _⟩ rfl hl.1 rfl (Nat.le_of_ble_eq_true rfl) dX0_isSet_4) ?_
  obtain ⟨hz, h⟩ := zr_some h
  exact e_rz C hz h dX0_isSet_7
theorem mX0_isSet {l : Launch} {x0 : Int32} {r : Int32} (h : C_isSet x0 = some r) : Met l yX0_isSet (ws_ yX0_isSet cX0_isSet 1 (some .boolean)) rmX0_isSet (sPc [.int x0]) (rQi r) 0 0 nof := en_S (by decide +kernel) rfl (Nat.le_of_ble_eq_true rfl) (fun p e s m below meth c ls C hl => bX0_isSet C x0 ls h hl)
set_option maxRecDepth 20000 in
abbrev rmX0_walks : Room := { frames := 1, cells := 0, slots := 0, locals := 21 }
theorem hdX0_walks : yX0_walks.cls = RX0 ∧ yX0_walks.cls ≠ "java/lang/invoke/MethodHandle" ∧ yX0_walks.cls ≠ "java/lang/invoke/VarHandle" ∧ (parseMethodDescriptor yX0_walks.desc).map (fun d => d.parameters.length) = some 1 := by decide +kernel
theorem bX0_walks_p41 {p : Program} {l : Launch} {e : Env} {s : State} {m : MethodId} {args : Array Value} {below : List Frame} {meth : Method} {c : Code} {D : va_G} {dA : Nat → ClassId} {a : Nat} {k : KP a} {t0 : CS} {t9 : CS} (C : cx p s m args meth c cX0_walks RX0 3 none) {k15 : CS → Int32 → Int32 → Option CS} (hk15 : ∀ (t : CS) (x1 : Int32) (x2 : Int32) (H : Heap) (locs : List Loc) (hT : cW D dA a k t H) (hS : cS a s.heap H locs t0.2.2.2 0 t) (hK : kC D dA a k t.2.2.2 s) (ls : Array Slot), k15 t x1 x2 = some t9 → lv_has ls 3 [(0, .ref a), (1, .int x1), (2, .int x2)] → W p l e rmX0_walks s m args below meth c H locs 0 0 (MQ below (cQ D dA a k 0 t0 t9 none) args s 0 0 (ca a)) (F0 m 15 ls [])) : ∀ (t : CS) (x1 : Int32) (x2 : Int32) (H : Heap) (locs : List Loc) (hT : cW D dA a k t H) (hS : cS a s.heap H locs t0.2.2.2 0 t) (hK : kC D dA a k t.2.2.2 s) (ls : Array Slot), C_walks_p41 k15 t x1 x2 = some t9 → lv_has ls 3 [(0, .ref a), (1, .int x1), (2, .int x2)] → W p l e rmX0_walks s m args below meth c H locs 0 0 (MQ below (cQ D dA a k 0 t0 t9 none) args s 0 0 (ca a)) (F0 m 41 ls []) := by
  obtain ⟨hx, hb, hr, hml, hown, hts, hlocks⟩ := id C
  intro t x1 x2 H locs hT hS hK ls h hl
  unfold C_walks_p41 at h
  obtain ⟨v1, ev1⟩ : ∃ y : Int32, y = x2 + (1 : Int32) := ⟨_, rfl⟩
  replace h := lt1_sub ev1 h
  refine lv_iinc (v := v1) (lv' := [(2, .int v1), (0, .ref a), (1, .int x1)]) hx hb dX0_walks_41 hl (k := 2) rfl (by rw [ev1]; rfl) (by decide) rfl (fun ls hl => ?_)
  refine lv_goto (tgt := 15) hx hb dX0_walks_44 (by decide) ?_
  exact hk15 t x1 v1 H locs hT hS hK ls h (lv_sub hl [1, 2, 0] rfl)
theorem bX0_walks_p15 {p : Program} {l : Launch} {e : Env} {s : State} {m : MethodId} {args : Array Value} {below : List Frame} {meth : Method} {c : Code} {D : va_G} {dA : Nat → ClassId} {a : Nat} {k : KP a} {t0 : CS} {t9 : CS} (C : cx p s m args meth c cX0_walks RX0 3 none) : ∀ (n : Nat), ∀ (t : CS) (x1 : Int32) (x2 : Int32) (H : Heap) (locs : List Loc) (hT : cW D dA a k t H) (hS : cS a s.heap H locs t0.2.2.2 0 t) (hK : kC D dA a k t.2.2.2 s) (ls : Array Slot), C_walks_p15 n t x1 x2 = some t9 → lv_has ls 3 [(0, .ref a), (1, .int x1), (2, .int x2)] → W p l e rmX0_walks s m args below meth c H locs 0 0 (MQ below (cQ D dA a k 0 t0 t9 none) args s 0 0 (ca a)) (F0 m 15 ls []) := by
  obtain ⟨hx, hb, hr, hml, hown, hts, hlocks⟩ := id C
  intro n
  induction n with
  | zero =>
    intro t x1 x2 H locs hT hS hK ls h hl
    have h : none = some _ := h
    cases h
  | succ n ih =>
    intro t x1 x2 H locs hT hS hK ls h hl
    rw [C_walks_p15] at h
    refine lv_iload_n hx hb dX0_walks_15 rfl (lv_at hl 2 rfl) ?_
    refine lv_bipush (v := 26) hx hb dX0_walks_16 (by decide) ?_
    refine lv_icmp_ge (tgt := 47) hx hb dX0_walks_18 (by decide) (fun c => ?_) (fun c => ?_)
    · replace h := if_t c h
      exact ec_v C hT hS h dX0_walks_47
    · replace h := if_f c h
      refine lv_iload_n hx hb dX0_walks_21 rfl (lv_at hl 1 rfl) ?_
      refine lv_iload_n hx hb dX0_walks_22 rfl (lv_at hl 2 rfl) ?_
      obtain ⟨v1, hv1, h⟩ := bd1_some h
      refine r_int (run_s (As := [.int x1, .int x2]) (rest := []) C (mX0_has hv1) q344 q345 q158 q346 ⟨rfl, rfl⟩ hdX0_has ⟨Nat.le_of_ble_eq_true rfl, Nat.le_of_ble_eq_true rfl⟩ ⟨Nat.zero_le _, Nat.zero_le _⟩ rfl hl.1 rfl (Nat.le_of_ble_eq_true rfl) dX0_walks_23) ?_
      refine lv_if_eq (tgt := 41) hx hb dX0_walks_26 (by decide) (fun c => ?_) (fun c => ?_)
      · replace h := if_t c h
        exact bX0_walks_p41 C ih t x1 x2 H locs hT hS hK ls h (lv_sub hl [0, 1, 2] rfl)
      · replace h := if_f c h
        refine lv_aload_n hx hb dX0_walks_29 rfl (lv_at hl 0 rfl) ?_
        refine cg0 C hK hT dX0_walks_30 ?_
        refine c_getSN C hK hT (Or.inl rfl) 1 (by decide) (nf224 hK.2.1) rfl (v := .ref (a + 3)) rfl dX0_walks_33 ?_
        refine lv_iconst (v := 3) hx hb dX0_walks_36 (by decide) ?_
        refine lv_iload_n hx hb dX0_walks_37 rfl (lv_at hl 2 rfl) ?_
        refine lv_iadd hx hb dX0_walks_38 ?_
        refine lv_iconst (v := 0) hx hb dX0_walks_39 (by decide) ?_
        obtain ⟨hi2, h⟩ := ck_some h
        refine c_ist C hK hT hS 3 192 (by decide) (fun _ _ => rfl) hi2 dX0_walks_40 (fun t3 H locs et3 hT hS hK => ?_)
        replace h := lt1_sub et3 h
        exact bX0_walks_p41 C ih t3 x1 x2 H locs hT hS hK ls h (lv_sub hl [0, 1, 2] rfl)
theorem bX0_walks {p : Program} {l : Launch} {e : Env} {s : State} {m : MethodId} {args : Array Value} {below : List Frame} {meth : Method} {c : Code} {D : va_G} {dA : Nat → ClassId} {a : Nat} {k : KP a} {t0 : CS} {t9 : CS} (C : cx p s m args meth c cX0_walks RX0 3 none) : ∀ (t : CS) (x1 : Int32) (H : Heap) (locs : List Loc) (hT : cW D dA a k t H) (hS : cS a s.heap H locs t0.2.2.2 0 t) (hK : kC D dA a k t.2.2.2 s) (ls : Array Slot), C_walks t x1 = some t9 → lv_has ls 3 [(0, .ref a), (1, .int x1)] → W p l e rmX0_walks s m args below meth c H locs 0 0 (MQ below (cQ D dA a k 0 t0 t9 none) args s 0 0 (ca a)) (F0 m 0 ls []) := by
  obtain ⟨hx, hb, hr, hml, hown, hts, hlocks⟩ := id C
  intro t x1 H locs hT hS hK ls h hl
  unfold C_walks at h
  refine lv_aload_n hx hb dX0_walks_0 rfl (lv_at hl 0 rfl) ?_
  refine cg0 C hK hT dX0_walks_1 ?_
  refine c_getSN C hK hT (Or.inl rfl) 1 (by decide) (nf224 hK.2.1) rfl (v := .ref (a + 3)) rfl dX0_walks_4 ?_
  refine lv_iconst (v := 0) hx hb dX0_walks_7 (by decide) ?_
  refine lv_dup2_11 hx hb dX0_walks_8 rfl rfl ?_
  obtain ⟨hi1, h⟩ := ck_some h
  refine c_ild C hK hT 3 192 (by decide) (fun _ _ => rfl) hi1 dX0_walks_9 ?_
  refine lv_iload_n hx hb dX0_walks_10 rfl (lv_at hl 1 rfl) ?_
  refine lv_ixor hx hb dX0_walks_11 ?_
  obtain ⟨hi2, h⟩ := ck_some h
  refine c_ist C hK hT hS 3 192 (by decide) (fun _ _ => rfl) hi2 dX0_walks_12 (fun t3 H locs et3 hT hS hK => ?_)
  replace h := lt1_sub et3 h
  refine lv_iconst (v := 0) hx hb dX0_walks_13 (by decide) ?_
  refine lv_istore_n (lv' := [(2, .int (0 : Int32)), (0, .ref a), (1, .int x1)]) hx hb dX0_walks_14 rfl hl (by decide) rfl (fun ls hl => ?_)
  exact bX0_walks_p15 C fu t3 x1 (0 : Int32) H locs hT hS hK ls h (lv_sub hl [1, 2, 0] rfl)
theorem mX0_walks {l : Launch} {D : va_G} {dA : Nat → ClassId} {a : Nat} {k : KP a} {t : CS} {x1 : Int32} {t9 : CS} (h : C_walks t x1 = some t9) : Met l yX0_walks (ws_ yX0_walks cX0_walks 3 none) rmX0_walks (cPc D dA a k t [.ref a, .int x1]) (cQ D dA a k 0 t t9 none) 0 0 (ca a) := en_C (by decide +kernel) rfl (Nat.le_of_ble_eq_true rfl) (fun p e s m below meth c ls C hK hT hl => bX0_walks C t x1 _ [] hT cS.rf hK ls h hl)
set_option maxRecDepth 20000 in
abbrev rmX0_called : Room := { frames := 3, cells := 0, slots := 0, locals := 81 }
theorem hdX0_called : yX0_called.cls = RX0 ∧ yX0_called.cls ≠ "java/lang/invoke/MethodHandle" ∧ yX0_called.cls ≠ "java/lang/invoke/VarHandle" ∧ (parseMethodDescriptor yX0_called.desc).map (fun d => d.parameters.length) = some 1 := by decide +kernel
theorem bX0_called {p : Program} {l : Launch} {e : Env} {s : State} {m : MethodId} {args : Array Value} {below : List Frame} {meth : Method} {c : Code} {D : va_G} {dA : Nat → ClassId} {a : Nat} {k : KP a} {t0 : CS} {r : Int32} {t9 : CS} (C : cx p s m args meth c cX0_called RX0 2 (some .int)) : ∀ (t : CS) (x1 : Int32) (H : Heap) (locs : List Loc) (hT : cW D dA a k t H) (hS : cS a s.heap H locs t0.2.2.2 0 t) (hK : kC D dA a k t.2.2.2 s) (ls : Array Slot), C_called t x1 = some (r, t9) → lv_has ls 2 [(0, .ref a), (1, .int x1)] → W p l e rmX0_called s m args below meth c H locs 0 0 (MQ below (cQ D dA a k 0 t0 t9 (some (.int r))) args s 0 0 (ca a)) (F0 m 0 ls []) := by
  obtain ⟨hx, hb, hr, hml, hown, hts, hlocks⟩ := id C
  intro t x1 H locs hT hS hK ls h hl
  unfold C_called at h
  refine lv_iload_n hx hb dX0_called_0 rfl (lv_at hl 1 rfl) ?_
  refine lv_if_ne (tgt := 6) hx hb dX0_called_1 (by decide) (fun c => ?_) (fun c => ?_)
  · replace h := if_f c h
    refine lv_aload_n hx hb dX0_called_6 rfl (lv_at hl 0 rfl) ?_
    refine cg0 C hK hT dX0_called_7 ?_
    obtain ⟨t1, ht1, h⟩ := bd1_some h
    refine wc_void hS hK (run_c (As := []) (rest := []) C hK hT hS.2.1 (rv_S hK hT (Or.inl rfl)) (mX1_keeps ht1) q1052 q1053 q1054 q159 q1055 ⟨rfl, rfl⟩ hdX1_keeps ⟨Nat.le_of_ble_eq_true rfl, Nat.le_of_ble_eq_true rfl⟩ ⟨Nat.zero_le _, Nat.zero_le _⟩ rfl hl.1 rfl (Nat.le_of_ble_eq_true rfl) dX0_called_10) (fun H locs hT hS hK hNt1 => ?_)
    refine lv_aload_n hx hb dX0_called_13 rfl (lv_at hl 0 rfl) ?_
    refine lv_iload_n hx hb dX0_called_14 rfl (lv_at hl 1 rfl) ?_
    obtain ⟨t2, ht2, h⟩ := bd1_some h
    refine wc_void hS hK (run_c (As := [.int x1]) (rest := []) C hK hT hS.2.1 (rv_X hK hT) (mX0_walks ht2) q1192 q1194 qs35 q158 q1195 ⟨rfl, rfl⟩ hdX0_walks ⟨Nat.le_of_ble_eq_true rfl, Nat.le_of_ble_eq_true rfl⟩ ⟨Nat.zero_le _, Nat.zero_le _⟩ rfl hl.1 rfl (Nat.le_of_ble_eq_true rfl) dX0_called_15) (fun H locs hT hS hK hNt2 => ?_)
    refine lv_iload_n hx hb dX0_called_18 rfl (lv_at hl 1 rfl) ?_
    obtain ⟨v3, hv3, h⟩ := bd1_some h
    refine r_int (run_s (As := [.int x1]) (rest := []) C (mJ5_bitCount hv3) q1079 q1080 q168 q1081 ⟨rfl, rfl⟩ hdJ5_bitCount ⟨Nat.le_of_ble_eq_true rfl, Nat.le_of_ble_eq_true rfl⟩ ⟨Nat.zero_le _, Nat.zero_le _⟩ rfl hl.1 rfl (Nat.le_of_ble_eq_true rfl) dX0_called_19) ?_
    exact ec_i C hT hS h dX0_called_22
  · replace h := if_t c h
    refine lv_iconst (v := -1) hx hb dX0_called_4 (by decide) ?_
    exact ec_i C hT hS h dX0_called_5
theorem mX0_called {l : Launch} {D : va_G} {dA : Nat → ClassId} {a : Nat} {k : KP a} {t : CS} {x1 : Int32} {r : Int32} {t9 : CS} (h : C_called t x1 = some (r, t9)) : Met l yX0_called (ws_ yX0_called cX0_called 2 (some .int)) rmX0_called (cPc D dA a k t [.ref a, .int x1]) (cQ D dA a k 0 t t9 (some (.int r))) 0 0 (ca a) := en_C (by decide +kernel) rfl (Nat.le_of_ble_eq_true rfl) (fun p e s m below meth c ls C hK hT hl => bX0_called C t x1 _ [] hT cS.rf hK ls h hl)
set_option maxRecDepth 20000 in
abbrev rmX0_strike : Room := { frames := 4, cells := 0, slots := 0, locals := 102 }
theorem hdX0_strike : yX0_strike.cls = RX0 ∧ yX0_strike.cls ≠ "java/lang/invoke/MethodHandle" ∧ yX0_strike.cls ≠ "java/lang/invoke/VarHandle" ∧ (parseMethodDescriptor yX0_strike.desc).map (fun d => d.parameters.length) = some 1 := by decide +kernel
theorem bX0_strike {p : Program} {l : Launch} {e : Env} {s : State} {m : MethodId} {args : Array Value} {below : List Frame} {meth : Method} {c : Code} {D : va_G} {dA : Nat → ClassId} {a : Nat} {k : KP a} {t0 : CS} {r : Int32} {t9 : CS} (C : cx p s m args meth c cX0_strike RX0 2 (some .int)) : ∀ (t : CS) (x1 : Int32) (H : Heap) (locs : List Loc) (hT : cW D dA a k t H) (hS : cS a s.heap H locs t0.2.2.2 0 t) (hK : kC D dA a k t.2.2.2 s) (ls : Array Slot), C_strike t x1 = some (r, t9) → lv_has ls 2 [(0, .ref a), (1, .int x1)] → W p l e rmX0_strike s m args below meth c H locs 0 0 (MQ below (cQ D dA a k 0 t0 t9 (some (.int r))) args s 0 0 (ca a)) (F0 m 0 ls []) := by
  obtain ⟨hx, hb, hr, hml, hown, hts, hlocks⟩ := id C
  intro t x1 H locs hT hS hK ls h hl
  unfold C_strike at h
  refine lv_iload_n hx hb dX0_strike_0 rfl (lv_at hl 1 rfl) ?_
  obtain ⟨v1, hv1, h⟩ := bd1_some h
  refine r_int (run_s (As := [.int x1]) (rest := []) C (mX0_isSet hv1) q1184 q1185 q158 q1186 ⟨rfl, rfl⟩ hdX0_isSet ⟨Nat.le_of_ble_eq_true rfl, Nat.le_of_ble_eq_true rfl⟩ ⟨Nat.zero_le _, Nat.zero_le _⟩ rfl hl.1 rfl (Nat.le_of_ble_eq_true rfl) dX0_strike_1) ?_
  refine lv_if_eq (tgt := 27) hx hb dX0_strike_4 (by decide) (fun c => ?_) (fun c => ?_)
  · replace h := if_t c h
    refine lv_iconst (v := -1) hx hb dX0_strike_27 (by decide) ?_
    exact ec_i C hT hS h dX0_strike_28
  · replace h := if_f c h
    refine lv_aload_n hx hb dX0_strike_7 rfl (lv_at hl 0 rfl) ?_
    refine lv_iload_n hx hb dX0_strike_8 rfl (lv_at hl 1 rfl) ?_
    refine lv_aload_n hx hb dX0_strike_9 rfl (lv_at hl 0 rfl) ?_
    refine cg0 C hK hT dX0_strike_10 ?_
    refine c_getSN C hK hT (Or.inl rfl) 1 (by decide) (nf224 hK.2.1) rfl (v := .ref (a + 3)) rfl dX0_strike_13 ?_
    refine lv_iconst (v := 0) hx hb dX0_strike_16 (by decide) ?_
    obtain ⟨hi2, h⟩ := ck_some h
    refine c_ild C hK hT 3 192 (by decide) (fun _ _ => rfl) hi2 dX0_strike_17 ?_
    refine lv_iconst (v := -1) hx hb dX0_strike_18 (by decide) ?_
    refine lv_ixor hx hb dX0_strike_19 ?_
    refine lv_iand hx hb dX0_strike_20 ?_
    obtain ⟨v3, t4, ht4, h⟩ := bd2_some h
    refine wc_int hS hK (run_c (As := [.int (x1 &&& ((t.1 3 (0 : Int32).toNatClampNeg) ^^^ (-1 : Int32)))]) (rest := []) C hK hT hS.2.1 (rv_X hK hT) (mX0_called ht4) q1188 q1190 qs34 q158 q1191 ⟨rfl, rfl⟩ hdX0_called ⟨Nat.le_of_ble_eq_true rfl, Nat.le_of_ble_eq_true rfl⟩ ⟨Nat.zero_le _, Nat.zero_le _⟩ rfl hl.1 rfl (Nat.le_of_ble_eq_true rfl) dX0_strike_21) (fun H locs hT hS hK hNt4 => ?_)
    refine lv_goto (tgt := 28) hx hb dX0_strike_24 (by decide) ?_
    exact ec_i C hT hS h dX0_strike_28
theorem mX0_strike {l : Launch} {D : va_G} {dA : Nat → ClassId} {a : Nat} {k : KP a} {t : CS} {x1 : Int32} {r : Int32} {t9 : CS} (h : C_strike t x1 = some (r, t9)) : Met l yX0_strike (ws_ yX0_strike cX0_strike 2 (some .int)) rmX0_strike (cPc D dA a k t [.ref a, .int x1]) (cQ D dA a k 0 t t9 (some (.int r))) 0 0 (ca a) := en_C (by decide +kernel) rfl (Nat.le_of_ble_eq_true rfl) (fun p e s m below meth c ls C hK hT hl => bX0_strike C t x1 _ [] hT cS.rf hK ls h hl)
set_option maxRecDepth 20000 in
abbrev rmX0_comeBack : Room := { frames := 4, cells := 0, slots := 0, locals := 102 }
theorem hdX0_comeBack : yX0_comeBack.cls = RX0 ∧ yX0_comeBack.cls ≠ "java/lang/invoke/MethodHandle" ∧ yX0_comeBack.cls ≠ "java/lang/invoke/VarHandle" ∧ (parseMethodDescriptor yX0_comeBack.desc).map (fun d => d.parameters.length) = some 1 := by decide +kernel
theorem bX0_comeBack {p : Program} {l : Launch} {e : Env} {s : State} {m : MethodId} {args : Array Value} {below : List Frame} {meth : Method} {c : Code} {D : va_G} {dA : Nat → ClassId} {a : Nat} {k : KP a} {t0 : CS} {r : Int32} {t9 : CS} (C : cx p s m args meth c cX0_comeBack RX0 2 (some .int)) : ∀ (t : CS) (x1 : Int32) (H : Heap) (locs : List Loc) (hT : cW D dA a k t H) (hS : cS a s.heap H locs t0.2.2.2 0 t) (hK : kC D dA a k t.2.2.2 s) (ls : Array Slot), C_comeBack t x1 = some (r, t9) → lv_has ls 2 [(0, .ref a), (1, .int x1)] → W p l e rmX0_comeBack s m args below meth c H locs 0 0 (MQ below (cQ D dA a k 0 t0 t9 (some (.int r))) args s 0 0 (ca a)) (F0 m 0 ls []) := by
  obtain ⟨hx, hb, hr, hml, hown, hts, hlocks⟩ := id C
  intro t x1 H locs hT hS hK ls h hl
  unfold C_comeBack at h
  refine lv_iload_n hx hb dX0_comeBack_0 rfl (lv_at hl 1 rfl) ?_
  obtain ⟨v1, hv1, h⟩ := bd1_some h
  refine r_int (run_s (As := [.int x1]) (rest := []) C (mX0_isSet hv1) q1184 q1185 q158 q1186 ⟨rfl, rfl⟩ hdX0_isSet ⟨Nat.le_of_ble_eq_true rfl, Nat.le_of_ble_eq_true rfl⟩ ⟨Nat.zero_le _, Nat.zero_le _⟩ rfl hl.1 rfl (Nat.le_of_ble_eq_true rfl) dX0_comeBack_1) ?_
  refine lv_if_eq (tgt := 25) hx hb dX0_comeBack_4 (by decide) (fun c => ?_) (fun c => ?_)
  · replace h := if_t c h
    refine lv_iconst (v := -1) hx hb dX0_comeBack_25 (by decide) ?_
    exact ec_i C hT hS h dX0_comeBack_26
  · replace h := if_f c h
    refine lv_aload_n hx hb dX0_comeBack_7 rfl (lv_at hl 0 rfl) ?_
    refine lv_iload_n hx hb dX0_comeBack_8 rfl (lv_at hl 1 rfl) ?_
    refine lv_aload_n hx hb dX0_comeBack_9 rfl (lv_at hl 0 rfl) ?_
    refine cg0 C hK hT dX0_comeBack_10 ?_
    refine c_getSN C hK hT (Or.inl rfl) 1 (by decide) (nf224 hK.2.1) rfl (v := .ref (a + 3)) rfl dX0_comeBack_13 ?_
    refine lv_iconst (v := 0) hx hb dX0_comeBack_16 (by decide) ?_
    obtain ⟨hi2, h⟩ := ck_some h
    refine c_ild C hK hT 3 192 (by decide) (fun _ _ => rfl) hi2 dX0_comeBack_17 ?_
    refine lv_iand hx hb dX0_comeBack_18 ?_
    obtain ⟨v3, t4, ht4, h⟩ := bd2_some h
    refine wc_int hS hK (run_c (As := [.int (x1 &&& (t.1 3 (0 : Int32).toNatClampNeg))]) (rest := []) C hK hT hS.2.1 (rv_X hK hT) (mX0_called ht4) q1188 q1190 qs34 q158 q1191 ⟨rfl, rfl⟩ hdX0_called ⟨Nat.le_of_ble_eq_true rfl, Nat.le_of_ble_eq_true rfl⟩ ⟨Nat.zero_le _, Nat.zero_le _⟩ rfl hl.1 rfl (Nat.le_of_ble_eq_true rfl) dX0_comeBack_19) (fun H locs hT hS hK hNt4 => ?_)
    refine lv_goto (tgt := 26) hx hb dX0_comeBack_22 (by decide) ?_
    exact ec_i C hT hS h dX0_comeBack_26
theorem mX0_comeBack {l : Launch} {D : va_G} {dA : Nat → ClassId} {a : Nat} {k : KP a} {t : CS} {x1 : Int32} {r : Int32} {t9 : CS} (h : C_comeBack t x1 = some (r, t9)) : Met l yX0_comeBack (ws_ yX0_comeBack cX0_comeBack 2 (some .int)) rmX0_comeBack (cPc D dA a k t [.ref a, .int x1]) (cQ D dA a k 0 t t9 (some (.int r))) 0 0 (ca a) := en_C (by decide +kernel) rfl (Nat.le_of_ble_eq_true rfl) (fun p e s m below meth c ls C hK hT hl => bX0_comeBack C t x1 _ [] hT cS.rf hK ls h hl)
set_option maxRecDepth 20000 in
abbrev rmX0_raise : Room := { frames := 3, cells := 0, slots := 0, locals := 81 }
theorem hdX0_raise : yX0_raise.cls = RX0 ∧ yX0_raise.cls ≠ "java/lang/invoke/MethodHandle" ∧ yX0_raise.cls ≠ "java/lang/invoke/VarHandle" ∧ (parseMethodDescriptor yX0_raise.desc).map (fun d => d.parameters.length) = some 2 := by decide +kernel
theorem bX0_raise {p : Program} {l : Launch} {e : Env} {s : State} {m : MethodId} {args : Array Value} {below : List Frame} {meth : Method} {c : Code} {D : va_G} {dA : Nat → ClassId} {a : Nat} {k : KP a} {t0 : CS} {r : Int32} {t9 : CS} (C : cx p s m args meth c cX0_raise RX0 3 (some .boolean)) : ∀ (t : CS) (x1 : Int32) (x2 : Int32) (H : Heap) (locs : List Loc) (hT : cW D dA a k t H) (hS : cS a s.heap H locs t0.2.2.2 0 t) (hK : kC D dA a k t.2.2.2 s) (ls : Array Slot), C_raise t x1 x2 = some (r, t9) → lv_has ls 3 [(0, .ref a), (1, .int x1), (2, .int x2)] → W p l e rmX0_raise s m args below meth c H locs 0 0 (MQ below (cQ D dA a k 0 t0 t9 (some (.int r))) args s 0 0 (ca a)) (F0 m 0 ls []) := by
  obtain ⟨hx, hb, hr, hml, hown, hts, hlocks⟩ := id C
  intro t x1 x2 H locs hT hS hK ls h hl
  unfold C_raise at h
  refine lv_iload_n hx hb dX0_raise_0 rfl (lv_at hl 1 rfl) ?_
  obtain ⟨v1, hv1, h⟩ := bd1_some h
  refine r_int (run_s (As := [.int x1]) (rest := []) C (mX0_isLetter hv1) q338 q339 q158 q340 ⟨rfl, rfl⟩ hdX0_isLetter ⟨Nat.le_of_ble_eq_true rfl, Nat.le_of_ble_eq_true rfl⟩ ⟨Nat.zero_le _, Nat.zero_le _⟩ rfl hl.1 rfl (Nat.le_of_ble_eq_true rfl) dX0_raise_1) ?_
  refine lv_if_eq (tgt := 33) hx hb dX0_raise_4 (by decide) (fun c => ?_) (fun c => ?_)
  · replace h := if_t c h
    refine lv_iconst (v := 0) hx hb dX0_raise_33 (by decide) ?_
    exact ec_z C hT hS (Or.inl rfl) h dX0_raise_34
  · replace h := if_f c h
    refine lv_iload_n hx hb dX0_raise_7 rfl (lv_at hl 2 rfl) ?_
    refine lv_iconst (v := 0) hx hb dX0_raise_8 (by decide) ?_
    refine lv_bipush (v := 99) hx hb dX0_raise_9 (by decide) ?_
    obtain ⟨v2, hv2, h⟩ := bd1_some h
    refine r_int (run_s (As := [.int x2, .int (0 : Int32), .int (99 : Int32)]) (rest := []) C (mX0_in hv2) q341 q342 q158 q343 ⟨rfl, rfl⟩ hdX0_in ⟨Nat.le_of_ble_eq_true rfl, Nat.le_of_ble_eq_true rfl⟩ ⟨Nat.zero_le _, Nat.zero_le _⟩ rfl hl.1 rfl (Nat.le_of_ble_eq_true rfl) dX0_raise_11) ?_
    refine lv_if_eq (tgt := 33) hx hb dX0_raise_14 (by decide) (fun c => ?_) (fun c => ?_)
    · replace h := if_t c h
      refine lv_iconst (v := 0) hx hb dX0_raise_33 (by decide) ?_
      exact ec_z C hT hS (Or.inl rfl) h dX0_raise_34
    · replace h := if_f c h
      refine lv_aload_n hx hb dX0_raise_17 rfl (lv_at hl 0 rfl) ?_
      refine cg0 C hK hT dX0_raise_18 ?_
      refine c_getSN C hK hT (Or.inl rfl) 1 (by decide) (nf224 hK.2.1) rfl (v := .ref (a + 3)) rfl dX0_raise_21 ?_
      refine lv_bipush (v := 29) hx hb dX0_raise_24 (by decide) ?_
      refine lv_iload_n hx hb dX0_raise_26 rfl (lv_at hl 1 rfl) ?_
      refine lv_iadd hx hb dX0_raise_27 ?_
      obtain ⟨hi3, h⟩ := ck_some h
      refine c_ild C hK hT 3 192 (by decide) (fun _ _ => rfl) hi3 dX0_raise_28 ?_
      refine lv_iload_n hx hb dX0_raise_29 rfl (lv_at hl 2 rfl) ?_
      refine lv_icmp_ne (tgt := 35) hx hb dX0_raise_30 (by decide) (fun c => ?_) (fun c => ?_)
      · replace h := if_f c h
        refine lv_aload_n hx hb dX0_raise_35 rfl (lv_at hl 0 rfl) ?_
        refine cg0 C hK hT dX0_raise_36 ?_
        obtain ⟨t4, ht4, h⟩ := bd1_some h
        refine wc_void hS hK (run_c (As := []) (rest := []) C hK hT hS.2.1 (rv_S hK hT (Or.inl rfl)) (mX1_keeps ht4) q1052 q1053 q1054 q159 q1055 ⟨rfl, rfl⟩ hdX1_keeps ⟨Nat.le_of_ble_eq_true rfl, Nat.le_of_ble_eq_true rfl⟩ ⟨Nat.zero_le _, Nat.zero_le _⟩ rfl hl.1 rfl (Nat.le_of_ble_eq_true rfl) dX0_raise_39) (fun H locs hT hS hK hNt4 => ?_)
        refine lv_aload_n hx hb dX0_raise_42 rfl (lv_at hl 0 rfl) ?_
        refine cg0 C hK hT dX0_raise_43 ?_
        refine c_getSN C hK hT (Or.inl rfl) 1 (by decide) (nf224 hK.2.1) rfl (v := .ref (a + 3)) rfl dX0_raise_46 ?_
        refine lv_bipush (v := 29) hx hb dX0_raise_49 (by decide) ?_
        refine lv_iload_n hx hb dX0_raise_51 rfl (lv_at hl 1 rfl) ?_
        refine lv_iadd hx hb dX0_raise_52 ?_
        refine lv_iload_n hx hb dX0_raise_53 rfl (lv_at hl 2 rfl) ?_
        obtain ⟨hi5, h⟩ := ck_some h
        refine c_ist C hK hT hS 3 192 (by decide) (fun _ _ => rfl) hi5 dX0_raise_54 (fun t6 H locs et6 hT hS hK => ?_)
        replace h := lt1_sub et6 h
        refine lv_iconst (v := 1) hx hb dX0_raise_55 (by decide) ?_
        exact ec_z C hT hS (Or.inr rfl) h dX0_raise_56
      · replace h := if_t c h
        refine lv_iconst (v := 0) hx hb dX0_raise_33 (by decide) ?_
        exact ec_z C hT hS (Or.inl rfl) h dX0_raise_34
theorem mX0_raise {l : Launch} {D : va_G} {dA : Nat → ClassId} {a : Nat} {k : KP a} {t : CS} {x1 : Int32} {x2 : Int32} {r : Int32} {t9 : CS} (h : C_raise t x1 x2 = some (r, t9)) : Met l yX0_raise (ws_ yX0_raise cX0_raise 3 (some .boolean)) rmX0_raise (cPc D dA a k t [.ref a, .int x1, .int x2]) (cQ D dA a k 0 t t9 (some (.int r))) 0 0 (ca a) := en_C (by decide +kernel) rfl (Nat.le_of_ble_eq_true rfl) (fun p e s m below meth c ls C hK hT hl => bX0_raise C t x1 x2 _ [] hT cS.rf hK ls h hl)
set_option maxRecDepth 20000 in
abbrev rmX0_sign : Room := { frames := 3, cells := 0, slots := 0, locals := 81 }
theorem hdX0_sign : yX0_sign.cls = RX0 ∧ yX0_sign.cls ≠ "java/lang/invoke/MethodHandle" ∧ yX0_sign.cls ≠ "java/lang/invoke/VarHandle" ∧ (parseMethodDescriptor yX0_sign.desc).map (fun d => d.parameters.length) = some 2 := by decide +kernel
theorem bX0_sign {p : Program} {l : Launch} {e : Env} {s : State} {m : MethodId} {args : Array Value} {below : List Frame} {meth : Method} {c : Code} {D : va_G} {dA : Nat → ClassId} {a : Nat} {k : KP a} {t0 : CS} {r : Int32} {t9 : CS} (C : cx p s m args meth c cX0_sign RX0 3 (some .boolean)) : ∀ (t : CS) (x1 : Int32) (x2 : Int32) (H : Heap) (locs : List Loc) (hT : cW D dA a k t H) (hS : cS a s.heap H locs t0.2.2.2 0 t) (hK : kC D dA a k t.2.2.2 s) (ls : Array Slot), C_sign t x1 x2 = some (r, t9) → lv_has ls 3 [(0, .ref a), (1, .int x1), (2, .int x2)] → W p l e rmX0_sign s m args below meth c H locs 0 0 (MQ below (cQ D dA a k 0 t0 t9 (some (.int r))) args s 0 0 (ca a)) (F0 m 0 ls []) := by
  obtain ⟨hx, hb, hr, hml, hown, hts, hlocks⟩ := id C
  intro t x1 x2 H locs hT hS hK ls h hl
  unfold C_sign at h
  refine lv_iload_n hx hb dX0_sign_0 rfl (lv_at hl 1 rfl) ?_
  obtain ⟨v1, hv1, h⟩ := bd1_some h
  refine r_int (run_s (As := [.int x1]) (rest := []) C (mX0_isLetter hv1) q338 q339 q158 q340 ⟨rfl, rfl⟩ hdX0_isLetter ⟨Nat.le_of_ble_eq_true rfl, Nat.le_of_ble_eq_true rfl⟩ ⟨Nat.zero_le _, Nat.zero_le _⟩ rfl hl.1 rfl (Nat.le_of_ble_eq_true rfl) dX0_sign_1) ?_
  refine lv_if_eq (tgt := 33) hx hb dX0_sign_4 (by decide) (fun c => ?_) (fun c => ?_)
  · replace h := if_t c h
    refine lv_iconst (v := 0) hx hb dX0_sign_33 (by decide) ?_
    exact ec_z C hT hS (Or.inl rfl) h dX0_sign_34
  · replace h := if_f c h
    refine lv_iload_n hx hb dX0_sign_7 rfl (lv_at hl 2 rfl) ?_
    refine lv_iconst (v := -1) hx hb dX0_sign_8 (by decide) ?_
    refine lv_bipush (v := 9) hx hb dX0_sign_9 (by decide) ?_
    obtain ⟨v2, hv2, h⟩ := bd1_some h
    refine r_int (run_s (As := [.int x2, .int (-1 : Int32), .int (9 : Int32)]) (rest := []) C (mX0_in hv2) q341 q342 q158 q343 ⟨rfl, rfl⟩ hdX0_in ⟨Nat.le_of_ble_eq_true rfl, Nat.le_of_ble_eq_true rfl⟩ ⟨Nat.zero_le _, Nat.zero_le _⟩ rfl hl.1 rfl (Nat.le_of_ble_eq_true rfl) dX0_sign_11) ?_
    refine lv_if_eq (tgt := 33) hx hb dX0_sign_14 (by decide) (fun c => ?_) (fun c => ?_)
    · replace h := if_t c h
      refine lv_iconst (v := 0) hx hb dX0_sign_33 (by decide) ?_
      exact ec_z C hT hS (Or.inl rfl) h dX0_sign_34
    · replace h := if_f c h
      refine lv_aload_n hx hb dX0_sign_17 rfl (lv_at hl 0 rfl) ?_
      refine cg0 C hK hT dX0_sign_18 ?_
      refine c_getSN C hK hT (Or.inl rfl) 1 (by decide) (nf224 hK.2.1) rfl (v := .ref (a + 3)) rfl dX0_sign_21 ?_
      refine lv_bipush (v := 55) hx hb dX0_sign_24 (by decide) ?_
      refine lv_iload_n hx hb dX0_sign_26 rfl (lv_at hl 1 rfl) ?_
      refine lv_iadd hx hb dX0_sign_27 ?_
      obtain ⟨hi3, h⟩ := ck_some h
      refine c_ild C hK hT 3 192 (by decide) (fun _ _ => rfl) hi3 dX0_sign_28 ?_
      refine lv_iload_n hx hb dX0_sign_29 rfl (lv_at hl 2 rfl) ?_
      refine lv_icmp_ne (tgt := 35) hx hb dX0_sign_30 (by decide) (fun c => ?_) (fun c => ?_)
      · replace h := if_f c h
        refine lv_aload_n hx hb dX0_sign_35 rfl (lv_at hl 0 rfl) ?_
        refine cg0 C hK hT dX0_sign_36 ?_
        obtain ⟨t4, ht4, h⟩ := bd1_some h
        refine wc_void hS hK (run_c (As := []) (rest := []) C hK hT hS.2.1 (rv_S hK hT (Or.inl rfl)) (mX1_keeps ht4) q1052 q1053 q1054 q159 q1055 ⟨rfl, rfl⟩ hdX1_keeps ⟨Nat.le_of_ble_eq_true rfl, Nat.le_of_ble_eq_true rfl⟩ ⟨Nat.zero_le _, Nat.zero_le _⟩ rfl hl.1 rfl (Nat.le_of_ble_eq_true rfl) dX0_sign_39) (fun H locs hT hS hK hNt4 => ?_)
        refine lv_aload_n hx hb dX0_sign_42 rfl (lv_at hl 0 rfl) ?_
        refine cg0 C hK hT dX0_sign_43 ?_
        refine c_getSN C hK hT (Or.inl rfl) 1 (by decide) (nf224 hK.2.1) rfl (v := .ref (a + 3)) rfl dX0_sign_46 ?_
        refine lv_bipush (v := 55) hx hb dX0_sign_49 (by decide) ?_
        refine lv_iload_n hx hb dX0_sign_51 rfl (lv_at hl 1 rfl) ?_
        refine lv_iadd hx hb dX0_sign_52 ?_
        refine lv_iload_n hx hb dX0_sign_53 rfl (lv_at hl 2 rfl) ?_
        obtain ⟨hi5, h⟩ := ck_some h
        refine c_ist C hK hT hS 3 192 (by decide) (fun _ _ => rfl) hi5 dX0_sign_54 (fun t6 H locs et6 hT hS hK => ?_)
        replace h := lt1_sub et6 h
        refine lv_iconst (v := 1) hx hb dX0_sign_55 (by decide) ?_
        exact ec_z C hT hS (Or.inr rfl) h dX0_sign_56
      · replace h := if_t c h
        refine lv_iconst (v := 0) hx hb dX0_sign_33 (by decide) ?_
        exact ec_z C hT hS (Or.inl rfl) h dX0_sign_34
theorem mX0_sign {l : Launch} {D : va_G} {dA : Nat → ClassId} {a : Nat} {k : KP a} {t : CS} {x1 : Int32} {x2 : Int32} {r : Int32} {t9 : CS} (h : C_sign t x1 x2 = some (r, t9)) : Met l yX0_sign (ws_ yX0_sign cX0_sign 3 (some .boolean)) rmX0_sign (cPc D dA a k t [.ref a, .int x1, .int x2]) (cQ D dA a k 0 t t9 (some (.int r))) 0 0 (ca a) := en_C (by decide +kernel) rfl (Nat.le_of_ble_eq_true rfl) (fun p e s m below meth c ls C hK hT hl => bX0_sign C t x1 x2 _ [] hT cS.rf hK ls h hl)
set_option maxRecDepth 20000 in
abbrev rmX0_isSaying : Room := { frames := 1, cells := 0, slots := 0, locals := 22 }
theorem hdX0_isSaying : yX0_isSaying.cls = RX0 ∧ yX0_isSaying.cls ≠ "java/lang/invoke/MethodHandle" ∧ yX0_isSaying.cls ≠ "java/lang/invoke/VarHandle" ∧ (parseMethodDescriptor yX0_isSaying.desc).map (fun d => d.parameters.length) = some 1 := by decide +kernel
theorem bX0_isSaying {p : Program} {l : Launch} {e : Env} {s : State} {m : MethodId} {args : Array Value} {below : List Frame} {meth : Method} {c : Code} {D : va_G} {dA : Nat → ClassId} {a : Nat} {k : KP a} {t : CS} {r : Int32} (C : cx p s m args meth c cX0_isSaying RX0 2 (some .boolean)) (hK : kC D dA a k t.2.2.2 s) (hT : cW D dA a k t s.heap) : ∀ (x1 : Int32) (ls : Array Slot), C_isSaying t x1 = some r → lv_has ls 2 [(0, .ref a), (1, .int x1)] → W p l e rmX0_isSaying s m args below meth c s.heap [] 0 0 (MQ below (rQi r) args s 0 0 nof) (F0 m 0 ls []) := by
  obtain ⟨hx, hb, hr, hml, hown, hts, hlocks⟩ := id C
  intro x1 ls h hl
  unfold C_isSaying at h
  refine lv_iload_n hx hb dX0_isSaying_0 rfl (lv_at hl 1 rfl) ?_
  refine lv_iconst (v := 0) hx hb dX0_isSaying_1 (by decide) ?_
  refine lv_aload_n hx hb dX0_isSaying_2 rfl (lv_at hl 0 rfl) ?_
  refine cg0 C hK hT dX0_isSaying_3 ?_
  refine c_getSN C hK hT (Or.inl rfl) 0 (by decide) (nf222 hK.2.1) rfl (v := .ref (a + 2)) rfl dX0_isSaying_6 ?_
  refine lv_iconst (v := 1) hx hb dX0_isSaying_9 (by decide) ?_
  obtain ⟨hi1, h⟩ := ck_some h
  refine c_ild C hK hT 2 7 (by decide) (fun _ _ => rfl) hi1 dX0_isSaying_10 ?_
  refine lv_iconst (v := 1) hx hb dX0_isSaying_11 (by decide) ?_
  refine lv_isub hx hb dX0_isSaying_12 ?_
  obtain ⟨v2, hv2, h⟩ := bd1_some h
  refine r_int (run_s (As := [.int x1, .int (0 : Int32), .int ((t.1 2 (1 : Int32).toNatClampNeg) - (1 : Int32))]) (rest := []) C (mX0_in hv2) q341 q342 q158 q343 ⟨rfl, rfl⟩ hdX0_in ⟨Nat.le_of_ble_eq_true rfl, Nat.le_of_ble_eq_true rfl⟩ ⟨Nat.zero_le _, Nat.zero_le _⟩ rfl hl.1 rfl (Nat.le_of_ble_eq_true rfl) dX0_isSaying_13) ?_
  obtain ⟨hz, h⟩ := zr_some h
  exact e_rz C hz h dX0_isSaying_16
theorem mX0_isSaying {l : Launch} {D : va_G} {dA : Nat → ClassId} {a : Nat} {k : KP a} {t : CS} {x1 : Int32} {r : Int32} (h : C_isSaying t x1 = some r) : Met l yX0_isSaying (ws_ yX0_isSaying cX0_isSaying 2 (some .boolean)) rmX0_isSaying (cPc D dA a k t [.ref a, .int x1]) (rQi r) 0 0 nof := en_C (by decide +kernel) rfl (Nat.le_of_ble_eq_true rfl) (fun p e s m below meth c ls C hK hT hl => bX0_isSaying C hK hT x1 ls h hl)
set_option maxRecDepth 20000 in
abbrev rmX1_silent : Room := { frames := 2, cells := 0, slots := 0, locals := 42 }
theorem hdX1_silent : yX1_silent.cls = RX1 ∧ yX1_silent.cls ≠ "java/lang/invoke/MethodHandle" ∧ yX1_silent.cls ≠ "java/lang/invoke/VarHandle" ∧ (parseMethodDescriptor yX1_silent.desc).map (fun d => d.parameters.length) = some 0 := by decide +kernel
theorem bX1_silent_p39 {p : Program} {l : Launch} {e : Env} {s : State} {m : MethodId} {args : Array Value} {below : List Frame} {meth : Method} {c : Code} {D : va_G} {dA : Nat → ClassId} {a : Nat} {k : KP a} {t : CS} {r : Int32} (C : cx p s m args meth c cX1_silent RX1 3 (some .int)) (hK : kC D dA a k t.2.2.2 s) (hT : cW D dA a k t s.heap) {k4 : Int32 → Int32 → Option Int32} (hk4 : ∀ (x1 : Int32) (x2 : Int32) (ls : Array Slot), k4 x1 x2 = some r → lv_has ls 3 [(0, .ref (a + 1)), (1, .int x1), (2, .int x2)] → W p l e rmX1_silent s m args below meth c s.heap [] 0 0 (MQ below (rQi r) args s 0 0 nof) (F0 m 4 ls [])) : ∀ (x2 : Int32) (y0 : Int32) (y1 : Int32) (ls : Array Slot), C_X1_silent_p39 k4 t x2 y0 y1 = some r → lv_has ls 3 [(0, .ref (a + 1)), (2, .int x2)] → W p l e rmX1_silent s m args below meth c s.heap [] 0 0 (MQ below (rQi r) args s 0 0 nof) (F0 m 39 ls [.int y1, .int y0]) := by
  obtain ⟨hx, hb, hr, hml, hown, hts, hlocks⟩ := id C
  intro x2 y0 y1 ls h hl
  unfold C_X1_silent_p39 at h
  refine lv_ior hx hb dX1_silent_39 ?_
  refine lv_topi (fun v1 ev1 => ?_)
  replace h := lt1_sub ev1 h
  refine lv_istore_n (lv' := [(1, .int v1), (0, .ref (a + 1)), (2, .int x2)]) hx hb dX1_silent_40 rfl hl (by decide) rfl (fun ls hl => ?_)
  obtain ⟨v2, ev2⟩ : ∃ y : Int32, y = x2 + (1 : Int32) := ⟨_, rfl⟩
  replace h := lt1_sub ev2 h
  refine lv_iinc (v := v2) (lv' := [(2, .int v2), (1, .int v1), (0, .ref (a + 1))]) hx hb dX1_silent_41 hl (k := 2) rfl (by rw [ev2]; rfl) (by decide) rfl (fun ls hl => ?_)
  refine lv_goto (tgt := 4) hx hb dX1_silent_44 (by decide) ?_
  exact hk4 v1 v2 ls h (lv_sub hl [2, 1, 0] rfl)
theorem bX1_silent_p38 {p : Program} {l : Launch} {e : Env} {s : State} {m : MethodId} {args : Array Value} {below : List Frame} {meth : Method} {c : Code} {D : va_G} {dA : Nat → ClassId} {a : Nat} {k : KP a} {t : CS} {r : Int32} (C : cx p s m args meth c cX1_silent RX1 3 (some .int)) (hK : kC D dA a k t.2.2.2 s) (hT : cW D dA a k t s.heap) {k4 : Int32 → Int32 → Option Int32} (hk4 : ∀ (x1 : Int32) (x2 : Int32) (ls : Array Slot), k4 x1 x2 = some r → lv_has ls 3 [(0, .ref (a + 1)), (1, .int x1), (2, .int x2)] → W p l e rmX1_silent s m args below meth c s.heap [] 0 0 (MQ below (rQi r) args s 0 0 nof) (F0 m 4 ls [])) : ∀ (x2 : Int32) (y0 : Int32) (ls : Array Slot), C_X1_silent_p38 k4 t x2 y0 = some r → lv_has ls 3 [(0, .ref (a + 1)), (2, .int x2)] → W p l e rmX1_silent s m args below meth c s.heap [] 0 0 (MQ below (rQi r) args s 0 0 nof) (F0 m 38 ls [.int y0]) := by
  obtain ⟨hx, hb, hr, hml, hown, hts, hlocks⟩ := id C
  intro x2 y0 ls h hl
  unfold C_X1_silent_p38 at h
  refine lv_iconst (v := 0) hx hb dX1_silent_38 (by decide) ?_
  exact bX1_silent_p39 C hK hT hk4 x2 y0 (0 : Int32) ls h (lv_sub hl [0, 1] rfl)
theorem bX1_silent_p4 {p : Program} {l : Launch} {e : Env} {s : State} {m : MethodId} {args : Array Value} {below : List Frame} {meth : Method} {c : Code} {D : va_G} {dA : Nat → ClassId} {a : Nat} {k : KP a} {t : CS} {r : Int32} (C : cx p s m args meth c cX1_silent RX1 3 (some .int)) (hK : kC D dA a k t.2.2.2 s) (hT : cW D dA a k t s.heap) : ∀ (n : Nat), ∀ (x1 : Int32) (x2 : Int32) (ls : Array Slot), C_X1_silent_p4 t n x1 x2 = some r → lv_has ls 3 [(0, .ref (a + 1)), (1, .int x1), (2, .int x2)] → W p l e rmX1_silent s m args below meth c s.heap [] 0 0 (MQ below (rQi r) args s 0 0 nof) (F0 m 4 ls []) := by
  obtain ⟨hx, hb, hr, hml, hown, hts, hlocks⟩ := id C
  intro n
  induction n with
  | zero =>
    intro x1 x2 ls h hl
    have h : none = some _ := h
    cases h
  | succ n ih =>
    intro x1 x2 ls h hl
    rw [C_X1_silent_p4] at h
    refine lv_iload_n hx hb dX1_silent_4 rfl (lv_at hl 2 rfl) ?_
    refine lv_bipush (v := 26) hx hb dX1_silent_5 (by decide) ?_
    refine lv_icmp_ge (tgt := 47) hx hb dX1_silent_7 (by decide) (fun c => ?_) (fun c => ?_)
    · replace h := if_t c h
      refine lv_iload_n hx hb dX1_silent_47 rfl (lv_at hl 1 rfl) ?_
      exact e_ri C h dX1_silent_48
    · replace h := if_f c h
      refine lv_iload_n hx hb dX1_silent_10 rfl (lv_at hl 1 rfl) ?_
      refine lv_aload_n hx hb dX1_silent_11 rfl (lv_at hl 0 rfl) ?_
      refine lv_iload_n hx hb dX1_silent_12 rfl (lv_at hl 2 rfl) ?_
      obtain ⟨v1, hv1, h⟩ := bd1_some h
      refine r_int (run_c (As := [.int x2]) (rest := [.int x1]) C hK hT (fun _ _ => rfl) (rv_S hK hT (Or.inl rfl)) (mX1_isOut hv1) q1220 q1065 q1066 q159 q1067 ⟨rfl, rfl⟩ hdX1_isOut ⟨Nat.le_of_ble_eq_true rfl, Nat.le_of_ble_eq_true rfl⟩ ⟨Nat.zero_le _, Nat.zero_le _⟩ rfl hl.1 rfl (Nat.le_of_ble_eq_true rfl) dX1_silent_13) ?_
      refine lv_if_eq (tgt := 38) hx hb dX1_silent_16 (by decide) (fun c => ?_) (fun c => ?_)
      · replace h := if_t c h
        exact bX1_silent_p38 C hK hT ih x2 x1 ls h (lv_sub hl [0, 2] rfl)
      · replace h := if_f c h
        refine lv_aload_n hx hb dX1_silent_19 rfl (lv_at hl 0 rfl) ?_
        refine c_getS C hK hT (Or.inl rfl) 1 (by decide) q223 rfl (v := .ref (a + 3)) rfl dX1_silent_20 ?_
        refine lv_bipush (v := 55) hx hb dX1_silent_23 (by decide) ?_
        refine lv_iload_n hx hb dX1_silent_25 rfl (lv_at hl 2 rfl) ?_
        refine lv_iadd hx hb dX1_silent_26 ?_
        obtain ⟨hi2, h⟩ := ck_some h
        refine c_ild C hK hT 3 192 (by decide) (fun _ _ => rfl) hi2 dX1_silent_27 ?_
        refine lv_iconst (v := -1) hx hb dX1_silent_28 (by decide) ?_
        refine lv_icmp_ne (tgt := 38) hx hb dX1_silent_29 (by decide) (fun c => ?_) (fun c => ?_)
        · replace h := if_f c h
          exact bX1_silent_p38 C hK hT ih x2 x1 ls h (lv_sub hl [0, 2] rfl)
        · replace h := if_t c h
          refine lv_iconst (v := 1) hx hb dX1_silent_32 (by decide) ?_
          refine lv_iload_n hx hb dX1_silent_33 rfl (lv_at hl 2 rfl) ?_
          refine lv_ishl hx hb dX1_silent_34 ?_
          refine lv_goto (tgt := 39) hx hb dX1_silent_35 (by decide) ?_
          exact bX1_silent_p39 C hK hT ih x2 x1 ((1 : Int32) <<< (x2 &&& (31 : Int32))) ls h (lv_sub hl [0, 2] rfl)
theorem bX1_silent {p : Program} {l : Launch} {e : Env} {s : State} {m : MethodId} {args : Array Value} {below : List Frame} {meth : Method} {c : Code} {D : va_G} {dA : Nat → ClassId} {a : Nat} {k : KP a} {t : CS} {r : Int32} (C : cx p s m args meth c cX1_silent RX1 3 (some .int)) (hK : kC D dA a k t.2.2.2 s) (hT : cW D dA a k t s.heap) : ∀ (ls : Array Slot), C_X1_silent t = some r → lv_has ls 3 [(0, .ref (a + 1))] → W p l e rmX1_silent s m args below meth c s.heap [] 0 0 (MQ below (rQi r) args s 0 0 nof) (F0 m 0 ls []) := by
  obtain ⟨hx, hb, hr, hml, hown, hts, hlocks⟩ := id C
  intro ls h hl
  unfold C_X1_silent at h
  refine lv_iconst (v := 0) hx hb dX1_silent_0 (by decide) ?_
  refine lv_istore_n (lv' := [(1, .int (0 : Int32)), (0, .ref (a + 1))]) hx hb dX1_silent_1 rfl hl (by decide) rfl (fun ls hl => ?_)
  refine lv_iconst (v := 0) hx hb dX1_silent_2 (by decide) ?_
  refine lv_istore_n (lv' := [(2, .int (0 : Int32)), (1, .int (0 : Int32)), (0, .ref (a + 1))]) hx hb dX1_silent_3 rfl hl (by decide) rfl (fun ls hl => ?_)
  exact bX1_silent_p4 C hK hT fu (0 : Int32) (0 : Int32) ls h (lv_sub hl [2, 1, 0] rfl)
theorem mX1_silent {l : Launch} {D : va_G} {dA : Nat → ClassId} {a : Nat} {k : KP a} {t : CS} {r : Int32} (h : C_X1_silent t = some r) : Met l yX1_silent (ws_ yX1_silent cX1_silent 3 (some .int)) rmX1_silent (cPc D dA a k t [.ref (a + 1)]) (rQi r) 0 0 nof := en_C (by decide +kernel) rfl (Nat.le_of_ble_eq_true rfl) (fun p e s m below meth c ls C hK hT hl => bX1_silent C hK hT ls h hl)
set_option maxRecDepth 20000 in
abbrev rmX3_sense : Room := { frames := 0, cells := 0, slots := 0, locals := 0 }
theorem hdX3_sense : yX3_sense.cls = RX3 ∧ yX3_sense.cls ≠ "java/lang/invoke/MethodHandle" ∧ yX3_sense.cls ≠ "java/lang/invoke/VarHandle" ∧ (parseMethodDescriptor yX3_sense.desc).map (fun d => d.parameters.length) = some 0 := by decide +kernel
theorem bX3_sense {p : Program} {l : Launch} {e : Env} {s : State} {m : MethodId} {args : Array Value} {below : List Frame} {meth : Method} {c : Code} {D : va_G} {dA : Nat → ClassId} {a : Nat} {k : KP a} {t : CS} {r : Int32} (C : cx p s m args meth c cX3_sense RX3 1 (some .int)) (hK : kC D dA a k t.2.2.2 s) (hT : cW D dA a k t s.heap) : ∀ (x0 : Nat) (ls : Array Slot), C_X3_sense t x0 = some r → lv_has ls 1 [(0, .ref x0)] → W p l e rmX3_sense s m args below meth c s.heap [] 0 0 (MQ below (rQi r) args s 0 0 nof) (F0 m 0 ls []) := by
  obtain ⟨hx, hb, hr, hml, hown, hts, hlocks⟩ := id C
  intro x0 ls h hl
  unfold C_X3_sense at h
  refine lv_aload_n hx hb dX3_sense_0 rfl (lv_at hl 0 rfl) ?_
  obtain ⟨v1, hv1, h⟩ := bd1_some h
  refine d_get (ci := 3) in_X3 rfl C hK hT 2 (by decide) q478 rfl (gI_some hv1) dX3_sense_1 ?_
  exact e_ri C h dX3_sense_4
theorem mX3_sense {l : Launch} {D : va_G} {dA : Nat → ClassId} {a : Nat} {k : KP a} {t : CS} {x0 : Nat} {r : Int32} (h : C_X3_sense t x0 = some r) : Met l yX3_sense (ws_ yX3_sense cX3_sense 1 (some .int)) rmX3_sense (cPc D dA a k t [.ref x0]) (rQi r) 0 0 nof := en_C (by decide +kernel) rfl (Nat.le_of_ble_eq_true rfl) (fun p e s m below meth c ls C hK hT hl => bX3_sense C hK hT x0 ls h hl)
set_option maxRecDepth 20000 in
abbrev rmX0_can : Room := { frames := 1, cells := 0, slots := 0, locals := 20 }
theorem hdX0_can : yX0_can.cls = RX0 ∧ yX0_can.cls ≠ "java/lang/invoke/MethodHandle" ∧ yX0_can.cls ≠ "java/lang/invoke/VarHandle" ∧ (parseMethodDescriptor yX0_can.desc).map (fun d => d.parameters.length) = some 2 := by decide +kernel
theorem bX0_can {p : Program} {l : Launch} {e : Env} {s : State} {m : MethodId} {args : Array Value} {below : List Frame} {meth : Method} {c : Code} {D : va_G} {dA : Nat → ClassId} {a : Nat} {k : KP a} {t : CS} {r : Int32} (C : cx p s m args meth c cX0_can RX0 3 (some .boolean)) (hK : kC D dA a k t.2.2.2 s) (hT : cW D dA a k t s.heap) : ∀ (x1 : Int32) (x2 : Int32) (ls : Array Slot), C_can t x1 x2 = some r → lv_has ls 3 [(0, .ref a), (1, .int x1), (2, .int x2)] → W p l e rmX0_can s m args below meth c s.heap [] 0 0 (MQ below (rQi r) args s 0 0 nof) (F0 m 0 ls []) := by
  obtain ⟨hx, hb, hr, hml, hown, hts, hlocks⟩ := id C
  intro x1 x2 ls h hl
  unfold C_can at h
  refine lv_aload_n hx hb dX0_can_0 rfl (lv_at hl 0 rfl) ?_
  refine cg0 C hK hT dX0_can_1 ?_
  refine c_getSN C hK hT (Or.inl rfl) 4 (by decide) (nf230 hK.2.1) rfl (v := .ref (a + 6)) rfl dX0_can_4 ?_
  refine lv_iload_n hx hb dX0_can_7 rfl (lv_at hl 1 rfl) ?_
  obtain ⟨hi1, h⟩ := ck_some h
  obtain ⟨r2, hr2, h⟩ := bd1_some h
  refine c_ald C hK hT 6 24 4 (by decide) rfl (g := t.2.1 6) (by rfl) (by rfl) hi1 hr2 dX0_can_8 ?_
  obtain ⟨hc3, h⟩ := ckC_some h
  obtain ⟨v4, hv4, h⟩ := bd1_some h
  refine r_int (run_c (As := []) (rest := []) C hK hT (fun _ _ => rfl) (rv_D (ci := 3) rfl hK hT hc3) (mX3_bits hv4) q1098 q1099 q1100 q170 q1101 ⟨rfl, rfl⟩ hdX3_bits ⟨Nat.le_of_ble_eq_true rfl, Nat.le_of_ble_eq_true rfl⟩ ⟨Nat.zero_le _, Nat.zero_le _⟩ rfl hl.1 rfl (Nat.le_of_ble_eq_true rfl) dX0_can_9) ?_
  refine lv_iload_n hx hb dX0_can_12 rfl (lv_at hl 2 rfl) ?_
  refine lv_iand hx hb dX0_can_13 ?_
  refine lv_if_ne (tgt := 21) hx hb dX0_can_14 (by decide) (fun c => ?_) (fun c => ?_)
  · replace h := if_f c h
    refine lv_iconst (v := 0) hx hb dX0_can_21 (by decide) ?_
    exact e_rz C (Or.inl rfl) h dX0_can_22
  · replace h := if_t c h
    refine lv_iconst (v := 1) hx hb dX0_can_17 (by decide) ?_
    refine lv_goto (tgt := 22) hx hb dX0_can_18 (by decide) ?_
    exact e_rz C (Or.inr rfl) h dX0_can_22
theorem mX0_can {l : Launch} {D : va_G} {dA : Nat → ClassId} {a : Nat} {k : KP a} {t : CS} {x1 : Int32} {x2 : Int32} {r : Int32} (h : C_can t x1 x2 = some r) : Met l yX0_can (ws_ yX0_can cX0_can 3 (some .boolean)) rmX0_can (cPc D dA a k t [.ref a, .int x1, .int x2]) (rQi r) 0 0 nof := en_C (by decide +kernel) rfl (Nat.le_of_ble_eq_true rfl) (fun p e s m below meth c ls C hK hT hl => bX0_can C hK hT x1 x2 ls h hl)
set_option maxRecDepth 20000 in
abbrev rmX3_length : Room := { frames := 0, cells := 0, slots := 0, locals := 0 }
theorem hdX3_length : yX3_length.cls = RX3 ∧ yX3_length.cls ≠ "java/lang/invoke/MethodHandle" ∧ yX3_length.cls ≠ "java/lang/invoke/VarHandle" ∧ (parseMethodDescriptor yX3_length.desc).map (fun d => d.parameters.length) = some 0 := by decide +kernel
theorem bX3_length {p : Program} {l : Launch} {e : Env} {s : State} {m : MethodId} {args : Array Value} {below : List Frame} {meth : Method} {c : Code} {D : va_G} {dA : Nat → ClassId} {a : Nat} {k : KP a} {t : CS} {r : Int32} (C : cx p s m args meth c cX3_length RX3 1 (some .int)) (hK : kC D dA a k t.2.2.2 s) (hT : cW D dA a k t s.heap) : ∀ (x0 : Nat) (ls : Array Slot), C_X3_length t x0 = some r → lv_has ls 1 [(0, .ref x0)] → W p l e rmX3_length s m args below meth c s.heap [] 0 0 (MQ below (rQi r) args s 0 0 nof) (F0 m 0 ls []) := by
  obtain ⟨hx, hb, hr, hml, hown, hts, hlocks⟩ := id C
  intro x0 ls h hl
  unfold C_X3_length at h
  refine lv_aload_n hx hb dX3_length_0 rfl (lv_at hl 0 rfl) ?_
  obtain ⟨v1, hv1, h⟩ := bd1_some h
  refine d_get (ci := 3) in_X3 rfl C hK hT 0 (by decide) q476 rfl (gR_some hv1) dX3_length_1 ?_
  obtain ⟨v2, hv2, h⟩ := bd1_some h
  refine d_aln C hK hT hv2 dX3_length_4 ?_
  exact e_ri C h dX3_length_5
theorem mX3_length {l : Launch} {D : va_G} {dA : Nat → ClassId} {a : Nat} {k : KP a} {t : CS} {x0 : Nat} {r : Int32} (h : C_X3_length t x0 = some r) : Met l yX3_length (ws_ yX3_length cX3_length 1 (some .int)) rmX3_length (cPc D dA a k t [.ref x0]) (rQi r) 0 0 nof := en_C (by decide +kernel) rfl (Nat.le_of_ble_eq_true rfl) (fun p e s m below meth c ls C hK hT hl => bX3_length C hK hT x0 ls h hl)
set_option maxRecDepth 20000 in
abbrev rmX0_wordFor : Room := { frames := 2, cells := 0, slots := 0, locals := 42 }
theorem hdX0_wordFor : yX0_wordFor.cls = RX0 ∧ yX0_wordFor.cls ≠ "java/lang/invoke/MethodHandle" ∧ yX0_wordFor.cls ≠ "java/lang/invoke/VarHandle" ∧ (parseMethodDescriptor yX0_wordFor.desc).map (fun d => d.parameters.length) = some 2 := by decide +kernel
theorem bX0_wordFor_p82 {p : Program} {l : Launch} {e : Env} {s : State} {m : MethodId} {args : Array Value} {below : List Frame} {meth : Method} {c : Code} {D : va_G} {dA : Nat → ClassId} {a : Nat} {k : KP a} {t : CS} {r : Int32} (C : cx p s m args meth c cX0_wordFor RX0 5 (some .int)) (hK : kC D dA a k t.2.2.2 s) (hT : cW D dA a k t s.heap) {k5 : Int32 → Int32 → Int32 → Int32 → Option Int32} (hk5 : ∀ (x1 : Int32) (x2 : Int32) (x3 : Int32) (x4 : Int32) (ls : Array Slot), k5 x1 x2 x3 x4 = some r → lv_has ls 5 [(0, .ref a), (1, .int x1), (2, .int x2), (3, .int x3), (4, .int x4)] → W p l e rmX0_wordFor s m args below meth c s.heap [] 0 0 (MQ below (rQi r) args s 0 0 nof) (F0 m 5 ls [])) : ∀ (x1 : Int32) (x2 : Int32) (x3 : Int32) (x4 : Int32) (ls : Array Slot), C_wordFor_p82 k5 t x1 x2 x3 x4 = some r → lv_has ls 5 [(0, .ref a), (1, .int x1), (2, .int x2), (3, .int x3), (4, .int x4)] → W p l e rmX0_wordFor s m args below meth c s.heap [] 0 0 (MQ below (rQi r) args s 0 0 nof) (F0 m 82 ls []) := by
  obtain ⟨hx, hb, hr, hml, hown, hts, hlocks⟩ := id C
  intro x1 x2 x3 x4 ls h hl
  unfold C_wordFor_p82 at h
  obtain ⟨v1, ev1⟩ : ∃ y : Int32, y = x4 + (1 : Int32) := ⟨_, rfl⟩
  replace h := lt1_sub ev1 h
  refine lv_iinc (v := v1) (lv' := [(4, .int v1), (0, .ref a), (1, .int x1), (2, .int x2), (3, .int x3)]) hx hb dX0_wordFor_82 hl (k := 4) rfl (by rw [ev1]; rfl) (by decide) rfl (fun ls hl => ?_)
  refine lv_goto (tgt := 5) hx hb dX0_wordFor_85 (by decide) ?_
  exact hk5 x1 x2 x3 v1 ls h (lv_sub hl [1, 2, 3, 4, 0] rfl)
theorem bX0_wordFor_p79 {p : Program} {l : Launch} {e : Env} {s : State} {m : MethodId} {args : Array Value} {below : List Frame} {meth : Method} {c : Code} {D : va_G} {dA : Nat → ClassId} {a : Nat} {k : KP a} {t : CS} {r : Int32} (C : cx p s m args meth c cX0_wordFor RX0 5 (some .int)) (hK : kC D dA a k t.2.2.2 s) (hT : cW D dA a k t s.heap) {k5 : Int32 → Int32 → Int32 → Int32 → Option Int32} (hk5 : ∀ (x1 : Int32) (x2 : Int32) (x3 : Int32) (x4 : Int32) (ls : Array Slot), k5 x1 x2 x3 x4 = some r → lv_has ls 5 [(0, .ref a), (1, .int x1), (2, .int x2), (3, .int x3), (4, .int x4)] → W p l e rmX0_wordFor s m args below meth c s.heap [] 0 0 (MQ below (rQi r) args s 0 0 nof) (F0 m 5 ls [])) : ∀ (x1 : Int32) (x2 : Int32) (x4 : Int32) (ls : Array Slot), C_wordFor_p79 k5 t x1 x2 x4 = some r → lv_has ls 5 [(0, .ref a), (1, .int x1), (2, .int x2), (4, .int x4)] → W p l e rmX0_wordFor s m args below meth c s.heap [] 0 0 (MQ below (rQi r) args s 0 0 nof) (F0 m 79 ls []) := by
  obtain ⟨hx, hb, hr, hml, hown, hts, hlocks⟩ := id C
  intro x1 x2 x4 ls h hl
  unfold C_wordFor_p79 at h
  refine lv_iload hx hb dX0_wordFor_79 (lv_at hl 3 rfl) ?_
  refine lv_istore_n (lv' := [(3, .int x4), (0, .ref a), (1, .int x1), (2, .int x2), (4, .int x4)]) hx hb dX0_wordFor_81 rfl hl (by decide) rfl (fun ls hl => ?_)
  exact bX0_wordFor_p82 C hK hT hk5 x1 x2 x4 x4 ls h (lv_sub hl [1, 2, 3, 0, 4] rfl)
theorem bX0_wordFor_p5 {p : Program} {l : Launch} {e : Env} {s : State} {m : MethodId} {args : Array Value} {below : List Frame} {meth : Method} {c : Code} {D : va_G} {dA : Nat → ClassId} {a : Nat} {k : KP a} {t : CS} {r : Int32} (C : cx p s m args meth c cX0_wordFor RX0 5 (some .int)) (hK : kC D dA a k t.2.2.2 s) (hT : cW D dA a k t s.heap) : ∀ (n : Nat), ∀ (x1 : Int32) (x2 : Int32) (x3 : Int32) (x4 : Int32) (ls : Array Slot), C_wordFor_p5 t n x1 x2 x3 x4 = some r → lv_has ls 5 [(0, .ref a), (1, .int x1), (2, .int x2), (3, .int x3), (4, .int x4)] → W p l e rmX0_wordFor s m args below meth c s.heap [] 0 0 (MQ below (rQi r) args s 0 0 nof) (F0 m 5 ls []) := by
  obtain ⟨hx, hb, hr, hml, hown, hts, hlocks⟩ := id C
  intro n
  induction n with
  | zero =>
    intro x1 x2 x3 x4 ls h hl
    have h : none = some _ := h
    cases h
  | succ n ih =>
    intro x1 x2 x3 x4 ls h hl
    rw [C_wordFor_p5] at h
    refine lv_iload hx hb dX0_wordFor_5 (lv_at hl 4 rfl) ?_
    refine lv_aload_n hx hb dX0_wordFor_7 rfl (lv_at hl 0 rfl) ?_
    refine cg0 C hK hT dX0_wordFor_8 ?_
    refine c_getSN C hK hT (Or.inl rfl) 0 (by decide) (nf222 hK.2.1) rfl (v := .ref (a + 2)) rfl dX0_wordFor_11 ?_
    refine lv_iconst (v := 0) hx hb dX0_wordFor_14 (by decide) ?_
    obtain ⟨hi1, h⟩ := ck_some h
    refine c_ild C hK hT 2 7 (by decide) (fun _ _ => rfl) hi1 dX0_wordFor_15 ?_
    refine lv_icmp_ge (tgt := 88) hx hb dX0_wordFor_16 (by decide) (fun c => ?_) (fun c => ?_)
    · replace h := if_t c h
      refine lv_iload_n hx hb dX0_wordFor_88 rfl (lv_at hl 3 rfl) ?_
      exact e_ri C h dX0_wordFor_89
    · replace h := if_f c h
      refine lv_aload_n hx hb dX0_wordFor_19 rfl (lv_at hl 0 rfl) ?_
      refine cg0 C hK hT dX0_wordFor_20 ?_
      refine c_getSN C hK hT (Or.inl rfl) 4 (by decide) (nf230 hK.2.1) rfl (v := .ref (a + 6)) rfl dX0_wordFor_23 ?_
      refine lv_iload hx hb dX0_wordFor_26 (lv_at hl 4 rfl) ?_
      obtain ⟨hi2, h⟩ := ck_some h
      obtain ⟨r3, hr3, h⟩ := bd1_some h
      refine c_ald C hK hT 6 24 4 (by decide) rfl (g := t.2.1 6) (by rfl) (by rfl) hi2 hr3 dX0_wordFor_28 ?_
      obtain ⟨hc4, h⟩ := ckC_some h
      obtain ⟨v5, hv5, h⟩ := bd1_some h
      refine r_int (run_c (As := []) (rest := []) C hK hT (fun _ _ => rfl) (rv_D (ci := 3) rfl hK hT hc4) (mX3_sense hv5) q1229 q1230 q1231 q170 q1232 ⟨rfl, rfl⟩ hdX3_sense ⟨Nat.le_of_ble_eq_true rfl, Nat.le_of_ble_eq_true rfl⟩ ⟨Nat.zero_le _, Nat.zero_le _⟩ rfl hl.1 rfl (Nat.le_of_ble_eq_true rfl) dX0_wordFor_29) ?_
      refine lv_iload_n hx hb dX0_wordFor_32 rfl (lv_at hl 1 rfl) ?_
      refine lv_icmp_ne (tgt := 82) hx hb dX0_wordFor_33 (by decide) (fun c => ?_) (fun c => ?_)
      · replace h := if_f c h
        exact bX0_wordFor_p82 C hK hT ih x1 x2 x3 x4 ls h (lv_sub hl [0, 1, 2, 3, 4] rfl)
      · replace h := if_t c h
        refine lv_aload_n hx hb dX0_wordFor_36 rfl (lv_at hl 0 rfl) ?_
        refine lv_iload hx hb dX0_wordFor_37 (lv_at hl 4 rfl) ?_
        refine lv_iload_n hx hb dX0_wordFor_39 rfl (lv_at hl 2 rfl) ?_
        obtain ⟨v6, hv6, h⟩ := bd1_some h
        refine r_int (run_c (As := [.int x4, .int x2]) (rest := []) C hK hT (fun _ _ => rfl) (rv_X hK hT) (mX0_can hv6) q1233 q1235 qs39 q158 q1236 ⟨rfl, rfl⟩ hdX0_can ⟨Nat.le_of_ble_eq_true rfl, Nat.le_of_ble_eq_true rfl⟩ ⟨Nat.zero_le _, Nat.zero_le _⟩ rfl hl.1 rfl (Nat.le_of_ble_eq_true rfl) dX0_wordFor_40) ?_
        refine lv_if_eq (tgt := 82) hx hb dX0_wordFor_43 (by decide) (fun c => ?_) (fun c => ?_)
        · replace h := if_t c h
          exact bX0_wordFor_p82 C hK hT ih x1 x2 x3 x4 ls h (lv_sub hl [0, 1, 2, 3, 4] rfl)
        · replace h := if_f c h
          refine lv_iload_n hx hb dX0_wordFor_46 rfl (lv_at hl 3 rfl) ?_
          refine lv_iconst (v := -1) hx hb dX0_wordFor_47 (by decide) ?_
          refine lv_icmp_eq (tgt := 79) hx hb dX0_wordFor_48 (by decide) (fun c => ?_) (fun c => ?_)
          · replace h := if_t c h
            exact bX0_wordFor_p79 C hK hT ih x1 x2 x4 ls h (lv_sub hl [0, 1, 2, 4] rfl)
          · replace h := if_f c h
            refine lv_aload_n hx hb dX0_wordFor_51 rfl (lv_at hl 0 rfl) ?_
            refine cg0 C hK hT dX0_wordFor_52 ?_
            refine c_getSN C hK hT (Or.inl rfl) 4 (by decide) (nf230 hK.2.1) rfl (v := .ref (a + 6)) rfl dX0_wordFor_55 ?_
            refine lv_iload hx hb dX0_wordFor_58 (lv_at hl 4 rfl) ?_
            obtain ⟨hi7, h⟩ := ck_some h
            obtain ⟨r8, hr8, h⟩ := bd1_some h
            refine c_ald C hK hT 6 24 4 (by decide) rfl (g := t.2.1 6) (by rfl) (by rfl) hi7 hr8 dX0_wordFor_60 ?_
            obtain ⟨hc9, h⟩ := ckC_some h
            obtain ⟨v10, hv10, h⟩ := bd1_some h
            refine r_int (run_c (As := []) (rest := []) C hK hT (fun _ _ => rfl) (rv_D (ci := 3) rfl hK hT hc9) (mX3_length hv10) q1237 q1238 q1239 q170 q1240 ⟨rfl, rfl⟩ hdX3_length ⟨Nat.le_of_ble_eq_true rfl, Nat.le_of_ble_eq_true rfl⟩ ⟨Nat.zero_le _, Nat.zero_le _⟩ rfl hl.1 rfl (Nat.le_of_ble_eq_true rfl) dX0_wordFor_61) ?_
            refine lv_aload_n hx hb dX0_wordFor_64 rfl (lv_at hl 0 rfl) ?_
            refine cg0 C hK hT dX0_wordFor_65 ?_
            refine c_getSN C hK hT (Or.inl rfl) 4 (by decide) (nf230 hK.2.1) rfl (v := .ref (a + 6)) rfl dX0_wordFor_68 ?_
            refine lv_iload_n hx hb dX0_wordFor_71 rfl (lv_at hl 3 rfl) ?_
            obtain ⟨hi11, h⟩ := ck_some h
            obtain ⟨r12, hr12, h⟩ := bd1_some h
            refine c_ald C hK hT 6 24 4 (by decide) rfl (g := t.2.1 6) (by rfl) (by rfl) hi11 hr12 dX0_wordFor_72 ?_
            obtain ⟨hc13, h⟩ := ckC_some h
            obtain ⟨v14, hv14, h⟩ := bd1_some h
            refine r_int (run_c (As := []) (rest := [.int v10]) C hK hT (fun _ _ => rfl) (rv_D (ci := 3) rfl hK hT hc13) (mX3_length hv14) q1237 q1238 q1239 q170 q1240 ⟨rfl, rfl⟩ hdX3_length ⟨Nat.le_of_ble_eq_true rfl, Nat.le_of_ble_eq_true rfl⟩ ⟨Nat.zero_le _, Nat.zero_le _⟩ rfl hl.1 rfl (Nat.le_of_ble_eq_true rfl) dX0_wordFor_73) ?_
            refine lv_icmp_ge (tgt := 82) hx hb dX0_wordFor_76 (by decide) (fun c => ?_) (fun c => ?_)
            · replace h := if_t c h
              exact bX0_wordFor_p82 C hK hT ih x1 x2 x3 x4 ls h (lv_sub hl [0, 1, 2, 3, 4] rfl)
            · replace h := if_f c h
              exact bX0_wordFor_p79 C hK hT ih x1 x2 x4 ls h (lv_sub hl [0, 1, 2, 4] rfl)
theorem bX0_wordFor {p : Program} {l : Launch} {e : Env} {s : State} {m : MethodId} {args : Array Value} {below : List Frame} {meth : Method} {c : Code} {D : va_G} {dA : Nat → ClassId} {a : Nat} {k : KP a} {t : CS} {r : Int32} (C : cx p s m args meth c cX0_wordFor RX0 5 (some .int)) (hK : kC D dA a k t.2.2.2 s) (hT : cW D dA a k t s.heap) : ∀ (x1 : Int32) (x2 : Int32) (ls : Array Slot), C_wordFor t x1 x2 = some r → lv_has ls 5 [(0, .ref a), (1, .int x1), (2, .int x2)] → W p l e rmX0_wordFor s m args below meth c s.heap [] 0 0 (MQ below (rQi r) args s 0 0 nof) (F0 m 0 ls []) := by
  obtain ⟨hx, hb, hr, hml, hown, hts, hlocks⟩ := id C
  intro x1 x2 ls h hl
  unfold C_wordFor at h
  refine lv_iconst (v := -1) hx hb dX0_wordFor_0 (by decide) ?_
  refine lv_istore_n (lv' := [(3, .int (-1 : Int32)), (0, .ref a), (1, .int x1), (2, .int x2)]) hx hb dX0_wordFor_1 rfl hl (by decide) rfl (fun ls hl => ?_)
  refine lv_iconst (v := 0) hx hb dX0_wordFor_2 (by decide) ?_
  refine lv_istore (lv' := [(4, .int (0 : Int32)), (3, .int (-1 : Int32)), (0, .ref a), (1, .int x1), (2, .int x2)]) hx hb dX0_wordFor_3 hl (by decide) rfl (fun ls hl => ?_)
  exact bX0_wordFor_p5 C hK hT fu x1 x2 (-1 : Int32) (0 : Int32) ls h (lv_sub hl [2, 3, 4, 1, 0] rfl)
theorem mX0_wordFor {l : Launch} {D : va_G} {dA : Nat → ClassId} {a : Nat} {k : KP a} {t : CS} {x1 : Int32} {x2 : Int32} {r : Int32} (h : C_wordFor t x1 x2 = some r) : Met l yX0_wordFor (ws_ yX0_wordFor cX0_wordFor 5 (some .int)) rmX0_wordFor (cPc D dA a k t [.ref a, .int x1, .int x2]) (rQi r) 0 0 nof := en_C (by decide +kernel) rfl (Nat.le_of_ble_eq_true rfl) (fun p e s m below meth c ls C hK hT hl => bX0_wordFor C hK hT x1 x2 ls h hl)
set_option maxRecDepth 20000 in
abbrev rmX0_says : Room := { frames := 3, cells := 0, slots := 0, locals := 66 }
theorem hdX0_says : yX0_says.cls = RX0 ∧ yX0_says.cls ≠ "java/lang/invoke/MethodHandle" ∧ yX0_says.cls ≠ "java/lang/invoke/VarHandle" ∧ (parseMethodDescriptor yX0_says.desc).map (fun d => d.parameters.length) = some 2 := by decide +kernel
theorem bX0_says_p13 {p : Program} {l : Launch} {e : Env} {s : State} {m : MethodId} {args : Array Value} {below : List Frame} {meth : Method} {c : Code} {D : va_G} {dA : Nat → ClassId} {a : Nat} {k : KP a} {t0 : CS} {r : Int32} {t9 : CS} (C : cx p s m args meth c cX0_says RX0 5 (some .boolean)) : ∀ (n : Nat), ∀ (t : CS) (x2 : Int32) (x3 : Nat) (x4 : Int32) (H : Heap) (locs : List Loc) (hT : cW D dA a k t H) (hS : cS a s.heap H locs t0.2.2.2 0 t) (hK : kC D dA a k t.2.2.2 s) (ls : Array Slot), C_says_p13 n t x2 x3 x4 = some (r, t9) → lv_has ls 5 [(0, .ref a), (2, .int x2), (3, .ref x3), (4, .int x4)] → W p l e rmX0_says s m args below meth c H locs 0 0 (MQ below (cQ D dA a k 0 t0 t9 (some (.int r))) args s 0 0 (ca a)) (F0 m 13 ls []) := by
  obtain ⟨hx, hb, hr, hml, hown, hts, hlocks⟩ := id C
  intro n
  induction n with
  | zero =>
    intro t x2 x3 x4 H locs hT hS hK ls h hl
    have h : none = some _ := h
    cases h
  | succ n ih =>
    intro t x2 x3 x4 H locs hT hS hK ls h hl
    rw [C_says_p13] at h
    refine lv_iload hx hb dX0_says_13 (lv_at hl 3 rfl) ?_
    refine lv_aload_n hx hb dX0_says_15 rfl (lv_at hl 2 rfl) ?_
    obtain ⟨v1, hv1, h⟩ := bd1_some h
    refine d_aln C hK hT hv1 dX0_says_16 ?_
    refine lv_icmp_ge (tgt := 55) hx hb dX0_says_17 (by decide) (fun c => ?_) (fun c => ?_)
    · replace h := if_t c h
      refine lv_iconst (v := 1) hx hb dX0_says_55 (by decide) ?_
      exact ec_z C hT hS (Or.inr rfl) h dX0_says_56
    · replace h := if_f c h
      refine lv_aload_n hx hb dX0_says_20 rfl (lv_at hl 0 rfl) ?_
      refine cg7 C hK hT dX0_says_21 ?_
      refine lv_iload hx hb dX0_says_24 (lv_at hl 3 rfl) ?_
      refine lv_aload_n hx hb dX0_says_26 rfl (lv_at hl 0 rfl) ?_
      refine lv_aload_n hx hb dX0_says_27 rfl (lv_at hl 2 rfl) ?_
      refine lv_iload hx hb dX0_says_28 (lv_at hl 3 rfl) ?_
      obtain ⟨v2, hv2, h⟩ := bd1_some h
      refine d_ild C hK hT hv2 dX0_says_30 ?_
      refine lv_iload_n hx hb dX0_says_31 rfl (lv_at hl 1 rfl) ?_
      obtain ⟨v3, hv3, h⟩ := bd1_some h
      refine r_int (run_c (As := [.int v2, .int x2]) (rest := [.int x4, .ref (a + 107)]) C hK hT hS.2.1 (rv_X hK hT) (mX0_wordFor hv3) q1225 q1227 qs38 q158 q1228 ⟨rfl, rfl⟩ hdX0_wordFor ⟨Nat.le_of_ble_eq_true rfl, Nat.le_of_ble_eq_true rfl⟩ ⟨Nat.zero_le _, Nat.zero_le _⟩ rfl hl.1 rfl (Nat.le_of_ble_eq_true rfl) dX0_says_32) ?_
      obtain ⟨hi4, h⟩ := ck_some h
      refine c_ist C hK hT hS 107 8 (by decide) (fun _ _ => rfl) hi4 dX0_says_35 (fun t5 H locs et5 hT hS hK => ?_)
      replace h := lt1_sub et5 h
      refine lv_aload_n hx hb dX0_says_36 rfl (lv_at hl 0 rfl) ?_
      refine cg7 C hK hT dX0_says_37 ?_
      refine lv_iload hx hb dX0_says_40 (lv_at hl 3 rfl) ?_
      obtain ⟨hi6, h⟩ := ck_some h
      refine c_ild C hK hT 107 8 (by decide) (fun _ _ => rfl) hi6 dX0_says_42 ?_
      refine lv_iconst (v := -1) hx hb dX0_says_43 (by decide) ?_
      refine lv_icmp_ne (tgt := 49) hx hb dX0_says_44 (by decide) (fun c => ?_) (fun c => ?_)
      · replace h := if_f c h
        obtain ⟨v7, ev7⟩ : ∃ y : Int32, y = x4 + (1 : Int32) := ⟨_, rfl⟩
        replace h := lt1_sub ev7 h
        refine lv_iinc (v := v7) (lv' := [(4, .int v7), (0, .ref a), (2, .int x2), (3, .ref x3)]) hx hb dX0_says_49 hl (k := 3) rfl (by rw [ev7]; rfl) (by decide) rfl (fun ls hl => ?_)
        refine lv_goto (tgt := 13) hx hb dX0_says_52 (by decide) ?_
        exact ih t5 x2 x3 v7 H locs hT hS hK ls h (lv_sub hl [1, 2, 3, 0] rfl)
      · replace h := if_t c h
        refine lv_iconst (v := 0) hx hb dX0_says_47 (by decide) ?_
        exact ec_z C hT hS (Or.inl rfl) h dX0_says_48
theorem bX0_says {p : Program} {l : Launch} {e : Env} {s : State} {m : MethodId} {args : Array Value} {below : List Frame} {meth : Method} {c : Code} {D : va_G} {dA : Nat → ClassId} {a : Nat} {k : KP a} {t0 : CS} {r : Int32} {t9 : CS} (C : cx p s m args meth c cX0_says RX0 5 (some .boolean)) : ∀ (t : CS) (x1 : Int32) (x2 : Int32) (H : Heap) (locs : List Loc) (hT : cW D dA a k t H) (hS : cS a s.heap H locs t0.2.2.2 0 t) (hK : kC D dA a k t.2.2.2 s) (ls : Array Slot), C_says t x1 x2 = some (r, t9) → lv_has ls 5 [(0, .ref a), (1, .int x1), (2, .int x2)] → W p l e rmX0_says s m args below meth c H locs 0 0 (MQ below (cQ D dA a k 0 t0 t9 (some (.int r))) args s 0 0 (ca a)) (F0 m 0 ls []) := by
  obtain ⟨hx, hb, hr, hml, hown, hts, hlocks⟩ := id C
  intro t x1 x2 H locs hT hS hK ls h hl
  unfold C_says at h
  refine lv_aload_n hx hb dX0_says_0 rfl (lv_at hl 0 rfl) ?_
  refine cg0 C hK hT dX0_says_1 ?_
  refine c_getSN C hK hT (Or.inl rfl) 5 (by decide) (nf232 hK.2.1) rfl (v := .ref (a + 7)) rfl dX0_says_4 ?_
  refine lv_iload_n hx hb dX0_says_7 rfl (lv_at hl 1 rfl) ?_
  obtain ⟨hi1, h⟩ := ck_some h
  obtain ⟨r2, hr2, h⟩ := bd1_some h
  refine c_ald C hK hT 7 8 6 (by decide) rfl (g := t.2.1 7) (by rfl) (by rfl) hi1 hr2 dX0_says_8 ?_
  refine lv_astore_n (lv' := [(3, .ref r2), (0, .ref a), (1, .int x1), (2, .int x2)]) hx hb dX0_says_9 rfl hl (by decide) rfl (fun ls hl => ?_)
  refine lv_iconst (v := 0) hx hb dX0_says_10 (by decide) ?_
  refine lv_istore (lv' := [(4, .int (0 : Int32)), (3, .ref r2), (0, .ref a), (1, .int x1), (2, .int x2)]) hx hb dX0_says_11 hl (by decide) rfl (fun ls hl => ?_)
  exact bX0_says_p13 C fu t x2 r2 (0 : Int32) H locs hT hS hK ls h (lv_sub hl [2, 4, 1, 0] rfl)
theorem mX0_says {l : Launch} {D : va_G} {dA : Nat → ClassId} {a : Nat} {k : KP a} {t : CS} {x1 : Int32} {x2 : Int32} {r : Int32} {t9 : CS} (h : C_says t x1 x2 = some (r, t9)) : Met l yX0_says (ws_ yX0_says cX0_says 5 (some .boolean)) rmX0_says (cPc D dA a k t [.ref a, .int x1, .int x2]) (cQ D dA a k 0 t t9 (some (.int r))) 0 0 (ca a) := en_C (by decide +kernel) rfl (Nat.le_of_ble_eq_true rfl) (fun p e s m below meth c ls C hK hT hl => bX0_says C t x1 x2 _ [] hT cS.rf hK ls h hl)
set_option maxRecDepth 20000 in
abbrev rmX0_contract : Room := { frames := 4, cells := 0, slots := 0, locals := 90 }
theorem hdX0_contract : yX0_contract.cls = RX0 ∧ yX0_contract.cls ≠ "java/lang/invoke/MethodHandle" ∧ yX0_contract.cls ≠ "java/lang/invoke/VarHandle" ∧ (parseMethodDescriptor yX0_contract.desc).map (fun d => d.parameters.length) = some 1 := by decide +kernel
theorem bX0_contract {p : Program} {l : Launch} {e : Env} {s : State} {m : MethodId} {args : Array Value} {below : List Frame} {meth : Method} {c : Code} {D : va_G} {dA : Nat → ClassId} {a : Nat} {k : KP a} {t0 : CS} {r : Int32} {t9 : CS} (C : cx p s m args meth c cX0_contract RX0 4 (some .int)) : ∀ (t : CS) (x1 : Int32) (H : Heap) (locs : List Loc) (hT : cW D dA a k t H) (hS : cS a s.heap H locs t0.2.2.2 0 t) (hK : kC D dA a k t.2.2.2 s) (ls : Array Slot), C_contract t x1 = some (r, t9) → lv_has ls 4 [(0, .ref a), (1, .int x1)] → W p l e rmX0_contract s m args below meth c H locs 0 0 (MQ below (cQ D dA a k 0 t0 t9 (some (.int r))) args s 0 0 (ca a)) (F0 m 0 ls []) := by
  obtain ⟨hx, hb, hr, hml, hown, hts, hlocks⟩ := id C
  intro t x1 H locs hT hS hK ls h hl
  unfold C_contract at h
  refine lv_aload_n hx hb dX0_contract_0 rfl (lv_at hl 0 rfl) ?_
  refine cg0 C hK hT dX0_contract_1 ?_
  refine c_getSN C hK hT (Or.inl rfl) 1 (by decide) (nf224 hK.2.1) rfl (v := .ref (a + 3)) rfl dX0_contract_4 ?_
  refine lv_bipush (v := 81) hx hb dX0_contract_7 (by decide) ?_
  obtain ⟨hi1, h⟩ := ck_some h
  refine c_ild C hK hT 3 192 (by decide) (fun _ _ => rfl) hi1 dX0_contract_9 ?_
  refine lv_topi (fun v2 ev2 => ?_)
  replace h := lt1_sub ev2 h
  refine lv_istore_n (lv' := [(2, .int v2), (0, .ref a), (1, .int x1)]) hx hb dX0_contract_10 rfl hl (by decide) rfl (fun ls hl => ?_)
  refine lv_aload_n hx hb dX0_contract_11 rfl (lv_at hl 1 rfl) ?_
  refine lv_iload_n hx hb dX0_contract_12 rfl (lv_at hl 2 rfl) ?_
  obtain ⟨v3, hv3, h⟩ := bd1_some h
  refine r_int (run_c (As := [.int x1]) (rest := []) C hK hT hS.2.1 (rv_X hK hT) (mX0_isSaying hv3) q1212 q1214 qs36 q158 q1215 ⟨rfl, rfl⟩ hdX0_isSaying ⟨Nat.le_of_ble_eq_true rfl, Nat.le_of_ble_eq_true rfl⟩ ⟨Nat.zero_le _, Nat.zero_le _⟩ rfl hl.1 rfl (Nat.le_of_ble_eq_true rfl) dX0_contract_13) ?_
  refine lv_if_eq (tgt := 40) hx hb dX0_contract_16 (by decide) (fun c => ?_) (fun c => ?_)
  · replace h := if_t c h
    refine lv_iconst (v := -1) hx hb dX0_contract_40 (by decide) ?_
    exact ec_i C hT hS h dX0_contract_41
  · replace h := if_f c h
    refine lv_iload_n hx hb dX0_contract_19 rfl (lv_at hl 0 rfl) ?_
    refine lv_bipush (v := 10) hx hb dX0_contract_20 (by decide) ?_
    refine lv_icmp_eq (tgt := 40) hx hb dX0_contract_22 (by decide) (fun c => ?_) (fun c => ?_)
    · replace h := if_t c h
      refine lv_iconst (v := -1) hx hb dX0_contract_40 (by decide) ?_
      exact ec_i C hT hS h dX0_contract_41
    · replace h := if_f c h
      refine lv_aload_n hx hb dX0_contract_25 rfl (lv_at hl 1 rfl) ?_
      refine lv_iload_n hx hb dX0_contract_26 rfl (lv_at hl 2 rfl) ?_
      refine lv_aload_n hx hb dX0_contract_27 rfl (lv_at hl 1 rfl) ?_
      refine cg0 C hK hT dX0_contract_28 ?_
      obtain ⟨v4, hv4, h⟩ := bd1_some h
      refine r_int (run_c (As := []) (rest := [.int x1, .ref a]) C hK hT hS.2.1 (rv_S hK hT (Or.inl rfl)) (mX1_silent hv4) q1216 q1217 q1218 q159 q1219 ⟨rfl, rfl⟩ hdX1_silent ⟨Nat.le_of_ble_eq_true rfl, Nat.le_of_ble_eq_true rfl⟩ ⟨Nat.zero_le _, Nat.zero_le _⟩ rfl hl.1 rfl (Nat.le_of_ble_eq_true rfl) dX0_contract_31) ?_
      obtain ⟨v5, t6, ht6, h⟩ := bd2_some h
      refine wc_int hS hK (run_c (As := [.int x1, .int v4]) (rest := []) C hK hT hS.2.1 (rv_X hK hT) (mX0_says ht6) q1221 q1223 qs37 q158 q1224 ⟨rfl, rfl⟩ hdX0_says ⟨Nat.le_of_ble_eq_true rfl, Nat.le_of_ble_eq_true rfl⟩ ⟨Nat.zero_le _, Nat.zero_le _⟩ rfl hl.1 rfl (Nat.le_of_ble_eq_true rfl) dX0_contract_34) (fun H locs hT hS hK hNt6 => ?_)
      refine lv_if_ne (tgt := 42) hx hb dX0_contract_37 (by decide) (fun c => ?_) (fun c => ?_)
      · replace h := if_f c h
        refine lv_aload_n hx hb dX0_contract_42 rfl (lv_at hl 1 rfl) ?_
        refine cg0 C hK hT dX0_contract_43 ?_
        obtain ⟨t7, ht7, h⟩ := bd1_some h
        refine wc_void hS hK (run_c (As := []) (rest := []) C hK hT hS.2.1 (rv_S hK hT (Or.inl rfl)) (mX1_keeps ht7) q1052 q1053 q1054 q159 q1055 ⟨rfl, rfl⟩ hdX1_keeps ⟨Nat.le_of_ble_eq_true rfl, Nat.le_of_ble_eq_true rfl⟩ ⟨Nat.zero_le _, Nat.zero_le _⟩ rfl hl.1 rfl (Nat.le_of_ble_eq_true rfl) dX0_contract_46) (fun H locs hT hS hK hNt7 => ?_)
        refine lv_bipush (v := 82) hx hb dX0_contract_49 (by decide) ?_
        refine lv_bipush (v := 11) hx hb dX0_contract_51 (by decide) ?_
        refine lv_iload_n hx hb dX0_contract_53 rfl (lv_at hl 0 rfl) ?_
        refine lv_imul hx hb dX0_contract_54 ?_
        refine lv_iadd hx hb dX0_contract_55 ?_
        refine lv_topi (fun v8 ev8 => ?_)
        replace h := lt1_sub ev8 h
        refine lv_istore_n (lv' := [(3, .int v8), (2, .int v2), (0, .ref a), (1, .int x1)]) hx hb dX0_contract_56 rfl hl (by decide) rfl (fun ls hl => ?_)
        refine lv_aload_n hx hb dX0_contract_57 rfl (lv_at hl 2 rfl) ?_
        refine cg0 C hK hT dX0_contract_58 ?_
        refine c_getSN C hK hT (Or.inl rfl) 1 (by decide) (nf224 hK.2.1) rfl (v := .ref (a + 3)) rfl dX0_contract_61 ?_
        refine lv_iload_n hx hb dX0_contract_64 rfl (lv_at hl 0 rfl) ?_
        refine lv_iload_n hx hb dX0_contract_65 rfl (lv_at hl 3 rfl) ?_
        obtain ⟨hi9, h⟩ := ck_some h
        refine c_ist C hK hT hS 3 192 (by decide) (fun _ _ => rfl) hi9 dX0_contract_66 (fun t10 H locs et10 hT hS hK => ?_)
        replace h := lt1_sub et10 h
        refine lv_aload_n hx hb dX0_contract_67 rfl (lv_at hl 2 rfl) ?_
        refine cg0 C hK hT dX0_contract_68 ?_
        refine c_getSN C hK hT (Or.inl rfl) 1 (by decide) (nf224 hK.2.1) rfl (v := .ref (a + 3)) rfl dX0_contract_71 ?_
        refine lv_iload_n hx hb dX0_contract_74 rfl (lv_at hl 0 rfl) ?_
        refine lv_iconst (v := 1) hx hb dX0_contract_75 (by decide) ?_
        refine lv_iadd hx hb dX0_contract_76 ?_
        refine lv_aload_n hx hb dX0_contract_77 rfl (lv_at hl 2 rfl) ?_
        refine cg0 C hK hT dX0_contract_78 ?_
        refine c_getSN C hK hT (Or.inl rfl) 1 (by decide) (nf224 hK.2.1) rfl (v := .ref (a + 3)) rfl dX0_contract_81 ?_
        refine lv_iconst (v := 1) hx hb dX0_contract_84 (by decide) ?_
        obtain ⟨hi11, h⟩ := ck_some h
        refine c_ild C hK hT 3 192 (by decide) (fun _ _ => rfl) hi11 dX0_contract_85 ?_
        obtain ⟨hi12, h⟩ := ck_some h
        refine c_ist C hK hT hS 3 192 (by decide) (fun _ _ => rfl) hi12 dX0_contract_86 (fun t13 H locs et13 hT hS hK => ?_)
        replace h := lt1_sub et13 h
        refine lv_aload_n hx hb dX0_contract_87 rfl (lv_at hl 2 rfl) ?_
        refine cg0 C hK hT dX0_contract_88 ?_
        refine c_getSN C hK hT (Or.inl rfl) 1 (by decide) (nf224 hK.2.1) rfl (v := .ref (a + 3)) rfl dX0_contract_91 ?_
        refine lv_iload_n hx hb dX0_contract_94 rfl (lv_at hl 0 rfl) ?_
        refine lv_iconst (v := 2) hx hb dX0_contract_95 (by decide) ?_
        refine lv_iadd hx hb dX0_contract_96 ?_
        refine lv_aload_n hx hb dX0_contract_97 rfl (lv_at hl 2 rfl) ?_
        refine cg0 C hK hT dX0_contract_98 ?_
        refine c_getSN C hK hT (Or.inl rfl) 5 (by decide) (nf232 hK.2.1) rfl (v := .ref (a + 7)) rfl dX0_contract_101 ?_
        refine lv_iload_n hx hb dX0_contract_104 rfl (lv_at hl 3 rfl) ?_
        obtain ⟨hi14, h⟩ := ck_some h
        obtain ⟨r15, hr15, h⟩ := bd1_some h
        refine c_ald C hK hT 7 8 6 (by decide) rfl (g := t13.2.1 7) (by rfl) (by rfl) hi14 hr15 dX0_contract_105 ?_
        obtain ⟨v16, hv16, h⟩ := bd1_some h
        refine d_aln C hK hT hv16 dX0_contract_106 ?_
        obtain ⟨hi17, h⟩ := ck_some h
        refine c_ist C hK hT hS 3 192 (by decide) (fun _ _ => rfl) hi17 dX0_contract_107 (fun t18 H locs et18 hT hS hK => ?_)
        replace h := lt1_sub et18 h
        refine lv_aload_n hx hb dX0_contract_108 rfl (lv_at hl 2 rfl) ?_
        refine cg7 C hK hT dX0_contract_109 ?_
        refine lv_iconst (v := 0) hx hb dX0_contract_112 (by decide) ?_
        refine lv_aload_n hx hb dX0_contract_113 rfl (lv_at hl 2 rfl) ?_
        refine cg0 C hK hT dX0_contract_114 ?_
        refine c_getSN C hK hT (Or.inl rfl) 1 (by decide) (nf224 hK.2.1) rfl (v := .ref (a + 3)) rfl dX0_contract_117 ?_
        refine lv_iload_n hx hb dX0_contract_120 rfl (lv_at hl 0 rfl) ?_
        refine lv_iconst (v := 3) hx hb dX0_contract_121 (by decide) ?_
        refine lv_iadd hx hb dX0_contract_122 ?_
        refine lv_aload_n hx hb dX0_contract_123 rfl (lv_at hl 2 rfl) ?_
        refine cg0 C hK hT dX0_contract_124 ?_
        refine c_getSN C hK hT (Or.inl rfl) 5 (by decide) (nf232 hK.2.1) rfl (v := .ref (a + 7)) rfl dX0_contract_127 ?_
        refine lv_iload_n hx hb dX0_contract_130 rfl (lv_at hl 3 rfl) ?_
        obtain ⟨hi19, h⟩ := ck_some h
        obtain ⟨r20, hr20, h⟩ := bd1_some h
        refine c_ald C hK hT 7 8 6 (by decide) rfl (g := t18.2.1 7) (by rfl) (by rfl) hi19 hr20 dX0_contract_131 ?_
        obtain ⟨v21, hv21, h⟩ := bd1_some h
        refine d_aln C hK hT hv21 dX0_contract_132 ?_
        obtain ⟨⟨ha22a, ha22b, ha22c, ha22d, ha22e⟩, h⟩ := acp_some h
        refine c_copyi C hK hT hS hl.1 107 3 8 192 (by decide) (by decide) (fun _ _ => rfl) (fun _ _ => rfl) q1241 ha22a ha22b ha22c ha22d ha22e ⟨Nat.le_of_ble_eq_true rfl, Nat.le_of_ble_eq_true rfl⟩ (Nat.le_of_ble_eq_true rfl) dX0_contract_133 (fun t23 H locs et23 hT hS hK => ?_)
        replace h := lt1_sub et23 h
        refine lv_aload_n hx hb dX0_contract_136 rfl (lv_at hl 2 rfl) ?_
        refine cg0 C hK hT dX0_contract_137 ?_
        refine c_getSN C hK hT (Or.inl rfl) 1 (by decide) (nf224 hK.2.1) rfl (v := .ref (a + 3)) rfl dX0_contract_140 ?_
        refine lv_bipush (v := 81) hx hb dX0_contract_143 (by decide) ?_
        refine lv_dup2_11 hx hb dX0_contract_145 rfl rfl ?_
        obtain ⟨hi24, h⟩ := ck_some h
        refine c_ild C hK hT 3 192 (by decide) (fun _ _ => rfl) hi24 dX0_contract_146 ?_
        refine lv_iconst (v := 1) hx hb dX0_contract_147 (by decide) ?_
        refine lv_iadd hx hb dX0_contract_148 ?_
        obtain ⟨hi25, h⟩ := ck_some h
        refine c_ist C hK hT hS 3 192 (by decide) (fun _ _ => rfl) hi25 dX0_contract_149 (fun t26 H locs et26 hT hS hK => ?_)
        replace h := lt1_sub et26 h
        refine lv_iload_n hx hb dX0_contract_150 rfl (lv_at hl 1 rfl) ?_
        exact ec_i C hT hS h dX0_contract_151
      · replace h := if_t c h
        refine lv_iconst (v := -1) hx hb dX0_contract_40 (by decide) ?_
        exact ec_i C hT hS h dX0_contract_41
theorem mX0_contract {l : Launch} {D : va_G} {dA : Nat → ClassId} {a : Nat} {k : KP a} {t : CS} {x1 : Int32} {r : Int32} {t9 : CS} (h : C_contract t x1 = some (r, t9)) : Met l yX0_contract (ws_ yX0_contract cX0_contract 4 (some .int)) rmX0_contract (cPc D dA a k t [.ref a, .int x1]) (cQ D dA a k 0 t t9 (some (.int r))) 0 0 (ca a) := en_C (by decide +kernel) rfl (Nat.le_of_ble_eq_true rfl) (fun p e s m below meth c ls C hK hT hl => bX0_contract C t x1 _ [] hT cS.rf hK ls h hl)
set_option maxRecDepth 20000 in
abbrev rmX14_sort : Room := { frames := 0, cells := 0, slots := 0, locals := 0 }
theorem hdX14_sort : yX14_sort.cls = RX14 ∧ yX14_sort.cls ≠ "java/lang/invoke/MethodHandle" ∧ yX14_sort.cls ≠ "java/lang/invoke/VarHandle" ∧ (parseMethodDescriptor yX14_sort.desc).map (fun d => d.parameters.length) = some 0 := by decide +kernel
theorem bX14_sort {p : Program} {l : Launch} {e : Env} {s : State} {m : MethodId} {args : Array Value} {below : List Frame} {meth : Method} {c : Code} {D : va_G} {dA : Nat → ClassId} {a : Nat} {k : KP a} {t : CS} {r : Int32} (C : cx p s m args meth c cX14_sort RX14 1 (some .int)) (hK : kC D dA a k t.2.2.2 s) (hT : cW D dA a k t s.heap) : ∀ (x0 : Nat) (ls : Array Slot), C_X14_sort t x0 = some r → lv_has ls 1 [(0, .ref x0)] → W p l e rmX14_sort s m args below meth c s.heap [] 0 0 (MQ below (rQi r) args s 0 0 nof) (F0 m 0 ls []) := by
  obtain ⟨hx, hb, hr, hml, hown, hts, hlocks⟩ := id C
  intro x0 ls h hl
  unfold C_X14_sort at h
  refine lv_aload_n hx hb dX14_sort_0 rfl (lv_at hl 0 rfl) ?_
  obtain ⟨v1, hv1, h⟩ := bd1_some h
  refine d_get (ci := 14) in_X14 rfl C hK hT 0 (by decide) q1002 rfl (gI_some hv1) dX14_sort_1 ?_
  exact e_ri C h dX14_sort_4
theorem mX14_sort {l : Launch} {D : va_G} {dA : Nat → ClassId} {a : Nat} {k : KP a} {t : CS} {x0 : Nat} {r : Int32} (h : C_X14_sort t x0 = some r) : Met l yX14_sort (ws_ yX14_sort cX14_sort 1 (some .int)) rmX14_sort (cPc D dA a k t [.ref x0]) (rQi r) 0 0 nof := en_C (by decide +kernel) rfl (Nat.le_of_ble_eq_true rfl) (fun p e s m below meth c ls C hK hT hl => bX14_sort C hK hT x0 ls h hl)
set_option maxRecDepth 20000 in
abbrev rmX14_letters : Room := { frames := 0, cells := 0, slots := 0, locals := 0 }
theorem hdX14_letters : yX14_letters.cls = RX14 ∧ yX14_letters.cls ≠ "java/lang/invoke/MethodHandle" ∧ yX14_letters.cls ≠ "java/lang/invoke/VarHandle" ∧ (parseMethodDescriptor yX14_letters.desc).map (fun d => d.parameters.length) = some 0 := by decide +kernel
theorem bX14_letters {p : Program} {l : Launch} {e : Env} {s : State} {m : MethodId} {args : Array Value} {below : List Frame} {meth : Method} {c : Code} {D : va_G} {dA : Nat → ClassId} {a : Nat} {k : KP a} {t : CS} {r : Nat} (C : cx p s m args meth c cX14_letters RX14 1 (some (.array (.int)))) (hK : kC D dA a k t.2.2.2 s) (hT : cW D dA a k t s.heap) : ∀ (x0 : Nat) (ls : Array Slot), C_X14_letters t x0 = some r → lv_has ls 1 [(0, .ref x0)] → W p l e rmX14_letters s m args below meth c s.heap [] 0 0 (MQ below (rQv (some (.ref r))) args s 0 0 nof) (F0 m 0 ls []) := by
  obtain ⟨hx, hb, hr, hml, hown, hts, hlocks⟩ := id C
  intro x0 ls h hl
  unfold C_X14_letters at h
  refine lv_aload_n hx hb dX14_letters_0 rfl (lv_at hl 0 rfl) ?_
  obtain ⟨v1, hv1, h⟩ := bd1_some h
  refine d_get (ci := 14) in_X14 rfl C hK hT 1 (by decide) q1003 rfl (gR_some hv1) dX14_letters_1 ?_
  exact e_rr C (Or.inr ⟨_, rfl⟩) h dX14_letters_4
theorem mX14_letters {l : Launch} {D : va_G} {dA : Nat → ClassId} {a : Nat} {k : KP a} {t : CS} {x0 : Nat} {r : Nat} (h : C_X14_letters t x0 = some r) : Met l yX14_letters (ws_ yX14_letters cX14_letters 1 (some (.array (.int)))) rmX14_letters (cPc D dA a k t [.ref x0]) (rQv (some (.ref r))) 0 0 nof := en_C (by decide +kernel) rfl (Nat.le_of_ble_eq_true rfl) (fun p e s m below meth c ls C hK hT hl => bX14_letters C hK hT x0 ls h hl)
set_option maxRecDepth 20000 in
abbrev rmX0_fromNought (t t9 : CS) : Room := { frames := 0, cells := t9.2.2.2 0 - t.2.2.2 0, slots := t9.2.2.2 1 - t.2.2.2 1, locals := 0 }
theorem hdX0_fromNought : yX0_fromNought.cls ≠ "java/lang/invoke/MethodHandle" ∧ yX0_fromNought.cls ≠ "java/lang/invoke/VarHandle" ∧ (parseMethodDescriptor yX0_fromNought.desc).map (fun d => d.parameters.length) = some 1 := by decide +kernel
theorem bX0_fromNought_p7 {p : Program} {l : Launch} {e : Env} {s : State} {m : MethodId} {args : Array Value} {below : List Frame} {meth : Method} {c : Code} {D : va_G} {dA : Nat → ClassId} {a : Nat} {k : KP a} {t0 : CS} {r : Nat} {t9 : CS} (C : cx p s m args meth c cX0_fromNought RX0 3 (some (.array (.int)))) : ∀ (n : Nat), ∀ (t : CS) (x0 : Nat) (x1 : Nat) (x2 : Int32) (H : Heap) (locs : List Loc) (hT : cW D dA a k t H) (hS : cS a s.heap H locs t0.2.2.2 2 t) (hK : kC D dA a k t.2.2.2 s) (hm : mo t0 t) (ls : Array Slot), C_fromNought_p7 n t x0 x1 x2 = some (r, t9) → lv_has ls 3 [(0, .ref x0), (1, .ref x1), (2, .int x2)] → W p l e (rmX0_fromNought t0 t9) s m args below meth c H locs (t.2.2.2 0 - t0.2.2.2 0) (t.2.2.2 1 - t0.2.2.2 1) (MQ below (cQ D dA a k 2 t0 t9 (some (.ref r))) args s (t9.2.2.2 0 - t0.2.2.2 0) (t9.2.2.2 1 - t0.2.2.2 1) (ca a)) (F0 m 7 ls []) := by
  obtain ⟨hx, hb, hr, hml, hown, hts, hlocks⟩ := id C
  intro n
  induction n with
  | zero =>
    intro t x0 x1 x2 H locs hT hS hK hm ls h hl
    have h : none = some _ := h
    cases h
  | succ n ih =>
    intro t x0 x1 x2 H locs hT hS hK hm ls h hl
    have m9 : mo t t9 := mo_C_fromNought_p7 (n + 1) _ _ _ _ _ _ h
    rw [C_fromNought_p7] at h
    refine lv_iload_n hx hb dX0_fromNought_7 rfl (lv_at hl 2 rfl) ?_
    refine lv_aload_n hx hb dX0_fromNought_8 rfl (lv_at hl 1 rfl) ?_
    obtain ⟨v1, hv1, h⟩ := bd1_some h
    refine d_aln C hK hT hv1 dX0_fromNought_9 ?_
    refine lv_icmp_ge (tgt := 28) hx hb dX0_fromNought_10 (by decide) (fun c => ?_) (fun c => ?_)
    · replace h := if_t c h
      refine lv_aload_n hx hb dX0_fromNought_28 rfl (lv_at hl 1 rfl) ?_
      cases h
      exact ec_r C (Or.inr ⟨_, rfl⟩) hT hS rfl dX0_fromNought_29
    · replace h := if_f c h
      refine lv_aload_n hx hb dX0_fromNought_13 rfl (lv_at hl 1 rfl) ?_
      refine lv_iload_n hx hb dX0_fromNought_14 rfl (lv_at hl 2 rfl) ?_
      refine lv_aload_n hx hb dX0_fromNought_15 rfl (lv_at hl 0 rfl) ?_
      refine lv_iload_n hx hb dX0_fromNought_16 rfl (lv_at hl 2 rfl) ?_
      obtain ⟨v2, hv2, h⟩ := bd1_some h
      refine d_ild C hK hT hv2 dX0_fromNought_17 ?_
      refine lv_bipush (v := 97) hx hb dX0_fromNought_18 (by decide) ?_
      refine lv_isub hx hb dX0_fromNought_20 ?_
      obtain ⟨t3, ht3, h⟩ := bd1_some h
      refine d_ist C hK hT hS ht3 dX0_fromNought_21 (fun H locs hT hS hK => ?_)
      have mm : mo t t3 := mo.nn (das_N ht3)
      replace hm := hm.tr mm
      replace m9 : mo t3 t9 := mo.bk (das_N ht3) m9
      refine W.widen (mo_s mm).1 (mo_s mm).2 ?_
      obtain ⟨v4, ev4⟩ : ∃ y : Int32, y = x2 + (1 : Int32) := ⟨_, rfl⟩
      replace h := lt1_sub ev4 h
      refine lv_iinc (v := v4) (lv' := [(2, .int v4), (0, .ref x0), (1, .ref x1)]) hx hb dX0_fromNought_22 hl (k := 2) rfl (by rw [ev4]; rfl) (by decide) rfl (fun ls hl => ?_)
      refine lv_goto (tgt := 7) hx hb dX0_fromNought_25 (by decide) ?_
      exact ih t3 x0 x1 v4 H locs hT hS hK hm ls h (lv_sub hl [1, 2, 0] rfl)
theorem bX0_fromNought_p4 {p : Program} {l : Launch} {e : Env} {s : State} {m : MethodId} {args : Array Value} {below : List Frame} {meth : Method} {c : Code} {D : va_G} {dA : Nat → ClassId} {a : Nat} {k : KP a} {t0 : CS} {r : Nat} {t9 : CS} (C : cx p s m args meth c cX0_fromNought RX0 3 (some (.array (.int)))) : ∀ (t : CS) (x0 : Nat) (y0 : Nat) (H : Heap) (locs : List Loc) (hT : cW D dA a k t H) (hS : cS a s.heap H locs t0.2.2.2 2 t) (hK : kC D dA a k t.2.2.2 s) (hm : mo t0 t) (ls : Array Slot), C_fromNought_p4 t x0 y0 = some (r, t9) → lv_has ls 3 [(0, .ref x0)] → W p l e (rmX0_fromNought t0 t9) s m args below meth c H locs (t.2.2.2 0 - t0.2.2.2 0) (t.2.2.2 1 - t0.2.2.2 1) (MQ below (cQ D dA a k 2 t0 t9 (some (.ref r))) args s (t9.2.2.2 0 - t0.2.2.2 0) (t9.2.2.2 1 - t0.2.2.2 1) (ca a)) (F0 m 4 ls [.ref y0]) := by
  obtain ⟨hx, hb, hr, hml, hown, hts, hlocks⟩ := id C
  intro t x0 y0 H locs hT hS hK hm ls h hl
  have m9 : mo t t9 := mo_C_fromNought_p4 h
  unfold C_fromNought_p4 at h
  refine lv_astore_n (lv' := [(1, .ref y0), (0, .ref x0)]) hx hb dX0_fromNought_4 rfl hl (by decide) rfl (fun ls hl => ?_)
  refine lv_iconst (v := 0) hx hb dX0_fromNought_5 (by decide) ?_
  refine lv_istore_n (lv' := [(2, .int (0 : Int32)), (1, .ref y0), (0, .ref x0)]) hx hb dX0_fromNought_6 rfl hl (by decide) rfl (fun ls hl => ?_)
  exact bX0_fromNought_p7 C fu t x0 y0 (0 : Int32) H locs hT hS hK hm ls h (lv_sub hl [2, 1, 0] rfl)
theorem bX0_fromNought {p : Program} {l : Launch} {e : Env} {s : State} {m : MethodId} {args : Array Value} {below : List Frame} {meth : Method} {c : Code} {D : va_G} {dA : Nat → ClassId} {a : Nat} {k : KP a} {t0 : CS} {r : Nat} {t9 : CS} (C : cx p s m args meth c cX0_fromNought RX0 3 (some (.array (.int)))) : ∀ (t : CS) (x0 : Nat) (H : Heap) (locs : List Loc) (hT : cW D dA a k t H) (hS : cS a s.heap H locs t0.2.2.2 2 t) (hK : kC D dA a k t.2.2.2 s) (hm : mo t0 t) (ls : Array Slot), C_fromNought t x0 = some (r, t9) → lv_has ls 3 [(0, .ref x0)] → W p l e (rmX0_fromNought t0 t9) s m args below meth c H locs (t.2.2.2 0 - t0.2.2.2 0) (t.2.2.2 1 - t0.2.2.2 1) (MQ below (cQ D dA a k 2 t0 t9 (some (.ref r))) args s (t9.2.2.2 0 - t0.2.2.2 0) (t9.2.2.2 1 - t0.2.2.2 1) (ca a)) (F0 m 0 ls []) := by
  obtain ⟨hx, hb, hr, hml, hown, hts, hlocks⟩ := id C
  intro t x0 H locs hT hS hK hm ls h hl
  have m9 : mo t t9 := mo_C_fromNought h
  unfold C_fromNought at h
  refine lv_aload_n hx hb dX0_fromNought_0 rfl (lv_at hl 0 rfl) ?_
  obtain ⟨v1, hv1, h⟩ := bd1_some h
  refine d_aln C hK hT hv1 dX0_fromNought_1 ?_
  refine lv_topi (fun v2 ev2 => ?_)
  replace h := lt1_sub ev2 h
  obtain ⟨⟨hg4a, hg4b⟩, h⟩ := ngt_some h
  obtain ⟨t3, et3, h⟩ := lt1_ex h
  have m9 : mo t3 t9 := mo_C_fromNought_p4 h
  refine n_newi C hK hT hS hg4a hg4b (mo_n hm et3 m9) dX0_fromNought_2 (fun t_ H et_ hT hS hK => ?_)
  obtain rfl := et3.trans et_.symm
  refine W.widen (mo_n1 hm et3).1 (mo_n1 hm et3).2 ?_
  replace hm := hm.tr (mo.new et3)
  exact bX0_fromNought_p4 C t3 x0 (t.2.2.2 0) H locs hT hS hK hm ls h (lv_sub hl [0] rfl)
theorem mX0_fromNought {l : Launch} {D : va_G} {dA : Nat → ClassId} {a : Nat} {k : KP a} {t : CS} {x0 : Nat} {r : Nat} {t9 : CS} (h : C_fromNought t x0 = some (r, t9)) : Met l yX0_fromNought (ws_ yX0_fromNought cX0_fromNought 3 (some (.array (.int)))) (rmX0_fromNought t t9) (cPc D dA a k t [.ref x0]) (cQ D dA a k 2 t t9 (some (.ref r))) (t9.2.2.2 0 - t.2.2.2 0) (t9.2.2.2 1 - t.2.2.2 1) (ca a) := en_C (by decide +kernel) rfl (Nat.le_of_ble_eq_true rfl) (fun p e s m below meth c ls C hK hT hl => sub0 (bX0_fromNought C t x0 _ [] hT cS.rf hK mo.rf ls h hl))
set_option maxRecDepth 20000 in
abbrev rmX0_bitsOf : Room := { frames := 0, cells := 0, slots := 0, locals := 0 }
theorem hdX0_bitsOf : yX0_bitsOf.cls ≠ "java/lang/invoke/MethodHandle" ∧ yX0_bitsOf.cls ≠ "java/lang/invoke/VarHandle" ∧ (parseMethodDescriptor yX0_bitsOf.desc).map (fun d => d.parameters.length) = some 1 := by decide +kernel
theorem bX0_bitsOf_p10 {p : Program} {l : Launch} {e : Env} {s : State} {m : MethodId} {args : Array Value} {below : List Frame} {meth : Method} {c : Code} {D : va_G} {dA : Nat → ClassId} {a : Nat} {k : KP a} {t : CS} {r : Int32} (C : cx p s m args meth c cX0_bitsOf RX0 6 (some .int)) (hK : kC D dA a k t.2.2.2 s) (hT : cW D dA a k t s.heap) : ∀ (n : Nat), ∀ (x1 : Int32) (x2 : Nat) (x3 : Int32) (x4 : Int32) (ls : Array Slot), C_bitsOf_p10 t n x1 x2 x3 x4 = some r → lv_has ls 6 [(1, .int x1), (2, .ref x2), (3, .int x3), (4, .int x4)] → W p l e rmX0_bitsOf s m args below meth c s.heap [] 0 0 (MQ below (rQi r) args s 0 0 nof) (F0 m 10 ls []) := by
  obtain ⟨hx, hb, hr, hml, hown, hts, hlocks⟩ := id C
  intro n
  induction n with
  | zero =>
    intro x1 x2 x3 x4 ls h hl
    have h : none = some _ := h
    cases h
  | succ n ih =>
    intro x1 x2 x3 x4 ls h hl
    rw [C_bitsOf_p10] at h
    refine lv_iload hx hb dX0_bitsOf_10 (lv_at hl 3 rfl) ?_
    refine lv_iload_n hx hb dX0_bitsOf_12 rfl (lv_at hl 2 rfl) ?_
    refine lv_icmp_ge (tgt := 38) hx hb dX0_bitsOf_13 (by decide) (fun c => ?_) (fun c => ?_)
    · replace h := if_t c h
      refine lv_iload_n hx hb dX0_bitsOf_38 rfl (lv_at hl 0 rfl) ?_
      exact e_ri C h dX0_bitsOf_39
    · replace h := if_f c h
      refine lv_aload_n hx hb dX0_bitsOf_16 rfl (lv_at hl 1 rfl) ?_
      refine lv_iload hx hb dX0_bitsOf_17 (lv_at hl 3 rfl) ?_
      obtain ⟨v1, hv1, h⟩ := bd1_some h
      refine d_ild C hK hT hv1 dX0_bitsOf_19 ?_
      refine lv_istore (lv' := [(5, .int v1), (1, .int x1), (2, .ref x2), (3, .int x3), (4, .int x4)]) hx hb dX0_bitsOf_20 hl (by decide) rfl (fun ls hl => ?_)
      refine lv_iload_n hx hb dX0_bitsOf_22 rfl (lv_at hl 1 rfl) ?_
      refine lv_iconst (v := 1) hx hb dX0_bitsOf_23 (by decide) ?_
      refine lv_iload hx hb dX0_bitsOf_24 (lv_at hl 0 rfl) ?_
      refine lv_bipush (v := 97) hx hb dX0_bitsOf_26 (by decide) ?_
      refine lv_isub hx hb dX0_bitsOf_28 ?_
      refine lv_ishl hx hb dX0_bitsOf_29 ?_
      refine lv_ior hx hb dX0_bitsOf_30 ?_
      refine lv_topi (fun v2 ev2 => ?_)
      replace h := lt1_sub ev2 h
      refine lv_istore_n (lv' := [(1, .int v2), (5, .int v1), (2, .ref x2), (3, .int x3), (4, .int x4)]) hx hb dX0_bitsOf_31 rfl hl (by decide) rfl (fun ls hl => ?_)
      obtain ⟨v3, ev3⟩ : ∃ y : Int32, y = x4 + (1 : Int32) := ⟨_, rfl⟩
      replace h := lt1_sub ev3 h
      refine lv_iinc (v := v3) (lv' := [(4, .int v3), (1, .int v2), (5, .int v1), (2, .ref x2), (3, .int x3)]) hx hb dX0_bitsOf_32 hl (k := 4) rfl (by rw [ev3]; rfl) (by decide) rfl (fun ls hl => ?_)
      refine lv_goto (tgt := 10) hx hb dX0_bitsOf_35 (by decide) ?_
      exact ih v2 x2 x3 v3 ls h (lv_sub hl [1, 3, 4, 0] rfl)
theorem bX0_bitsOf {p : Program} {l : Launch} {e : Env} {s : State} {m : MethodId} {args : Array Value} {below : List Frame} {meth : Method} {c : Code} {D : va_G} {dA : Nat → ClassId} {a : Nat} {k : KP a} {t : CS} {r : Int32} (C : cx p s m args meth c cX0_bitsOf RX0 6 (some .int)) (hK : kC D dA a k t.2.2.2 s) (hT : cW D dA a k t s.heap) : ∀ (x0 : Nat) (ls : Array Slot), C_bitsOf t x0 = some r → lv_has ls 6 [(0, .ref x0)] → W p l e rmX0_bitsOf s m args below meth c s.heap [] 0 0 (MQ below (rQi r) args s 0 0 nof) (F0 m 0 ls []) := by
  obtain ⟨hx, hb, hr, hml, hown, hts, hlocks⟩ := id C
  intro x0 ls h hl
  unfold C_bitsOf at h
  refine lv_iconst (v := 0) hx hb dX0_bitsOf_0 (by decide) ?_
  refine lv_istore_n (lv' := [(1, .int (0 : Int32)), (0, .ref x0)]) hx hb dX0_bitsOf_1 rfl hl (by decide) rfl (fun ls hl => ?_)
  refine lv_aload_n hx hb dX0_bitsOf_2 rfl (lv_at hl 1 rfl) ?_
  refine lv_astore_n (lv' := [(2, .ref x0), (1, .int (0 : Int32)), (0, .ref x0)]) hx hb dX0_bitsOf_3 rfl hl (by decide) rfl (fun ls hl => ?_)
  refine lv_aload_n hx hb dX0_bitsOf_4 rfl (lv_at hl 0 rfl) ?_
  obtain ⟨v1, hv1, h⟩ := bd1_some h
  refine d_aln C hK hT hv1 dX0_bitsOf_5 ?_
  refine lv_topi (fun v2 ev2 => ?_)
  replace h := lt1_sub ev2 h
  refine lv_istore_n (lv' := [(3, .int v2), (2, .ref x0), (1, .int (0 : Int32)), (0, .ref x0)]) hx hb dX0_bitsOf_6 rfl hl (by decide) rfl (fun ls hl => ?_)
  refine lv_iconst (v := 0) hx hb dX0_bitsOf_7 (by decide) ?_
  refine lv_istore (lv' := [(4, .int (0 : Int32)), (3, .int v2), (2, .ref x0), (1, .int (0 : Int32)), (0, .ref x0)]) hx hb dX0_bitsOf_8 hl (by decide) rfl (fun ls hl => ?_)
  exact bX0_bitsOf_p10 C hK hT fu (0 : Int32) x0 v2 (0 : Int32) ls h (lv_sub hl [3, 2, 1, 0] rfl)
theorem mX0_bitsOf {l : Launch} {D : va_G} {dA : Nat → ClassId} {a : Nat} {k : KP a} {t : CS} {x0 : Nat} {r : Int32} (h : C_bitsOf t x0 = some r) : Met l yX0_bitsOf (ws_ yX0_bitsOf cX0_bitsOf 6 (some .int)) rmX0_bitsOf (cPc D dA a k t [.ref x0]) (rQi r) 0 0 nof := en_C (by decide +kernel) rfl (Nat.le_of_ble_eq_true rfl) (fun p e s m below meth c ls C hK hT hl => bX0_bitsOf C hK hT x0 ls h hl)
set_option maxRecDepth 20000 in
abbrev rmX14_more : Room := { frames := 0, cells := 0, slots := 0, locals := 0 }
theorem hdX14_more : yX14_more.cls = RX14 ∧ yX14_more.cls ≠ "java/lang/invoke/MethodHandle" ∧ yX14_more.cls ≠ "java/lang/invoke/VarHandle" ∧ (parseMethodDescriptor yX14_more.desc).map (fun d => d.parameters.length) = some 0 := by decide +kernel
theorem bX14_more {p : Program} {l : Launch} {e : Env} {s : State} {m : MethodId} {args : Array Value} {below : List Frame} {meth : Method} {c : Code} {D : va_G} {dA : Nat → ClassId} {a : Nat} {k : KP a} {t : CS} {r : Nat} (C : cx p s m args meth c cX14_more RX14 1 (some (.array (.int)))) (hK : kC D dA a k t.2.2.2 s) (hT : cW D dA a k t s.heap) : ∀ (x0 : Nat) (ls : Array Slot), C_X14_more t x0 = some r → lv_has ls 1 [(0, .ref x0)] → W p l e rmX14_more s m args below meth c s.heap [] 0 0 (MQ below (rQv (some (.ref r))) args s 0 0 nof) (F0 m 0 ls []) := by
  obtain ⟨hx, hb, hr, hml, hown, hts, hlocks⟩ := id C
  intro x0 ls h hl
  unfold C_X14_more at h
  refine lv_aload_n hx hb dX14_more_0 rfl (lv_at hl 0 rfl) ?_
  obtain ⟨v1, hv1, h⟩ := bd1_some h
  refine d_get (ci := 14) in_X14 rfl C hK hT 2 (by decide) q1004 rfl (gR_some hv1) dX14_more_1 ?_
  exact e_rr C (Or.inr ⟨_, rfl⟩) h dX14_more_4
theorem mX14_more {l : Launch} {D : va_G} {dA : Nat → ClassId} {a : Nat} {k : KP a} {t : CS} {x0 : Nat} {r : Nat} (h : C_X14_more t x0 = some r) : Met l yX14_more (ws_ yX14_more cX14_more 1 (some (.array (.int)))) rmX14_more (cPc D dA a k t [.ref x0]) (rQv (some (.ref r))) 0 0 nof := en_C (by decide +kernel) rfl (Nat.le_of_ble_eq_true rfl) (fun p e s m below meth c ls C hK hT hl => bX14_more C hK hT x0 ls h hl)
set_option maxRecDepth 20000 in
abbrev rmX0_ties : Room := { frames := 3, cells := 0, slots := 0, locals := 64 }
theorem hdX0_ties : yX0_ties.cls = RX0 ∧ yX0_ties.cls ≠ "java/lang/invoke/MethodHandle" ∧ yX0_ties.cls ≠ "java/lang/invoke/VarHandle" ∧ (parseMethodDescriptor yX0_ties.desc).map (fun d => d.parameters.length) = some 2 := by decide +kernel
theorem bX0_ties_p57 {p : Program} {l : Launch} {e : Env} {s : State} {m : MethodId} {args : Array Value} {below : List Frame} {meth : Method} {c : Code} {D : va_G} {dA : Nat → ClassId} {a : Nat} {k : KP a} {t0 : CS} {r : Int32} {t9 : CS} (C : cx p s m args meth c cX0_ties RX0 6 (some .boolean)) {k15 : CS → Int32 → Int32 → Int32 → Int32 → Int32 → Option (Int32 × CS)} (hk15 : ∀ (t : CS) (x1 : Int32) (x2 : Int32) (x3 : Int32) (x4 : Int32) (x5 : Int32) (H : Heap) (locs : List Loc) (hT : cW D dA a k t H) (hS : cS a s.heap H locs t0.2.2.2 0 t) (hK : kC D dA a k t.2.2.2 s) (ls : Array Slot), k15 t x1 x2 x3 x4 x5 = some (r, t9) → lv_has ls 6 [(0, .ref a), (1, .int x1), (2, .int x2), (3, .int x3), (4, .int x4), (5, .int x5)] → W p l e rmX0_ties s m args below meth c H locs 0 0 (MQ below (cQ D dA a k 0 t0 t9 (some (.int r))) args s 0 0 (ca a)) (F0 m 15 ls [])) : ∀ (t : CS) (x1 : Int32) (x2 : Int32) (x4 : Int32) (x5 : Int32) (y0 : Int32) (y1 : Int32) (H : Heap) (locs : List Loc) (hT : cW D dA a k t H) (hS : cS a s.heap H locs t0.2.2.2 0 t) (hK : kC D dA a k t.2.2.2 s) (ls : Array Slot), C_ties_p57 k15 t x1 x2 x4 x5 y0 y1 = some (r, t9) → lv_has ls 6 [(0, .ref a), (1, .int x1), (2, .int x2), (4, .int x4), (5, .int x5)] → W p l e rmX0_ties s m args below meth c H locs 0 0 (MQ below (cQ D dA a k 0 t0 t9 (some (.int r))) args s 0 0 (ca a)) (F0 m 57 ls [.int y1, .int y0]) := by
  obtain ⟨hx, hb, hr, hml, hown, hts, hlocks⟩ := id C
  intro t x1 x2 x4 x5 y0 y1 H locs hT hS hK ls h hl
  unfold C_ties_p57 at h
  refine lv_ior hx hb dX0_ties_57 ?_
  refine lv_topi (fun v1 ev1 => ?_)
  replace h := lt1_sub ev1 h
  refine lv_istore_n (lv' := [(3, .int v1), (0, .ref a), (1, .int x1), (2, .int x2), (4, .int x4), (5, .int x5)]) hx hb dX0_ties_58 rfl hl (by decide) rfl (fun ls hl => ?_)
  obtain ⟨v2, ev2⟩ : ∃ y : Int32, y = x5 + (1 : Int32) := ⟨_, rfl⟩
  replace h := lt1_sub ev2 h
  refine lv_iinc (v := v2) (lv' := [(5, .int v2), (3, .int v1), (0, .ref a), (1, .int x1), (2, .int x2), (4, .int x4)]) hx hb dX0_ties_59 hl (k := 5) rfl (by rw [ev2]; rfl) (by decide) rfl (fun ls hl => ?_)
  refine lv_goto (tgt := 15) hx hb dX0_ties_62 (by decide) ?_
  exact hk15 t x1 x2 v1 x4 v2 H locs hT hS hK ls h (lv_sub hl [2, 3, 4, 1, 5, 0] rfl)
theorem bX0_ties_p56 {p : Program} {l : Launch} {e : Env} {s : State} {m : MethodId} {args : Array Value} {below : List Frame} {meth : Method} {c : Code} {D : va_G} {dA : Nat → ClassId} {a : Nat} {k : KP a} {t0 : CS} {r : Int32} {t9 : CS} (C : cx p s m args meth c cX0_ties RX0 6 (some .boolean)) {k15 : CS → Int32 → Int32 → Int32 → Int32 → Int32 → Option (Int32 × CS)} (hk15 : ∀ (t : CS) (x1 : Int32) (x2 : Int32) (x3 : Int32) (x4 : Int32) (x5 : Int32) (H : Heap) (locs : List Loc) (hT : cW D dA a k t H) (hS : cS a s.heap H locs t0.2.2.2 0 t) (hK : kC D dA a k t.2.2.2 s) (ls : Array Slot), k15 t x1 x2 x3 x4 x5 = some (r, t9) → lv_has ls 6 [(0, .ref a), (1, .int x1), (2, .int x2), (3, .int x3), (4, .int x4), (5, .int x5)] → W p l e rmX0_ties s m args below meth c H locs 0 0 (MQ below (cQ D dA a k 0 t0 t9 (some (.int r))) args s 0 0 (ca a)) (F0 m 15 ls [])) : ∀ (t : CS) (x1 : Int32) (x2 : Int32) (x4 : Int32) (x5 : Int32) (y0 : Int32) (H : Heap) (locs : List Loc) (hT : cW D dA a k t H) (hS : cS a s.heap H locs t0.2.2.2 0 t) (hK : kC D dA a k t.2.2.2 s) (ls : Array Slot), C_ties_p56 k15 t x1 x2 x4 x5 y0 = some (r, t9) → lv_has ls 6 [(0, .ref a), (1, .int x1), (2, .int x2), (4, .int x4), (5, .int x5)] → W p l e rmX0_ties s m args below meth c H locs 0 0 (MQ below (cQ D dA a k 0 t0 t9 (some (.int r))) args s 0 0 (ca a)) (F0 m 56 ls [.int y0]) := by
  obtain ⟨hx, hb, hr, hml, hown, hts, hlocks⟩ := id C
  intro t x1 x2 x4 x5 y0 H locs hT hS hK ls h hl
  unfold C_ties_p56 at h
  refine lv_iconst (v := 0) hx hb dX0_ties_56 (by decide) ?_
  exact bX0_ties_p57 C hk15 t x1 x2 x4 x5 y0 (0 : Int32) H locs hT hS hK ls h (lv_sub hl [0, 1, 2, 3, 4] rfl)
theorem bX0_ties_p15 {p : Program} {l : Launch} {e : Env} {s : State} {m : MethodId} {args : Array Value} {below : List Frame} {meth : Method} {c : Code} {D : va_G} {dA : Nat → ClassId} {a : Nat} {k : KP a} {t0 : CS} {r : Int32} {t9 : CS} (C : cx p s m args meth c cX0_ties RX0 6 (some .boolean)) {k5 : CS → Int32 → Int32 → Int32 → Int32 → Option (Int32 × CS)} (hk5 : ∀ (t : CS) (x1 : Int32) (x2 : Int32) (x3 : Int32) (x4 : Int32) (H : Heap) (locs : List Loc) (hT : cW D dA a k t H) (hS : cS a s.heap H locs t0.2.2.2 0 t) (hK : kC D dA a k t.2.2.2 s) (ls : Array Slot), k5 t x1 x2 x3 x4 = some (r, t9) → lv_has ls 6 [(0, .ref a), (1, .int x1), (2, .int x2), (3, .int x3), (4, .int x4)] → W p l e rmX0_ties s m args below meth c H locs 0 0 (MQ below (cQ D dA a k 0 t0 t9 (some (.int r))) args s 0 0 (ca a)) (F0 m 5 ls [])) : ∀ (n : Nat), ∀ (t : CS) (x1 : Int32) (x2 : Int32) (x3 : Int32) (x4 : Int32) (x5 : Int32) (H : Heap) (locs : List Loc) (hT : cW D dA a k t H) (hS : cS a s.heap H locs t0.2.2.2 0 t) (hK : kC D dA a k t.2.2.2 s) (ls : Array Slot), C_ties_p15 k5 n t x1 x2 x3 x4 x5 = some (r, t9) → lv_has ls 6 [(0, .ref a), (1, .int x1), (2, .int x2), (3, .int x3), (4, .int x4), (5, .int x5)] → W p l e rmX0_ties s m args below meth c H locs 0 0 (MQ below (cQ D dA a k 0 t0 t9 (some (.int r))) args s 0 0 (ca a)) (F0 m 15 ls []) := by
  obtain ⟨hx, hb, hr, hml, hown, hts, hlocks⟩ := id C
  intro n
  induction n with
  | zero =>
    intro t x1 x2 x3 x4 x5 H locs hT hS hK ls h hl
    have h : none = some _ := h
    cases h
  | succ n ih =>
    intro t x1 x2 x3 x4 x5 H locs hT hS hK ls h hl
    rw [C_ties_p15] at h
    refine lv_iload hx hb dX0_ties_15 (lv_at hl 5 rfl) ?_
    refine lv_bipush (v := 26) hx hb dX0_ties_17 (by decide) ?_
    refine lv_icmp_ge (tgt := 65) hx hb dX0_ties_19 (by decide) (fun c => ?_) (fun c => ?_)
    · replace h := if_t c h
      obtain ⟨v1, ev1⟩ : ∃ y : Int32, y = x4 + (1 : Int32) := ⟨_, rfl⟩
      replace h := lt1_sub ev1 h
      refine lv_iinc (v := v1) (lv' := [(4, .int v1), (0, .ref a), (1, .int x1), (2, .int x2), (3, .int x3), (5, .int x5)]) hx hb dX0_ties_65 hl (k := 4) rfl (by rw [ev1]; rfl) (by decide) rfl (fun ls hl => ?_)
      refine lv_goto (tgt := 5) hx hb dX0_ties_68 (by decide) ?_
      exact hk5 t x1 x2 x3 v1 H locs hT hS hK ls h (lv_sub hl [1, 2, 3, 4, 0] rfl)
    · replace h := if_f c h
      refine lv_iload_n hx hb dX0_ties_22 rfl (lv_at hl 3 rfl) ?_
      refine lv_iload_n hx hb dX0_ties_23 rfl (lv_at hl 1 rfl) ?_
      refine lv_iload hx hb dX0_ties_24 (lv_at hl 4 rfl) ?_
      obtain ⟨v2, hv2, h⟩ := bd1_some h
      refine r_int (run_s (As := [.int x1, .int x4]) (rest := [.int x3]) C (mX0_has hv2) q344 q345 q158 q346 ⟨rfl, rfl⟩ hdX0_has ⟨Nat.le_of_ble_eq_true rfl, Nat.le_of_ble_eq_true rfl⟩ ⟨Nat.zero_le _, Nat.zero_le _⟩ rfl hl.1 rfl (Nat.le_of_ble_eq_true rfl) dX0_ties_26) ?_
      refine lv_if_eq (tgt := 56) hx hb dX0_ties_29 (by decide) (fun c => ?_) (fun c => ?_)
      · replace h := if_t c h
        exact bX0_ties_p56 C ih t x1 x2 x4 x5 x3 H locs hT hS hK ls h (lv_sub hl [0, 1, 2, 4, 5] rfl)
      · replace h := if_f c h
        refine lv_iload_n hx hb dX0_ties_32 rfl (lv_at hl 2 rfl) ?_
        refine lv_iload hx hb dX0_ties_33 (lv_at hl 5 rfl) ?_
        obtain ⟨v3, hv3, h⟩ := bd1_some h
        refine r_int (run_s (As := [.int x2, .int x5]) (rest := [.int x3]) C (mX0_has hv3) q344 q345 q158 q346 ⟨rfl, rfl⟩ hdX0_has ⟨Nat.le_of_ble_eq_true rfl, Nat.le_of_ble_eq_true rfl⟩ ⟨Nat.zero_le _, Nat.zero_le _⟩ rfl hl.1 rfl (Nat.le_of_ble_eq_true rfl) dX0_ties_35) ?_
        refine lv_if_eq (tgt := 56) hx hb dX0_ties_38 (by decide) (fun c => ?_) (fun c => ?_)
        · replace h := if_t c h
          exact bX0_ties_p56 C ih t x1 x2 x4 x5 x3 H locs hT hS hK ls h (lv_sub hl [0, 1, 2, 4, 5] rfl)
        · replace h := if_f c h
          refine lv_aload_n hx hb dX0_ties_41 rfl (lv_at hl 0 rfl) ?_
          refine lv_iload hx hb dX0_ties_42 (lv_at hl 4 rfl) ?_
          refine lv_iload hx hb dX0_ties_44 (lv_at hl 5 rfl) ?_
          obtain ⟨v4, t5, ht5, h⟩ := bd2_some h
          refine wc_int hS hK (run_c (As := [.int x4, .int x5]) (rest := [.int x3]) C hK hT hS.2.1 (rv_X hK hT) (mX0_tie ht5) q1279 q335 q336 q158 q337 ⟨rfl, rfl⟩ hdX0_tie ⟨Nat.le_of_ble_eq_true rfl, Nat.le_of_ble_eq_true rfl⟩ ⟨Nat.zero_le _, Nat.zero_le _⟩ rfl hl.1 rfl (Nat.le_of_ble_eq_true rfl) dX0_ties_46) (fun H locs hT hS hK hNt5 => ?_)
          refine lv_if_eq (tgt := 56) hx hb dX0_ties_49 (by decide) (fun c => ?_) (fun c => ?_)
          · replace h := if_t c h
            exact bX0_ties_p56 C ih t5 x1 x2 x4 x5 x3 H locs hT hS hK ls h (lv_sub hl [0, 1, 2, 4, 5] rfl)
          · replace h := if_f c h
            refine lv_iconst (v := 1) hx hb dX0_ties_52 (by decide) ?_
            refine lv_goto (tgt := 57) hx hb dX0_ties_53 (by decide) ?_
            exact bX0_ties_p57 C ih t5 x1 x2 x4 x5 x3 (1 : Int32) H locs hT hS hK ls h (lv_sub hl [0, 1, 2, 4, 5] rfl)
theorem bX0_ties_p5 {p : Program} {l : Launch} {e : Env} {s : State} {m : MethodId} {args : Array Value} {below : List Frame} {meth : Method} {c : Code} {D : va_G} {dA : Nat → ClassId} {a : Nat} {k : KP a} {t0 : CS} {r : Int32} {t9 : CS} (C : cx p s m args meth c cX0_ties RX0 6 (some .boolean)) : ∀ (n : Nat), ∀ (t : CS) (x1 : Int32) (x2 : Int32) (x3 : Int32) (x4 : Int32) (H : Heap) (locs : List Loc) (hT : cW D dA a k t H) (hS : cS a s.heap H locs t0.2.2.2 0 t) (hK : kC D dA a k t.2.2.2 s) (ls : Array Slot), C_ties_p5 n t x1 x2 x3 x4 = some (r, t9) → lv_has ls 6 [(0, .ref a), (1, .int x1), (2, .int x2), (3, .int x3), (4, .int x4)] → W p l e rmX0_ties s m args below meth c H locs 0 0 (MQ below (cQ D dA a k 0 t0 t9 (some (.int r))) args s 0 0 (ca a)) (F0 m 5 ls []) := by
  obtain ⟨hx, hb, hr, hml, hown, hts, hlocks⟩ := id C
  intro n
  induction n with
  | zero =>
    intro t x1 x2 x3 x4 H locs hT hS hK ls h hl
    have h : none = some _ := h
    cases h
  | succ n ih =>
    intro t x1 x2 x3 x4 H locs hT hS hK ls h hl
    rw [C_ties_p5] at h
    refine lv_iload hx hb dX0_ties_5 (lv_at hl 4 rfl) ?_
    refine lv_bipush (v := 26) hx hb dX0_ties_7 (by decide) ?_
    refine lv_icmp_ge (tgt := 71) hx hb dX0_ties_9 (by decide) (fun c => ?_) (fun c => ?_)
    · replace h := if_t c h
      refine lv_iload_n hx hb dX0_ties_71 rfl (lv_at hl 3 rfl) ?_
      obtain ⟨hz, h⟩ := zr_some h
      exact ec_z C hT hS hz h dX0_ties_72
    · replace h := if_f c h
      refine lv_iconst (v := 0) hx hb dX0_ties_12 (by decide) ?_
      refine lv_istore (lv' := [(5, .int (0 : Int32)), (0, .ref a), (1, .int x1), (2, .int x2), (3, .int x3), (4, .int x4)]) hx hb dX0_ties_13 hl (by decide) rfl (fun ls hl => ?_)
      exact bX0_ties_p15 C ih fu t x1 x2 x3 x4 (0 : Int32) H locs hT hS hK ls h (lv_sub hl [1, 2, 3, 4, 5, 0] rfl)
theorem bX0_ties {p : Program} {l : Launch} {e : Env} {s : State} {m : MethodId} {args : Array Value} {below : List Frame} {meth : Method} {c : Code} {D : va_G} {dA : Nat → ClassId} {a : Nat} {k : KP a} {t0 : CS} {r : Int32} {t9 : CS} (C : cx p s m args meth c cX0_ties RX0 6 (some .boolean)) : ∀ (t : CS) (x1 : Int32) (x2 : Int32) (H : Heap) (locs : List Loc) (hT : cW D dA a k t H) (hS : cS a s.heap H locs t0.2.2.2 0 t) (hK : kC D dA a k t.2.2.2 s) (ls : Array Slot), C_ties t x1 x2 = some (r, t9) → lv_has ls 6 [(0, .ref a), (1, .int x1), (2, .int x2)] → W p l e rmX0_ties s m args below meth c H locs 0 0 (MQ below (cQ D dA a k 0 t0 t9 (some (.int r))) args s 0 0 (ca a)) (F0 m 0 ls []) := by
  obtain ⟨hx, hb, hr, hml, hown, hts, hlocks⟩ := id C
  intro t x1 x2 H locs hT hS hK ls h hl
  unfold C_ties at h
  refine lv_iconst (v := 0) hx hb dX0_ties_0 (by decide) ?_
  refine lv_istore_n (lv' := [(3, .int (0 : Int32)), (0, .ref a), (1, .int x1), (2, .int x2)]) hx hb dX0_ties_1 rfl hl (by decide) rfl (fun ls hl => ?_)
  refine lv_iconst (v := 0) hx hb dX0_ties_2 (by decide) ?_
  refine lv_istore (lv' := [(4, .int (0 : Int32)), (3, .int (0 : Int32)), (0, .ref a), (1, .int x1), (2, .int x2)]) hx hb dX0_ties_3 hl (by decide) rfl (fun ls hl => ?_)
  exact bX0_ties_p5 C fu t x1 x2 (0 : Int32) (0 : Int32) H locs hT hS hK ls h (lv_sub hl [2, 3, 4, 1, 0] rfl)
theorem mX0_ties {l : Launch} {D : va_G} {dA : Nat → ClassId} {a : Nat} {k : KP a} {t : CS} {x1 : Int32} {x2 : Int32} {r : Int32} {t9 : CS} (h : C_ties t x1 x2 = some (r, t9)) : Met l yX0_ties (ws_ yX0_ties cX0_ties 6 (some .boolean)) rmX0_ties (cPc D dA a k t [.ref a, .int x1, .int x2]) (cQ D dA a k 0 t t9 (some (.int r))) 0 0 (ca a) := en_C (by decide +kernel) rfl (Nat.le_of_ble_eq_true rfl) (fun p e s m below meth c ls C hK hT hl => bX0_ties C t x1 x2 _ [] hT cS.rf hK ls h hl)
set_option maxRecDepth 20000 in
abbrev rmX14_a : Room := { frames := 0, cells := 0, slots := 0, locals := 0 }
theorem hdX14_a : yX14_a.cls = RX14 ∧ yX14_a.cls ≠ "java/lang/invoke/MethodHandle" ∧ yX14_a.cls ≠ "java/lang/invoke/VarHandle" ∧ (parseMethodDescriptor yX14_a.desc).map (fun d => d.parameters.length) = some 0 := by decide +kernel
theorem bX14_a {p : Program} {l : Launch} {e : Env} {s : State} {m : MethodId} {args : Array Value} {below : List Frame} {meth : Method} {c : Code} {D : va_G} {dA : Nat → ClassId} {a : Nat} {k : KP a} {t : CS} {r : Int32} (C : cx p s m args meth c cX14_a RX14 1 (some .int)) (hK : kC D dA a k t.2.2.2 s) (hT : cW D dA a k t s.heap) : ∀ (x0 : Nat) (ls : Array Slot), C_X14_a t x0 = some r → lv_has ls 1 [(0, .ref x0)] → W p l e rmX14_a s m args below meth c s.heap [] 0 0 (MQ below (rQi r) args s 0 0 nof) (F0 m 0 ls []) := by
  obtain ⟨hx, hb, hr, hml, hown, hts, hlocks⟩ := id C
  intro x0 ls h hl
  unfold C_X14_a at h
  refine lv_aload_n hx hb dX14_a_0 rfl (lv_at hl 0 rfl) ?_
  obtain ⟨v1, hv1, h⟩ := bd1_some h
  refine d_get (ci := 14) in_X14 rfl C hK hT 3 (by decide) q1005 rfl (gI_some hv1) dX14_a_1 ?_
  exact e_ri C h dX14_a_4
theorem mX14_a {l : Launch} {D : va_G} {dA : Nat → ClassId} {a : Nat} {k : KP a} {t : CS} {x0 : Nat} {r : Int32} (h : C_X14_a t x0 = some r) : Met l yX14_a (ws_ yX14_a cX14_a 1 (some .int)) rmX14_a (cPc D dA a k t [.ref x0]) (rQi r) 0 0 nof := en_C (by decide +kernel) rfl (Nat.le_of_ble_eq_true rfl) (fun p e s m below meth c ls C hK hT hl => bX14_a C hK hT x0 ls h hl)
set_option maxRecDepth 20000 in
abbrev rmX0_each : Room := { frames := 4, cells := 0, slots := 0, locals := 103 }
theorem hdX0_each : yX0_each.cls = RX0 ∧ yX0_each.cls ≠ "java/lang/invoke/MethodHandle" ∧ yX0_each.cls ≠ "java/lang/invoke/VarHandle" ∧ (parseMethodDescriptor yX0_each.desc).map (fun d => d.parameters.length) = some 3 := by decide +kernel
theorem bX0_each_p67 {p : Program} {l : Launch} {e : Env} {s : State} {m : MethodId} {args : Array Value} {below : List Frame} {meth : Method} {c : Code} {D : va_G} {dA : Nat → ClassId} {a : Nat} {k : KP a} {t0 : CS} {r : Int32} {t9 : CS} (C : cx p s m args meth c cX0_each RX0 6 (some .boolean)) {k6 : CS → Int32 → Int32 → Int32 → Int32 → Int32 → Option (Int32 × CS)} (hk6 : ∀ (t : CS) (x1 : Int32) (x2 : Int32) (x3 : Int32) (x4 : Int32) (x5 : Int32) (H : Heap) (locs : List Loc) (hT : cW D dA a k t H) (hS : cS a s.heap H locs t0.2.2.2 0 t) (hK : kC D dA a k t.2.2.2 s) (ls : Array Slot), k6 t x1 x2 x3 x4 x5 = some (r, t9) → lv_has ls 6 [(0, .ref a), (1, .int x1), (2, .int x2), (3, .int x3), (4, .int x4), (5, .int x5)] → W p l e rmX0_each s m args below meth c H locs 0 0 (MQ below (cQ D dA a k 0 t0 t9 (some (.int r))) args s 0 0 (ca a)) (F0 m 6 ls [])) : ∀ (t : CS) (x1 : Int32) (x2 : Int32) (x3 : Int32) (x4 : Int32) (x5 : Int32) (H : Heap) (locs : List Loc) (hT : cW D dA a k t H) (hS : cS a s.heap H locs t0.2.2.2 0 t) (hK : kC D dA a k t.2.2.2 s) (ls : Array Slot), C_each_p67 k6 t x1 x2 x3 x4 x5 = some (r, t9) → lv_has ls 6 [(0, .ref a), (1, .int x1), (2, .int x2), (3, .int x3), (4, .int x4), (5, .int x5)] → W p l e rmX0_each s m args below meth c H locs 0 0 (MQ below (cQ D dA a k 0 t0 t9 (some (.int r))) args s 0 0 (ca a)) (F0 m 67 ls []) := by
  obtain ⟨hx, hb, hr, hml, hown, hts, hlocks⟩ := id C
  intro t x1 x2 x3 x4 x5 H locs hT hS hK ls h hl
  unfold C_each_p67 at h
  obtain ⟨v1, ev1⟩ : ∃ y : Int32, y = x5 + (1 : Int32) := ⟨_, rfl⟩
  replace h := lt1_sub ev1 h
  refine lv_iinc (v := v1) (lv' := [(5, .int v1), (0, .ref a), (1, .int x1), (2, .int x2), (3, .int x3), (4, .int x4)]) hx hb dX0_each_67 hl (k := 5) rfl (by rw [ev1]; rfl) (by decide) rfl (fun ls hl => ?_)
  refine lv_goto (tgt := 6) hx hb dX0_each_70 (by decide) ?_
  exact hk6 t x1 x2 x3 x4 v1 H locs hT hS hK ls h (lv_sub hl [1, 2, 3, 4, 5, 0] rfl)
theorem bX0_each_p64 {p : Program} {l : Launch} {e : Env} {s : State} {m : MethodId} {args : Array Value} {below : List Frame} {meth : Method} {c : Code} {D : va_G} {dA : Nat → ClassId} {a : Nat} {k : KP a} {t0 : CS} {r : Int32} {t9 : CS} (C : cx p s m args meth c cX0_each RX0 6 (some .boolean)) {k6 : CS → Int32 → Int32 → Int32 → Int32 → Int32 → Option (Int32 × CS)} (hk6 : ∀ (t : CS) (x1 : Int32) (x2 : Int32) (x3 : Int32) (x4 : Int32) (x5 : Int32) (H : Heap) (locs : List Loc) (hT : cW D dA a k t H) (hS : cS a s.heap H locs t0.2.2.2 0 t) (hK : kC D dA a k t.2.2.2 s) (ls : Array Slot), k6 t x1 x2 x3 x4 x5 = some (r, t9) → lv_has ls 6 [(0, .ref a), (1, .int x1), (2, .int x2), (3, .int x3), (4, .int x4), (5, .int x5)] → W p l e rmX0_each s m args below meth c H locs 0 0 (MQ below (cQ D dA a k 0 t0 t9 (some (.int r))) args s 0 0 (ca a)) (F0 m 6 ls [])) : ∀ (t : CS) (x1 : Int32) (x2 : Int32) (x3 : Int32) (x5 : Int32) (y0 : Int32) (y1 : Int32) (H : Heap) (locs : List Loc) (hT : cW D dA a k t H) (hS : cS a s.heap H locs t0.2.2.2 0 t) (hK : kC D dA a k t.2.2.2 s) (ls : Array Slot), C_each_p64 k6 t x1 x2 x3 x5 y0 y1 = some (r, t9) → lv_has ls 6 [(0, .ref a), (1, .int x1), (2, .int x2), (3, .int x3), (5, .int x5)] → W p l e rmX0_each s m args below meth c H locs 0 0 (MQ below (cQ D dA a k 0 t0 t9 (some (.int r))) args s 0 0 (ca a)) (F0 m 64 ls [.int y1, .int y0]) := by
  obtain ⟨hx, hb, hr, hml, hown, hts, hlocks⟩ := id C
  intro t x1 x2 x3 x5 y0 y1 H locs hT hS hK ls h hl
  unfold C_each_p64 at h
  refine lv_ior hx hb dX0_each_64 ?_
  refine lv_topi (fun v1 ev1 => ?_)
  replace h := lt1_sub ev1 h
  refine lv_istore (lv' := [(4, .int v1), (0, .ref a), (1, .int x1), (2, .int x2), (3, .int x3), (5, .int x5)]) hx hb dX0_each_65 hl (by decide) rfl (fun ls hl => ?_)
  exact bX0_each_p67 C hk6 t x1 x2 x3 v1 x5 H locs hT hS hK ls h (lv_sub hl [1, 2, 3, 4, 0, 5] rfl)
theorem bX0_each_p6 {p : Program} {l : Launch} {e : Env} {s : State} {m : MethodId} {args : Array Value} {below : List Frame} {meth : Method} {c : Code} {D : va_G} {dA : Nat → ClassId} {a : Nat} {k : KP a} {t0 : CS} {r : Int32} {t9 : CS} (C : cx p s m args meth c cX0_each RX0 6 (some .boolean)) : ∀ (n : Nat), ∀ (t : CS) (x1 : Int32) (x2 : Int32) (x3 : Int32) (x4 : Int32) (x5 : Int32) (H : Heap) (locs : List Loc) (hT : cW D dA a k t H) (hS : cS a s.heap H locs t0.2.2.2 0 t) (hK : kC D dA a k t.2.2.2 s) (ls : Array Slot), C_each_p6 n t x1 x2 x3 x4 x5 = some (r, t9) → lv_has ls 6 [(0, .ref a), (1, .int x1), (2, .int x2), (3, .int x3), (4, .int x4), (5, .int x5)] → W p l e rmX0_each s m args below meth c H locs 0 0 (MQ below (cQ D dA a k 0 t0 t9 (some (.int r))) args s 0 0 (ca a)) (F0 m 6 ls []) := by
  obtain ⟨hx, hb, hr, hml, hown, hts, hlocks⟩ := id C
  intro n
  induction n with
  | zero =>
    intro t x1 x2 x3 x4 x5 H locs hT hS hK ls h hl
    have h : none = some _ := h
    cases h
  | succ n ih =>
    intro t x1 x2 x3 x4 x5 H locs hT hS hK ls h hl
    rw [C_each_p6] at h
    refine lv_iload hx hb dX0_each_6 (lv_at hl 5 rfl) ?_
    refine lv_bipush (v := 26) hx hb dX0_each_8 (by decide) ?_
    refine lv_icmp_ge (tgt := 73) hx hb dX0_each_10 (by decide) (fun c => ?_) (fun c => ?_)
    · replace h := if_t c h
      refine lv_iload hx hb dX0_each_73 (lv_at hl 4 rfl) ?_
      obtain ⟨hz, h⟩ := zr_some h
      exact ec_z C hT hS hz h dX0_each_75
    · replace h := if_f c h
      refine lv_iload_n hx hb dX0_each_13 rfl (lv_at hl 1 rfl) ?_
      refine lv_iload hx hb dX0_each_14 (lv_at hl 5 rfl) ?_
      obtain ⟨v1, hv1, h⟩ := bd1_some h
      refine r_int (run_s (As := [.int x1, .int x5]) (rest := []) C (mX0_has hv1) q344 q345 q158 q346 ⟨rfl, rfl⟩ hdX0_has ⟨Nat.le_of_ble_eq_true rfl, Nat.le_of_ble_eq_true rfl⟩ ⟨Nat.zero_le _, Nat.zero_le _⟩ rfl hl.1 rfl (Nat.le_of_ble_eq_true rfl) dX0_each_16) ?_
      refine lv_if_eq (tgt := 67) hx hb dX0_each_19 (by decide) (fun c => ?_) (fun c => ?_)
      · replace h := if_t c h
        exact bX0_each_p67 C ih t x1 x2 x3 x4 x5 H locs hT hS hK ls h (lv_sub hl [0, 1, 2, 3, 4, 5] rfl)
      · replace h := if_f c h
        refine lv_iload hx hb dX0_each_22 (lv_at hl 4 rfl) ?_
        refine lv_iload_n hx hb dX0_each_24 rfl (lv_at hl 2 rfl) ?_
        refine lv_if_eq (tgt := 57) hx hb dX0_each_25 (by decide) (fun c => ?_) (fun c => ?_)
        · replace h := if_t c h
          refine lv_aload_n hx hb dX0_each_57 rfl (lv_at hl 0 rfl) ?_
          refine lv_iload hx hb dX0_each_58 (lv_at hl 5 rfl) ?_
          refine lv_iload_n hx hb dX0_each_60 rfl (lv_at hl 3 rfl) ?_
          obtain ⟨v2, t3, ht3, h⟩ := bd2_some h
          refine wc_int hS hK (run_c (As := [.int x5, .int x3]) (rest := [.int x4]) C hK hT hS.2.1 (rv_X hK hT) (mX0_sign ht3) q1287 q1205 q1206 q158 q1207 ⟨rfl, rfl⟩ hdX0_sign ⟨Nat.le_of_ble_eq_true rfl, Nat.le_of_ble_eq_true rfl⟩ ⟨Nat.zero_le _, Nat.zero_le _⟩ rfl hl.1 rfl (Nat.le_of_ble_eq_true rfl) dX0_each_61) (fun H locs hT hS hK hNt3 => ?_)
          exact bX0_each_p64 C ih t3 x1 x2 x3 x5 x4 v2 H locs hT hS hK ls h (lv_sub hl [0, 1, 2, 3, 5] rfl)
        · replace h := if_f c h
          refine lv_aload_n hx hb dX0_each_28 rfl (lv_at hl 0 rfl) ?_
          refine lv_iload hx hb dX0_each_29 (lv_at hl 5 rfl) ?_
          refine lv_bipush (v := 99) hx hb dX0_each_31 (by decide) ?_
          refine lv_aload_n hx hb dX0_each_33 rfl (lv_at hl 0 rfl) ?_
          refine cg0 C hK hT dX0_each_34 ?_
          refine c_getSN C hK hT (Or.inl rfl) 1 (by decide) (nf224 hK.2.1) rfl (v := .ref (a + 3)) rfl dX0_each_37 ?_
          refine lv_bipush (v := 29) hx hb dX0_each_40 (by decide) ?_
          refine lv_iload hx hb dX0_each_42 (lv_at hl 5 rfl) ?_
          refine lv_iadd hx hb dX0_each_44 ?_
          obtain ⟨hi4, h⟩ := ck_some h
          refine c_ild C hK hT 3 192 (by decide) (fun _ _ => rfl) hi4 dX0_each_45 ?_
          refine lv_iload_n hx hb dX0_each_46 rfl (lv_at hl 3 rfl) ?_
          refine lv_iadd hx hb dX0_each_47 ?_
          refine va_mmin hx hb (hml.trans hl.1.symm) hown (hts _ q1179) (hts _ q669) (hts _ q180) (hts _ q670) (Nat.le_of_ble_eq_true rfl) (Nat.le_of_ble_eq_true rfl) (Nat.zero_le _) (Nat.zero_le _) dX0_each_48 ?_
          obtain ⟨v5, t6, ht6, h⟩ := bd2_some h
          refine wc_int hS hK (run_c (As := [.int x5, .int (if ((t.1 3 ((29 : Int32) + x5).toNatClampNeg) + x3) < (99 : Int32) then ((t.1 3 ((29 : Int32) + x5).toNatClampNeg) + x3) else (99 : Int32))]) (rest := [.int x4]) C hK hT hS.2.1 (rv_X hK hT) (mX0_raise ht6) q1286 q1201 q1202 q158 q1203 ⟨rfl, rfl⟩ hdX0_raise ⟨Nat.le_of_ble_eq_true rfl, Nat.le_of_ble_eq_true rfl⟩ ⟨Nat.zero_le _, Nat.zero_le _⟩ rfl hl.1 rfl (Nat.le_of_ble_eq_true rfl) dX0_each_51) (fun H locs hT hS hK hNt6 => ?_)
          refine lv_goto (tgt := 64) hx hb dX0_each_54 (by decide) ?_
          exact bX0_each_p64 C ih t6 x1 x2 x3 x5 x4 v5 H locs hT hS hK ls h (lv_sub hl [0, 1, 2, 3, 5] rfl)
theorem bX0_each {p : Program} {l : Launch} {e : Env} {s : State} {m : MethodId} {args : Array Value} {below : List Frame} {meth : Method} {c : Code} {D : va_G} {dA : Nat → ClassId} {a : Nat} {k : KP a} {t0 : CS} {r : Int32} {t9 : CS} (C : cx p s m args meth c cX0_each RX0 6 (some .boolean)) : ∀ (t : CS) (x1 : Int32) (x2 : Int32) (x3 : Int32) (H : Heap) (locs : List Loc) (hT : cW D dA a k t H) (hS : cS a s.heap H locs t0.2.2.2 0 t) (hK : kC D dA a k t.2.2.2 s) (ls : Array Slot), C_each t x1 x2 x3 = some (r, t9) → lv_has ls 6 [(0, .ref a), (1, .int x1), (2, .int x2), (3, .int x3)] → W p l e rmX0_each s m args below meth c H locs 0 0 (MQ below (cQ D dA a k 0 t0 t9 (some (.int r))) args s 0 0 (ca a)) (F0 m 0 ls []) := by
  obtain ⟨hx, hb, hr, hml, hown, hts, hlocks⟩ := id C
  intro t x1 x2 x3 H locs hT hS hK ls h hl
  unfold C_each at h
  refine lv_iconst (v := 0) hx hb dX0_each_0 (by decide) ?_
  refine lv_istore (lv' := [(4, .int (0 : Int32)), (0, .ref a), (1, .int x1), (2, .int x2), (3, .int x3)]) hx hb dX0_each_1 hl (by decide) rfl (fun ls hl => ?_)
  refine lv_iconst (v := 0) hx hb dX0_each_3 (by decide) ?_
  refine lv_istore (lv' := [(5, .int (0 : Int32)), (4, .int (0 : Int32)), (0, .ref a), (1, .int x1), (2, .int x2), (3, .int x3)]) hx hb dX0_each_4 hl (by decide) rfl (fun ls hl => ?_)
  exact bX0_each_p6 C fu t x1 x2 x3 (0 : Int32) (0 : Int32) H locs hT hS hK ls h (lv_sub hl [2, 3, 4, 5, 1, 0] rfl)
theorem mX0_each {l : Launch} {D : va_G} {dA : Nat → ClassId} {a : Nat} {k : KP a} {t : CS} {x1 : Int32} {x2 : Int32} {x3 : Int32} {r : Int32} {t9 : CS} (h : C_each t x1 x2 x3 = some (r, t9)) : Met l yX0_each (ws_ yX0_each cX0_each 6 (some .boolean)) rmX0_each (cPc D dA a k t [.ref a, .int x1, .int x2, .int x3]) (cQ D dA a k 0 t t9 (some (.int r))) 0 0 (ca a) := en_C (by decide +kernel) rfl (Nat.le_of_ble_eq_true rfl) (fun p e s m below meth c ls C hK hT hl => bX0_each C t x1 x2 x3 _ [] hT cS.rf hK ls h hl)
set_option maxRecDepth 20000 in
abbrev rmX0_mornings_2 : Room := { frames := 167, cells := 0, slots := 0, locals := 6029 }
theorem hdX0_mornings_2 : yX0_mornings_2.cls = RX0 ∧ yX0_mornings_2.cls ≠ "java/lang/invoke/MethodHandle" ∧ yX0_mornings_2.cls ≠ "java/lang/invoke/VarHandle" ∧ (parseMethodDescriptor yX0_mornings_2.desc).map (fun d => d.parameters.length) = some 1 := by decide +kernel
theorem bX0_mornings_2_p28 {p : Program} {l : Launch} {e : Env} {s : State} {m : MethodId} {args : Array Value} {below : List Frame} {meth : Method} {c : Code} {D : va_G} {dA : Nat → ClassId} {a : Nat} {k : KP a} {t0 : CS} {r : Int32} {t9 : CS} (C : cx p s m args meth c cX0_mornings_2 RX0 3 (some .boolean)) : ∀ (t : CS) (x1 : Int32) (x2 : Int32) (H : Heap) (locs : List Loc) (hT : cW D dA a k t H) (hS : cS a s.heap H locs t0.2.2.2 0 t) (hK : kC D dA a k t.2.2.2 s) (ls : Array Slot), C_mornings_2_p28 t x1 x2 = some (r, t9) → lv_has ls 3 [(1, .int x1), (2, .int x2)] → W p l e rmX0_mornings_2 s m args below meth c H locs 0 0 (MQ below (cQ D dA a k 0 t0 t9 (some (.int r))) args s 0 0 (ca a)) (F0 m 28 ls []) := by
  obtain ⟨hx, hb, hr, hml, hown, hts, hlocks⟩ := id C
  intro t x1 x2 H locs hT hS hK ls h hl
  unfold C_mornings_2_p28 at h
  refine lv_iload_n hx hb dX0_mornings_2_28 rfl (lv_at hl 1 rfl) ?_
  refine lv_iload_n hx hb dX0_mornings_2_29 rfl (lv_at hl 0 rfl) ?_
  refine lv_icmp_ne (tgt := 37) hx hb dX0_mornings_2_30 (by decide) (fun c => ?_) (fun c => ?_)
  · replace h := if_f c h
    refine lv_iconst (v := 0) hx hb dX0_mornings_2_37 (by decide) ?_
    exact ec_z C hT hS (Or.inl rfl) h dX0_mornings_2_38
  · replace h := if_t c h
    refine lv_iconst (v := 1) hx hb dX0_mornings_2_33 (by decide) ?_
    refine lv_goto (tgt := 38) hx hb dX0_mornings_2_34 (by decide) ?_
    exact ec_z C hT hS (Or.inr rfl) h dX0_mornings_2_38
theorem bX0_mornings_2 {p : Program} {l : Launch} {e : Env} {s : State} {m : MethodId} {args : Array Value} {below : List Frame} {meth : Method} {c : Code} {D : va_G} {dA : Nat → ClassId} {a : Nat} {k : KP a} {t0 : CS} {r : Int32} {t9 : CS} (C : cx p s m args meth c cX0_mornings_2 RX0 3 (some .boolean)) : ∀ (t : CS) (x1 : Int32) (H : Heap) (locs : List Loc) (hT : cW D dA a k t H) (hS : cS a s.heap H locs t0.2.2.2 0 t) (hK : kC D dA a k t.2.2.2 s) (ls : Array Slot), C_mornings_2 t x1 = some (r, t9) → lv_has ls 3 [(0, .ref a), (1, .int x1)] → W p l e rmX0_mornings_2 s m args below meth c H locs 0 0 (MQ below (cQ D dA a k 0 t0 t9 (some (.int r))) args s 0 0 (ca a)) (F0 m 0 ls []) := by
  obtain ⟨hx, hb, hr, hml, hown, hts, hlocks⟩ := id C
  intro t x1 H locs hT hS hK ls h hl
  unfold C_mornings_2 at h
  refine lv_iload_n hx hb dX0_mornings_2_0 rfl (lv_at hl 1 rfl) ?_
  refine lv_sipush (v := 999) hx hb dX0_mornings_2_1 (by decide) ?_
  refine lv_aload_n hx hb dX0_mornings_2_4 rfl (lv_at hl 0 rfl) ?_
  refine cg0 C hK hT dX0_mornings_2_5 ?_
  refine c_getSN C hK hT (Or.inl rfl) 1 (by decide) (nf224 hK.2.1) rfl (v := .ref (a + 3)) rfl dX0_mornings_2_8 ?_
  refine lv_iconst (v := 1) hx hb dX0_mornings_2_11 (by decide) ?_
  obtain ⟨hi1, h⟩ := ck_some h
  refine c_ild C hK hT 3 192 (by decide) (fun _ _ => rfl) hi1 dX0_mornings_2_12 ?_
  refine lv_isub hx hb dX0_mornings_2_13 ?_
  refine va_mmin hx hb (hml.trans hl.1.symm) hown (hts _ q1179) (hts _ q669) (hts _ q180) (hts _ q670) (Nat.le_of_ble_eq_true rfl) (Nat.le_of_ble_eq_true rfl) (Nat.zero_le _) (Nat.zero_le _) dX0_mornings_2_14 ?_
  refine lv_topi (fun v2 ev2 => ?_)
  replace h := lt1_sub ev2 h
  refine lv_istore_n (lv' := [(2, .int v2), (0, .ref a), (1, .int x1)]) hx hb dX0_mornings_2_17 rfl hl (by decide) rfl (fun ls hl => ?_)
  refine lv_iload_n hx hb dX0_mornings_2_18 rfl (lv_at hl 0 rfl) ?_
  refine lv_if_le (tgt := 28) hx hb dX0_mornings_2_19 (by decide) (fun c => ?_) (fun c => ?_)
  · replace h := if_t c h
    exact bX0_mornings_2_p28 C t x1 v2 H locs hT hS hK ls h (lv_sub hl [2, 0] rfl)
  · replace h := if_f c h
    refine lv_aload_n hx hb dX0_mornings_2_22 rfl (lv_at hl 1 rfl) ?_
    refine lv_iload_n hx hb dX0_mornings_2_23 rfl (lv_at hl 0 rfl) ?_
    obtain ⟨v3, t4, ht4, h⟩ := bd2_some h
    refine wc_int hS hK (run_c (As := [.int v2]) (rest := []) C hK hT hS.2.1 (rv_X hK hT) (mX0_morning ht4) q1293 q1049 q1050 q158 q1051 ⟨rfl, rfl⟩ hdX0_morning ⟨Nat.le_of_ble_eq_true rfl, Nat.le_of_ble_eq_true rfl⟩ ⟨Nat.zero_le _, Nat.zero_le _⟩ rfl hl.1 rfl (Nat.le_of_ble_eq_true rfl) dX0_mornings_2_24) (fun H locs hT hS hK hNt4 => ?_)
    refine lv_pop hx hb dX0_mornings_2_27 rfl ?_
    exact bX0_mornings_2_p28 C t4 x1 v2 H locs hT hS hK ls h (lv_sub hl [2, 0] rfl)
theorem mX0_mornings_2 {l : Launch} {D : va_G} {dA : Nat → ClassId} {a : Nat} {k : KP a} {t : CS} {x1 : Int32} {r : Int32} {t9 : CS} (h : C_mornings_2 t x1 = some (r, t9)) : Met l yX0_mornings_2 (ws_ yX0_mornings_2 cX0_mornings_2 3 (some .boolean)) rmX0_mornings_2 (cPc D dA a k t [.ref a, .int x1]) (cQ D dA a k 0 t t9 (some (.int r))) 0 0 (ca a) := en_C (by decide +kernel) rfl (Nat.le_of_ble_eq_true rfl) (fun p e s m below meth c ls C hK hT hl => bX0_mornings_2 C t x1 _ [] hT cS.rf hK ls h hl)
