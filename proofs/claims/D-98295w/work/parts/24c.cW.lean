/-! the component's walks, 2 (written by gen/gen_comp.py) -/
set_option maxRecDepth 20000
set_option maxRecDepth 20000 in
abbrev rmX0_does (t t9 : CS) : Room := { frames := 168, cells := t9.2.2.2 0 - t.2.2.2 0, slots := t9.2.2.2 1 - t.2.2.2 1, locals := 6051 }
theorem hdX0_does : yX0_does.cls = RX0 ∧ yX0_does.cls ≠ "java/lang/invoke/MethodHandle" ∧ yX0_does.cls ≠ "java/lang/invoke/VarHandle" ∧ (parseMethodDescriptor yX0_does.desc).map (fun d => d.parameters.length) = some 1 := by decide +kernel
theorem bX0_does_p67 {p : Program} {l : Launch} {e : Env} {s : State} {m : MethodId} {args : Array Value} {below : List Frame} {meth : Method} {c : Code} {D : va_G} {dA : Nat → ClassId} {a : Nat} {k : KP a} {t0 : CS} {r : Int32} {t9 : CS} (C : cx p s m args meth c cX0_does RX0 2 (some .boolean)) : ∀ (t : CS) (y0 : Int32) (H : Heap) (locs : List Loc) (hT : cW D dA a k t H) (hS : cS a s.heap H locs t0.2.2.2 2 t) (hK : kC D dA a k t.2.2.2 s) (hm : mo t0 t) (ls : Array Slot), C_does_p67 t y0 = some (r, t9) → lv_has ls 2 [] → W p l e (rmX0_does t0 t9) s m args below meth c H locs (t.2.2.2 0 - t0.2.2.2 0) (t.2.2.2 1 - t0.2.2.2 1) (MQ below (cQ D dA a k 2 t0 t9 (some (.int r))) args s (t9.2.2.2 0 - t0.2.2.2 0) (t9.2.2.2 1 - t0.2.2.2 1) (ca a)) (F0 m 67 ls [.int y0]) := by
  obtain ⟨hx, hb, hr, hml, hown, hts, hlocks⟩ := id C
  intro t y0 H locs hT hS hK hm ls h hl
  have m9 : mo t t9 := mo_C_does_p67 h
  unfold C_does_p67 at h
  refine lv_iconst (v := -1) hx hb dX0_does_67 (by decide) ?_
  refine lv_icmp_eq (tgt := 75) hx hb dX0_does_68 (by decide) (fun c => ?_) (fun c => ?_)
  · replace h := if_t c h
    refine lv_iconst (v := 0) hx hb dX0_does_75 (by decide) ?_
    cases h
    exact ec_z C hT hS (Or.inl rfl) rfl dX0_does_76
  · replace h := if_f c h
    refine lv_iconst (v := 1) hx hb dX0_does_71 (by decide) ?_
    refine lv_goto (tgt := 76) hx hb dX0_does_72 (by decide) ?_
    cases h
    exact ec_z C hT hS (Or.inr rfl) rfl dX0_does_76
theorem bX0_does_p60 {p : Program} {l : Launch} {e : Env} {s : State} {m : MethodId} {args : Array Value} {below : List Frame} {meth : Method} {c : Code} {D : va_G} {dA : Nat → ClassId} {a : Nat} {k : KP a} {t0 : CS} {r : Int32} {t9 : CS} (C : cx p s m args meth c cX0_does RX0 2 (some .boolean)) : ∀ (t : CS) (x1 : Nat) (y1 : Nat) (H : Heap) (locs : List Loc) (hT : cW D dA a k t H) (hS : cS a s.heap H locs t0.2.2.2 2 t) (hK : kC D dA a k t.2.2.2 s) (hm : mo t0 t) (ls : Array Slot), C_does_p60 t x1 y1 = some (r, t9) → lv_has ls 2 [(1, .ref x1)] → W p l e (rmX0_does t0 t9) s m args below meth c H locs (t.2.2.2 0 - t0.2.2.2 0) (t.2.2.2 1 - t0.2.2.2 1) (MQ below (cQ D dA a k 2 t0 t9 (some (.int r))) args s (t9.2.2.2 0 - t0.2.2.2 0) (t9.2.2.2 1 - t0.2.2.2 1) (ca a)) (F0 m 60 ls [.ref y1, .ref a]) := by
  obtain ⟨hx, hb, hr, hml, hown, hts, hlocks⟩ := id C
  intro t x1 y1 H locs hT hS hK hm ls h hl
  have m9 : mo t t9 := mo_C_does_p60 h
  unfold C_does_p60 at h
  refine lv_aload_n hx hb dX0_does_60 rfl (lv_at hl 0 rfl) ?_
  obtain ⟨hc1, h⟩ := ckC_some h
  obtain ⟨v2, hv2, h⟩ := bd1_some h
  refine r_int (run_c (As := []) (rest := [.ref y1, .ref a]) C hK hT hS.2.1 (rv_D (ci := 14) rfl hK hT hc1) (mX14_a hv2) q1264 q1265 q1266 q193 q1267 ⟨rfl, rfl⟩ hdX14_a ⟨Nat.le_of_ble_eq_true rfl, Nat.le_of_ble_eq_true rfl⟩ (mo_z m9) rfl hl.1 rfl (Nat.le_of_ble_eq_true rfl) dX0_does_61) ?_
  obtain ⟨v4, t3, ht3, h⟩ := bd2_some h
  have mm : mo t t3 := mo_C_adds ht3
  have m9 : mo t3 t9 := mo_C_does_p67 h
  refine wa_int hS hK (run_c (As := [.ref y1, .int v2]) (rest := []) C hK hT hS.2.1 (rv_X hK hT) (mX0_adds ht3) q354 q356 qs0 q158 q357 ⟨rfl, rfl⟩ hdX0_adds ⟨Nat.le_of_ble_eq_true rfl, Nat.le_of_ble_eq_true rfl⟩ (mo_c hm mm m9) rfl hl.1 rfl (Nat.le_of_ble_eq_true rfl) dX0_does_64) (fun H locs hT hS hK => ?_)
  refine W.widen (mo_c hm mm mo.rf).1 (mo_c hm mm mo.rf).2 ?_
  replace hm := hm.tr mm
  exact bX0_does_p67 C t3 v4 H locs hT hS hK hm ls h (lv_sub hl [] rfl)
theorem bX0_does {p : Program} {l : Launch} {e : Env} {s : State} {m : MethodId} {args : Array Value} {below : List Frame} {meth : Method} {c : Code} {D : va_G} {dA : Nat → ClassId} {a : Nat} {k : KP a} {t0 : CS} {r : Int32} {t9 : CS} (C : cx p s m args meth c cX0_does RX0 2 (some .boolean)) : ∀ (t : CS) (x1 : Nat) (H : Heap) (locs : List Loc) (hT : cW D dA a k t H) (hS : cS a s.heap H locs t0.2.2.2 2 t) (hK : kC D dA a k t.2.2.2 s) (hm : mo t0 t) (ls : Array Slot), C_does t x1 = some (r, t9) → lv_has ls 2 [(0, .ref a), (1, .ref x1)] → W p l e (rmX0_does t0 t9) s m args below meth c H locs (t.2.2.2 0 - t0.2.2.2 0) (t.2.2.2 1 - t0.2.2.2 1) (MQ below (cQ D dA a k 2 t0 t9 (some (.int r))) args s (t9.2.2.2 0 - t0.2.2.2 0) (t9.2.2.2 1 - t0.2.2.2 1) (ca a)) (F0 m 0 ls []) := by
  obtain ⟨hx, hb, hr, hml, hown, hts, hlocks⟩ := id C
  intro t x1 H locs hT hS hK hm ls h hl
  have m9 : mo t t9 := mo_C_does h
  unfold C_does at h
  refine lv_aload_n hx hb dX0_does_0 rfl (lv_at hl 1 rfl) ?_
  obtain ⟨hc1, h⟩ := ckC_some h
  obtain ⟨v2, hv2, h⟩ := bd1_some h
  refine r_int (run_c (As := []) (rest := []) C hK hT hS.2.1 (rv_D (ci := 14) rfl hK hT hc1) (mX14_sort hv2) q1253 q1254 q1255 q193 q1256 ⟨rfl, rfl⟩ hdX14_sort ⟨Nat.le_of_ble_eq_true rfl, Nat.le_of_ble_eq_true rfl⟩ (mo_z m9) rfl hl.1 rfl (Nat.le_of_ble_eq_true rfl) dX0_does_1) ?_
  by_cases c : v2 = (204 : Int32)
  · replace h := if_t c h
    rw [c]
    refine lv_tableIn (off := 48) (tgt := 52) hx hb dX0_does_4 (by decide) (by decide) rfl (by decide) ?_
    refine lv_aload_n hx hb dX0_does_52 rfl (lv_at hl 0 rfl) ?_
    refine lv_aload_n hx hb dX0_does_53 rfl (lv_at hl 1 rfl) ?_
    obtain ⟨hc3, h⟩ := ckC_some h
    obtain ⟨v4, hv4, h⟩ := bd1_some h
    refine r_ref1 (run_c (As := []) (rest := [.ref a]) C hK hT hS.2.1 (rv_D (ci := 14) rfl hK hT hc3) (mX14_letters hv4) q1257 q1258 q1259 q193 q1260 ⟨rfl, rfl⟩ hdX14_letters ⟨Nat.le_of_ble_eq_true rfl, Nat.le_of_ble_eq_true rfl⟩ (mo_z m9) rfl hl.1 rfl (Nat.le_of_ble_eq_true rfl) dX0_does_54) ?_
    obtain ⟨v6, t5, ht5, h⟩ := bd2_some h
    have mm : mo t t5 := mo_C_fromNought ht5
    have m9 : mo t5 t9 := mo_C_does_p60 h
    refine wa_ref hS hK (run_cs (As := [.ref v4]) (rest := [.ref a]) C hK hT hS.2.1 (mX0_fromNought ht5) q1261 q1262 q158 q1263 ⟨rfl, rfl⟩ hdX0_fromNought ⟨Nat.le_of_ble_eq_true rfl, Nat.le_of_ble_eq_true rfl⟩ (mo_c hm mm m9) rfl hl.1 rfl (Nat.le_of_ble_eq_true rfl) dX0_does_57) (fun H locs hT hS hK => ?_)
    refine W.widen (mo_c hm mm mo.rf).1 (mo_c hm mm mo.rf).2 ?_
    replace hm := hm.tr mm
    exact bX0_does_p60 C t5 x1 v6 H locs hT hS hK hm ls h (lv_sub hl [1] rfl)
  replace h := if_f c h
  have g0 := tI_ne (k := 204) (by decide) c
  by_cases c : v2 = (205 : Int32)
  · replace h := if_t c h
    rw [c]
    refine lv_tableIn (off := 73) (tgt := 77) hx hb dX0_does_4 (by decide) (by decide) rfl (by decide) ?_
    refine lv_aload_n hx hb dX0_does_77 rfl (lv_at hl 0 rfl) ?_
    refine lv_aload_n hx hb dX0_does_78 rfl (lv_at hl 1 rfl) ?_
    obtain ⟨hc7, h⟩ := ckC_some h
    obtain ⟨v8, hv8, h⟩ := bd1_some h
    refine r_ref1 (run_c (As := []) (rest := [.ref a]) C hK hT hS.2.1 (rv_D (ci := 14) rfl hK hT hc7) (mX14_letters hv8) q1257 q1258 q1259 q193 q1260 ⟨rfl, rfl⟩ hdX14_letters ⟨Nat.le_of_ble_eq_true rfl, Nat.le_of_ble_eq_true rfl⟩ (mo_z m9) rfl hl.1 rfl (Nat.le_of_ble_eq_true rfl) dX0_does_79) ?_
    obtain ⟨v9, t10, ht10, h⟩ := bd2_some h
    refine wc_int hS hK (run_c (As := [.ref v8]) (rest := []) C hK hT hS.2.1 (rv_X hK hT) (mX0_addsSaying ht10) q490 q492 qs1 q158 q493 ⟨rfl, rfl⟩ hdX0_addsSaying ⟨Nat.le_of_ble_eq_true rfl, Nat.le_of_ble_eq_true rfl⟩ (mo_z m9) rfl hl.1 rfl (Nat.le_of_ble_eq_true rfl) dX0_does_82) (fun H locs hT hS hK hNt10 => ?_)
    have mm : mo t t10 := mo.ni hNt10
    replace hm := hm.tr mm
    replace m9 : mo t10 t9 := mo.bk (funext fun i => hNt10 i (Nat.zero_le _)) m9
    refine W.widen (mo_s mm).1 (mo_s mm).2 ?_
    refine lv_iconst (v := -1) hx hb dX0_does_85 (by decide) ?_
    refine lv_icmp_eq (tgt := 93) hx hb dX0_does_86 (by decide) (fun c => ?_) (fun c => ?_)
    · replace h := if_t c h
      refine lv_iconst (v := 0) hx hb dX0_does_93 (by decide) ?_
      cases h
      exact ec_z C hT hS (Or.inl rfl) rfl dX0_does_94
    · replace h := if_f c h
      refine lv_iconst (v := 1) hx hb dX0_does_89 (by decide) ?_
      refine lv_goto (tgt := 94) hx hb dX0_does_90 (by decide) ?_
      cases h
      exact ec_z C hT hS (Or.inr rfl) rfl dX0_does_94
  replace h := if_f c h
  have g1 := tI_ne (k := 205) (by decide) c
  by_cases c : v2 = (206 : Int32)
  · replace h := if_t c h
    rw [c]
    refine lv_tableIn (off := 91) (tgt := 95) hx hb dX0_does_4 (by decide) (by decide) rfl (by decide) ?_
    refine lv_aload_n hx hb dX0_does_95 rfl (lv_at hl 0 rfl) ?_
    refine lv_aload_n hx hb dX0_does_96 rfl (lv_at hl 1 rfl) ?_
    obtain ⟨hc11, h⟩ := ckC_some h
    obtain ⟨v12, hv12, h⟩ := bd1_some h
    refine r_ref1 (run_c (As := []) (rest := [.ref a]) C hK hT hS.2.1 (rv_D (ci := 14) rfl hK hT hc11) (mX14_letters hv12) q1257 q1258 q1259 q193 q1260 ⟨rfl, rfl⟩ hdX14_letters ⟨Nat.le_of_ble_eq_true rfl, Nat.le_of_ble_eq_true rfl⟩ (mo_z m9) rfl hl.1 rfl (Nat.le_of_ble_eq_true rfl) dX0_does_97) ?_
    obtain ⟨v13, hv13, h⟩ := bd1_some h
    refine r_int (run_cs (As := [.ref v12]) (rest := [.ref a]) C hK hT hS.2.1 (mX0_bitsOf hv13) q1268 q1269 q158 q1270 ⟨rfl, rfl⟩ hdX0_bitsOf ⟨Nat.le_of_ble_eq_true rfl, Nat.le_of_ble_eq_true rfl⟩ (mo_z m9) rfl hl.1 rfl (Nat.le_of_ble_eq_true rfl) dX0_does_100) ?_
    refine lv_aload_n hx hb dX0_does_103 rfl (lv_at hl 1 rfl) ?_
    obtain ⟨hc14, h⟩ := ckC_some h
    obtain ⟨v15, hv15, h⟩ := bd1_some h
    refine r_ref1 (run_c (As := []) (rest := [.int v13, .ref a]) C hK hT hS.2.1 (rv_D (ci := 14) rfl hK hT hc14) (mX14_more hv15) q1271 q1272 q1273 q193 q1274 ⟨rfl, rfl⟩ hdX14_more ⟨Nat.le_of_ble_eq_true rfl, Nat.le_of_ble_eq_true rfl⟩ (mo_z m9) rfl hl.1 rfl (Nat.le_of_ble_eq_true rfl) dX0_does_104) ?_
    obtain ⟨v16, hv16, h⟩ := bd1_some h
    refine r_int (run_cs (As := [.ref v15]) (rest := [.int v13, .ref a]) C hK hT hS.2.1 (mX0_bitsOf hv16) q1268 q1269 q158 q1270 ⟨rfl, rfl⟩ hdX0_bitsOf ⟨Nat.le_of_ble_eq_true rfl, Nat.le_of_ble_eq_true rfl⟩ (mo_z m9) rfl hl.1 rfl (Nat.le_of_ble_eq_true rfl) dX0_does_107) ?_
    obtain ⟨v17, t18, ht18, h⟩ := bd2_some h
    refine wc_int hS hK (run_c (As := [.int v13, .int v16]) (rest := []) C hK hT hS.2.1 (rv_X hK hT) (mX0_ties ht18) q1275 q1277 qs41 q158 q1278 ⟨rfl, rfl⟩ hdX0_ties ⟨Nat.le_of_ble_eq_true rfl, Nat.le_of_ble_eq_true rfl⟩ (mo_z m9) rfl hl.1 rfl (Nat.le_of_ble_eq_true rfl) dX0_does_110) (fun H locs hT hS hK hNt18 => ?_)
    have mm : mo t t18 := mo.ni hNt18
    replace hm := hm.tr mm
    replace m9 : mo t18 t9 := mo.bk (funext fun i => hNt18 i (Nat.zero_le _)) m9
    refine W.widen (mo_s mm).1 (mo_s mm).2 ?_
    obtain ⟨hz, h⟩ := zr_some h
    cases h
    exact ec_z C hT hS hz rfl dX0_does_113
  replace h := if_f c h
  have g2 := tI_ne (k := 206) (by decide) c
  by_cases c : v2 = (207 : Int32)
  · replace h := if_t c h
    rw [c]
    refine lv_tableIn (off := 110) (tgt := 114) hx hb dX0_does_4 (by decide) (by decide) rfl (by decide) ?_
    refine lv_aload_n hx hb dX0_does_114 rfl (lv_at hl 0 rfl) ?_
    refine lv_aload_n hx hb dX0_does_115 rfl (lv_at hl 1 rfl) ?_
    obtain ⟨hc19, h⟩ := ckC_some h
    obtain ⟨v20, hv20, h⟩ := bd1_some h
    refine r_ref1 (run_c (As := []) (rest := [.ref a]) C hK hT hS.2.1 (rv_D (ci := 14) rfl hK hT hc19) (mX14_letters hv20) q1257 q1258 q1259 q193 q1260 ⟨rfl, rfl⟩ hdX14_letters ⟨Nat.le_of_ble_eq_true rfl, Nat.le_of_ble_eq_true rfl⟩ (mo_z m9) rfl hl.1 rfl (Nat.le_of_ble_eq_true rfl) dX0_does_116) ?_
    obtain ⟨v21, hv21, h⟩ := bd1_some h
    refine r_int (run_cs (As := [.ref v20]) (rest := [.ref a]) C hK hT hS.2.1 (mX0_bitsOf hv21) q1268 q1269 q158 q1270 ⟨rfl, rfl⟩ hdX0_bitsOf ⟨Nat.le_of_ble_eq_true rfl, Nat.le_of_ble_eq_true rfl⟩ (mo_z m9) rfl hl.1 rfl (Nat.le_of_ble_eq_true rfl) dX0_does_119) ?_
    obtain ⟨v22, t23, ht23, h⟩ := bd2_some h
    refine wc_int hS hK (run_c (As := [.int v21]) (rest := []) C hK hT hS.2.1 (rv_X hK hT) (mX0_strike ht23) q1280 q1181 q1182 q158 q1183 ⟨rfl, rfl⟩ hdX0_strike ⟨Nat.le_of_ble_eq_true rfl, Nat.le_of_ble_eq_true rfl⟩ (mo_z m9) rfl hl.1 rfl (Nat.le_of_ble_eq_true rfl) dX0_does_122) (fun H locs hT hS hK hNt23 => ?_)
    have mm : mo t t23 := mo.ni hNt23
    replace hm := hm.tr mm
    replace m9 : mo t23 t9 := mo.bk (funext fun i => hNt23 i (Nat.zero_le _)) m9
    refine W.widen (mo_s mm).1 (mo_s mm).2 ?_
    refine lv_iconst (v := -1) hx hb dX0_does_125 (by decide) ?_
    refine lv_icmp_eq (tgt := 133) hx hb dX0_does_126 (by decide) (fun c => ?_) (fun c => ?_)
    · replace h := if_t c h
      refine lv_iconst (v := 0) hx hb dX0_does_133 (by decide) ?_
      cases h
      exact ec_z C hT hS (Or.inl rfl) rfl dX0_does_134
    · replace h := if_f c h
      refine lv_iconst (v := 1) hx hb dX0_does_129 (by decide) ?_
      refine lv_goto (tgt := 134) hx hb dX0_does_130 (by decide) ?_
      cases h
      exact ec_z C hT hS (Or.inr rfl) rfl dX0_does_134
  replace h := if_f c h
  have g3 := tI_ne (k := 207) (by decide) c
  by_cases c : v2 = (208 : Int32)
  · replace h := if_t c h
    rw [c]
    refine lv_tableIn (off := 131) (tgt := 135) hx hb dX0_does_4 (by decide) (by decide) rfl (by decide) ?_
    refine lv_aload_n hx hb dX0_does_135 rfl (lv_at hl 0 rfl) ?_
    refine lv_aload_n hx hb dX0_does_136 rfl (lv_at hl 1 rfl) ?_
    obtain ⟨hc24, h⟩ := ckC_some h
    obtain ⟨v25, hv25, h⟩ := bd1_some h
    refine r_ref1 (run_c (As := []) (rest := [.ref a]) C hK hT hS.2.1 (rv_D (ci := 14) rfl hK hT hc24) (mX14_letters hv25) q1257 q1258 q1259 q193 q1260 ⟨rfl, rfl⟩ hdX14_letters ⟨Nat.le_of_ble_eq_true rfl, Nat.le_of_ble_eq_true rfl⟩ (mo_z m9) rfl hl.1 rfl (Nat.le_of_ble_eq_true rfl) dX0_does_137) ?_
    obtain ⟨v26, hv26, h⟩ := bd1_some h
    refine r_int (run_cs (As := [.ref v25]) (rest := [.ref a]) C hK hT hS.2.1 (mX0_bitsOf hv26) q1268 q1269 q158 q1270 ⟨rfl, rfl⟩ hdX0_bitsOf ⟨Nat.le_of_ble_eq_true rfl, Nat.le_of_ble_eq_true rfl⟩ (mo_z m9) rfl hl.1 rfl (Nat.le_of_ble_eq_true rfl) dX0_does_140) ?_
    obtain ⟨v27, t28, ht28, h⟩ := bd2_some h
    refine wc_int hS hK (run_c (As := [.int v26]) (rest := []) C hK hT hS.2.1 (rv_X hK hT) (mX0_comeBack ht28) q1281 q1197 q1198 q158 q1199 ⟨rfl, rfl⟩ hdX0_comeBack ⟨Nat.le_of_ble_eq_true rfl, Nat.le_of_ble_eq_true rfl⟩ (mo_z m9) rfl hl.1 rfl (Nat.le_of_ble_eq_true rfl) dX0_does_143) (fun H locs hT hS hK hNt28 => ?_)
    have mm : mo t t28 := mo.ni hNt28
    replace hm := hm.tr mm
    replace m9 : mo t28 t9 := mo.bk (funext fun i => hNt28 i (Nat.zero_le _)) m9
    refine W.widen (mo_s mm).1 (mo_s mm).2 ?_
    refine lv_iconst (v := -1) hx hb dX0_does_146 (by decide) ?_
    refine lv_icmp_eq (tgt := 154) hx hb dX0_does_147 (by decide) (fun c => ?_) (fun c => ?_)
    · replace h := if_t c h
      refine lv_iconst (v := 0) hx hb dX0_does_154 (by decide) ?_
      cases h
      exact ec_z C hT hS (Or.inl rfl) rfl dX0_does_155
    · replace h := if_f c h
      refine lv_iconst (v := 1) hx hb dX0_does_150 (by decide) ?_
      refine lv_goto (tgt := 155) hx hb dX0_does_151 (by decide) ?_
      cases h
      exact ec_z C hT hS (Or.inr rfl) rfl dX0_does_155
  replace h := if_f c h
  have g4 := tI_ne (k := 208) (by decide) c
  by_cases c : v2 = (209 : Int32)
  · replace h := if_t c h
    rw [c]
    refine lv_tableIn (off := 152) (tgt := 156) hx hb dX0_does_4 (by decide) (by decide) rfl (by decide) ?_
    refine lv_aload_n hx hb dX0_does_156 rfl (lv_at hl 0 rfl) ?_
    refine lv_aload_n hx hb dX0_does_157 rfl (lv_at hl 1 rfl) ?_
    obtain ⟨hc29, h⟩ := ckC_some h
    obtain ⟨v30, hv30, h⟩ := bd1_some h
    refine r_ref1 (run_c (As := []) (rest := [.ref a]) C hK hT hS.2.1 (rv_D (ci := 14) rfl hK hT hc29) (mX14_letters hv30) q1257 q1258 q1259 q193 q1260 ⟨rfl, rfl⟩ hdX14_letters ⟨Nat.le_of_ble_eq_true rfl, Nat.le_of_ble_eq_true rfl⟩ (mo_z m9) rfl hl.1 rfl (Nat.le_of_ble_eq_true rfl) dX0_does_158) ?_
    obtain ⟨v31, hv31, h⟩ := bd1_some h
    refine r_int (run_cs (As := [.ref v30]) (rest := [.ref a]) C hK hT hS.2.1 (mX0_bitsOf hv31) q1268 q1269 q158 q1270 ⟨rfl, rfl⟩ hdX0_bitsOf ⟨Nat.le_of_ble_eq_true rfl, Nat.le_of_ble_eq_true rfl⟩ (mo_z m9) rfl hl.1 rfl (Nat.le_of_ble_eq_true rfl) dX0_does_161) ?_
    refine lv_iconst (v := 1) hx hb dX0_does_164 (by decide) ?_
    refine lv_aload_n hx hb dX0_does_165 rfl (lv_at hl 1 rfl) ?_
    obtain ⟨hc32, h⟩ := ckC_some h
    obtain ⟨v33, hv33, h⟩ := bd1_some h
    refine r_int (run_c (As := []) (rest := [.int (1 : Int32), .int v31, .ref a]) C hK hT hS.2.1 (rv_D (ci := 14) rfl hK hT hc32) (mX14_a hv33) q1264 q1265 q1266 q193 q1267 ⟨rfl, rfl⟩ hdX14_a ⟨Nat.le_of_ble_eq_true rfl, Nat.le_of_ble_eq_true rfl⟩ (mo_z m9) rfl hl.1 rfl (Nat.le_of_ble_eq_true rfl) dX0_does_166) ?_
    obtain ⟨v34, t35, ht35, h⟩ := bd2_some h
    refine wc_int hS hK (run_c (As := [.int v31, .int (1 : Int32), .int v33]) (rest := []) C hK hT hS.2.1 (rv_X hK hT) (mX0_each ht35) q1282 q1284 qs42 q158 q1285 ⟨rfl, rfl⟩ hdX0_each ⟨Nat.le_of_ble_eq_true rfl, Nat.le_of_ble_eq_true rfl⟩ (mo_z m9) rfl hl.1 rfl (Nat.le_of_ble_eq_true rfl) dX0_does_169) (fun H locs hT hS hK hNt35 => ?_)
    have mm : mo t t35 := mo.ni hNt35
    replace hm := hm.tr mm
    replace m9 : mo t35 t9 := mo.bk (funext fun i => hNt35 i (Nat.zero_le _)) m9
    refine W.widen (mo_s mm).1 (mo_s mm).2 ?_
    obtain ⟨hz, h⟩ := zr_some h
    cases h
    exact ec_z C hT hS hz rfl dX0_does_172
  replace h := if_f c h
  have g5 := tI_ne (k := 209) (by decide) c
  by_cases c : v2 = (210 : Int32)
  · replace h := if_t c h
    rw [c]
    refine lv_tableIn (off := 169) (tgt := 173) hx hb dX0_does_4 (by decide) (by decide) rfl (by decide) ?_
    refine lv_aload_n hx hb dX0_does_173 rfl (lv_at hl 0 rfl) ?_
    refine lv_aload_n hx hb dX0_does_174 rfl (lv_at hl 1 rfl) ?_
    obtain ⟨hc36, h⟩ := ckC_some h
    obtain ⟨v37, hv37, h⟩ := bd1_some h
    refine r_ref1 (run_c (As := []) (rest := [.ref a]) C hK hT hS.2.1 (rv_D (ci := 14) rfl hK hT hc36) (mX14_letters hv37) q1257 q1258 q1259 q193 q1260 ⟨rfl, rfl⟩ hdX14_letters ⟨Nat.le_of_ble_eq_true rfl, Nat.le_of_ble_eq_true rfl⟩ (mo_z m9) rfl hl.1 rfl (Nat.le_of_ble_eq_true rfl) dX0_does_175) ?_
    obtain ⟨v38, hv38, h⟩ := bd1_some h
    refine r_int (run_cs (As := [.ref v37]) (rest := [.ref a]) C hK hT hS.2.1 (mX0_bitsOf hv38) q1268 q1269 q158 q1270 ⟨rfl, rfl⟩ hdX0_bitsOf ⟨Nat.le_of_ble_eq_true rfl, Nat.le_of_ble_eq_true rfl⟩ (mo_z m9) rfl hl.1 rfl (Nat.le_of_ble_eq_true rfl) dX0_does_178) ?_
    refine lv_iconst (v := 0) hx hb dX0_does_181 (by decide) ?_
    refine lv_aload_n hx hb dX0_does_182 rfl (lv_at hl 1 rfl) ?_
    obtain ⟨hc39, h⟩ := ckC_some h
    obtain ⟨v40, hv40, h⟩ := bd1_some h
    refine r_int (run_c (As := []) (rest := [.int (0 : Int32), .int v38, .ref a]) C hK hT hS.2.1 (rv_D (ci := 14) rfl hK hT hc39) (mX14_a hv40) q1264 q1265 q1266 q193 q1267 ⟨rfl, rfl⟩ hdX14_a ⟨Nat.le_of_ble_eq_true rfl, Nat.le_of_ble_eq_true rfl⟩ (mo_z m9) rfl hl.1 rfl (Nat.le_of_ble_eq_true rfl) dX0_does_183) ?_
    obtain ⟨v41, t42, ht42, h⟩ := bd2_some h
    refine wc_int hS hK (run_c (As := [.int v38, .int (0 : Int32), .int v40]) (rest := []) C hK hT hS.2.1 (rv_X hK hT) (mX0_each ht42) q1282 q1284 qs42 q158 q1285 ⟨rfl, rfl⟩ hdX0_each ⟨Nat.le_of_ble_eq_true rfl, Nat.le_of_ble_eq_true rfl⟩ (mo_z m9) rfl hl.1 rfl (Nat.le_of_ble_eq_true rfl) dX0_does_186) (fun H locs hT hS hK hNt42 => ?_)
    have mm : mo t t42 := mo.ni hNt42
    replace hm := hm.tr mm
    replace m9 : mo t42 t9 := mo.bk (funext fun i => hNt42 i (Nat.zero_le _)) m9
    refine W.widen (mo_s mm).1 (mo_s mm).2 ?_
    obtain ⟨hz, h⟩ := zr_some h
    cases h
    exact ec_z C hT hS hz rfl dX0_does_189
  replace h := if_f c h
  have g6 := tI_ne (k := 210) (by decide) c
  by_cases c : v2 = (211 : Int32)
  · replace h := if_t c h
    rw [c]
    refine lv_tableIn (off := 186) (tgt := 190) hx hb dX0_does_4 (by decide) (by decide) rfl (by decide) ?_
    refine lv_aload_n hx hb dX0_does_190 rfl (lv_at hl 0 rfl) ?_
    refine lv_aload_n hx hb dX0_does_191 rfl (lv_at hl 1 rfl) ?_
    obtain ⟨hc43, h⟩ := ckC_some h
    obtain ⟨v44, hv44, h⟩ := bd1_some h
    refine r_int (run_c (As := []) (rest := [.ref a]) C hK hT hS.2.1 (rv_D (ci := 14) rfl hK hT hc43) (mX14_a hv44) q1264 q1265 q1266 q193 q1267 ⟨rfl, rfl⟩ hdX14_a ⟨Nat.le_of_ble_eq_true rfl, Nat.le_of_ble_eq_true rfl⟩ (mo_z m9) rfl hl.1 rfl (Nat.le_of_ble_eq_true rfl) dX0_does_192) ?_
    obtain ⟨v45, t46, ht46, h⟩ := bd2_some h
    refine wc_int hS hK (run_c (As := [.int v44]) (rest := []) C hK hT hS.2.1 (rv_X hK hT) (mX0_contract ht46) q1288 q1209 q1210 q158 q1211 ⟨rfl, rfl⟩ hdX0_contract ⟨Nat.le_of_ble_eq_true rfl, Nat.le_of_ble_eq_true rfl⟩ (mo_z m9) rfl hl.1 rfl (Nat.le_of_ble_eq_true rfl) dX0_does_195) (fun H locs hT hS hK hNt46 => ?_)
    have mm : mo t t46 := mo.ni hNt46
    replace hm := hm.tr mm
    replace m9 : mo t46 t9 := mo.bk (funext fun i => hNt46 i (Nat.zero_le _)) m9
    refine W.widen (mo_s mm).1 (mo_s mm).2 ?_
    refine lv_iconst (v := -1) hx hb dX0_does_198 (by decide) ?_
    refine lv_icmp_eq (tgt := 206) hx hb dX0_does_199 (by decide) (fun c => ?_) (fun c => ?_)
    · replace h := if_t c h
      refine lv_iconst (v := 0) hx hb dX0_does_206 (by decide) ?_
      cases h
      exact ec_z C hT hS (Or.inl rfl) rfl dX0_does_207
    · replace h := if_f c h
      refine lv_iconst (v := 1) hx hb dX0_does_202 (by decide) ?_
      refine lv_goto (tgt := 207) hx hb dX0_does_203 (by decide) ?_
      cases h
      exact ec_z C hT hS (Or.inr rfl) rfl dX0_does_207
  replace h := if_f c h
  have g7 := tI_ne (k := 211) (by decide) c
  refine lv_tableOut (tgt := 208) hx hb dX0_does_4 (by omega) (by decide) ?_
  refine lv_aload_n hx hb dX0_does_208 rfl (lv_at hl 0 rfl) ?_
  refine lv_aload_n hx hb dX0_does_209 rfl (lv_at hl 1 rfl) ?_
  obtain ⟨hc47, h⟩ := ckC_some h
  obtain ⟨v48, hv48, h⟩ := bd1_some h
  refine r_int (run_c (As := []) (rest := [.ref a]) C hK hT hS.2.1 (rv_D (ci := 14) rfl hK hT hc47) (mX14_a hv48) q1264 q1265 q1266 q193 q1267 ⟨rfl, rfl⟩ hdX14_a ⟨Nat.le_of_ble_eq_true rfl, Nat.le_of_ble_eq_true rfl⟩ (mo_z m9) rfl hl.1 rfl (Nat.le_of_ble_eq_true rfl) dX0_does_210) ?_
  obtain ⟨v49, t50, ht50, h⟩ := bd2_some h
  refine wc_int hS hK (run_c (As := [.int v48]) (rest := []) C hK hT hS.2.1 (rv_X hK hT) (mX0_mornings_2 ht50) q1289 q1291 qs43 q158 q1292 ⟨rfl, rfl⟩ hdX0_mornings_2 ⟨Nat.le_of_ble_eq_true rfl, Nat.le_of_ble_eq_true rfl⟩ (mo_z m9) rfl hl.1 rfl (Nat.le_of_ble_eq_true rfl) dX0_does_213) (fun H locs hT hS hK hNt50 => ?_)
  have mm : mo t t50 := mo.ni hNt50
  replace hm := hm.tr mm
  replace m9 : mo t50 t9 := mo.bk (funext fun i => hNt50 i (Nat.zero_le _)) m9
  refine W.widen (mo_s mm).1 (mo_s mm).2 ?_
  obtain ⟨hz, h⟩ := zr_some h
  cases h
  exact ec_z C hT hS hz rfl dX0_does_216
theorem mX0_does {l : Launch} {D : va_G} {dA : Nat → ClassId} {a : Nat} {k : KP a} {t : CS} {x1 : Nat} {r : Int32} {t9 : CS} (h : C_does t x1 = some (r, t9)) : Met l yX0_does (ws_ yX0_does cX0_does 2 (some .boolean)) (rmX0_does t t9) (cPc D dA a k t [.ref a, .ref x1]) (cQ D dA a k 2 t t9 (some (.int r))) (t9.2.2.2 0 - t.2.2.2 0) (t9.2.2.2 1 - t.2.2.2 1) (ca a) := en_C (by decide +kernel) rfl (Nat.le_of_ble_eq_true rfl) (fun p e s m below meth c ls C hK hT hl => sub0 (bX0_does C t x1 _ [] hT cS.rf hK mo.rf ls h hl))
set_option maxRecDepth 20000 in
abbrev rmX14_number : Room := { frames := 0, cells := 0, slots := 0, locals := 0 }
theorem hdX14_number : yX14_number.cls = RX14 ∧ yX14_number.cls ≠ "java/lang/invoke/MethodHandle" ∧ yX14_number.cls ≠ "java/lang/invoke/VarHandle" ∧ (parseMethodDescriptor yX14_number.desc).map (fun d => d.parameters.length) = some 0 := by decide +kernel
theorem bX14_number {p : Program} {l : Launch} {e : Env} {s : State} {m : MethodId} {args : Array Value} {below : List Frame} {meth : Method} {c : Code} {D : va_G} {dA : Nat → ClassId} {a : Nat} {k : KP a} {t : CS} {r : Int32} (C : cx p s m args meth c cX14_number RX14 1 (some .int)) (hK : kC D dA a k t.2.2.2 s) (hT : cW D dA a k t s.heap) : ∀ (x0 : Nat) (ls : Array Slot), C_X14_number t x0 = some r → lv_has ls 1 [(0, .ref x0)] → W p l e rmX14_number s m args below meth c s.heap [] 0 0 (MQ below (rQi r) args s 0 0 nof) (F0 m 0 ls []) := by
  obtain ⟨hx, hb, hr, hml, hown, hts, hlocks⟩ := id C
  intro x0 ls h hl
  unfold C_X14_number at h
  refine lv_aload_n hx hb dX14_number_0 rfl (lv_at hl 0 rfl) ?_
  obtain ⟨v1, hv1, h⟩ := bd1_some h
  refine d_get (ci := 14) in_X14 rfl C hK hT 4 (by decide) q1006 rfl (gI_some hv1) dX14_number_1 ?_
  exact e_ri C h dX14_number_4
theorem mX14_number {l : Launch} {D : va_G} {dA : Nat → ClassId} {a : Nat} {k : KP a} {t : CS} {x0 : Nat} {r : Int32} (h : C_X14_number t x0 = some r) : Met l yX14_number (ws_ yX14_number cX14_number 1 (some .int)) rmX14_number (cPc D dA a k t [.ref x0]) (rQi r) 0 0 nof := en_C (by decide +kernel) rfl (Nat.le_of_ble_eq_true rfl) (fun p e s m below meth c ls C hK hT hl => bX14_number C hK hT x0 ls h hl)
set_option maxRecDepth 20000 in
abbrev rmX0_played (t t9 : CS) : Room := { frames := 169, cells := t9.2.2.2 0 - t.2.2.2 0, slots := t9.2.2.2 1 - t.2.2.2 1, locals := 6072 }
theorem hdX0_played : yX0_played.cls = RX0 ∧ yX0_played.cls ≠ "java/lang/invoke/MethodHandle" ∧ yX0_played.cls ≠ "java/lang/invoke/VarHandle" ∧ (parseMethodDescriptor yX0_played.desc).map (fun d => d.parameters.length) = some 1 := by decide +kernel
theorem bX0_played_p46 {p : Program} {l : Launch} {e : Env} {s : State} {m : MethodId} {args : Array Value} {below : List Frame} {meth : Method} {c : Code} {D : va_G} {dA : Nat → ClassId} {a : Nat} {k : KP a} {t0 : CS} {r : Int32} {t9 : CS} (C : cx p s m args meth c cX0_played RX0 4 (some .int)) {k26 : CS → Nat → Int32 → Option (Int32 × CS)} (hk26 : ∀ (t : CS) (x2 : Nat) (x3 : Int32) (H : Heap) (locs : List Loc) (hT : cW D dA a k t H) (hS : cS a s.heap H locs t0.2.2.2 2 t) (hK : kC D dA a k t.2.2.2 s) (hm : mo t0 t) (ls : Array Slot), k26 t x2 x3 = some (r, t9) → lv_has ls 4 [(0, .ref a), (2, .ref x2), (3, .int x3)] → W p l e (rmX0_played t0 t9) s m args below meth c H locs (t.2.2.2 0 - t0.2.2.2 0) (t.2.2.2 1 - t0.2.2.2 1) (MQ below (cQ D dA a k 2 t0 t9 (some (.int r))) args s (t9.2.2.2 0 - t0.2.2.2 0) (t9.2.2.2 1 - t0.2.2.2 1) (ca a)) (F0 m 26 ls [])) (mk26 : ∀ (t : CS) (x2 : Nat) (x3 : Int32) (r : Int32) (t9 : CS), k26 t x2 x3 = some (r, t9) → mo t t9) : ∀ (t : CS) (x2 : Nat) (x3 : Int32) (y0 : Int32) (H : Heap) (locs : List Loc) (hT : cW D dA a k t H) (hS : cS a s.heap H locs t0.2.2.2 2 t) (hK : kC D dA a k t.2.2.2 s) (hm : mo t0 t) (ls : Array Slot), C_played_p46 k26 t x2 x3 y0 = some (r, t9) → lv_has ls 4 [(0, .ref a), (2, .ref x2), (3, .int x3)] → W p l e (rmX0_played t0 t9) s m args below meth c H locs (t.2.2.2 0 - t0.2.2.2 0) (t.2.2.2 1 - t0.2.2.2 1) (MQ below (cQ D dA a k 2 t0 t9 (some (.int r))) args s (t9.2.2.2 0 - t0.2.2.2 0) (t9.2.2.2 1 - t0.2.2.2 1) (ca a)) (F0 m 46 ls [.int y0]) := by
  obtain ⟨hx, hb, hr, hml, hown, hts, hlocks⟩ := id C
  intro t x2 x3 y0 H locs hT hS hK hm ls h hl
  have m9 : mo t t9 := mo_C_played_p46 mk26 h
  unfold C_played_p46 at h
  refine lv_if_ne (tgt := 61) hx hb dX0_played_46 (by decide) (fun c => ?_) (fun c => ?_)
  · replace h := if_f c h
    obtain ⟨v1, ev1⟩ : ∃ y : Int32, y = x3 + (1 : Int32) := ⟨_, rfl⟩
    replace h := lt1_sub ev1 h
    refine lv_iinc (v := v1) (lv' := [(3, .int v1), (0, .ref a), (2, .ref x2)]) hx hb dX0_played_61 hl (k := 2) rfl (by rw [ev1]; rfl) (by decide) rfl (fun ls hl => ?_)
    refine lv_goto (tgt := 26) hx hb dX0_played_64 (by decide) ?_
    exact hk26 t x2 v1 H locs hT hS hK hm ls h (lv_sub hl [1, 2, 0] rfl)
  · replace h := if_t c h
    refine lv_aload_n hx hb dX0_played_49 rfl (lv_at hl 1 rfl) ?_
    refine lv_iload_n hx hb dX0_played_50 rfl (lv_at hl 2 rfl) ?_
    obtain ⟨hc2, h⟩ := ckC_some h
    obtain ⟨v3, hv3, h⟩ := bd1_some h
    refine r_ref1 (run_c (As := [.int x3]) (rest := []) C hK hT hS.2.1 (rv_D (ci := 15) rfl hK hT hc2) (mJ9_get hv3) q1247 q959 q960 q175 q961 ⟨rfl, rfl⟩ hdJ9_get ⟨Nat.le_of_ble_eq_true rfl, Nat.le_of_ble_eq_true rfl⟩ (mo_z m9) rfl hl.1 rfl (Nat.le_of_ble_eq_true rfl) dX0_played_51) ?_
    obtain ⟨hc4, h⟩ := ckC_some h
    refine c_castS (ci := 14) rfl C hK hT hc4 q1248 dX0_played_54 ?_
    obtain ⟨hc5, h⟩ := ckC_some h
    obtain ⟨v6, hv6, h⟩ := bd1_some h
    refine r_int (run_c (As := []) (rest := []) C hK hT hS.2.1 (rv_D (ci := 14) rfl hK hT hc5) (mX14_number hv6) q1294 q1295 q1296 q193 q1297 ⟨rfl, rfl⟩ hdX14_number ⟨Nat.le_of_ble_eq_true rfl, Nat.le_of_ble_eq_true rfl⟩ (mo_z m9) rfl hl.1 rfl (Nat.le_of_ble_eq_true rfl) dX0_played_57) ?_
    cases h
    exact ec_i C hT hS rfl dX0_played_60
theorem bX0_played_p26 {p : Program} {l : Launch} {e : Env} {s : State} {m : MethodId} {args : Array Value} {below : List Frame} {meth : Method} {c : Code} {D : va_G} {dA : Nat → ClassId} {a : Nat} {k : KP a} {t0 : CS} {r : Int32} {t9 : CS} (C : cx p s m args meth c cX0_played RX0 4 (some .int)) : ∀ (n : Nat), ∀ (t : CS) (x2 : Nat) (x3 : Int32) (H : Heap) (locs : List Loc) (hT : cW D dA a k t H) (hS : cS a s.heap H locs t0.2.2.2 2 t) (hK : kC D dA a k t.2.2.2 s) (hm : mo t0 t) (ls : Array Slot), C_played_p26 n t x2 x3 = some (r, t9) → lv_has ls 4 [(0, .ref a), (2, .ref x2), (3, .int x3)] → W p l e (rmX0_played t0 t9) s m args below meth c H locs (t.2.2.2 0 - t0.2.2.2 0) (t.2.2.2 1 - t0.2.2.2 1) (MQ below (cQ D dA a k 2 t0 t9 (some (.int r))) args s (t9.2.2.2 0 - t0.2.2.2 0) (t9.2.2.2 1 - t0.2.2.2 1) (ca a)) (F0 m 26 ls []) := by
  obtain ⟨hx, hb, hr, hml, hown, hts, hlocks⟩ := id C
  intro n
  induction n with
  | zero =>
    intro t x2 x3 H locs hT hS hK hm ls h hl
    have h : none = some _ := h
    cases h
  | succ n ih =>
    intro t x2 x3 H locs hT hS hK hm ls h hl
    have m9 : mo t t9 := mo_C_played_p26 (n + 1) _ _ _ _ _ h
    rw [C_played_p26] at h
    refine lv_iload_n hx hb dX0_played_26 rfl (lv_at hl 2 rfl) ?_
    refine lv_aload_n hx hb dX0_played_27 rfl (lv_at hl 1 rfl) ?_
    obtain ⟨hc1, h⟩ := ckC_some h
    obtain ⟨v2, hv2, h⟩ := bd1_some h
    refine r_int (run_c (As := []) (rest := [.int x3]) C hK hT hS.2.1 (rv_D (ci := 15) rfl hK hT hc1) (mJ9_size hv2) q1246 q955 q956 q175 q957 ⟨rfl, rfl⟩ hdJ9_size ⟨Nat.le_of_ble_eq_true rfl, Nat.le_of_ble_eq_true rfl⟩ (mo_z m9) rfl hl.1 rfl (Nat.le_of_ble_eq_true rfl) dX0_played_28) ?_
    refine lv_icmp_ge (tgt := 67) hx hb dX0_played_31 (by decide) (fun c => ?_) (fun c => ?_)
    · replace h := if_t c h
      refine lv_iconst (v := -1) hx hb dX0_played_67 (by decide) ?_
      cases h
      exact ec_i C hT hS rfl dX0_played_68
    · replace h := if_f c h
      refine lv_aload_n hx hb dX0_played_34 rfl (lv_at hl 0 rfl) ?_
      refine lv_aload_n hx hb dX0_played_35 rfl (lv_at hl 1 rfl) ?_
      refine lv_iload_n hx hb dX0_played_36 rfl (lv_at hl 2 rfl) ?_
      obtain ⟨hc3, h⟩ := ckC_some h
      obtain ⟨v4, hv4, h⟩ := bd1_some h
      refine r_ref1 (run_c (As := [.int x3]) (rest := [.ref a]) C hK hT hS.2.1 (rv_D (ci := 15) rfl hK hT hc3) (mJ9_get hv4) q1247 q959 q960 q175 q961 ⟨rfl, rfl⟩ hdJ9_get ⟨Nat.le_of_ble_eq_true rfl, Nat.le_of_ble_eq_true rfl⟩ (mo_z m9) rfl hl.1 rfl (Nat.le_of_ble_eq_true rfl) dX0_played_37) ?_
      obtain ⟨hc5, h⟩ := ckC_some h
      refine c_castS (ci := 14) rfl C hK hT hc5 q1248 dX0_played_40 ?_
      obtain ⟨v7, t6, ht6, h⟩ := bd2_some h
      have mm : mo t t6 := mo_C_does ht6
      have m9 : mo t6 t9 := mo_C_played_p46 (mo_C_played_p26 n) h
      refine wa_int hS hK (run_c (As := [.ref v4]) (rest := []) C hK hT hS.2.1 (rv_X hK hT) (mX0_does ht6) q1249 q1251 qs40 q158 q1252 ⟨rfl, rfl⟩ hdX0_does ⟨Nat.le_of_ble_eq_true rfl, Nat.le_of_ble_eq_true rfl⟩ (mo_c hm mm m9) rfl hl.1 rfl (Nat.le_of_ble_eq_true rfl) dX0_played_43) (fun H locs hT hS hK => ?_)
      refine W.widen (mo_c hm mm mo.rf).1 (mo_c hm mm mo.rf).2 ?_
      replace hm := hm.tr mm
      exact bX0_played_p46 C ih (mo_C_played_p26 n) t6 x2 x3 v7 H locs hT hS hK hm ls h (lv_sub hl [0, 1, 2] rfl)
theorem bX0_played {p : Program} {l : Launch} {e : Env} {s : State} {m : MethodId} {args : Array Value} {below : List Frame} {meth : Method} {c : Code} {D : va_G} {dA : Nat → ClassId} {a : Nat} {k : KP a} {t0 : CS} {r : Int32} {t9 : CS} (C : cx p s m args meth c cX0_played RX0 4 (some .int)) : ∀ (t : CS) (x1 : Int32) (H : Heap) (locs : List Loc) (hT : cW D dA a k t H) (hS : cS a s.heap H locs t0.2.2.2 2 t) (hK : kC D dA a k t.2.2.2 s) (hm : mo t0 t) (ls : Array Slot), C_played t x1 = some (r, t9) → lv_has ls 4 [(0, .ref a), (1, .int x1)] → W p l e (rmX0_played t0 t9) s m args below meth c H locs (t.2.2.2 0 - t0.2.2.2 0) (t.2.2.2 1 - t0.2.2.2 1) (MQ below (cQ D dA a k 2 t0 t9 (some (.int r))) args s (t9.2.2.2 0 - t0.2.2.2 0) (t9.2.2.2 1 - t0.2.2.2 1) (ca a)) (F0 m 0 ls []) := by
  obtain ⟨hx, hb, hr, hml, hown, hts, hlocks⟩ := id C
  intro t x1 H locs hT hS hK hm ls h hl
  have m9 : mo t t9 := mo_C_played h
  unfold C_played at h
  refine lv_aload_n hx hb dX0_played_0 rfl (lv_at hl 0 rfl) ?_
  refine lv_iload_n hx hb dX0_played_1 rfl (lv_at hl 1 rfl) ?_
  obtain ⟨v1, hv1, h⟩ := bd1_some h
  refine r_int (run_c (As := [.int x1]) (rest := []) C hK hT hS.2.1 (rv_X hK hT) (mX0_isText hv1) q1044 q1046 qs26 q158 q1047 ⟨rfl, rfl⟩ hdX0_isText ⟨Nat.le_of_ble_eq_true rfl, Nat.le_of_ble_eq_true rfl⟩ (mo_z m9) rfl hl.1 rfl (Nat.le_of_ble_eq_true rfl) dX0_played_2) ?_
  refine lv_if_ne (tgt := 11) hx hb dX0_played_5 (by decide) (fun c => ?_) (fun c => ?_)
  · replace h := if_f c h
    refine lv_aload_n hx hb dX0_played_11 rfl (lv_at hl 0 rfl) ?_
    refine cg0 C hK hT dX0_played_12 ?_
    refine c_getSN C hK hT (Or.inl rfl) 8 (by decide) (nf238 hK.2.1) rfl (v := .ref (a + 52)) rfl dX0_played_15 ?_
    refine lv_iload_n hx hb dX0_played_18 rfl (lv_at hl 1 rfl) ?_
    obtain ⟨hi2, h⟩ := ck_some h
    obtain ⟨r3, hr3, h⟩ := bd1_some h
    refine c_ald C hK hT 52 4 5 (by decide) rfl (g := t.2.1 52) (by rfl) (by rfl) hi2 hr3 dX0_played_19 ?_
    obtain ⟨v4, hv4, h⟩ := bd1_some h
    refine d_getN (ci := 5) in_X5 rfl C hK hT 5 (by decide) (nf589 hK.2.1) rfl (gR_some hv4) dX0_played_20 ?_
    refine lv_astore_n (lv' := [(2, .ref v4), (0, .ref a), (1, .int x1)]) hx hb dX0_played_23 rfl hl (by decide) rfl (fun ls hl => ?_)
    refine lv_iconst (v := 0) hx hb dX0_played_24 (by decide) ?_
    refine lv_istore_n (lv' := [(3, .int (0 : Int32)), (2, .ref v4), (0, .ref a), (1, .int x1)]) hx hb dX0_played_25 rfl hl (by decide) rfl (fun ls hl => ?_)
    exact bX0_played_p26 C fu t v4 (0 : Int32) H locs hT hS hK hm ls h (lv_sub hl [2, 1, 0] rfl)
  · replace h := if_t c h
    refine lv_bipush (v := -2) hx hb dX0_played_8 (by decide) ?_
    cases h
    exact ec_i C hT hS rfl dX0_played_10
theorem mX0_played {l : Launch} {D : va_G} {dA : Nat → ClassId} {a : Nat} {k : KP a} {t : CS} {x1 : Int32} {r : Int32} {t9 : CS} (h : C_played t x1 = some (r, t9)) : Met l yX0_played (ws_ yX0_played cX0_played 4 (some .int)) (rmX0_played t t9) (cPc D dA a k t [.ref a, .int x1]) (cQ D dA a k 2 t t9 (some (.int r))) (t9.2.2.2 0 - t.2.2.2 0) (t9.2.2.2 1 - t.2.2.2 1) (ca a) := en_C (by decide +kernel) rfl (Nat.le_of_ble_eq_true rfl) (fun p e s m below meth c ls C hK hT hl => sub0 (bX0_played C t x1 _ [] hT cS.rf hK mo.rf ls h hl))
set_option maxRecDepth 20000 in
abbrev rmX0_draws : Room := { frames := 0, cells := 0, slots := 0, locals := 0 }
theorem hdX0_draws : yX0_draws.cls = RX0 ∧ yX0_draws.cls ≠ "java/lang/invoke/MethodHandle" ∧ yX0_draws.cls ≠ "java/lang/invoke/VarHandle" ∧ (parseMethodDescriptor yX0_draws.desc).map (fun d => d.parameters.length) = some 0 := by decide +kernel
theorem bX0_draws {p : Program} {l : Launch} {e : Env} {s : State} {m : MethodId} {args : Array Value} {below : List Frame} {meth : Method} {c : Code} {D : va_G} {dA : Nat → ClassId} {a : Nat} {k : KP a} {t0 : CS} {t9 : CS} (C : cx p s m args meth c cX0_draws RX0 1 none) : ∀ (t : CS) (H : Heap) (locs : List Loc) (hT : cW D dA a k t H) (hS : cS a s.heap H locs t0.2.2.2 0 t) (hK : kC D dA a k t.2.2.2 s) (ls : Array Slot), C_draws t = some t9 → lv_has ls 1 [(0, .ref a)] → W p l e rmX0_draws s m args below meth c H locs 0 0 (MQ below (cQ D dA a k 0 t0 t9 none) args s 0 0 (ca a)) (F0 m 0 ls []) := by
  obtain ⟨hx, hb, hr, hml, hown, hts, hlocks⟩ := id C
  intro t H locs hT hS hK ls h hl
  unfold C_draws at h
  refine lv_aload_n hx hb dX0_draws_0 rfl (lv_at hl 0 rfl) ?_
  refine cg0 C hK hT dX0_draws_1 ?_
  refine c_getSN C hK hT (Or.inl rfl) 1 (by decide) (nf224 hK.2.1) rfl (v := .ref (a + 3)) rfl dX0_draws_4 ?_
  refine lv_iconst (v := 2) hx hb dX0_draws_7 (by decide) ?_
  refine lv_aload_n hx hb dX0_draws_8 rfl (lv_at hl 0 rfl) ?_
  refine cg0 C hK hT dX0_draws_9 ?_
  refine c_getSN C hK hT (Or.inl rfl) 1 (by decide) (nf224 hK.2.1) rfl (v := .ref (a + 3)) rfl dX0_draws_12 ?_
  refine lv_iconst (v := 2) hx hb dX0_draws_15 (by decide) ?_
  obtain ⟨hi1, h⟩ := ck_some h
  refine c_ild C hK hT 3 192 (by decide) (fun _ _ => rfl) hi1 dX0_draws_16 ?_
  refine lv_sipush (v := 211) hx hb dX0_draws_17 (by decide) ?_
  refine lv_imul hx hb dX0_draws_20 ?_
  refine lv_bipush (v := 97) hx hb dX0_draws_21 (by decide) ?_
  refine lv_iadd hx hb dX0_draws_23 ?_
  refine lv_sipush (v := 30139) hx hb dX0_draws_24 (by decide) ?_
  refine lv_irem hx hb dX0_draws_27 (by decide) ?_
  obtain ⟨hi2, h⟩ := ck_some h
  refine c_ist C hK hT hS 3 192 (by decide) (fun _ _ => rfl) hi2 dX0_draws_28 (fun t3 H locs et3 hT hS hK => ?_)
  replace h := lt1_sub et3 h
  exact ec_v C hT hS h dX0_draws_29
theorem mX0_draws {l : Launch} {D : va_G} {dA : Nat → ClassId} {a : Nat} {k : KP a} {t : CS} {t9 : CS} (h : C_draws t = some t9) : Met l yX0_draws (ws_ yX0_draws cX0_draws 1 none) rmX0_draws (cPc D dA a k t [.ref a]) (cQ D dA a k 0 t t9 none) 0 0 (ca a) := en_C (by decide +kernel) rfl (Nat.le_of_ble_eq_true rfl) (fun p e s m below meth c ls C hK hT hl => bX0_draws C t _ [] hT cS.rf hK ls h hl)
set_option maxRecDepth 20000 in
abbrev rmX0_happens : Room := { frames := 166, cells := 0, slots := 0, locals := 6007 }
theorem hdX0_happens : yX0_happens.cls = RX0 ∧ yX0_happens.cls ≠ "java/lang/invoke/MethodHandle" ∧ yX0_happens.cls ≠ "java/lang/invoke/VarHandle" ∧ (parseMethodDescriptor yX0_happens.desc).map (fun d => d.parameters.length) = some 2 := by decide +kernel
theorem bX0_happens {p : Program} {l : Launch} {e : Env} {s : State} {m : MethodId} {args : Array Value} {below : List Frame} {meth : Method} {c : Code} {D : va_G} {dA : Nat → ClassId} {a : Nat} {k : KP a} {t0 : CS} {t9 : CS} (C : cx p s m args meth c cX0_happens RX0 3 none) : ∀ (t : CS) (x1 : Int32) (x2 : Int32) (H : Heap) (locs : List Loc) (hT : cW D dA a k t H) (hS : cS a s.heap H locs t0.2.2.2 0 t) (hK : kC D dA a k t.2.2.2 s) (ls : Array Slot), C_happens t x1 x2 = some t9 → lv_has ls 3 [(0, .ref a), (1, .int x1), (2, .int x2)] → W p l e rmX0_happens s m args below meth c H locs 0 0 (MQ below (cQ D dA a k 0 t0 t9 none) args s 0 0 (ca a)) (F0 m 0 ls []) := by
  obtain ⟨hx, hb, hr, hml, hown, hts, hlocks⟩ := id C
  intro t x1 x2 H locs hT hS hK ls h hl
  unfold C_happens at h
  refine lv_iload_n hx hb dX0_happens_0 rfl (lv_at hl 2 rfl) ?_
  refine lv_iconst (v := 4) hx hb dX0_happens_1 (by decide) ?_
  refine lv_irem hx hb dX0_happens_2 (by decide) ?_
  refine lv_topi (fun v1 ev1 => ?_)
  replace h := lt1_sub ev1 h
  by_cases c : v1 = (0 : Int32)
  · replace h := if_t c h
    rw [c]
    refine lv_tableIn (off := 25) (tgt := 28) hx hb dX0_happens_3 (by decide) (by decide) rfl (by decide) ?_
    refine lv_aload_n hx hb dX0_happens_28 rfl (lv_at hl 0 rfl) ?_
    refine cg0 C hK hT dX0_happens_29 ?_
    refine c_getSN C hK hT (Or.inl rfl) 1 (by decide) (nf224 hK.2.1) rfl (v := .ref (a + 3)) rfl dX0_happens_32 ?_
    refine lv_bipush (v := 29) hx hb dX0_happens_35 (by decide) ?_
    refine lv_iload_n hx hb dX0_happens_37 rfl (lv_at hl 1 rfl) ?_
    refine lv_iadd hx hb dX0_happens_38 ?_
    refine lv_bipush (v := 99) hx hb dX0_happens_39 (by decide) ?_
    refine lv_aload_n hx hb dX0_happens_41 rfl (lv_at hl 0 rfl) ?_
    refine cg0 C hK hT dX0_happens_42 ?_
    refine c_getSN C hK hT (Or.inl rfl) 1 (by decide) (nf224 hK.2.1) rfl (v := .ref (a + 3)) rfl dX0_happens_45 ?_
    refine lv_bipush (v := 29) hx hb dX0_happens_48 (by decide) ?_
    refine lv_iload_n hx hb dX0_happens_50 rfl (lv_at hl 1 rfl) ?_
    refine lv_iadd hx hb dX0_happens_51 ?_
    obtain ⟨hi2, h⟩ := ck_some h
    refine c_ild C hK hT 3 192 (by decide) (fun _ _ => rfl) hi2 dX0_happens_52 ?_
    refine lv_iconst (v := 1) hx hb dX0_happens_53 (by decide) ?_
    refine lv_iadd hx hb dX0_happens_54 ?_
    refine va_mmin hx hb (hml.trans hl.1.symm) hown (hts _ q1179) (hts _ q669) (hts _ q180) (hts _ q670) (Nat.le_of_ble_eq_true rfl) (Nat.le_of_ble_eq_true rfl) (Nat.zero_le _) (Nat.zero_le _) dX0_happens_55 ?_
    obtain ⟨hi3, h⟩ := ck_some h
    refine c_ist C hK hT hS 3 192 (by decide) (fun _ _ => rfl) hi3 dX0_happens_58 (fun t4 H locs et4 hT hS hK => ?_)
    replace h := lt1_sub et4 h
    refine lv_goto (tgt := 112) hx hb dX0_happens_59 (by decide) ?_
    exact ec_v C hT hS h dX0_happens_112
  replace h := if_f c h
  have g0 := tI_ne (k := 0) (by decide) c
  by_cases c : v1 = (1 : Int32)
  · replace h := if_t c h
    rw [c]
    refine lv_tableIn (off := 59) (tgt := 62) hx hb dX0_happens_3 (by decide) (by decide) rfl (by decide) ?_
    refine lv_aload_n hx hb dX0_happens_62 rfl (lv_at hl 0 rfl) ?_
    refine lv_iconst (v := 1) hx hb dX0_happens_63 (by decide) ?_
    refine lv_iload_n hx hb dX0_happens_64 rfl (lv_at hl 1 rfl) ?_
    refine lv_ishl hx hb dX0_happens_65 ?_
    obtain ⟨t5, ht5, h⟩ := bd1_some h
    refine wc_void hS hK (run_c (As := [.int ((1 : Int32) <<< (x1 &&& (31 : Int32)))]) (rest := []) C hK hT hS.2.1 (rv_X hK hT) (mX0_walks ht5) q1192 q1194 qs35 q158 q1195 ⟨rfl, rfl⟩ hdX0_walks ⟨Nat.le_of_ble_eq_true rfl, Nat.le_of_ble_eq_true rfl⟩ ⟨Nat.zero_le _, Nat.zero_le _⟩ rfl hl.1 rfl (Nat.le_of_ble_eq_true rfl) dX0_happens_66) (fun H locs hT hS hK hNt5 => ?_)
    refine lv_goto (tgt := 112) hx hb dX0_happens_69 (by decide) ?_
    exact ec_v C hT hS h dX0_happens_112
  replace h := if_f c h
  have g1 := tI_ne (k := 1) (by decide) c
  by_cases c : v1 = (2 : Int32)
  · replace h := if_t c h
    rw [c]
    refine lv_tableIn (off := 69) (tgt := 72) hx hb dX0_happens_3 (by decide) (by decide) rfl (by decide) ?_
    refine lv_aload_n hx hb dX0_happens_72 rfl (lv_at hl 0 rfl) ?_
    refine cg0 C hK hT dX0_happens_73 ?_
    refine c_getSN C hK hT (Or.inl rfl) 1 (by decide) (nf224 hK.2.1) rfl (v := .ref (a + 3)) rfl dX0_happens_76 ?_
    refine lv_bipush (v := 55) hx hb dX0_happens_79 (by decide) ?_
    refine lv_iload_n hx hb dX0_happens_81 rfl (lv_at hl 1 rfl) ?_
    refine lv_iadd hx hb dX0_happens_82 ?_
    refine lv_iload_n hx hb dX0_happens_83 rfl (lv_at hl 2 rfl) ?_
    refine lv_bipush (v := 11) hx hb dX0_happens_84 (by decide) ?_
    refine lv_irem hx hb dX0_happens_86 (by decide) ?_
    refine lv_iconst (v := 1) hx hb dX0_happens_87 (by decide) ?_
    refine lv_isub hx hb dX0_happens_88 ?_
    obtain ⟨hi6, h⟩ := ck_some h
    refine c_ist C hK hT hS 3 192 (by decide) (fun _ _ => rfl) hi6 dX0_happens_89 (fun t7 H locs et7 hT hS hK => ?_)
    replace h := lt1_sub et7 h
    refine lv_goto (tgt := 112) hx hb dX0_happens_90 (by decide) ?_
    exact ec_v C hT hS h dX0_happens_112
  replace h := if_f c h
  have g2 := tI_ne (k := 2) (by decide) c
  refine lv_tableOut (tgt := 93) hx hb dX0_happens_3 (by omega) (by decide) ?_
  refine lv_aload_n hx hb dX0_happens_93 rfl (lv_at hl 0 rfl) ?_
  refine cg0 C hK hT dX0_happens_94 ?_
  refine c_getSN C hK hT (Or.inl rfl) 1 (by decide) (nf224 hK.2.1) rfl (v := .ref (a + 3)) rfl dX0_happens_97 ?_
  refine lv_iconst (v := 1) hx hb dX0_happens_100 (by decide) ?_
  obtain ⟨hi8, h⟩ := ck_some h
  refine c_ild C hK hT 3 192 (by decide) (fun _ _ => rfl) hi8 dX0_happens_101 ?_
  refine lv_sipush (v := 999) hx hb dX0_happens_102 (by decide) ?_
  refine lv_icmp_ge (tgt := 112) hx hb dX0_happens_105 (by decide) (fun c => ?_) (fun c => ?_)
  · replace h := if_t c h
    exact ec_v C hT hS h dX0_happens_112
  · replace h := if_f c h
    refine lv_aload_n hx hb dX0_happens_108 rfl (lv_at hl 0 rfl) ?_
    obtain ⟨t9, ht9, h⟩ := bd1_some h
    refine wc_void hS hK (run_c (As := []) (rest := []) C hK hT hS.2.1 (rv_X hK hT) (mX0_mornings ht9) q1056 q1058 qs27 q158 q1059 ⟨rfl, rfl⟩ hdX0_mornings ⟨Nat.le_of_ble_eq_true rfl, Nat.le_of_ble_eq_true rfl⟩ ⟨Nat.zero_le _, Nat.zero_le _⟩ rfl hl.1 rfl (Nat.le_of_ble_eq_true rfl) dX0_happens_109) (fun H locs hT hS hK hNt9 => ?_)
    exact ec_v C hT hS h dX0_happens_112
theorem mX0_happens {l : Launch} {D : va_G} {dA : Nat → ClassId} {a : Nat} {k : KP a} {t : CS} {x1 : Int32} {x2 : Int32} {t9 : CS} (h : C_happens t x1 x2 = some t9) : Met l yX0_happens (ws_ yX0_happens cX0_happens 3 none) rmX0_happens (cPc D dA a k t [.ref a, .int x1, .int x2]) (cQ D dA a k 0 t t9 none) 0 0 (ca a) := en_C (by decide +kernel) rfl (Nat.le_of_ble_eq_true rfl) (fun p e s m below meth c ls C hK hT hl => bX0_happens C t x1 x2 _ [] hT cS.rf hK ls h hl)
set_option maxRecDepth 20000 in
abbrev rmX0_year : Room := { frames := 167, cells := 0, slots := 0, locals := 6029 }
theorem hdX0_year : yX0_year.cls = RX0 ∧ yX0_year.cls ≠ "java/lang/invoke/MethodHandle" ∧ yX0_year.cls ≠ "java/lang/invoke/VarHandle" ∧ (parseMethodDescriptor yX0_year.desc).map (fun d => d.parameters.length) = some 2 := by decide +kernel
theorem bX0_year_p47 {p : Program} {l : Launch} {e : Env} {s : State} {m : MethodId} {args : Array Value} {below : List Frame} {meth : Method} {c : Code} {D : va_G} {dA : Nat → ClassId} {a : Nat} {k : KP a} {t0 : CS} {r : Int32} {t9 : CS} (C : cx p s m args meth c cX0_year RX0 5 (some .int)) : ∀ (n : Nat), ∀ (t : CS) (x2 : Int32) (x3 : Int32) (H : Heap) (locs : List Loc) (hT : cW D dA a k t H) (hS : cS a s.heap H locs t0.2.2.2 0 t) (hK : kC D dA a k t.2.2.2 s) (ls : Array Slot), C_year_p47 n t x2 x3 = some (r, t9) → lv_has ls 5 [(0, .ref a), (2, .int x2), (3, .int x3)] → W p l e rmX0_year s m args below meth c H locs 0 0 (MQ below (cQ D dA a k 0 t0 t9 (some (.int r))) args s 0 0 (ca a)) (F0 m 47 ls []) := by
  obtain ⟨hx, hb, hr, hml, hown, hts, hlocks⟩ := id C
  intro n
  induction n with
  | zero =>
    intro t x2 x3 H locs hT hS hK ls h hl
    have h : none = some _ := h
    cases h
  | succ n ih =>
    intro t x2 x3 H locs hT hS hK ls h hl
    rw [C_year_p47] at h
    refine lv_iload_n hx hb dX0_year_47 rfl (lv_at hl 2 rfl) ?_
    refine lv_iload_n hx hb dX0_year_48 rfl (lv_at hl 1 rfl) ?_
    refine lv_icmp_ge (tgt := 95) hx hb dX0_year_49 (by decide) (fun c => ?_) (fun c => ?_)
    · replace h := if_t c h
      refine lv_aload_n hx hb dX0_year_95 rfl (lv_at hl 0 rfl) ?_
      obtain ⟨v1, hv1, h⟩ := bd1_some h
      refine r_int (run_c (As := []) (rest := []) C hK hT hS.2.1 (rv_X hK hT) (mX0_outs hv1) q1089 q1091 qs32 q158 q1092 ⟨rfl, rfl⟩ hdX0_outs ⟨Nat.le_of_ble_eq_true rfl, Nat.le_of_ble_eq_true rfl⟩ ⟨Nat.zero_le _, Nat.zero_le _⟩ rfl hl.1 rfl (Nat.le_of_ble_eq_true rfl) dX0_year_96) ?_
      exact ec_i C hT hS h dX0_year_99
    · replace h := if_f c h
      refine lv_aload_n hx hb dX0_year_52 rfl (lv_at hl 0 rfl) ?_
      refine cg0 C hK hT dX0_year_53 ?_
      refine c_getSN C hK hT (Or.inl rfl) 1 (by decide) (nf224 hK.2.1) rfl (v := .ref (a + 3)) rfl dX0_year_56 ?_
      refine lv_iconst (v := 2) hx hb dX0_year_59 (by decide) ?_
      obtain ⟨hi2, h⟩ := ck_some h
      refine c_ild C hK hT 3 192 (by decide) (fun _ _ => rfl) hi2 dX0_year_60 ?_
      refine lv_bipush (v := 26) hx hb dX0_year_61 (by decide) ?_
      refine lv_irem hx hb dX0_year_63 (by decide) ?_
      refine lv_topi (fun v3 ev3 => ?_)
      replace h := lt1_sub ev3 h
      refine lv_istore (lv' := [(4, .int v3), (0, .ref a), (2, .int x2), (3, .int x3)]) hx hb dX0_year_64 hl (by decide) rfl (fun ls hl => ?_)
      refine lv_aload_n hx hb dX0_year_66 rfl (lv_at hl 1 rfl) ?_
      obtain ⟨t4, ht4, h⟩ := bd1_some h
      refine wc_void hS hK (run_c (As := []) (rest := []) C hK hT hS.2.1 (rv_X hK hT) (mX0_draws ht4) q1302 q1304 qs44 q158 q1305 ⟨rfl, rfl⟩ hdX0_draws ⟨Nat.le_of_ble_eq_true rfl, Nat.le_of_ble_eq_true rfl⟩ ⟨Nat.zero_le _, Nat.zero_le _⟩ rfl hl.1 rfl (Nat.le_of_ble_eq_true rfl) dX0_year_67) (fun H locs hT hS hK hNt4 => ?_)
      refine lv_aload_n hx hb dX0_year_70 rfl (lv_at hl 1 rfl) ?_
      refine lv_iload hx hb dX0_year_71 (lv_at hl 0 rfl) ?_
      refine lv_aload_n hx hb dX0_year_73 rfl (lv_at hl 1 rfl) ?_
      refine cg0 C hK hT dX0_year_74 ?_
      refine c_getSN C hK hT (Or.inl rfl) 1 (by decide) (nf224 hK.2.1) rfl (v := .ref (a + 3)) rfl dX0_year_77 ?_
      refine lv_iconst (v := 2) hx hb dX0_year_80 (by decide) ?_
      obtain ⟨hi5, h⟩ := ck_some h
      refine c_ild C hK hT 3 192 (by decide) (fun _ _ => rfl) hi5 dX0_year_81 ?_
      obtain ⟨t6, ht6, h⟩ := bd1_some h
      refine wc_void hS hK (run_c (As := [.int v3, .int (t4.1 3 (2 : Int32).toNatClampNeg)]) (rest := []) C hK hT hS.2.1 (rv_X hK hT) (mX0_happens ht6) q1306 q1308 qs45 q158 q1309 ⟨rfl, rfl⟩ hdX0_happens ⟨Nat.le_of_ble_eq_true rfl, Nat.le_of_ble_eq_true rfl⟩ ⟨Nat.zero_le _, Nat.zero_le _⟩ rfl hl.1 rfl (Nat.le_of_ble_eq_true rfl) dX0_year_82) (fun H locs hT hS hK hNt6 => ?_)
      refine lv_aload_n hx hb dX0_year_85 rfl (lv_at hl 1 rfl) ?_
      obtain ⟨t7, ht7, h⟩ := bd1_some h
      refine wc_void hS hK (run_c (As := []) (rest := []) C hK hT hS.2.1 (rv_X hK hT) (mX0_draws ht7) q1302 q1304 qs44 q158 q1305 ⟨rfl, rfl⟩ hdX0_draws ⟨Nat.le_of_ble_eq_true rfl, Nat.le_of_ble_eq_true rfl⟩ ⟨Nat.zero_le _, Nat.zero_le _⟩ rfl hl.1 rfl (Nat.le_of_ble_eq_true rfl) dX0_year_86) (fun H locs hT hS hK hNt7 => ?_)
      obtain ⟨v8, ev8⟩ : ∃ y : Int32, y = x3 + (1 : Int32) := ⟨_, rfl⟩
      replace h := lt1_sub ev8 h
      refine lv_iinc (v := v8) (lv' := [(3, .int v8), (4, .int v3), (0, .ref a), (2, .int x2)]) hx hb dX0_year_89 hl (k := 3) rfl (by rw [ev8]; rfl) (by decide) rfl (fun ls hl => ?_)
      refine lv_goto (tgt := 47) hx hb dX0_year_92 (by decide) ?_
      exact ih t7 x2 v8 H locs hT hS hK ls h (lv_sub hl [2, 3, 0] rfl)
theorem bX0_year {p : Program} {l : Launch} {e : Env} {s : State} {m : MethodId} {args : Array Value} {below : List Frame} {meth : Method} {c : Code} {D : va_G} {dA : Nat → ClassId} {a : Nat} {k : KP a} {t0 : CS} {r : Int32} {t9 : CS} (C : cx p s m args meth c cX0_year RX0 5 (some .int)) : ∀ (t : CS) (x1 : Int32) (x2 : Int32) (H : Heap) (locs : List Loc) (hT : cW D dA a k t H) (hS : cS a s.heap H locs t0.2.2.2 0 t) (hK : kC D dA a k t.2.2.2 s) (ls : Array Slot), C_year t x1 x2 = some (r, t9) → lv_has ls 5 [(0, .ref a), (1, .int x1), (2, .int x2)] → W p l e rmX0_year s m args below meth c H locs 0 0 (MQ below (cQ D dA a k 0 t0 t9 (some (.int r))) args s 0 0 (ca a)) (F0 m 0 ls []) := by
  obtain ⟨hx, hb, hr, hml, hown, hts, hlocks⟩ := id C
  intro t x1 x2 H locs hT hS hK ls h hl
  unfold C_year at h
  refine lv_iload_n hx hb dX0_year_0 rfl (lv_at hl 1 rfl) ?_
  refine lv_iconst (v := 0) hx hb dX0_year_1 (by decide) ?_
  refine lv_sipush (v := 9999) hx hb dX0_year_2 (by decide) ?_
  obtain ⟨v1, hv1, h⟩ := bd1_some h
  refine r_int (run_s (As := [.int x1, .int (0 : Int32), .int (9999 : Int32)]) (rest := []) C (mX0_in hv1) q341 q342 q158 q343 ⟨rfl, rfl⟩ hdX0_in ⟨Nat.le_of_ble_eq_true rfl, Nat.le_of_ble_eq_true rfl⟩ ⟨Nat.zero_le _, Nat.zero_le _⟩ rfl hl.1 rfl (Nat.le_of_ble_eq_true rfl) dX0_year_5) ?_
  refine lv_if_eq (tgt := 21) hx hb dX0_year_8 (by decide) (fun c => ?_) (fun c => ?_)
  · replace h := if_t c h
    refine lv_iconst (v := -1) hx hb dX0_year_21 (by decide) ?_
    exact ec_i C hT hS h dX0_year_22
  · replace h := if_f c h
    refine lv_iload_n hx hb dX0_year_11 rfl (lv_at hl 2 rfl) ?_
    refine lv_iconst (v := 1) hx hb dX0_year_12 (by decide) ?_
    refine lv_bipush (v := 40) hx hb dX0_year_13 (by decide) ?_
    obtain ⟨v2, hv2, h⟩ := bd1_some h
    refine r_int (run_s (As := [.int x2, .int (1 : Int32), .int (40 : Int32)]) (rest := []) C (mX0_in hv2) q341 q342 q158 q343 ⟨rfl, rfl⟩ hdX0_in ⟨Nat.le_of_ble_eq_true rfl, Nat.le_of_ble_eq_true rfl⟩ ⟨Nat.zero_le _, Nat.zero_le _⟩ rfl hl.1 rfl (Nat.le_of_ble_eq_true rfl) dX0_year_15) ?_
    refine lv_if_ne (tgt := 23) hx hb dX0_year_18 (by decide) (fun c => ?_) (fun c => ?_)
    · replace h := if_f c h
      refine lv_aload_n hx hb dX0_year_23 rfl (lv_at hl 0 rfl) ?_
      refine cg0 C hK hT dX0_year_24 ?_
      obtain ⟨t3, ht3, h⟩ := bd1_some h
      refine wc_void hS hK (run_c (As := []) (rest := []) C hK hT hS.2.1 (rv_S hK hT (Or.inl rfl)) (mX1_keeps ht3) q1052 q1053 q1054 q159 q1055 ⟨rfl, rfl⟩ hdX1_keeps ⟨Nat.le_of_ble_eq_true rfl, Nat.le_of_ble_eq_true rfl⟩ ⟨Nat.zero_le _, Nat.zero_le _⟩ rfl hl.1 rfl (Nat.le_of_ble_eq_true rfl) dX0_year_27) (fun H locs hT hS hK hNt3 => ?_)
      refine lv_aload_n hx hb dX0_year_30 rfl (lv_at hl 0 rfl) ?_
      refine cg0 C hK hT dX0_year_31 ?_
      refine c_getSN C hK hT (Or.inl rfl) 1 (by decide) (nf224 hK.2.1) rfl (v := .ref (a + 3)) rfl dX0_year_34 ?_
      refine lv_iconst (v := 2) hx hb dX0_year_37 (by decide) ?_
      refine lv_iload_n hx hb dX0_year_38 rfl (lv_at hl 1 rfl) ?_
      refine lv_iconst (v := 5) hx hb dX0_year_39 (by decide) ?_
      refine lv_imul hx hb dX0_year_40 ?_
      refine lv_bipush (v := 17) hx hb dX0_year_41 (by decide) ?_
      refine lv_iadd hx hb dX0_year_43 ?_
      obtain ⟨hi4, h⟩ := ck_some h
      refine c_ist C hK hT hS 3 192 (by decide) (fun _ _ => rfl) hi4 dX0_year_44 (fun t5 H locs et5 hT hS hK => ?_)
      replace h := lt1_sub et5 h
      refine lv_iconst (v := 0) hx hb dX0_year_45 (by decide) ?_
      refine lv_istore_n (lv' := [(3, .int (0 : Int32)), (0, .ref a), (1, .int x1), (2, .int x2)]) hx hb dX0_year_46 rfl hl (by decide) rfl (fun ls hl => ?_)
      exact bX0_year_p47 C fu t5 x2 (0 : Int32) H locs hT hS hK ls h (lv_sub hl [1, 3, 0] rfl)
    · replace h := if_t c h
      refine lv_iconst (v := -1) hx hb dX0_year_21 (by decide) ?_
      exact ec_i C hT hS h dX0_year_22
theorem mX0_year {l : Launch} {D : va_G} {dA : Nat → ClassId} {a : Nat} {k : KP a} {t : CS} {x1 : Int32} {x2 : Int32} {r : Int32} {t9 : CS} (h : C_year t x1 x2 = some (r, t9)) : Met l yX0_year (ws_ yX0_year cX0_year 5 (some .int)) rmX0_year (cPc D dA a k t [.ref a, .int x1, .int x2]) (cQ D dA a k 0 t t9 (some (.int r))) 0 0 (ca a) := en_C (by decide +kernel) rfl (Nat.le_of_ble_eq_true rfl) (fun p e s m below meth c ls C hK hT hl => bX0_year C t x1 x2 _ [] hT cS.rf hK ls h hl)
set_option maxRecDepth 20000 in
abbrev rmX0_undo : Room := { frames := 2, cells := 0, slots := 0, locals := 60 }
theorem hdX0_undo : yX0_undo.cls = RX0 ∧ yX0_undo.cls ≠ "java/lang/invoke/MethodHandle" ∧ yX0_undo.cls ≠ "java/lang/invoke/VarHandle" ∧ (parseMethodDescriptor yX0_undo.desc).map (fun d => d.parameters.length) = some 0 := by decide +kernel
theorem bX0_undo {p : Program} {l : Launch} {e : Env} {s : State} {m : MethodId} {args : Array Value} {below : List Frame} {meth : Method} {c : Code} {D : va_G} {dA : Nat → ClassId} {a : Nat} {k : KP a} {t0 : CS} {r : Int32} {t9 : CS} (C : cx p s m args meth c cX0_undo RX0 1 (some .int)) : ∀ (t : CS) (H : Heap) (locs : List Loc) (hT : cW D dA a k t H) (hS : cS a s.heap H locs t0.2.2.2 0 t) (hK : kC D dA a k t.2.2.2 s) (ls : Array Slot), C_undo t = some (r, t9) → lv_has ls 1 [(0, .ref a)] → W p l e rmX0_undo s m args below meth c H locs 0 0 (MQ below (cQ D dA a k 0 t0 t9 (some (.int r))) args s 0 0 (ca a)) (F0 m 0 ls []) := by
  obtain ⟨hx, hb, hr, hml, hown, hts, hlocks⟩ := id C
  intro t H locs hT hS hK ls h hl
  unfold C_undo at h
  refine lv_aload_n hx hb dX0_undo_0 rfl (lv_at hl 0 rfl) ?_
  refine cg0 C hK hT dX0_undo_1 ?_
  refine c_getSN C hK hT (Or.inl rfl) 0 (by decide) (nf222 hK.2.1) rfl (v := .ref (a + 2)) rfl dX0_undo_4 ?_
  refine lv_iconst (v := 4) hx hb dX0_undo_7 (by decide) ?_
  obtain ⟨hi1, h⟩ := ck_some h
  refine c_ild C hK hT 2 7 (by decide) (fun _ _ => rfl) hi1 dX0_undo_8 ?_
  refine lv_if_ne (tgt := 14) hx hb dX0_undo_9 (by decide) (fun c => ?_) (fun c => ?_)
  · replace h := if_f c h
    refine lv_aload_n hx hb dX0_undo_14 rfl (lv_at hl 0 rfl) ?_
    refine cg0 C hK hT dX0_undo_15 ?_
    refine c_getSN C hK hT (Or.inl rfl) 0 (by decide) (nf222 hK.2.1) rfl (v := .ref (a + 2)) rfl dX0_undo_18 ?_
    refine lv_iconst (v := 4) hx hb dX0_undo_21 (by decide) ?_
    refine lv_dup2_11 hx hb dX0_undo_22 rfl rfl ?_
    obtain ⟨hi2, h⟩ := ck_some h
    refine c_ild C hK hT 2 7 (by decide) (fun _ _ => rfl) hi2 dX0_undo_23 ?_
    refine lv_iconst (v := 1) hx hb dX0_undo_24 (by decide) ?_
    refine lv_isub hx hb dX0_undo_25 ?_
    obtain ⟨hi3, h⟩ := ck_some h
    refine c_ist C hK hT hS 2 7 (by decide) (fun _ _ => rfl) hi3 dX0_undo_26 (fun t4 H locs et4 hT hS hK => ?_)
    replace h := lt1_sub et4 h
    refine lv_aload_n hx hb dX0_undo_27 rfl (lv_at hl 0 rfl) ?_
    refine cg0 C hK hT dX0_undo_28 ?_
    refine c_getSN C hK hT (Or.inl rfl) 7 (by decide) (nf236 hK.2.1) rfl (v := .ref (a + 21)) rfl dX0_undo_31 ?_
    refine lv_aload_n hx hb dX0_undo_34 rfl (lv_at hl 0 rfl) ?_
    refine cg0 C hK hT dX0_undo_35 ?_
    refine c_getSN C hK hT (Or.inl rfl) 0 (by decide) (nf222 hK.2.1) rfl (v := .ref (a + 2)) rfl dX0_undo_38 ?_
    refine lv_iconst (v := 4) hx hb dX0_undo_41 (by decide) ?_
    obtain ⟨hi5, h⟩ := ck_some h
    refine c_ild C hK hT 2 7 (by decide) (fun _ _ => rfl) hi5 dX0_undo_42 ?_
    obtain ⟨hi6, h⟩ := ck_some h
    refine c_ald C hK hT 21 30 6 (by decide) rfl (g := fun j => some (a + (22 + j))) (by rfl) (by rfl) hi6 rfl dX0_undo_43 ?_
    refine lv_aload_n hx hb dX0_undo_44 rfl (lv_at hl 0 rfl) ?_
    refine cg0 C hK hT dX0_undo_45 ?_
    refine c_getSN C hK hT (Or.inl rfl) 1 (by decide) (nf224 hK.2.1) rfl (v := .ref (a + 3)) rfl dX0_undo_48 ?_
    refine x_copyN C hK hT hS (22 + (t4.1 2 (4 : Int32).toNatClampNeg).toNatClampNeg) 3 192 (fam_k22 hi6) (by decide) (fam_a22 hi6) (fun _ _ => rfl) (by decide) hl.1 (Nat.le_of_ble_eq_true rfl) ⟨Nat.le_of_ble_eq_true rfl, Nat.le_of_ble_eq_true rfl⟩ ⟨Nat.zero_le _, Nat.zero_le _⟩ (nm1314 hK.2.1) dX0_undo_51 (fun t7 H locs et7 hT hS hK => ?_)
    replace h := lt1_sub et7 h
    refine lv_aload_n hx hb dX0_undo_54 rfl (lv_at hl 0 rfl) ?_
    refine cg0 C hK hT dX0_undo_55 ?_
    refine c_getSN C hK hT (Or.inl rfl) 0 (by decide) (nf222 hK.2.1) rfl (v := .ref (a + 2)) rfl dX0_undo_58 ?_
    refine lv_iconst (v := 4) hx hb dX0_undo_61 (by decide) ?_
    obtain ⟨hi8, h⟩ := ck_some h
    refine c_ild C hK hT 2 7 (by decide) (fun _ _ => rfl) hi8 dX0_undo_62 ?_
    exact ec_i C hT hS h dX0_undo_63
  · replace h := if_t c h
    refine lv_iconst (v := -1) hx hb dX0_undo_12 (by decide) ?_
    exact ec_i C hT hS h dX0_undo_13
theorem mX0_undo {l : Launch} {D : va_G} {dA : Nat → ClassId} {a : Nat} {k : KP a} {t : CS} {r : Int32} {t9 : CS} (h : C_undo t = some (r, t9)) : Met l yX0_undo (ws_ yX0_undo cX0_undo 1 (some .int)) rmX0_undo (cPc D dA a k t [.ref a]) (cQ D dA a k 0 t t9 (some (.int r))) 0 0 (ca a) := en_C (by decide +kernel) rfl (Nat.le_of_ble_eq_true rfl) (fun p e s m below meth c ls C hK hT hl => bX0_undo C t _ [] hT cS.rf hK ls h hl)
set_option maxRecDepth 20000 in
abbrev rmX0_of : Room := { frames := 165, cells := 0, slots := 0, locals := 5985 }
theorem hdX0_of : yX0_of.cls = RX0 ∧ yX0_of.cls ≠ "java/lang/invoke/MethodHandle" ∧ yX0_of.cls ≠ "java/lang/invoke/VarHandle" ∧ (parseMethodDescriptor yX0_of.desc).map (fun d => d.parameters.length) = some 2 := by decide +kernel
theorem bX0_of {p : Program} {l : Launch} {e : Env} {s : State} {m : MethodId} {args : Array Value} {below : List Frame} {meth : Method} {c : Code} {D : va_G} {dA : Nat → ClassId} {a : Nat} {k : KP a} {t0 : CS} {r : Int32} {t9 : CS} (C : cx p s m args meth c cX0_of RX0 3 (some .int)) : ∀ (t : CS) (x1 : Int32) (x2 : Int32) (H : Heap) (locs : List Loc) (hT : cW D dA a k t H) (hS : cS a s.heap H locs t0.2.2.2 0 t) (hK : kC D dA a k t.2.2.2 s) (ls : Array Slot), C_of t x1 x2 = some (r, t9) → lv_has ls 3 [(0, .ref a), (1, .int x1), (2, .int x2)] → W p l e rmX0_of s m args below meth c H locs 0 0 (MQ below (cQ D dA a k 0 t0 t9 (some (.int r))) args s 0 0 (ca a)) (F0 m 0 ls []) := by
  obtain ⟨hx, hb, hr, hml, hown, hts, hlocks⟩ := id C
  intro t x1 x2 H locs hT hS hK ls h hl
  unfold C_of at h
  refine lv_iload_n hx hb dX0_of_0 rfl (lv_at hl 1 rfl) ?_
  obtain ⟨v1, hv1, h⟩ := bd1_some h
  refine r_int (run_s (As := [.int x1]) (rest := []) C (mX0_isLetter hv1) q338 q339 q158 q340 ⟨rfl, rfl⟩ hdX0_isLetter ⟨Nat.le_of_ble_eq_true rfl, Nat.le_of_ble_eq_true rfl⟩ ⟨Nat.zero_le _, Nat.zero_le _⟩ rfl hl.1 rfl (Nat.le_of_ble_eq_true rfl) dX0_of_1) ?_
  refine lv_if_ne (tgt := 10) hx hb dX0_of_4 (by decide) (fun c => ?_) (fun c => ?_)
  · replace h := if_f c h
    refine lv_iload_n hx hb dX0_of_10 rfl (lv_at hl 2 rfl) ?_
    by_cases c : x2 = (0 : Int32)
    · replace h := if_t c h
      rw [c]
      refine lv_tableIn (off := 41) (tgt := 52) hx hb dX0_of_11 (by decide) (by decide) rfl (by decide) ?_
      refine lv_aload_n hx hb dX0_of_52 rfl (lv_at hl 0 rfl) ?_
      refine cg0 C hK hT dX0_of_53 ?_
      refine c_getSN C hK hT (Or.inl rfl) 1 (by decide) (nf224 hK.2.1) rfl (v := .ref (a + 3)) rfl dX0_of_56 ?_
      refine lv_bipush (v := 29) hx hb dX0_of_59 (by decide) ?_
      refine lv_iload_n hx hb dX0_of_61 rfl (lv_at hl 1 rfl) ?_
      refine lv_iadd hx hb dX0_of_62 ?_
      obtain ⟨hi2, h⟩ := ck_some h
      refine c_ild C hK hT 3 192 (by decide) (fun _ _ => rfl) hi2 dX0_of_63 ?_
      exact ec_i C hT hS h dX0_of_64
    replace h := if_f c h
    have g0 := tI_ne (k := 0) (by decide) c
    by_cases c : x2 = (1 : Int32)
    · replace h := if_t c h
      rw [c]
      refine lv_tableIn (off := 54) (tgt := 65) hx hb dX0_of_11 (by decide) (by decide) rfl (by decide) ?_
      refine lv_aload_n hx hb dX0_of_65 rfl (lv_at hl 0 rfl) ?_
      refine cg0 C hK hT dX0_of_66 ?_
      refine c_getSN C hK hT (Or.inl rfl) 1 (by decide) (nf224 hK.2.1) rfl (v := .ref (a + 3)) rfl dX0_of_69 ?_
      refine lv_iconst (v := 3) hx hb dX0_of_72 (by decide) ?_
      refine lv_iload_n hx hb dX0_of_73 rfl (lv_at hl 1 rfl) ?_
      refine lv_iadd hx hb dX0_of_74 ?_
      obtain ⟨hi3, h⟩ := ck_some h
      refine c_ild C hK hT 3 192 (by decide) (fun _ _ => rfl) hi3 dX0_of_75 ?_
      exact ec_i C hT hS h dX0_of_76
    replace h := if_f c h
    have g1 := tI_ne (k := 1) (by decide) c
    by_cases c : x2 = (2 : Int32)
    · replace h := if_t c h
      rw [c]
      refine lv_tableIn (off := 66) (tgt := 77) hx hb dX0_of_11 (by decide) (by decide) rfl (by decide) ?_
      refine lv_aload_n hx hb dX0_of_77 rfl (lv_at hl 0 rfl) ?_
      refine cg0 C hK hT dX0_of_78 ?_
      refine lv_iload_n hx hb dX0_of_81 rfl (lv_at hl 1 rfl) ?_
      obtain ⟨v4, hv4, h⟩ := bd1_some h
      refine r_int (run_c (As := [.int x1]) (rest := []) C hK hT hS.2.1 (rv_S hK hT (Or.inl rfl)) (mX1_isOut hv4) q1064 q1065 q1066 q159 q1067 ⟨rfl, rfl⟩ hdX1_isOut ⟨Nat.le_of_ble_eq_true rfl, Nat.le_of_ble_eq_true rfl⟩ ⟨Nat.zero_le _, Nat.zero_le _⟩ rfl hl.1 rfl (Nat.le_of_ble_eq_true rfl) dX0_of_82) ?_
      refine lv_if_eq (tgt := 92) hx hb dX0_of_85 (by decide) (fun c => ?_) (fun c => ?_)
      · replace h := if_t c h
        refine lv_iconst (v := 0) hx hb dX0_of_92 (by decide) ?_
        exact ec_i C hT hS h dX0_of_93
      · replace h := if_f c h
        refine lv_iconst (v := 1) hx hb dX0_of_88 (by decide) ?_
        refine lv_goto (tgt := 93) hx hb dX0_of_89 (by decide) ?_
        exact ec_i C hT hS h dX0_of_93
    replace h := if_f c h
    have g2 := tI_ne (k := 2) (by decide) c
    by_cases c : x2 = (3 : Int32)
    · replace h := if_t c h
      rw [c]
      refine lv_tableIn (off := 83) (tgt := 94) hx hb dX0_of_11 (by decide) (by decide) rfl (by decide) ?_
      refine lv_aload_n hx hb dX0_of_94 rfl (lv_at hl 0 rfl) ?_
      refine cg0 C hK hT dX0_of_95 ?_
      refine c_getSN C hK hT (Or.inl rfl) 1 (by decide) (nf224 hK.2.1) rfl (v := .ref (a + 3)) rfl dX0_of_98 ?_
      refine lv_bipush (v := 55) hx hb dX0_of_101 (by decide) ?_
      refine lv_iload_n hx hb dX0_of_103 rfl (lv_at hl 1 rfl) ?_
      refine lv_iadd hx hb dX0_of_104 ?_
      obtain ⟨hi5, h⟩ := ck_some h
      refine c_ild C hK hT 3 192 (by decide) (fun _ _ => rfl) hi5 dX0_of_105 ?_
      exact ec_i C hT hS h dX0_of_106
    replace h := if_f c h
    have g3 := tI_ne (k := 3) (by decide) c
    by_cases c : x2 = (4 : Int32)
    · replace h := if_t c h
      rw [c]
      refine lv_tableIn (off := 96) (tgt := 107) hx hb dX0_of_11 (by decide) (by decide) rfl (by decide) ?_
      refine lv_aload_n hx hb dX0_of_107 rfl (lv_at hl 0 rfl) ?_
      refine cg0 C hK hT dX0_of_108 ?_
      refine c_getSN C hK hT (Or.inl rfl) 2 (by decide) (nf226 hK.2.1) rfl (v := .ref (a + 4)) rfl dX0_of_111 ?_
      refine lv_iload_n hx hb dX0_of_114 rfl (lv_at hl 1 rfl) ?_
      obtain ⟨hi6, h⟩ := ck_some h
      refine c_ild C hK hT 4 26 (by decide) (fun _ _ => rfl) hi6 dX0_of_115 ?_
      exact ec_i C hT hS h dX0_of_116
    replace h := if_f c h
    have g4 := tI_ne (k := 4) (by decide) c
    by_cases c : x2 = (5 : Int32)
    · replace h := if_t c h
      rw [c]
      refine lv_tableIn (off := 106) (tgt := 117) hx hb dX0_of_11 (by decide) (by decide) rfl (by decide) ?_
      refine lv_aload_n hx hb dX0_of_117 rfl (lv_at hl 0 rfl) ?_
      refine lv_iload_n hx hb dX0_of_118 rfl (lv_at hl 1 rfl) ?_
      obtain ⟨v7, hv7, h⟩ := bd1_some h
      refine r_int (run_c (As := [.int x1]) (rest := []) C hK hT hS.2.1 (rv_X hK hT) (mX0_usesOf hv7) q1094 q1096 qs33 q158 q1097 ⟨rfl, rfl⟩ hdX0_usesOf ⟨Nat.le_of_ble_eq_true rfl, Nat.le_of_ble_eq_true rfl⟩ ⟨Nat.zero_le _, Nat.zero_le _⟩ rfl hl.1 rfl (Nat.le_of_ble_eq_true rfl) dX0_of_119) ?_
      exact ec_i C hT hS h dX0_of_122
    replace h := if_f c h
    have g5 := tI_ne (k := 5) (by decide) c
    by_cases c : x2 = (6 : Int32)
    · replace h := if_t c h
      rw [c]
      refine lv_tableIn (off := 112) (tgt := 123) hx hb dX0_of_11 (by decide) (by decide) rfl (by decide) ?_
      refine lv_aload_n hx hb dX0_of_123 rfl (lv_at hl 0 rfl) ?_
      refine lv_iload_n hx hb dX0_of_124 rfl (lv_at hl 1 rfl) ?_
      obtain ⟨v8, t9, ht9, h⟩ := bd2_some h
      refine wc_int hS hK (run_c (As := [.int x1]) (rest := []) C hK hT hS.2.1 (rv_X hK hT) (mX0_changes ht9) q1060 q1062 qs28 q158 q1063 ⟨rfl, rfl⟩ hdX0_changes ⟨Nat.le_of_ble_eq_true rfl, Nat.le_of_ble_eq_true rfl⟩ ⟨Nat.zero_le _, Nat.zero_le _⟩ rfl hl.1 rfl (Nat.le_of_ble_eq_true rfl) dX0_of_125) (fun H locs hT hS hK hNt9 => ?_)
      refine lv_if_eq (tgt := 135) hx hb dX0_of_128 (by decide) (fun c => ?_) (fun c => ?_)
      · replace h := if_t c h
        refine lv_iconst (v := 0) hx hb dX0_of_135 (by decide) ?_
        exact ec_i C hT hS h dX0_of_136
      · replace h := if_f c h
        refine lv_iconst (v := 1) hx hb dX0_of_131 (by decide) ?_
        refine lv_goto (tgt := 136) hx hb dX0_of_132 (by decide) ?_
        exact ec_i C hT hS h dX0_of_136
    replace h := if_f c h
    have g6 := tI_ne (k := 6) (by decide) c
    refine lv_tableOut (tgt := 137) hx hb dX0_of_11 (by omega) (by decide) ?_
    refine lv_bipush (v := -2) hx hb dX0_of_137 (by decide) ?_
    exact ec_i C hT hS h dX0_of_139
  · replace h := if_t c h
    refine lv_bipush (v := -2) hx hb dX0_of_7 (by decide) ?_
    exact ec_i C hT hS h dX0_of_9
theorem mX0_of {l : Launch} {D : va_G} {dA : Nat → ClassId} {a : Nat} {k : KP a} {t : CS} {x1 : Int32} {x2 : Int32} {r : Int32} {t9 : CS} (h : C_of t x1 x2 = some (r, t9)) : Met l yX0_of (ws_ yX0_of cX0_of 3 (some .int)) rmX0_of (cPc D dA a k t [.ref a, .int x1, .int x2]) (cQ D dA a k 0 t t9 (some (.int r))) 0 0 (ca a) := en_C (by decide +kernel) rfl (Nat.le_of_ble_eq_true rfl) (fun p e s m below meth c ls C hK hT hl => bX0_of C t x1 x2 _ [] hT cS.rf hK ls h hl)
set_option maxRecDepth 20000 in
abbrev rmX0_isWord : Room := { frames := 1, cells := 0, slots := 0, locals := 22 }
theorem hdX0_isWord : yX0_isWord.cls = RX0 ∧ yX0_isWord.cls ≠ "java/lang/invoke/MethodHandle" ∧ yX0_isWord.cls ≠ "java/lang/invoke/VarHandle" ∧ (parseMethodDescriptor yX0_isWord.desc).map (fun d => d.parameters.length) = some 1 := by decide +kernel
theorem bX0_isWord {p : Program} {l : Launch} {e : Env} {s : State} {m : MethodId} {args : Array Value} {below : List Frame} {meth : Method} {c : Code} {D : va_G} {dA : Nat → ClassId} {a : Nat} {k : KP a} {t : CS} {r : Int32} (C : cx p s m args meth c cX0_isWord RX0 2 (some .boolean)) (hK : kC D dA a k t.2.2.2 s) (hT : cW D dA a k t s.heap) : ∀ (x1 : Int32) (ls : Array Slot), C_isWord t x1 = some r → lv_has ls 2 [(0, .ref a), (1, .int x1)] → W p l e rmX0_isWord s m args below meth c s.heap [] 0 0 (MQ below (rQi r) args s 0 0 nof) (F0 m 0 ls []) := by
  obtain ⟨hx, hb, hr, hml, hown, hts, hlocks⟩ := id C
  intro x1 ls h hl
  unfold C_isWord at h
  refine lv_iload_n hx hb dX0_isWord_0 rfl (lv_at hl 1 rfl) ?_
  refine lv_iconst (v := 0) hx hb dX0_isWord_1 (by decide) ?_
  refine lv_aload_n hx hb dX0_isWord_2 rfl (lv_at hl 0 rfl) ?_
  refine cg0 C hK hT dX0_isWord_3 ?_
  refine c_getSN C hK hT (Or.inl rfl) 0 (by decide) (nf222 hK.2.1) rfl (v := .ref (a + 2)) rfl dX0_isWord_6 ?_
  refine lv_iconst (v := 0) hx hb dX0_isWord_9 (by decide) ?_
  obtain ⟨hi1, h⟩ := ck_some h
  refine c_ild C hK hT 2 7 (by decide) (fun _ _ => rfl) hi1 dX0_isWord_10 ?_
  refine lv_iconst (v := 1) hx hb dX0_isWord_11 (by decide) ?_
  refine lv_isub hx hb dX0_isWord_12 ?_
  obtain ⟨v2, hv2, h⟩ := bd1_some h
  refine r_int (run_s (As := [.int x1, .int (0 : Int32), .int ((t.1 2 (0 : Int32).toNatClampNeg) - (1 : Int32))]) (rest := []) C (mX0_in hv2) q341 q342 q158 q343 ⟨rfl, rfl⟩ hdX0_in ⟨Nat.le_of_ble_eq_true rfl, Nat.le_of_ble_eq_true rfl⟩ ⟨Nat.zero_le _, Nat.zero_le _⟩ rfl hl.1 rfl (Nat.le_of_ble_eq_true rfl) dX0_isWord_13) ?_
  obtain ⟨hz, h⟩ := zr_some h
  exact e_rz C hz h dX0_isWord_16
theorem mX0_isWord {l : Launch} {D : va_G} {dA : Nat → ClassId} {a : Nat} {k : KP a} {t : CS} {x1 : Int32} {r : Int32} (h : C_isWord t x1 = some r) : Met l yX0_isWord (ws_ yX0_isWord cX0_isWord 2 (some .boolean)) rmX0_isWord (cPc D dA a k t [.ref a, .int x1]) (rQi r) 0 0 nof := en_C (by decide +kernel) rfl (Nat.le_of_ble_eq_true rfl) (fun p e s m below meth c ls C hK hT hl => bX0_isWord C hK hT x1 ls h hl)
set_option maxRecDepth 20000 in
abbrev rmX0_ofWord : Room := { frames := 3, cells := 0, slots := 0, locals := 64 }
theorem hdX0_ofWord : yX0_ofWord.cls = RX0 ∧ yX0_ofWord.cls ≠ "java/lang/invoke/MethodHandle" ∧ yX0_ofWord.cls ≠ "java/lang/invoke/VarHandle" ∧ (parseMethodDescriptor yX0_ofWord.desc).map (fun d => d.parameters.length) = some 2 := by decide +kernel
theorem bX0_ofWord {p : Program} {l : Launch} {e : Env} {s : State} {m : MethodId} {args : Array Value} {below : List Frame} {meth : Method} {c : Code} {D : va_G} {dA : Nat → ClassId} {a : Nat} {k : KP a} {t : CS} {r : Int32} (C : cx p s m args meth c cX0_ofWord RX0 4 (some .int)) (hK : kC D dA a k t.2.2.2 s) (hT : cW D dA a k t s.heap) : ∀ (x1 : Int32) (x2 : Int32) (ls : Array Slot), C_ofWord t x1 x2 = some r → lv_has ls 4 [(0, .ref a), (1, .int x1), (2, .int x2)] → W p l e rmX0_ofWord s m args below meth c s.heap [] 0 0 (MQ below (rQi r) args s 0 0 nof) (F0 m 0 ls []) := by
  obtain ⟨hx, hb, hr, hml, hown, hts, hlocks⟩ := id C
  intro x1 x2 ls h hl
  unfold C_ofWord at h
  refine lv_aload_n hx hb dX0_ofWord_0 rfl (lv_at hl 0 rfl) ?_
  refine lv_iload_n hx hb dX0_ofWord_1 rfl (lv_at hl 1 rfl) ?_
  obtain ⟨v1, hv1, h⟩ := bd1_some h
  refine r_int (run_c (As := [.int x1]) (rest := []) C hK hT (fun _ _ => rfl) (rv_X hK hT) (mX0_isWord hv1) q1323 q1325 qs46 q158 q1326 ⟨rfl, rfl⟩ hdX0_isWord ⟨Nat.le_of_ble_eq_true rfl, Nat.le_of_ble_eq_true rfl⟩ ⟨Nat.zero_le _, Nat.zero_le _⟩ rfl hl.1 rfl (Nat.le_of_ble_eq_true rfl) dX0_ofWord_2) ?_
  refine lv_if_ne (tgt := 10) hx hb dX0_ofWord_5 (by decide) (fun c => ?_) (fun c => ?_)
  · replace h := if_f c h
    refine lv_aload_n hx hb dX0_ofWord_10 rfl (lv_at hl 0 rfl) ?_
    refine cg0 C hK hT dX0_ofWord_11 ?_
    refine c_getSN C hK hT (Or.inl rfl) 4 (by decide) (nf230 hK.2.1) rfl (v := .ref (a + 6)) rfl dX0_ofWord_14 ?_
    refine lv_iload_n hx hb dX0_ofWord_17 rfl (lv_at hl 1 rfl) ?_
    obtain ⟨hi2, h⟩ := ck_some h
    obtain ⟨r3, hr3, h⟩ := bd1_some h
    refine c_ald C hK hT 6 24 4 (by decide) rfl (g := t.2.1 6) (by rfl) (by rfl) hi2 hr3 dX0_ofWord_18 ?_
    refine lv_astore_n (lv' := [(3, .ref r3), (0, .ref a), (1, .int x1), (2, .int x2)]) hx hb dX0_ofWord_19 rfl hl (by decide) rfl (fun ls hl => ?_)
    refine lv_iload_n hx hb dX0_ofWord_20 rfl (lv_at hl 3 rfl) ?_
    by_cases c : x2 = (0 : Int32)
    · replace h := if_t c h
      rw [c]
      refine lv_tableIn (off := 31) (tgt := 52) hx hb dX0_ofWord_21 (by decide) (by decide) rfl (by decide) ?_
      refine lv_aload_n hx hb dX0_ofWord_52 rfl (lv_at hl 0 rfl) ?_
      obtain ⟨hc4, h⟩ := ckC_some h
      obtain ⟨v5, hv5, h⟩ := bd1_some h
      refine r_int (run_c (As := []) (rest := []) C hK hT (fun _ _ => rfl) (rv_D (ci := 3) rfl hK hT hc4) (mX3_length hv5) q1237 q1238 q1239 q170 q1240 ⟨rfl, rfl⟩ hdX3_length ⟨Nat.le_of_ble_eq_true rfl, Nat.le_of_ble_eq_true rfl⟩ ⟨Nat.zero_le _, Nat.zero_le _⟩ rfl hl.1 rfl (Nat.le_of_ble_eq_true rfl) dX0_ofWord_53) ?_
      exact e_ri C h dX0_ofWord_56
    replace h := if_f c h
    have g0 := tI_ne (k := 0) (by decide) c
    by_cases c : x2 = (1 : Int32)
    · replace h := if_t c h
      rw [c]
      refine lv_tableIn (off := 36) (tgt := 57) hx hb dX0_ofWord_21 (by decide) (by decide) rfl (by decide) ?_
      refine lv_aload_n hx hb dX0_ofWord_57 rfl (lv_at hl 0 rfl) ?_
      obtain ⟨hc6, h⟩ := ckC_some h
      obtain ⟨v7, hv7, h⟩ := bd1_some h
      refine r_int (run_c (As := []) (rest := []) C hK hT (fun _ _ => rfl) (rv_D (ci := 3) rfl hK hT hc6) (mX3_sense hv7) q1229 q1230 q1231 q170 q1232 ⟨rfl, rfl⟩ hdX3_sense ⟨Nat.le_of_ble_eq_true rfl, Nat.le_of_ble_eq_true rfl⟩ ⟨Nat.zero_le _, Nat.zero_le _⟩ rfl hl.1 rfl (Nat.le_of_ble_eq_true rfl) dX0_ofWord_58) ?_
      exact e_ri C h dX0_ofWord_61
    replace h := if_f c h
    have g1 := tI_ne (k := 1) (by decide) c
    by_cases c : x2 = (2 : Int32)
    · replace h := if_t c h
      rw [c]
      refine lv_tableIn (off := 41) (tgt := 62) hx hb dX0_ofWord_21 (by decide) (by decide) rfl (by decide) ?_
      refine lv_aload_n hx hb dX0_ofWord_62 rfl (lv_at hl 0 rfl) ?_
      obtain ⟨hc8, h⟩ := ckC_some h
      obtain ⟨v9, hv9, h⟩ := bd1_some h
      refine r_int (run_c (As := []) (rest := []) C hK hT (fun _ _ => rfl) (rv_D (ci := 3) rfl hK hT hc8) (mX3_bits hv9) q1098 q1099 q1100 q170 q1101 ⟨rfl, rfl⟩ hdX3_bits ⟨Nat.le_of_ble_eq_true rfl, Nat.le_of_ble_eq_true rfl⟩ ⟨Nat.zero_le _, Nat.zero_le _⟩ rfl hl.1 rfl (Nat.le_of_ble_eq_true rfl) dX0_ofWord_63) ?_
      exact e_ri C h dX0_ofWord_66
    replace h := if_f c h
    have g2 := tI_ne (k := 2) (by decide) c
    by_cases c : x2 = (3 : Int32)
    · replace h := if_t c h
      rw [c]
      refine lv_tableIn (off := 46) (tgt := 67) hx hb dX0_ofWord_21 (by decide) (by decide) rfl (by decide) ?_
      refine lv_aload_n hx hb dX0_ofWord_67 rfl (lv_at hl 1 rfl) ?_
      refine lv_iload_n hx hb dX0_ofWord_68 rfl (lv_at hl 2 rfl) ?_
      refine lv_aload_n hx hb dX0_ofWord_69 rfl (lv_at hl 1 rfl) ?_
      refine cg0 C hK hT dX0_ofWord_70 ?_
      obtain ⟨v10, hv10, h⟩ := bd1_some h
      refine r_int (run_c (As := []) (rest := [.int x1, .ref a]) C hK hT (fun _ _ => rfl) (rv_S hK hT (Or.inl rfl)) (mX1_silent hv10) q1216 q1217 q1218 q159 q1219 ⟨rfl, rfl⟩ hdX1_silent ⟨Nat.le_of_ble_eq_true rfl, Nat.le_of_ble_eq_true rfl⟩ ⟨Nat.zero_le _, Nat.zero_le _⟩ rfl hl.1 rfl (Nat.le_of_ble_eq_true rfl) dX0_ofWord_73) ?_
      obtain ⟨v11, hv11, h⟩ := bd1_some h
      refine r_int (run_c (As := [.int x1, .int v10]) (rest := []) C hK hT (fun _ _ => rfl) (rv_X hK hT) (mX0_can hv11) q1233 q1235 qs39 q158 q1236 ⟨rfl, rfl⟩ hdX0_can ⟨Nat.le_of_ble_eq_true rfl, Nat.le_of_ble_eq_true rfl⟩ ⟨Nat.zero_le _, Nat.zero_le _⟩ rfl hl.1 rfl (Nat.le_of_ble_eq_true rfl) dX0_ofWord_76) ?_
      refine lv_if_eq (tgt := 86) hx hb dX0_ofWord_79 (by decide) (fun c => ?_) (fun c => ?_)
      · replace h := if_t c h
        refine lv_iconst (v := 0) hx hb dX0_ofWord_86 (by decide) ?_
        exact e_ri C h dX0_ofWord_87
      · replace h := if_f c h
        refine lv_iconst (v := 1) hx hb dX0_ofWord_82 (by decide) ?_
        refine lv_goto (tgt := 87) hx hb dX0_ofWord_83 (by decide) ?_
        exact e_ri C h dX0_ofWord_87
    replace h := if_f c h
    have g3 := tI_ne (k := 3) (by decide) c
    refine lv_tableOut (tgt := 88) hx hb dX0_ofWord_21 (by omega) (by decide) ?_
    refine lv_iload_n hx hb dX0_ofWord_88 rfl (lv_at hl 3 rfl) ?_
    refine lv_bipush (v := 10) hx hb dX0_ofWord_89 (by decide) ?_
    refine lv_bipush (v := 9) hx hb dX0_ofWord_91 (by decide) ?_
    refine lv_aload_n hx hb dX0_ofWord_93 rfl (lv_at hl 0 rfl) ?_
    obtain ⟨hc12, h⟩ := ckC_some h
    obtain ⟨v13, hv13, h⟩ := bd1_some h
    refine r_int (run_c (As := []) (rest := [.int (9 : Int32), .int (10 : Int32), .int x2]) C hK hT (fun _ _ => rfl) (rv_D (ci := 3) rfl hK hT hc12) (mX3_length hv13) q1237 q1238 q1239 q170 q1240 ⟨rfl, rfl⟩ hdX3_length ⟨Nat.le_of_ble_eq_true rfl, Nat.le_of_ble_eq_true rfl⟩ ⟨Nat.zero_le _, Nat.zero_le _⟩ rfl hl.1 rfl (Nat.le_of_ble_eq_true rfl) dX0_ofWord_94) ?_
    refine lv_iadd hx hb dX0_ofWord_97 ?_
    obtain ⟨v14, hv14, h⟩ := bd1_some h
    refine r_int (run_s (As := [.int x2, .int (10 : Int32), .int ((9 : Int32) + v13)]) (rest := []) C (mX0_in hv14) q341 q342 q158 q343 ⟨rfl, rfl⟩ hdX0_in ⟨Nat.le_of_ble_eq_true rfl, Nat.le_of_ble_eq_true rfl⟩ ⟨Nat.zero_le _, Nat.zero_le _⟩ rfl hl.1 rfl (Nat.le_of_ble_eq_true rfl) dX0_ofWord_98) ?_
    refine lv_if_eq (tgt := 116) hx hb dX0_ofWord_101 (by decide) (fun c => ?_) (fun c => ?_)
    · replace h := if_t c h
      refine lv_iconst (v := -1) hx hb dX0_ofWord_116 (by decide) ?_
      exact e_ri C h dX0_ofWord_117
    · replace h := if_f c h
      refine lv_aload_n hx hb dX0_ofWord_104 rfl (lv_at hl 0 rfl) ?_
      obtain ⟨hc15, h⟩ := ckC_some h
      obtain ⟨v16, hv16, h⟩ := bd1_some h
      refine r_ref1 (run_c (As := []) (rest := []) C hK hT (fun _ _ => rfl) (rv_D (ci := 3) rfl hK hT hc15) (mX3_letter hv16) q358 q359 q360 q170 q361 ⟨rfl, rfl⟩ hdX3_letter ⟨Nat.le_of_ble_eq_true rfl, Nat.le_of_ble_eq_true rfl⟩ ⟨Nat.zero_le _, Nat.zero_le _⟩ rfl hl.1 rfl (Nat.le_of_ble_eq_true rfl) dX0_ofWord_105) ?_
      refine lv_iload_n hx hb dX0_ofWord_108 rfl (lv_at hl 3 rfl) ?_
      refine lv_bipush (v := 10) hx hb dX0_ofWord_109 (by decide) ?_
      refine lv_isub hx hb dX0_ofWord_111 ?_
      obtain ⟨v17, hv17, h⟩ := bd1_some h
      refine d_ild C hK hT hv17 dX0_ofWord_112 ?_
      refine lv_goto (tgt := 117) hx hb dX0_ofWord_113 (by decide) ?_
      exact e_ri C h dX0_ofWord_117
  · replace h := if_t c h
    refine lv_iconst (v := -1) hx hb dX0_ofWord_8 (by decide) ?_
    exact e_ri C h dX0_ofWord_9
theorem mX0_ofWord {l : Launch} {D : va_G} {dA : Nat → ClassId} {a : Nat} {k : KP a} {t : CS} {x1 : Int32} {x2 : Int32} {r : Int32} (h : C_ofWord t x1 x2 = some r) : Met l yX0_ofWord (ws_ yX0_ofWord cX0_ofWord 4 (some .int)) rmX0_ofWord (cPc D dA a k t [.ref a, .int x1, .int x2]) (rQi r) 0 0 nof := en_C (by decide +kernel) rfl (Nat.le_of_ble_eq_true rfl) (fun p e s m below meth c ls C hK hT hl => bX0_ofWord C hK hT x1 x2 ls h hl)
set_option maxRecDepth 20000 in
abbrev rmX0_ofSaying : Room := { frames := 2, cells := 0, slots := 0, locals := 43 }
theorem hdX0_ofSaying : yX0_ofSaying.cls = RX0 ∧ yX0_ofSaying.cls ≠ "java/lang/invoke/MethodHandle" ∧ yX0_ofSaying.cls ≠ "java/lang/invoke/VarHandle" ∧ (parseMethodDescriptor yX0_ofSaying.desc).map (fun d => d.parameters.length) = some 2 := by decide +kernel
theorem bX0_ofSaying {p : Program} {l : Launch} {e : Env} {s : State} {m : MethodId} {args : Array Value} {below : List Frame} {meth : Method} {c : Code} {D : va_G} {dA : Nat → ClassId} {a : Nat} {k : KP a} {t : CS} {r : Int32} (C : cx p s m args meth c cX0_ofSaying RX0 3 (some .int)) (hK : kC D dA a k t.2.2.2 s) (hT : cW D dA a k t s.heap) : ∀ (x1 : Int32) (x2 : Int32) (ls : Array Slot), C_ofSaying t x1 x2 = some r → lv_has ls 3 [(0, .ref a), (1, .int x1), (2, .int x2)] → W p l e rmX0_ofSaying s m args below meth c s.heap [] 0 0 (MQ below (rQi r) args s 0 0 nof) (F0 m 0 ls []) := by
  obtain ⟨hx, hb, hr, hml, hown, hts, hlocks⟩ := id C
  intro x1 x2 ls h hl
  unfold C_ofSaying at h
  refine lv_aload_n hx hb dX0_ofSaying_0 rfl (lv_at hl 0 rfl) ?_
  refine lv_iload_n hx hb dX0_ofSaying_1 rfl (lv_at hl 1 rfl) ?_
  obtain ⟨v1, hv1, h⟩ := bd1_some h
  refine r_int (run_c (As := [.int x1]) (rest := []) C hK hT (fun _ _ => rfl) (rv_X hK hT) (mX0_isSaying hv1) q1212 q1214 qs36 q158 q1215 ⟨rfl, rfl⟩ hdX0_isSaying ⟨Nat.le_of_ble_eq_true rfl, Nat.le_of_ble_eq_true rfl⟩ ⟨Nat.zero_le _, Nat.zero_le _⟩ rfl hl.1 rfl (Nat.le_of_ble_eq_true rfl) dX0_ofSaying_2) ?_
  refine lv_if_ne (tgt := 12) hx hb dX0_ofSaying_5 (by decide) (fun c => ?_) (fun c => ?_)
  · replace h := if_f c h
    refine lv_iload_n hx hb dX0_ofSaying_12 rfl (lv_at hl 2 rfl) ?_
    refine lv_if_ne (tgt := 29) hx hb dX0_ofSaying_13 (by decide) (fun c => ?_) (fun c => ?_)
    · replace h := if_f c h
      refine lv_iload_n hx hb dX0_ofSaying_29 rfl (lv_at hl 2 rfl) ?_
      refine lv_bipush (v := 10) hx hb dX0_ofSaying_30 (by decide) ?_
      refine lv_bipush (v := 9) hx hb dX0_ofSaying_32 (by decide) ?_
      refine lv_aload_n hx hb dX0_ofSaying_34 rfl (lv_at hl 0 rfl) ?_
      refine cg0 C hK hT dX0_ofSaying_35 ?_
      refine c_getSN C hK hT (Or.inl rfl) 5 (by decide) (nf232 hK.2.1) rfl (v := .ref (a + 7)) rfl dX0_ofSaying_38 ?_
      refine lv_iload_n hx hb dX0_ofSaying_41 rfl (lv_at hl 1 rfl) ?_
      obtain ⟨hi2, h⟩ := ck_some h
      obtain ⟨r3, hr3, h⟩ := bd1_some h
      refine c_ald C hK hT 7 8 6 (by decide) rfl (g := t.2.1 7) (by rfl) (by rfl) hi2 hr3 dX0_ofSaying_42 ?_
      obtain ⟨v4, hv4, h⟩ := bd1_some h
      refine d_aln C hK hT hv4 dX0_ofSaying_43 ?_
      refine lv_iadd hx hb dX0_ofSaying_44 ?_
      obtain ⟨v5, hv5, h⟩ := bd1_some h
      refine r_int (run_s (As := [.int x2, .int (10 : Int32), .int ((9 : Int32) + (nI v4))]) (rest := []) C (mX0_in hv5) q341 q342 q158 q343 ⟨rfl, rfl⟩ hdX0_in ⟨Nat.le_of_ble_eq_true rfl, Nat.le_of_ble_eq_true rfl⟩ ⟨Nat.zero_le _, Nat.zero_le _⟩ rfl hl.1 rfl (Nat.le_of_ble_eq_true rfl) dX0_ofSaying_45) ?_
      refine lv_if_eq (tgt := 68) hx hb dX0_ofSaying_48 (by decide) (fun c => ?_) (fun c => ?_)
      · replace h := if_t c h
        refine lv_iconst (v := -1) hx hb dX0_ofSaying_68 (by decide) ?_
        exact e_ri C h dX0_ofSaying_69
      · replace h := if_f c h
        refine lv_aload_n hx hb dX0_ofSaying_51 rfl (lv_at hl 0 rfl) ?_
        refine cg0 C hK hT dX0_ofSaying_52 ?_
        refine c_getSN C hK hT (Or.inl rfl) 5 (by decide) (nf232 hK.2.1) rfl (v := .ref (a + 7)) rfl dX0_ofSaying_55 ?_
        refine lv_iload_n hx hb dX0_ofSaying_58 rfl (lv_at hl 1 rfl) ?_
        obtain ⟨hi6, h⟩ := ck_some h
        obtain ⟨r7, hr7, h⟩ := bd1_some h
        refine c_ald C hK hT 7 8 6 (by decide) rfl (g := t.2.1 7) (by rfl) (by rfl) hi6 hr7 dX0_ofSaying_59 ?_
        refine lv_iload_n hx hb dX0_ofSaying_60 rfl (lv_at hl 2 rfl) ?_
        refine lv_bipush (v := 10) hx hb dX0_ofSaying_61 (by decide) ?_
        refine lv_isub hx hb dX0_ofSaying_63 ?_
        obtain ⟨v8, hv8, h⟩ := bd1_some h
        refine d_ild C hK hT hv8 dX0_ofSaying_64 ?_
        refine lv_goto (tgt := 69) hx hb dX0_ofSaying_65 (by decide) ?_
        exact e_ri C h dX0_ofSaying_69
    · replace h := if_t c h
      refine lv_aload_n hx hb dX0_ofSaying_16 rfl (lv_at hl 0 rfl) ?_
      refine cg0 C hK hT dX0_ofSaying_17 ?_
      refine c_getSN C hK hT (Or.inl rfl) 5 (by decide) (nf232 hK.2.1) rfl (v := .ref (a + 7)) rfl dX0_ofSaying_20 ?_
      refine lv_iload_n hx hb dX0_ofSaying_23 rfl (lv_at hl 1 rfl) ?_
      obtain ⟨hi9, h⟩ := ck_some h
      obtain ⟨r10, hr10, h⟩ := bd1_some h
      refine c_ald C hK hT 7 8 6 (by decide) rfl (g := t.2.1 7) (by rfl) (by rfl) hi9 hr10 dX0_ofSaying_24 ?_
      obtain ⟨v11, hv11, h⟩ := bd1_some h
      refine d_aln C hK hT hv11 dX0_ofSaying_25 ?_
      refine lv_goto (tgt := 69) hx hb dX0_ofSaying_26 (by decide) ?_
      exact e_ri C h dX0_ofSaying_69
  · replace h := if_t c h
    refine lv_iconst (v := -1) hx hb dX0_ofSaying_8 (by decide) ?_
    refine lv_goto (tgt := 69) hx hb dX0_ofSaying_9 (by decide) ?_
    exact e_ri C h dX0_ofSaying_69
theorem mX0_ofSaying {l : Launch} {D : va_G} {dA : Nat → ClassId} {a : Nat} {k : KP a} {t : CS} {x1 : Int32} {x2 : Int32} {r : Int32} (h : C_ofSaying t x1 x2 = some r) : Met l yX0_ofSaying (ws_ yX0_ofSaying cX0_ofSaying 3 (some .int)) rmX0_ofSaying (cPc D dA a k t [.ref a, .int x1, .int x2]) (rQi r) 0 0 nof := en_C (by decide +kernel) rfl (Nat.le_of_ble_eq_true rfl) (fun p e s m below meth c ls C hK hT hl => bX0_ofSaying C hK hT x1 x2 ls h hl)
set_option maxRecDepth 20000 in
abbrev rmX0_looks : Room := { frames := 2, cells := 0, slots := 0, locals := 42 }
theorem hdX0_looks : yX0_looks.cls = RX0 ∧ yX0_looks.cls ≠ "java/lang/invoke/MethodHandle" ∧ yX0_looks.cls ≠ "java/lang/invoke/VarHandle" ∧ (parseMethodDescriptor yX0_looks.desc).map (fun d => d.parameters.length) = some 1 := by decide +kernel
theorem bX0_looks {p : Program} {l : Launch} {e : Env} {s : State} {m : MethodId} {args : Array Value} {below : List Frame} {meth : Method} {c : Code} {D : va_G} {dA : Nat → ClassId} {a : Nat} {k : KP a} {t : CS} {r : Int32} (C : cx p s m args meth c cX0_looks RX0 2 (some .int)) (hK : kC D dA a k t.2.2.2 s) (hT : cW D dA a k t s.heap) : ∀ (x1 : Int32) (ls : Array Slot), C_looks t x1 = some r → lv_has ls 2 [(0, .ref a), (1, .int x1)] → W p l e rmX0_looks s m args below meth c s.heap [] 0 0 (MQ below (rQi r) args s 0 0 nof) (F0 m 0 ls []) := by
  obtain ⟨hx, hb, hr, hml, hown, hts, hlocks⟩ := id C
  intro x1 ls h hl
  unfold C_looks at h
  refine lv_aload_n hx hb dX0_looks_0 rfl (lv_at hl 0 rfl) ?_
  refine cg0 C hK hT dX0_looks_1 ?_
  refine lv_iload_n hx hb dX0_looks_4 rfl (lv_at hl 1 rfl) ?_
  obtain ⟨v1, hv1, h⟩ := bd1_some h
  refine r_int (run_c (As := [.int x1]) (rest := []) C hK hT (fun _ _ => rfl) (rv_S hK hT (Or.inl rfl)) (mX1_isOut hv1) q1064 q1065 q1066 q159 q1067 ⟨rfl, rfl⟩ hdX1_isOut ⟨Nat.le_of_ble_eq_true rfl, Nat.le_of_ble_eq_true rfl⟩ ⟨Nat.zero_le _, Nat.zero_le _⟩ rfl hl.1 rfl (Nat.le_of_ble_eq_true rfl) dX0_looks_5) ?_
  refine lv_if_eq (tgt := 45) hx hb dX0_looks_8 (by decide) (fun c => ?_) (fun c => ?_)
  · replace h := if_t c h
    refine lv_iload_n hx hb dX0_looks_45 rfl (lv_at hl 1 rfl) ?_
    exact e_ri C h dX0_looks_46
  · replace h := if_f c h
    refine lv_aload_n hx hb dX0_looks_11 rfl (lv_at hl 0 rfl) ?_
    refine cg0 C hK hT dX0_looks_12 ?_
    refine c_getSN C hK hT (Or.inl rfl) 1 (by decide) (nf224 hK.2.1) rfl (v := .ref (a + 3)) rfl dX0_looks_15 ?_
    refine lv_bipush (v := 55) hx hb dX0_looks_18 (by decide) ?_
    refine lv_iload_n hx hb dX0_looks_20 rfl (lv_at hl 1 rfl) ?_
    refine lv_iadd hx hb dX0_looks_21 ?_
    obtain ⟨hi2, h⟩ := ck_some h
    refine c_ild C hK hT 3 192 (by decide) (fun _ _ => rfl) hi2 dX0_looks_22 ?_
    refine lv_iconst (v := -1) hx hb dX0_looks_23 (by decide) ?_
    refine lv_icmp_eq (tgt := 45) hx hb dX0_looks_24 (by decide) (fun c => ?_) (fun c => ?_)
    · replace h := if_t c h
      refine lv_iload_n hx hb dX0_looks_45 rfl (lv_at hl 1 rfl) ?_
      exact e_ri C h dX0_looks_46
    · replace h := if_f c h
      refine lv_bipush (v := 26) hx hb dX0_looks_27 (by decide) ?_
      refine lv_aload_n hx hb dX0_looks_29 rfl (lv_at hl 0 rfl) ?_
      refine cg0 C hK hT dX0_looks_30 ?_
      refine c_getSN C hK hT (Or.inl rfl) 1 (by decide) (nf224 hK.2.1) rfl (v := .ref (a + 3)) rfl dX0_looks_33 ?_
      refine lv_bipush (v := 55) hx hb dX0_looks_36 (by decide) ?_
      refine lv_iload_n hx hb dX0_looks_38 rfl (lv_at hl 1 rfl) ?_
      refine lv_iadd hx hb dX0_looks_39 ?_
      obtain ⟨hi3, h⟩ := ck_some h
      refine c_ild C hK hT 3 192 (by decide) (fun _ _ => rfl) hi3 dX0_looks_40 ?_
      refine lv_iadd hx hb dX0_looks_41 ?_
      refine lv_goto (tgt := 46) hx hb dX0_looks_42 (by decide) ?_
      exact e_ri C h dX0_looks_46
theorem mX0_looks {l : Launch} {D : va_G} {dA : Nat → ClassId} {a : Nat} {k : KP a} {t : CS} {x1 : Int32} {r : Int32} (h : C_looks t x1 = some r) : Met l yX0_looks (ws_ yX0_looks cX0_looks 2 (some .int)) rmX0_looks (cPc D dA a k t [.ref a, .int x1]) (rQi r) 0 0 nof := en_C (by decide +kernel) rfl (Nat.le_of_ble_eq_true rfl) (fun p e s m below meth c ls C hK hT hl => bX0_looks C hK hT x1 ls h hl)
set_option maxRecDepth 20000 in
abbrev rmX0_mistaken : Room := { frames := 3, cells := 0, slots := 0, locals := 63 }
theorem hdX0_mistaken : yX0_mistaken.cls = RX0 ∧ yX0_mistaken.cls ≠ "java/lang/invoke/MethodHandle" ∧ yX0_mistaken.cls ≠ "java/lang/invoke/VarHandle" ∧ (parseMethodDescriptor yX0_mistaken.desc).map (fun d => d.parameters.length) = some 2 := by decide +kernel
theorem bX0_mistaken_p52 {p : Program} {l : Launch} {e : Env} {s : State} {m : MethodId} {args : Array Value} {below : List Frame} {meth : Method} {c : Code} {D : va_G} {dA : Nat → ClassId} {a : Nat} {k : KP a} {t : CS} {r : Int32} (C : cx p s m args meth c cX0_mistaken RX0 4 (some .boolean)) (hK : kC D dA a k t.2.2.2 s) (hT : cW D dA a k t s.heap) : ∀ (n : Nat), ∀ (x1 : Int32) (x2 : Int32) (x3 : Int32) (ls : Array Slot), C_mistaken_p52 t n x1 x2 x3 = some r → lv_has ls 4 [(0, .ref a), (1, .int x1), (2, .int x2), (3, .int x3)] → W p l e rmX0_mistaken s m args below meth c s.heap [] 0 0 (MQ below (rQi r) args s 0 0 nof) (F0 m 52 ls []) := by
  obtain ⟨hx, hb, hr, hml, hown, hts, hlocks⟩ := id C
  intro n
  induction n with
  | zero =>
    intro x1 x2 x3 ls h hl
    have h : none = some _ := h
    cases h
  | succ n ih =>
    intro x1 x2 x3 ls h hl
    rw [C_mistaken_p52] at h
    refine lv_iload_n hx hb dX0_mistaken_52 rfl (lv_at hl 3 rfl) ?_
    refine lv_aload_n hx hb dX0_mistaken_53 rfl (lv_at hl 0 rfl) ?_
    refine cg0 C hK hT dX0_mistaken_54 ?_
    refine c_getSN C hK hT (Or.inl rfl) 4 (by decide) (nf230 hK.2.1) rfl (v := .ref (a + 6)) rfl dX0_mistaken_57 ?_
    refine lv_iload_n hx hb dX0_mistaken_60 rfl (lv_at hl 1 rfl) ?_
    obtain ⟨hi1, h⟩ := ck_some h
    obtain ⟨r2, hr2, h⟩ := bd1_some h
    refine c_ald C hK hT 6 24 4 (by decide) rfl (g := t.2.1 6) (by rfl) (by rfl) hi1 hr2 dX0_mistaken_61 ?_
    obtain ⟨hc3, h⟩ := ckC_some h
    obtain ⟨v4, hv4, h⟩ := bd1_some h
    refine r_int (run_c (As := []) (rest := [.int x3]) C hK hT (fun _ _ => rfl) (rv_D (ci := 3) rfl hK hT hc3) (mX3_length hv4) q1237 q1238 q1239 q170 q1240 ⟨rfl, rfl⟩ hdX3_length ⟨Nat.le_of_ble_eq_true rfl, Nat.le_of_ble_eq_true rfl⟩ ⟨Nat.zero_le _, Nat.zero_le _⟩ rfl hl.1 rfl (Nat.le_of_ble_eq_true rfl) dX0_mistaken_62) ?_
    refine lv_icmp_ge (tgt := 115) hx hb dX0_mistaken_65 (by decide) (fun c => ?_) (fun c => ?_)
    · replace h := if_t c h
      refine lv_iconst (v := 1) hx hb dX0_mistaken_115 (by decide) ?_
      exact e_rz C (Or.inr rfl) h dX0_mistaken_116
    · replace h := if_f c h
      refine lv_aload_n hx hb dX0_mistaken_68 rfl (lv_at hl 0 rfl) ?_
      refine lv_aload_n hx hb dX0_mistaken_69 rfl (lv_at hl 0 rfl) ?_
      refine cg0 C hK hT dX0_mistaken_70 ?_
      refine c_getSN C hK hT (Or.inl rfl) 4 (by decide) (nf230 hK.2.1) rfl (v := .ref (a + 6)) rfl dX0_mistaken_73 ?_
      refine lv_iload_n hx hb dX0_mistaken_76 rfl (lv_at hl 1 rfl) ?_
      obtain ⟨hi5, h⟩ := ck_some h
      obtain ⟨r6, hr6, h⟩ := bd1_some h
      refine c_ald C hK hT 6 24 4 (by decide) rfl (g := t.2.1 6) (by rfl) (by rfl) hi5 hr6 dX0_mistaken_77 ?_
      obtain ⟨hc7, h⟩ := ckC_some h
      obtain ⟨v8, hv8, h⟩ := bd1_some h
      refine r_ref1 (run_c (As := []) (rest := [.ref a]) C hK hT (fun _ _ => rfl) (rv_D (ci := 3) rfl hK hT hc7) (mX3_letter hv8) q358 q359 q360 q170 q361 ⟨rfl, rfl⟩ hdX3_letter ⟨Nat.le_of_ble_eq_true rfl, Nat.le_of_ble_eq_true rfl⟩ ⟨Nat.zero_le _, Nat.zero_le _⟩ rfl hl.1 rfl (Nat.le_of_ble_eq_true rfl) dX0_mistaken_78) ?_
      refine lv_iload_n hx hb dX0_mistaken_81 rfl (lv_at hl 3 rfl) ?_
      obtain ⟨v9, hv9, h⟩ := bd1_some h
      refine d_ild C hK hT hv9 dX0_mistaken_82 ?_
      obtain ⟨v10, hv10, h⟩ := bd1_some h
      refine r_int (run_c (As := [.int v9]) (rest := []) C hK hT (fun _ _ => rfl) (rv_X hK hT) (mX0_looks hv10) q1335 q1337 qs47 q158 q1338 ⟨rfl, rfl⟩ hdX0_looks ⟨Nat.le_of_ble_eq_true rfl, Nat.le_of_ble_eq_true rfl⟩ ⟨Nat.zero_le _, Nat.zero_le _⟩ rfl hl.1 rfl (Nat.le_of_ble_eq_true rfl) dX0_mistaken_83) ?_
      refine lv_aload_n hx hb dX0_mistaken_86 rfl (lv_at hl 0 rfl) ?_
      refine lv_aload_n hx hb dX0_mistaken_87 rfl (lv_at hl 0 rfl) ?_
      refine cg0 C hK hT dX0_mistaken_88 ?_
      refine c_getSN C hK hT (Or.inl rfl) 4 (by decide) (nf230 hK.2.1) rfl (v := .ref (a + 6)) rfl dX0_mistaken_91 ?_
      refine lv_iload_n hx hb dX0_mistaken_94 rfl (lv_at hl 2 rfl) ?_
      obtain ⟨hi11, h⟩ := ck_some h
      obtain ⟨r12, hr12, h⟩ := bd1_some h
      refine c_ald C hK hT 6 24 4 (by decide) rfl (g := t.2.1 6) (by rfl) (by rfl) hi11 hr12 dX0_mistaken_95 ?_
      obtain ⟨hc13, h⟩ := ckC_some h
      obtain ⟨v14, hv14, h⟩ := bd1_some h
      refine r_ref1 (run_c (As := []) (rest := [.ref a, .int v10]) C hK hT (fun _ _ => rfl) (rv_D (ci := 3) rfl hK hT hc13) (mX3_letter hv14) q358 q359 q360 q170 q361 ⟨rfl, rfl⟩ hdX3_letter ⟨Nat.le_of_ble_eq_true rfl, Nat.le_of_ble_eq_true rfl⟩ ⟨Nat.zero_le _, Nat.zero_le _⟩ rfl hl.1 rfl (Nat.le_of_ble_eq_true rfl) dX0_mistaken_96) ?_
      refine lv_iload_n hx hb dX0_mistaken_99 rfl (lv_at hl 3 rfl) ?_
      obtain ⟨v15, hv15, h⟩ := bd1_some h
      refine d_ild C hK hT hv15 dX0_mistaken_100 ?_
      obtain ⟨v16, hv16, h⟩ := bd1_some h
      refine r_int (run_c (As := [.int v15]) (rest := [.int v10]) C hK hT (fun _ _ => rfl) (rv_X hK hT) (mX0_looks hv16) q1335 q1337 qs47 q158 q1338 ⟨rfl, rfl⟩ hdX0_looks ⟨Nat.le_of_ble_eq_true rfl, Nat.le_of_ble_eq_true rfl⟩ ⟨Nat.zero_le _, Nat.zero_le _⟩ rfl hl.1 rfl (Nat.le_of_ble_eq_true rfl) dX0_mistaken_101) ?_
      refine lv_icmp_eq (tgt := 109) hx hb dX0_mistaken_104 (by decide) (fun c => ?_) (fun c => ?_)
      · replace h := if_t c h
        obtain ⟨v17, ev17⟩ : ∃ y : Int32, y = x3 + (1 : Int32) := ⟨_, rfl⟩
        replace h := lt1_sub ev17 h
        refine lv_iinc (v := v17) (lv' := [(3, .int v17), (0, .ref a), (1, .int x1), (2, .int x2)]) hx hb dX0_mistaken_109 hl (k := 3) rfl (by rw [ev17]; rfl) (by decide) rfl (fun ls hl => ?_)
        refine lv_goto (tgt := 52) hx hb dX0_mistaken_112 (by decide) ?_
        exact ih x1 x2 v17 ls h (lv_sub hl [1, 2, 3, 0] rfl)
      · replace h := if_f c h
        refine lv_iconst (v := 0) hx hb dX0_mistaken_107 (by decide) ?_
        exact e_rz C (Or.inl rfl) h dX0_mistaken_108
theorem bX0_mistaken {p : Program} {l : Launch} {e : Env} {s : State} {m : MethodId} {args : Array Value} {below : List Frame} {meth : Method} {c : Code} {D : va_G} {dA : Nat → ClassId} {a : Nat} {k : KP a} {t : CS} {r : Int32} (C : cx p s m args meth c cX0_mistaken RX0 4 (some .boolean)) (hK : kC D dA a k t.2.2.2 s) (hT : cW D dA a k t s.heap) : ∀ (x1 : Int32) (x2 : Int32) (ls : Array Slot), C_mistaken t x1 x2 = some r → lv_has ls 4 [(0, .ref a), (1, .int x1), (2, .int x2)] → W p l e rmX0_mistaken s m args below meth c s.heap [] 0 0 (MQ below (rQi r) args s 0 0 nof) (F0 m 0 ls []) := by
  obtain ⟨hx, hb, hr, hml, hown, hts, hlocks⟩ := id C
  intro x1 x2 ls h hl
  unfold C_mistaken at h
  refine lv_aload_n hx hb dX0_mistaken_0 rfl (lv_at hl 0 rfl) ?_
  refine lv_iload_n hx hb dX0_mistaken_1 rfl (lv_at hl 1 rfl) ?_
  obtain ⟨v1, hv1, h⟩ := bd1_some h
  refine r_int (run_c (As := [.int x1]) (rest := []) C hK hT (fun _ _ => rfl) (rv_X hK hT) (mX0_isWord hv1) q1323 q1325 qs46 q158 q1326 ⟨rfl, rfl⟩ hdX0_isWord ⟨Nat.le_of_ble_eq_true rfl, Nat.le_of_ble_eq_true rfl⟩ ⟨Nat.zero_le _, Nat.zero_le _⟩ rfl hl.1 rfl (Nat.le_of_ble_eq_true rfl) dX0_mistaken_2) ?_
  refine lv_if_eq (tgt := 48) hx hb dX0_mistaken_5 (by decide) (fun c => ?_) (fun c => ?_)
  · replace h := if_t c h
    refine lv_iconst (v := 0) hx hb dX0_mistaken_48 (by decide) ?_
    exact e_rz C (Or.inl rfl) h dX0_mistaken_49
  · replace h := if_f c h
    refine lv_aload_n hx hb dX0_mistaken_8 rfl (lv_at hl 0 rfl) ?_
    refine lv_iload_n hx hb dX0_mistaken_9 rfl (lv_at hl 2 rfl) ?_
    obtain ⟨v2, hv2, h⟩ := bd1_some h
    refine r_int (run_c (As := [.int x2]) (rest := []) C hK hT (fun _ _ => rfl) (rv_X hK hT) (mX0_isWord hv2) q1323 q1325 qs46 q158 q1326 ⟨rfl, rfl⟩ hdX0_isWord ⟨Nat.le_of_ble_eq_true rfl, Nat.le_of_ble_eq_true rfl⟩ ⟨Nat.zero_le _, Nat.zero_le _⟩ rfl hl.1 rfl (Nat.le_of_ble_eq_true rfl) dX0_mistaken_10) ?_
    refine lv_if_eq (tgt := 48) hx hb dX0_mistaken_13 (by decide) (fun c => ?_) (fun c => ?_)
    · replace h := if_t c h
      refine lv_iconst (v := 0) hx hb dX0_mistaken_48 (by decide) ?_
      exact e_rz C (Or.inl rfl) h dX0_mistaken_49
    · replace h := if_f c h
      refine lv_iload_n hx hb dX0_mistaken_16 rfl (lv_at hl 1 rfl) ?_
      refine lv_iload_n hx hb dX0_mistaken_17 rfl (lv_at hl 2 rfl) ?_
      refine lv_icmp_eq (tgt := 48) hx hb dX0_mistaken_18 (by decide) (fun c => ?_) (fun c => ?_)
      · replace h := if_t c h
        refine lv_iconst (v := 0) hx hb dX0_mistaken_48 (by decide) ?_
        exact e_rz C (Or.inl rfl) h dX0_mistaken_49
      · replace h := if_f c h
        refine lv_aload_n hx hb dX0_mistaken_21 rfl (lv_at hl 0 rfl) ?_
        refine cg0 C hK hT dX0_mistaken_22 ?_
        refine c_getSN C hK hT (Or.inl rfl) 4 (by decide) (nf230 hK.2.1) rfl (v := .ref (a + 6)) rfl dX0_mistaken_25 ?_
        refine lv_iload_n hx hb dX0_mistaken_28 rfl (lv_at hl 1 rfl) ?_
        obtain ⟨hi3, h⟩ := ck_some h
        obtain ⟨r4, hr4, h⟩ := bd1_some h
        refine c_ald C hK hT 6 24 4 (by decide) rfl (g := t.2.1 6) (by rfl) (by rfl) hi3 hr4 dX0_mistaken_29 ?_
        obtain ⟨hc5, h⟩ := ckC_some h
        obtain ⟨v6, hv6, h⟩ := bd1_some h
        refine r_int (run_c (As := []) (rest := []) C hK hT (fun _ _ => rfl) (rv_D (ci := 3) rfl hK hT hc5) (mX3_length hv6) q1237 q1238 q1239 q170 q1240 ⟨rfl, rfl⟩ hdX3_length ⟨Nat.le_of_ble_eq_true rfl, Nat.le_of_ble_eq_true rfl⟩ ⟨Nat.zero_le _, Nat.zero_le _⟩ rfl hl.1 rfl (Nat.le_of_ble_eq_true rfl) dX0_mistaken_30) ?_
        refine lv_aload_n hx hb dX0_mistaken_33 rfl (lv_at hl 0 rfl) ?_
        refine cg0 C hK hT dX0_mistaken_34 ?_
        refine c_getSN C hK hT (Or.inl rfl) 4 (by decide) (nf230 hK.2.1) rfl (v := .ref (a + 6)) rfl dX0_mistaken_37 ?_
        refine lv_iload_n hx hb dX0_mistaken_40 rfl (lv_at hl 2 rfl) ?_
        obtain ⟨hi7, h⟩ := ck_some h
        obtain ⟨r8, hr8, h⟩ := bd1_some h
        refine c_ald C hK hT 6 24 4 (by decide) rfl (g := t.2.1 6) (by rfl) (by rfl) hi7 hr8 dX0_mistaken_41 ?_
        obtain ⟨hc9, h⟩ := ckC_some h
        obtain ⟨v10, hv10, h⟩ := bd1_some h
        refine r_int (run_c (As := []) (rest := [.int v6]) C hK hT (fun _ _ => rfl) (rv_D (ci := 3) rfl hK hT hc9) (mX3_length hv10) q1237 q1238 q1239 q170 q1240 ⟨rfl, rfl⟩ hdX3_length ⟨Nat.le_of_ble_eq_true rfl, Nat.le_of_ble_eq_true rfl⟩ ⟨Nat.zero_le _, Nat.zero_le _⟩ rfl hl.1 rfl (Nat.le_of_ble_eq_true rfl) dX0_mistaken_42) ?_
        refine lv_icmp_eq (tgt := 50) hx hb dX0_mistaken_45 (by decide) (fun c => ?_) (fun c => ?_)
        · replace h := if_t c h
          refine lv_iconst (v := 0) hx hb dX0_mistaken_50 (by decide) ?_
          refine lv_istore_n (lv' := [(3, .int (0 : Int32)), (0, .ref a), (1, .int x1), (2, .int x2)]) hx hb dX0_mistaken_51 rfl hl (by decide) rfl (fun ls hl => ?_)
          exact bX0_mistaken_p52 C hK hT fu x1 x2 (0 : Int32) ls h (lv_sub hl [1, 2, 3, 0] rfl)
        · replace h := if_f c h
          refine lv_iconst (v := 0) hx hb dX0_mistaken_48 (by decide) ?_
          exact e_rz C (Or.inl rfl) h dX0_mistaken_49
theorem mX0_mistaken {l : Launch} {D : va_G} {dA : Nat → ClassId} {a : Nat} {k : KP a} {t : CS} {x1 : Int32} {x2 : Int32} {r : Int32} (h : C_mistaken t x1 x2 = some r) : Met l yX0_mistaken (ws_ yX0_mistaken cX0_mistaken 4 (some .boolean)) rmX0_mistaken (cPc D dA a k t [.ref a, .int x1, .int x2]) (rQi r) 0 0 nof := en_C (by decide +kernel) rfl (Nat.le_of_ble_eq_true rfl) (fun p e s m below meth c ls C hK hT hl => bX0_mistaken C hK hT x1 x2 ls h hl)
set_option maxRecDepth 20000 in
abbrev rmX0_said : Room := { frames := 4, cells := 0, slots := 0, locals := 90 }
theorem hdX0_said : yX0_said.cls = RX0 ∧ yX0_said.cls ≠ "java/lang/invoke/MethodHandle" ∧ yX0_said.cls ≠ "java/lang/invoke/VarHandle" ∧ (parseMethodDescriptor yX0_said.desc).map (fun d => d.parameters.length) = some 3 := by decide +kernel
theorem bX0_said_p82 {p : Program} {l : Launch} {e : Env} {s : State} {m : MethodId} {args : Array Value} {below : List Frame} {meth : Method} {c : Code} {D : va_G} {dA : Nat → ClassId} {a : Nat} {k : KP a} {t0 : CS} {r : Int32} {t9 : CS} (C : cx p s m args meth c cX0_said RX0 6 (some .int)) : ∀ (n : Nat), ∀ (t : CS) (x1 : Int32) (x4 : Int32) (x5 : Int32) (H : Heap) (locs : List Loc) (hT : cW D dA a k t H) (hS : cS a s.heap H locs t0.2.2.2 0 t) (hK : kC D dA a k t.2.2.2 s) (ls : Array Slot), C_said_p82 n t x1 x4 x5 = some (r, t9) → lv_has ls 6 [(0, .ref a), (1, .int x1), (4, .int x4), (5, .int x5)] → W p l e rmX0_said s m args below meth c H locs 0 0 (MQ below (cQ D dA a k 0 t0 t9 (some (.int r))) args s 0 0 (ca a)) (F0 m 82 ls []) := by
  obtain ⟨hx, hb, hr, hml, hown, hts, hlocks⟩ := id C
  intro n
  induction n with
  | zero =>
    intro t x1 x4 x5 H locs hT hS hK ls h hl
    have h : none = some _ := h
    cases h
  | succ n ih =>
    intro t x1 x4 x5 H locs hT hS hK ls h hl
    rw [C_said_p82] at h
    refine lv_iload hx hb dX0_said_82 (lv_at hl 3 rfl) ?_
    refine lv_aload_n hx hb dX0_said_84 rfl (lv_at hl 0 rfl) ?_
    refine cg0 C hK hT dX0_said_85 ?_
    refine c_getSN C hK hT (Or.inl rfl) 5 (by decide) (nf232 hK.2.1) rfl (v := .ref (a + 7)) rfl dX0_said_88 ?_
    refine lv_iload_n hx hb dX0_said_91 rfl (lv_at hl 1 rfl) ?_
    obtain ⟨hi1, h⟩ := ck_some h
    obtain ⟨r2, hr2, h⟩ := bd1_some h
    refine c_ald C hK hT 7 8 6 (by decide) rfl (g := t.2.1 7) (by rfl) (by rfl) hi1 hr2 dX0_said_92 ?_
    obtain ⟨v3, hv3, h⟩ := bd1_some h
    refine d_aln C hK hT hv3 dX0_said_93 ?_
    refine lv_icmp_ge (tgt := 126) hx hb dX0_said_94 (by decide) (fun c => ?_) (fun c => ?_)
    · replace h := if_t c h
      refine lv_iload hx hb dX0_said_126 (lv_at hl 2 rfl) ?_
      exact ec_i C hT hS h dX0_said_128
    · replace h := if_f c h
      refine lv_iload hx hb dX0_said_97 (lv_at hl 2 rfl) ?_
      refine lv_aload_n hx hb dX0_said_99 rfl (lv_at hl 0 rfl) ?_
      refine cg0 C hK hT dX0_said_100 ?_
      refine c_getSN C hK hT (Or.inl rfl) 4 (by decide) (nf230 hK.2.1) rfl (v := .ref (a + 6)) rfl dX0_said_103 ?_
      refine lv_aload_n hx hb dX0_said_106 rfl (lv_at hl 0 rfl) ?_
      refine cg7 C hK hT dX0_said_107 ?_
      refine lv_iload hx hb dX0_said_110 (lv_at hl 3 rfl) ?_
      obtain ⟨hi4, h⟩ := ck_some h
      refine c_ild C hK hT 107 8 (by decide) (fun _ _ => rfl) hi4 dX0_said_112 ?_
      obtain ⟨hi5, h⟩ := ck_some h
      obtain ⟨r6, hr6, h⟩ := bd1_some h
      refine c_ald C hK hT 6 24 4 (by decide) rfl (g := t.2.1 6) (by rfl) (by rfl) hi5 hr6 dX0_said_113 ?_
      obtain ⟨hc7, h⟩ := ckC_some h
      obtain ⟨v8, hv8, h⟩ := bd1_some h
      refine r_int (run_c (As := []) (rest := [.int x4]) C hK hT hS.2.1 (rv_D (ci := 3) rfl hK hT hc7) (mX3_length hv8) q1237 q1238 q1239 q170 q1240 ⟨rfl, rfl⟩ hdX3_length ⟨Nat.le_of_ble_eq_true rfl, Nat.le_of_ble_eq_true rfl⟩ ⟨Nat.zero_le _, Nat.zero_le _⟩ rfl hl.1 rfl (Nat.le_of_ble_eq_true rfl) dX0_said_114) ?_
      refine lv_iadd hx hb dX0_said_117 ?_
      refine lv_topi (fun v9 ev9 => ?_)
      replace h := lt1_sub ev9 h
      refine lv_istore (lv' := [(4, .int v9), (0, .ref a), (1, .int x1), (5, .int x5)]) hx hb dX0_said_118 hl (by decide) rfl (fun ls hl => ?_)
      obtain ⟨v10, ev10⟩ : ∃ y : Int32, y = x5 + (1 : Int32) := ⟨_, rfl⟩
      replace h := lt1_sub ev10 h
      refine lv_iinc (v := v10) (lv' := [(5, .int v10), (4, .int v9), (0, .ref a), (1, .int x1)]) hx hb dX0_said_120 hl (k := 3) rfl (by rw [ev10]; rfl) (by decide) rfl (fun ls hl => ?_)
      refine lv_goto (tgt := 82) hx hb dX0_said_123 (by decide) ?_
      exact ih t x1 v9 v10 H locs hT hS hK ls h (lv_sub hl [2, 3, 1, 0] rfl)
theorem bX0_said_p56 {p : Program} {l : Launch} {e : Env} {s : State} {m : MethodId} {args : Array Value} {below : List Frame} {meth : Method} {c : Code} {D : va_G} {dA : Nat → ClassId} {a : Nat} {k : KP a} {t0 : CS} {r : Int32} {t9 : CS} (C : cx p s m args meth c cX0_said RX0 6 (some .int)) : ∀ (t : CS) (x1 : Int32) (x3 : Int32) (y1 : Int32) (y2 : Int32) (H : Heap) (locs : List Loc) (hT : cW D dA a k t H) (hS : cS a s.heap H locs t0.2.2.2 0 t) (hK : kC D dA a k t.2.2.2 s) (ls : Array Slot), C_said_p56 t x1 x3 y1 y2 = some (r, t9) → lv_has ls 6 [(0, .ref a), (1, .int x1), (3, .int x3)] → W p l e rmX0_said s m args below meth c H locs 0 0 (MQ below (cQ D dA a k 0 t0 t9 (some (.int r))) args s 0 0 (ca a)) (F0 m 56 ls [.int y2, .int y1, .ref a]) := by
  obtain ⟨hx, hb, hr, hml, hown, hts, hlocks⟩ := id C
  intro t x1 x3 y1 y2 H locs hT hS hK ls h hl
  unfold C_said_p56 at h
  obtain ⟨v1, t2, ht2, h⟩ := bd2_some h
  refine wc_int hS hK (run_c (As := [.int y1, .int y2]) (rest := []) C hK hT hS.2.1 (rv_X hK hT) (mX0_says ht2) q1221 q1223 qs37 q158 q1224 ⟨rfl, rfl⟩ hdX0_says ⟨Nat.le_of_ble_eq_true rfl, Nat.le_of_ble_eq_true rfl⟩ ⟨Nat.zero_le _, Nat.zero_le _⟩ rfl hl.1 rfl (Nat.le_of_ble_eq_true rfl) dX0_said_56) (fun H locs hT hS hK hNt2 => ?_)
  refine lv_if_ne (tgt := 64) hx hb dX0_said_59 (by decide) (fun c => ?_) (fun c => ?_)
  · replace h := if_f c h
    refine lv_iload_n hx hb dX0_said_64 rfl (lv_at hl 2 rfl) ?_
    refine lv_iconst (v := -1) hx hb dX0_said_65 (by decide) ?_
    refine lv_icmp_eq (tgt := 76) hx hb dX0_said_66 (by decide) (fun c => ?_) (fun c => ?_)
    · replace h := if_t c h
      refine lv_iconst (v := 0) hx hb dX0_said_76 (by decide) ?_
      refine lv_istore (lv' := [(4, .int (0 : Int32)), (0, .ref a), (1, .int x1), (3, .int x3)]) hx hb dX0_said_77 hl (by decide) rfl (fun ls hl => ?_)
      refine lv_iconst (v := 0) hx hb dX0_said_79 (by decide) ?_
      refine lv_istore (lv' := [(5, .int (0 : Int32)), (4, .int (0 : Int32)), (0, .ref a), (1, .int x1), (3, .int x3)]) hx hb dX0_said_80 hl (by decide) rfl (fun ls hl => ?_)
      exact bX0_said_p82 C fu t2 x1 (0 : Int32) (0 : Int32) H locs hT hS hK ls h (lv_sub hl [2, 3, 1, 0] rfl)
    · replace h := if_f c h
      refine lv_aload_n hx hb dX0_said_69 rfl (lv_at hl 0 rfl) ?_
      refine cg7 C hK hT dX0_said_70 ?_
      refine lv_iload_n hx hb dX0_said_73 rfl (lv_at hl 2 rfl) ?_
      obtain ⟨hi3, h⟩ := ck_some h
      refine c_ild C hK hT 107 8 (by decide) (fun _ _ => rfl) hi3 dX0_said_74 ?_
      exact ec_i C hT hS h dX0_said_75
  · replace h := if_t c h
    refine lv_iconst (v := -1) hx hb dX0_said_62 (by decide) ?_
    exact ec_i C hT hS h dX0_said_63
theorem bX0_said {p : Program} {l : Launch} {e : Env} {s : State} {m : MethodId} {args : Array Value} {below : List Frame} {meth : Method} {c : Code} {D : va_G} {dA : Nat → ClassId} {a : Nat} {k : KP a} {t0 : CS} {r : Int32} {t9 : CS} (C : cx p s m args meth c cX0_said RX0 6 (some .int)) : ∀ (t : CS) (x1 : Int32) (x2 : Int32) (x3 : Int32) (H : Heap) (locs : List Loc) (hT : cW D dA a k t H) (hS : cS a s.heap H locs t0.2.2.2 0 t) (hK : kC D dA a k t.2.2.2 s) (ls : Array Slot), C_said t x1 x2 x3 = some (r, t9) → lv_has ls 6 [(0, .ref a), (1, .int x1), (2, .int x2), (3, .int x3)] → W p l e rmX0_said s m args below meth c H locs 0 0 (MQ below (cQ D dA a k 0 t0 t9 (some (.int r))) args s 0 0 (ca a)) (F0 m 0 ls []) := by
  obtain ⟨hx, hb, hr, hml, hown, hts, hlocks⟩ := id C
  intro t x1 x2 x3 H locs hT hS hK ls h hl
  unfold C_said at h
  refine lv_aload_n hx hb dX0_said_0 rfl (lv_at hl 0 rfl) ?_
  refine lv_iload_n hx hb dX0_said_1 rfl (lv_at hl 1 rfl) ?_
  obtain ⟨v1, hv1, h⟩ := bd1_some h
  refine r_int (run_c (As := [.int x1]) (rest := []) C hK hT hS.2.1 (rv_X hK hT) (mX0_isSaying hv1) q1212 q1214 qs36 q158 q1215 ⟨rfl, rfl⟩ hdX0_isSaying ⟨Nat.le_of_ble_eq_true rfl, Nat.le_of_ble_eq_true rfl⟩ ⟨Nat.zero_le _, Nat.zero_le _⟩ rfl hl.1 rfl (Nat.le_of_ble_eq_true rfl) dX0_said_2) ?_
  refine lv_if_eq (tgt := 62) hx hb dX0_said_5 (by decide) (fun c => ?_) (fun c => ?_)
  · replace h := if_t c h
    refine lv_iconst (v := -1) hx hb dX0_said_62 (by decide) ?_
    exact ec_i C hT hS h dX0_said_63
  · replace h := if_f c h
    refine lv_iload_n hx hb dX0_said_8 rfl (lv_at hl 2 rfl) ?_
    refine lv_iconst (v := -1) hx hb dX0_said_9 (by decide) ?_
    refine lv_ldc hx hb hown (hts _ q1187) dX0_said_10 ?_
    obtain ⟨v2, hv2, h⟩ := bd1_some h
    refine r_int (run_s (As := [.int x2, .int (-1 : Int32), .int (67108863 : Int32)]) (rest := []) C (mX0_in hv2) q341 q342 q158 q343 ⟨rfl, rfl⟩ hdX0_in ⟨Nat.le_of_ble_eq_true rfl, Nat.le_of_ble_eq_true rfl⟩ ⟨Nat.zero_le _, Nat.zero_le _⟩ rfl hl.1 rfl (Nat.le_of_ble_eq_true rfl) dX0_said_12) ?_
    refine lv_if_eq (tgt := 62) hx hb dX0_said_15 (by decide) (fun c => ?_) (fun c => ?_)
    · replace h := if_t c h
      refine lv_iconst (v := -1) hx hb dX0_said_62 (by decide) ?_
      exact ec_i C hT hS h dX0_said_63
    · replace h := if_f c h
      refine lv_iload_n hx hb dX0_said_18 rfl (lv_at hl 3 rfl) ?_
      refine lv_iconst (v := -1) hx hb dX0_said_19 (by decide) ?_
      refine lv_aload_n hx hb dX0_said_20 rfl (lv_at hl 0 rfl) ?_
      refine cg0 C hK hT dX0_said_21 ?_
      refine c_getSN C hK hT (Or.inl rfl) 5 (by decide) (nf232 hK.2.1) rfl (v := .ref (a + 7)) rfl dX0_said_24 ?_
      refine lv_iload_n hx hb dX0_said_27 rfl (lv_at hl 1 rfl) ?_
      obtain ⟨hi3, h⟩ := ck_some h
      obtain ⟨r4, hr4, h⟩ := bd1_some h
      refine c_ald C hK hT 7 8 6 (by decide) rfl (g := t.2.1 7) (by rfl) (by rfl) hi3 hr4 dX0_said_28 ?_
      obtain ⟨v5, hv5, h⟩ := bd1_some h
      refine d_aln C hK hT hv5 dX0_said_29 ?_
      refine lv_iconst (v := 1) hx hb dX0_said_30 (by decide) ?_
      refine lv_isub hx hb dX0_said_31 ?_
      obtain ⟨v6, hv6, h⟩ := bd1_some h
      refine r_int (run_s (As := [.int x3, .int (-1 : Int32), .int ((nI v5) - (1 : Int32))]) (rest := []) C (mX0_in hv6) q341 q342 q158 q343 ⟨rfl, rfl⟩ hdX0_in ⟨Nat.le_of_ble_eq_true rfl, Nat.le_of_ble_eq_true rfl⟩ ⟨Nat.zero_le _, Nat.zero_le _⟩ rfl hl.1 rfl (Nat.le_of_ble_eq_true rfl) dX0_said_32) ?_
      refine lv_if_eq (tgt := 62) hx hb dX0_said_35 (by decide) (fun c => ?_) (fun c => ?_)
      · replace h := if_t c h
        refine lv_iconst (v := -1) hx hb dX0_said_62 (by decide) ?_
        exact ec_i C hT hS h dX0_said_63
      · replace h := if_f c h
        refine lv_aload_n hx hb dX0_said_38 rfl (lv_at hl 0 rfl) ?_
        refine lv_iload_n hx hb dX0_said_39 rfl (lv_at hl 1 rfl) ?_
        refine lv_iload_n hx hb dX0_said_40 rfl (lv_at hl 2 rfl) ?_
        refine lv_iconst (v := -1) hx hb dX0_said_41 (by decide) ?_
        refine lv_icmp_ne (tgt := 55) hx hb dX0_said_42 (by decide) (fun c => ?_) (fun c => ?_)
        · replace h := if_f c h
          refine lv_iload_n hx hb dX0_said_55 rfl (lv_at hl 2 rfl) ?_
          exact bX0_said_p56 C t x1 x3 x1 x2 H locs hT hS hK ls h (lv_sub hl [0, 1, 3] rfl)
        · replace h := if_t c h
          refine lv_aload_n hx hb dX0_said_45 rfl (lv_at hl 0 rfl) ?_
          refine cg0 C hK hT dX0_said_46 ?_
          obtain ⟨v7, hv7, h⟩ := bd1_some h
          refine r_int (run_c (As := []) (rest := [.int x1, .ref a]) C hK hT hS.2.1 (rv_S hK hT (Or.inl rfl)) (mX1_silent hv7) q1216 q1217 q1218 q159 q1219 ⟨rfl, rfl⟩ hdX1_silent ⟨Nat.le_of_ble_eq_true rfl, Nat.le_of_ble_eq_true rfl⟩ ⟨Nat.zero_le _, Nat.zero_le _⟩ rfl hl.1 rfl (Nat.le_of_ble_eq_true rfl) dX0_said_49) ?_
          refine lv_goto (tgt := 56) hx hb dX0_said_52 (by decide) ?_
          exact bX0_said_p56 C t x1 x3 x1 v7 H locs hT hS hK ls h (lv_sub hl [0, 1, 3] rfl)
theorem mX0_said {l : Launch} {D : va_G} {dA : Nat → ClassId} {a : Nat} {k : KP a} {t : CS} {x1 : Int32} {x2 : Int32} {x3 : Int32} {r : Int32} {t9 : CS} (h : C_said t x1 x2 x3 = some (r, t9)) : Met l yX0_said (ws_ yX0_said cX0_said 6 (some .int)) rmX0_said (cPc D dA a k t [.ref a, .int x1, .int x2, .int x3]) (cQ D dA a k 0 t t9 (some (.int r))) 0 0 (ca a) := en_C (by decide +kernel) rfl (Nat.le_of_ble_eq_true rfl) (fun p e s m below meth c ls C hK hT hl => bX0_said C t x1 x2 x3 _ [] hT cS.rf hK ls h hl)
set_option maxRecDepth 20000 in
abbrev rmX0_priceOf : Room := { frames := 84, cells := 0, slots := 0, locals := 2960 }
theorem hdX0_priceOf : yX0_priceOf.cls = RX0 ∧ yX0_priceOf.cls ≠ "java/lang/invoke/MethodHandle" ∧ yX0_priceOf.cls ≠ "java/lang/invoke/VarHandle" ∧ (parseMethodDescriptor yX0_priceOf.desc).map (fun d => d.parameters.length) = some 1 := by decide +kernel
theorem bX0_priceOf_p66 {p : Program} {l : Launch} {e : Env} {s : State} {m : MethodId} {args : Array Value} {below : List Frame} {meth : Method} {c : Code} {D : va_G} {dA : Nat → ClassId} {a : Nat} {k : KP a} {t0 : CS} {r : Int32} {t9 : CS} (C : cx p s m args meth c cX0_priceOf RX0 7 (some .int)) {k35 : CS → Nat → Int32 → Nat → Int32 → Int32 → Option (Int32 × CS)} (hk35 : ∀ (t : CS) (x1 : Nat) (x2 : Int32) (x3 : Nat) (x4 : Int32) (x5 : Int32) (H : Heap) (locs : List Loc) (hT : cW D dA a k t H) (hS : cS a s.heap H locs t0.2.2.2 0 t) (hK : kC D dA a k t.2.2.2 s) (ls : Array Slot), k35 t x1 x2 x3 x4 x5 = some (r, t9) → lv_has ls 7 [(0, .ref a), (1, .ref x1), (2, .int x2), (3, .ref x3), (4, .int x4), (5, .int x5)] → W p l e rmX0_priceOf s m args below meth c H locs 0 0 (MQ below (cQ D dA a k 0 t0 t9 (some (.int r))) args s 0 0 (ca a)) (F0 m 35 ls [])) : ∀ (t : CS) (x1 : Nat) (x3 : Nat) (x4 : Int32) (x5 : Int32) (y0 : Int32) (y1 : Int32) (H : Heap) (locs : List Loc) (hT : cW D dA a k t H) (hS : cS a s.heap H locs t0.2.2.2 0 t) (hK : kC D dA a k t.2.2.2 s) (ls : Array Slot), C_priceOf_p66 k35 t x1 x3 x4 x5 y0 y1 = some (r, t9) → lv_has ls 7 [(0, .ref a), (1, .ref x1), (3, .ref x3), (4, .int x4), (5, .int x5)] → W p l e rmX0_priceOf s m args below meth c H locs 0 0 (MQ below (cQ D dA a k 0 t0 t9 (some (.int r))) args s 0 0 (ca a)) (F0 m 66 ls [.int y1, .int y0]) := by
  obtain ⟨hx, hb, hr, hml, hown, hts, hlocks⟩ := id C
  intro t x1 x3 x4 x5 y0 y1 H locs hT hS hK ls h hl
  unfold C_priceOf_p66 at h
  refine lv_iadd hx hb dX0_priceOf_66 ?_
  refine lv_topi (fun v1 ev1 => ?_)
  replace h := lt1_sub ev1 h
  refine lv_istore_n (lv' := [(2, .int v1), (0, .ref a), (1, .ref x1), (3, .ref x3), (4, .int x4), (5, .int x5)]) hx hb dX0_priceOf_67 rfl hl (by decide) rfl (fun ls hl => ?_)
  obtain ⟨v2, ev2⟩ : ∃ y : Int32, y = x5 + (1 : Int32) := ⟨_, rfl⟩
  replace h := lt1_sub ev2 h
  refine lv_iinc (v := v2) (lv' := [(5, .int v2), (2, .int v1), (0, .ref a), (1, .ref x1), (3, .ref x3), (4, .int x4)]) hx hb dX0_priceOf_68 hl (k := 5) rfl (by rw [ev2]; rfl) (by decide) rfl (fun ls hl => ?_)
  refine lv_goto (tgt := 35) hx hb dX0_priceOf_71 (by decide) ?_
  exact hk35 t x1 v1 x3 x4 v2 H locs hT hS hK ls h (lv_sub hl [2, 3, 1, 4, 5, 0] rfl)
theorem bX0_priceOf_p35 {p : Program} {l : Launch} {e : Env} {s : State} {m : MethodId} {args : Array Value} {below : List Frame} {meth : Method} {c : Code} {D : va_G} {dA : Nat → ClassId} {a : Nat} {k : KP a} {t0 : CS} {r : Int32} {t9 : CS} (C : cx p s m args meth c cX0_priceOf RX0 7 (some .int)) : ∀ (n : Nat), ∀ (t : CS) (x1 : Nat) (x2 : Int32) (x3 : Nat) (x4 : Int32) (x5 : Int32) (H : Heap) (locs : List Loc) (hT : cW D dA a k t H) (hS : cS a s.heap H locs t0.2.2.2 0 t) (hK : kC D dA a k t.2.2.2 s) (ls : Array Slot), C_priceOf_p35 n t x1 x2 x3 x4 x5 = some (r, t9) → lv_has ls 7 [(0, .ref a), (1, .ref x1), (2, .int x2), (3, .ref x3), (4, .int x4), (5, .int x5)] → W p l e rmX0_priceOf s m args below meth c H locs 0 0 (MQ below (cQ D dA a k 0 t0 t9 (some (.int r))) args s 0 0 (ca a)) (F0 m 35 ls []) := by
  obtain ⟨hx, hb, hr, hml, hown, hts, hlocks⟩ := id C
  intro n
  induction n with
  | zero =>
    intro t x1 x2 x3 x4 x5 H locs hT hS hK ls h hl
    have h : none = some _ := h
    cases h
  | succ n ih =>
    intro t x1 x2 x3 x4 x5 H locs hT hS hK ls h hl
    rw [C_priceOf_p35] at h
    refine lv_iload hx hb dX0_priceOf_35 (lv_at hl 5 rfl) ?_
    refine lv_iload hx hb dX0_priceOf_37 (lv_at hl 4 rfl) ?_
    refine lv_icmp_ge (tgt := 74) hx hb dX0_priceOf_39 (by decide) (fun c => ?_) (fun c => ?_)
    · replace h := if_t c h
      refine lv_aload_n hx hb dX0_priceOf_74 rfl (lv_at hl 0 rfl) ?_
      refine cg6 C hK hT dX0_priceOf_75 ?_
      refine lv_bipush (v := 8) hx hb dX0_priceOf_78 (by decide) ?_
      refine lv_aload_n hx hb dX0_priceOf_80 rfl (lv_at hl 1 rfl) ?_
      obtain ⟨hc1, h⟩ := ckC_some h
      obtain ⟨v2, hv2, h⟩ := bd1_some h
      refine r_int (run_c (As := []) (rest := [.int (8 : Int32), .ref (a + 106)]) C hK hT hS.2.1 (rv_D (ci := 3) rfl hK hT hc1) (mX3_length hv2) q1237 q1238 q1239 q170 q1240 ⟨rfl, rfl⟩ hdX3_length ⟨Nat.le_of_ble_eq_true rfl, Nat.le_of_ble_eq_true rfl⟩ ⟨Nat.zero_le _, Nat.zero_le _⟩ rfl hl.1 rfl (Nat.le_of_ble_eq_true rfl) dX0_priceOf_81) ?_
      obtain ⟨hi3, h⟩ := ck_some h
      refine c_ist C hK hT hS 106 14 (by decide) (fun _ _ => rfl) hi3 dX0_priceOf_84 (fun t4 H locs et4 hT hS hK => ?_)
      replace h := lt1_sub et4 h
      refine lv_aload_n hx hb dX0_priceOf_85 rfl (lv_at hl 0 rfl) ?_
      refine cg6 C hK hT dX0_priceOf_86 ?_
      refine lv_bipush (v := 9) hx hb dX0_priceOf_89 (by decide) ?_
      refine lv_aload_n hx hb dX0_priceOf_91 rfl (lv_at hl 1 rfl) ?_
      obtain ⟨hc5, h⟩ := ckC_some h
      obtain ⟨v6, hv6, h⟩ := bd1_some h
      refine r_int (run_c (As := []) (rest := [.int (9 : Int32), .ref (a + 106)]) C hK hT hS.2.1 (rv_D (ci := 3) rfl hK hT hc5) (mX3_sense hv6) q1229 q1230 q1231 q170 q1232 ⟨rfl, rfl⟩ hdX3_sense ⟨Nat.le_of_ble_eq_true rfl, Nat.le_of_ble_eq_true rfl⟩ ⟨Nat.zero_le _, Nat.zero_le _⟩ rfl hl.1 rfl (Nat.le_of_ble_eq_true rfl) dX0_priceOf_92) ?_
      obtain ⟨hi7, h⟩ := ck_some h
      refine c_ist C hK hT hS 106 14 (by decide) (fun _ _ => rfl) hi7 dX0_priceOf_95 (fun t8 H locs et8 hT hS hK => ?_)
      replace h := lt1_sub et8 h
      refine lv_aload_n hx hb dX0_priceOf_96 rfl (lv_at hl 0 rfl) ?_
      refine cg6 C hK hT dX0_priceOf_97 ?_
      refine lv_bipush (v := 10) hx hb dX0_priceOf_100 (by decide) ?_
      refine lv_iload_n hx hb dX0_priceOf_102 rfl (lv_at hl 2 rfl) ?_
      obtain ⟨hi9, h⟩ := ck_some h
      refine c_ist C hK hT hS 106 14 (by decide) (fun _ _ => rfl) hi9 dX0_priceOf_103 (fun t10 H locs et10 hT hS hK => ?_)
      replace h := lt1_sub et10 h
      refine lv_lconst (v := 0) hx hb dX0_priceOf_104 (by decide) ?_
      refine lv_ldc2 hx hb hown (hts _ q1351) dX0_priceOf_105 ?_
      refine lv_aload_n hx hb dX0_priceOf_108 rfl (lv_at hl 0 rfl) ?_
      obtain ⟨v11, hv11, h⟩ := bd1_some h
      refine r_ref1 (run_c (As := []) (rest := [.long (999 : Int64), .long (0 : Int64)]) C hK hT hS.2.1 (rv_X hK hT) (mX0_rules hv11) q1069 q1071 qs29 q158 q1072 ⟨rfl, rfl⟩ hdX0_rules ⟨Nat.le_of_ble_eq_true rfl, Nat.le_of_ble_eq_true rfl⟩ ⟨Nat.zero_le _, Nat.zero_le _⟩ rfl hl.1 rfl (Nat.le_of_ble_eq_true rfl) dX0_priceOf_109) ?_
      obtain ⟨v12, hv12, h⟩ := bd1_some h
      refine d_getN (ci := 5) in_X5 rfl C hK hT 3 (by decide) (nf585 hK.2.1) rfl (gO_some hv12) dX0_priceOf_112 ?_
      refine lv_aload_n hx hb dX0_priceOf_115 rfl (lv_at hl 0 rfl) ?_
      refine cg6 C hK hT dX0_priceOf_116 ?_
      replace h := bd1_some h
      obtain ⟨r13, hr_, h⟩ := h
      subst hr_
      obtain ⟨v14, hv14, h⟩ := bd1_some h
      refine r_long5 (run_if (rest := [.long (999 : Int64), .long (0 : Int64)]) C hK hT hS.2.1 (mE_of 64 _ _ _ hv14) ⟨Nat.le_of_ble_eq_true rfl, Nat.le_of_ble_eq_true rfl⟩ q1353 hdxOf ⟨Nat.zero_le _, Nat.zero_le _⟩ hl.1 rfl (Nat.le_of_ble_eq_true rfl) dX0_priceOf_119) ?_
      refine va_mmin_long hx hb (hml.trans hl.1.symm) hown (hts _ q1354) (hts _ q1166) (hts _ q180) (hts _ q1167) (Nat.le_of_ble_eq_true rfl) (Nat.le_of_ble_eq_true rfl) (Nat.zero_le _) (Nat.zero_le _) dX0_priceOf_124 ?_
      refine va_mmax_long hx hb (hml.trans hl.1.symm) hown (hts _ q1355) (hts _ q1169) (hts _ q180) (hts _ q1170) (Nat.le_of_ble_eq_true rfl) (Nat.le_of_ble_eq_true rfl) (Nat.zero_le _) (Nat.zero_le _) dX0_priceOf_127 ?_
      refine lv_l2i hx hb dX0_priceOf_130 rfl ?_
      exact ec_i C hT hS h dX0_priceOf_131
    · replace h := if_f c h
      refine lv_aload_n hx hb dX0_priceOf_42 rfl (lv_at hl 3 rfl) ?_
      refine lv_iload hx hb dX0_priceOf_43 (lv_at hl 5 rfl) ?_
      obtain ⟨v15, hv15, h⟩ := bd1_some h
      refine d_ild C hK hT hv15 dX0_priceOf_45 ?_
      refine lv_istore (lv' := [(6, .int v15), (0, .ref a), (1, .ref x1), (2, .int x2), (3, .ref x3), (4, .int x4), (5, .int x5)]) hx hb dX0_priceOf_46 hl (by decide) rfl (fun ls hl => ?_)
      refine lv_iload_n hx hb dX0_priceOf_48 rfl (lv_at hl 3 rfl) ?_
      refine lv_aload_n hx hb dX0_priceOf_49 rfl (lv_at hl 1 rfl) ?_
      refine cg0 C hK hT dX0_priceOf_50 ?_
      refine lv_iload hx hb dX0_priceOf_53 (lv_at hl 0 rfl) ?_
      obtain ⟨v16, hv16, h⟩ := bd1_some h
      refine r_int (run_c (As := [.int v15]) (rest := [.int x2]) C hK hT hS.2.1 (rv_S hK hT (Or.inl rfl)) (mX1_isOut hv16) q1064 q1065 q1066 q159 q1067 ⟨rfl, rfl⟩ hdX1_isOut ⟨Nat.le_of_ble_eq_true rfl, Nat.le_of_ble_eq_true rfl⟩ ⟨Nat.zero_le _, Nat.zero_le _⟩ rfl hl.1 rfl (Nat.le_of_ble_eq_true rfl) dX0_priceOf_55) ?_
      refine lv_if_eq (tgt := 65) hx hb dX0_priceOf_58 (by decide) (fun c => ?_) (fun c => ?_)
      · replace h := if_t c h
        refine lv_iconst (v := 0) hx hb dX0_priceOf_65 (by decide) ?_
        exact bX0_priceOf_p66 C ih t x1 x3 x4 x5 x2 (0 : Int32) H locs hT hS hK ls h (lv_sub hl [1, 2, 4, 5, 6] rfl)
      · replace h := if_f c h
        refine lv_iconst (v := 1) hx hb dX0_priceOf_61 (by decide) ?_
        refine lv_goto (tgt := 66) hx hb dX0_priceOf_62 (by decide) ?_
        exact bX0_priceOf_p66 C ih t x1 x3 x4 x5 x2 (1 : Int32) H locs hT hS hK ls h (lv_sub hl [1, 2, 4, 5, 6] rfl)
theorem bX0_priceOf {p : Program} {l : Launch} {e : Env} {s : State} {m : MethodId} {args : Array Value} {below : List Frame} {meth : Method} {c : Code} {D : va_G} {dA : Nat → ClassId} {a : Nat} {k : KP a} {t0 : CS} {r : Int32} {t9 : CS} (C : cx p s m args meth c cX0_priceOf RX0 7 (some .int)) : ∀ (t : CS) (x1 : Nat) (H : Heap) (locs : List Loc) (hT : cW D dA a k t H) (hS : cS a s.heap H locs t0.2.2.2 0 t) (hK : kC D dA a k t.2.2.2 s) (ls : Array Slot), C_priceOf t x1 = some (r, t9) → lv_has ls 7 [(0, .ref a), (1, .ref x1)] → W p l e rmX0_priceOf s m args below meth c H locs 0 0 (MQ below (cQ D dA a k 0 t0 t9 (some (.int r))) args s 0 0 (ca a)) (F0 m 0 ls []) := by
  obtain ⟨hx, hb, hr, hml, hown, hts, hlocks⟩ := id C
  intro t x1 H locs hT hS hK ls h hl
  unfold C_priceOf at h
  refine lv_aload_n hx hb dX0_priceOf_0 rfl (lv_at hl 0 rfl) ?_
  obtain ⟨v1, hv1, h⟩ := bd1_some h
  refine r_ref1 (run_c (As := []) (rest := []) C hK hT hS.2.1 (rv_X hK hT) (mX0_rules hv1) q1069 q1071 qs29 q158 q1072 ⟨rfl, rfl⟩ hdX0_rules ⟨Nat.le_of_ble_eq_true rfl, Nat.le_of_ble_eq_true rfl⟩ ⟨Nat.zero_le _, Nat.zero_le _⟩ rfl hl.1 rfl (Nat.le_of_ble_eq_true rfl) dX0_priceOf_1) ?_
  obtain ⟨v2, hv2, h⟩ := bd1_some h
  refine d_getN (ci := 5) in_X5 rfl C hK hT 3 (by decide) (nf585 hK.2.1) rfl (gO_some hv2) dX0_priceOf_4 ?_
  replace h := on1_some h
  rcases h with ⟨ho, h⟩ | ⟨r3, ho, h⟩
  · subst ho
    refine lv_ifnonnullN hx hb dX0_priceOf_7 ?_
    refine lv_aload_n hx hb dX0_priceOf_10 rfl (lv_at hl 1 rfl) ?_
    obtain ⟨hc4, h⟩ := ckC_some h
    obtain ⟨v5, hv5, h⟩ := bd1_some h
    refine r_int (run_c (As := []) (rest := []) C hK hT hS.2.1 (rv_D (ci := 3) rfl hK hT hc4) (mX3_length hv5) q1237 q1238 q1239 q170 q1240 ⟨rfl, rfl⟩ hdX3_length ⟨Nat.le_of_ble_eq_true rfl, Nat.le_of_ble_eq_true rfl⟩ ⟨Nat.zero_le _, Nat.zero_le _⟩ rfl hl.1 rfl (Nat.le_of_ble_eq_true rfl) dX0_priceOf_11) ?_
    refine lv_iconst (v := 1) hx hb dX0_priceOf_14 (by decide) ?_
    refine lv_iadd hx hb dX0_priceOf_15 ?_
    exact ec_i C hT hS h dX0_priceOf_16
  · subst ho
    refine lv_ifnonnull (tgt := 17) hx hb dX0_priceOf_7 (by decide) ?_
    refine lv_aload_n hx hb dX0_priceOf_17 rfl (lv_at hl 0 rfl) ?_
    obtain ⟨t6, ht6, h⟩ := bd1_some h
    refine wc_void hS hK (run_c (As := []) (rest := []) C hK hT hS.2.1 (rv_X hK hT) (mX0_names ht6) q1085 q1087 qs31 q158 q1088 ⟨rfl, rfl⟩ hdX0_names ⟨Nat.le_of_ble_eq_true rfl, Nat.le_of_ble_eq_true rfl⟩ ⟨Nat.zero_le _, Nat.zero_le _⟩ rfl hl.1 rfl (Nat.le_of_ble_eq_true rfl) dX0_priceOf_18) (fun H locs hT hS hK hNt6 => ?_)
    refine lv_iconst (v := 0) hx hb dX0_priceOf_21 (by decide) ?_
    refine lv_istore_n (lv' := [(2, .int (0 : Int32)), (0, .ref a), (1, .ref x1)]) hx hb dX0_priceOf_22 rfl hl (by decide) rfl (fun ls hl => ?_)
    refine lv_aload_n hx hb dX0_priceOf_23 rfl (lv_at hl 2 rfl) ?_
    obtain ⟨hc7, h⟩ := ckC_some h
    obtain ⟨v8, hv8, h⟩ := bd1_some h
    refine r_ref1 (run_c (As := []) (rest := []) C hK hT hS.2.1 (rv_D (ci := 3) rfl hK hT hc7) (mX3_letter hv8) q358 q359 q360 q170 q361 ⟨rfl, rfl⟩ hdX3_letter ⟨Nat.le_of_ble_eq_true rfl, Nat.le_of_ble_eq_true rfl⟩ ⟨Nat.zero_le _, Nat.zero_le _⟩ rfl hl.1 rfl (Nat.le_of_ble_eq_true rfl) dX0_priceOf_24) ?_
    refine lv_astore_n (lv' := [(3, .ref v8), (2, .int (0 : Int32)), (0, .ref a), (1, .ref x1)]) hx hb dX0_priceOf_27 rfl hl (by decide) rfl (fun ls hl => ?_)
    refine lv_aload_n hx hb dX0_priceOf_28 rfl (lv_at hl 0 rfl) ?_
    obtain ⟨v9, hv9, h⟩ := bd1_some h
    refine d_aln C hK hT hv9 dX0_priceOf_29 ?_
    refine lv_topi (fun v10 ev10 => ?_)
    replace h := lt1_sub ev10 h
    refine lv_istore (lv' := [(4, .int v10), (3, .ref v8), (2, .int (0 : Int32)), (0, .ref a), (1, .ref x1)]) hx hb dX0_priceOf_30 hl (by decide) rfl (fun ls hl => ?_)
    refine lv_iconst (v := 0) hx hb dX0_priceOf_32 (by decide) ?_
    refine lv_istore (lv' := [(5, .int (0 : Int32)), (4, .int v10), (3, .ref v8), (2, .int (0 : Int32)), (0, .ref a), (1, .ref x1)]) hx hb dX0_priceOf_33 hl (by decide) rfl (fun ls hl => ?_)
    exact bX0_priceOf_p35 C fu t6 x1 (0 : Int32) v8 v10 (0 : Int32) H locs hT hS hK ls h (lv_sub hl [4, 5, 3, 2, 1, 0] rfl)
theorem mX0_priceOf {l : Launch} {D : va_G} {dA : Nat → ClassId} {a : Nat} {k : KP a} {t : CS} {x1 : Nat} {r : Int32} {t9 : CS} (h : C_priceOf t x1 = some (r, t9)) : Met l yX0_priceOf (ws_ yX0_priceOf cX0_priceOf 7 (some .int)) rmX0_priceOf (cPc D dA a k t [.ref a, .ref x1]) (cQ D dA a k 0 t t9 (some (.int r))) 0 0 (ca a) := en_C (by decide +kernel) rfl (Nat.le_of_ble_eq_true rfl) (fun p e s m below meth c ls C hK hT hl => bX0_priceOf C t x1 _ [] hT cS.rf hK ls h hl)
set_option maxRecDepth 20000 in
abbrev rmX0_dear : Room := { frames := 85, cells := 0, slots := 0, locals := 2986 }
theorem hdX0_dear : yX0_dear.cls = RX0 ∧ yX0_dear.cls ≠ "java/lang/invoke/MethodHandle" ∧ yX0_dear.cls ≠ "java/lang/invoke/VarHandle" ∧ (parseMethodDescriptor yX0_dear.desc).map (fun d => d.parameters.length) = some 1 := by decide +kernel
theorem bX0_dear_p29 {p : Program} {l : Launch} {e : Env} {s : State} {m : MethodId} {args : Array Value} {below : List Frame} {meth : Method} {c : Code} {D : va_G} {dA : Nat → ClassId} {a : Nat} {k : KP a} {t0 : CS} {r : Int32} {t9 : CS} (C : cx p s m args meth c cX0_dear RX0 4 (some .int)) : ∀ (n : Nat), ∀ (t : CS) (x1 : Int32) (x2 : Int32) (x3 : Int32) (H : Heap) (locs : List Loc) (hT : cW D dA a k t H) (hS : cS a s.heap H locs t0.2.2.2 0 t) (hK : kC D dA a k t.2.2.2 s) (ls : Array Slot), C_dear_p29 n t x1 x2 x3 = some (r, t9) → lv_has ls 4 [(0, .ref a), (1, .int x1), (2, .int x2), (3, .int x3)] → W p l e rmX0_dear s m args below meth c H locs 0 0 (MQ below (cQ D dA a k 0 t0 t9 (some (.int r))) args s 0 0 (ca a)) (F0 m 29 ls []) := by
  obtain ⟨hx, hb, hr, hml, hown, hts, hlocks⟩ := id C
  intro n
  induction n with
  | zero =>
    intro t x1 x2 x3 H locs hT hS hK ls h hl
    have h : none = some _ := h
    cases h
  | succ n ih =>
    intro t x1 x2 x3 H locs hT hS hK ls h hl
    rw [C_dear_p29] at h
    refine lv_iload_n hx hb dX0_dear_29 rfl (lv_at hl 3 rfl) ?_
    refine lv_aload_n hx hb dX0_dear_30 rfl (lv_at hl 0 rfl) ?_
    refine cg0 C hK hT dX0_dear_31 ?_
    refine c_getSN C hK hT (Or.inl rfl) 5 (by decide) (nf232 hK.2.1) rfl (v := .ref (a + 7)) rfl dX0_dear_34 ?_
    refine lv_iload_n hx hb dX0_dear_37 rfl (lv_at hl 1 rfl) ?_
    obtain ⟨hi1, h⟩ := ck_some h
    obtain ⟨r2, hr2, h⟩ := bd1_some h
    refine c_ald C hK hT 7 8 6 (by decide) rfl (g := t.2.1 7) (by rfl) (by rfl) hi1 hr2 dX0_dear_38 ?_
    obtain ⟨v3, hv3, h⟩ := bd1_some h
    refine d_aln C hK hT hv3 dX0_dear_39 ?_
    refine lv_icmp_ge (tgt := 70) hx hb dX0_dear_40 (by decide) (fun c => ?_) (fun c => ?_)
    · replace h := if_t c h
      refine lv_iload_n hx hb dX0_dear_70 rfl (lv_at hl 2 rfl) ?_
      exact ec_i C hT hS h dX0_dear_71
    · replace h := if_f c h
      refine lv_iload_n hx hb dX0_dear_43 rfl (lv_at hl 2 rfl) ?_
      refine lv_aload_n hx hb dX0_dear_44 rfl (lv_at hl 0 rfl) ?_
      refine lv_aload_n hx hb dX0_dear_45 rfl (lv_at hl 0 rfl) ?_
      refine cg0 C hK hT dX0_dear_46 ?_
      refine c_getSN C hK hT (Or.inl rfl) 4 (by decide) (nf230 hK.2.1) rfl (v := .ref (a + 6)) rfl dX0_dear_49 ?_
      refine lv_aload_n hx hb dX0_dear_52 rfl (lv_at hl 0 rfl) ?_
      refine cg7 C hK hT dX0_dear_53 ?_
      refine lv_iload_n hx hb dX0_dear_56 rfl (lv_at hl 3 rfl) ?_
      obtain ⟨hi4, h⟩ := ck_some h
      refine c_ild C hK hT 107 8 (by decide) (fun _ _ => rfl) hi4 dX0_dear_57 ?_
      obtain ⟨hi5, h⟩ := ck_some h
      obtain ⟨r6, hr6, h⟩ := bd1_some h
      refine c_ald C hK hT 6 24 4 (by decide) rfl (g := t.2.1 6) (by rfl) (by rfl) hi5 hr6 dX0_dear_58 ?_
      obtain ⟨v7, t8, ht8, h⟩ := bd2_some h
      refine wc_int hS hK (run_c (As := [.ref r6]) (rest := [.int x2]) C hK hT hS.2.1 (rv_X hK hT) (mX0_priceOf ht8) q1347 q1349 qs48 q158 q1350 ⟨rfl, rfl⟩ hdX0_priceOf ⟨Nat.le_of_ble_eq_true rfl, Nat.le_of_ble_eq_true rfl⟩ ⟨Nat.zero_le _, Nat.zero_le _⟩ rfl hl.1 rfl (Nat.le_of_ble_eq_true rfl) dX0_dear_59) (fun H locs hT hS hK hNt8 => ?_)
      refine lv_iadd hx hb dX0_dear_62 ?_
      refine lv_topi (fun v9 ev9 => ?_)
      replace h := lt1_sub ev9 h
      refine lv_istore_n (lv' := [(2, .int v9), (0, .ref a), (1, .int x1), (3, .int x3)]) hx hb dX0_dear_63 rfl hl (by decide) rfl (fun ls hl => ?_)
      obtain ⟨v10, ev10⟩ : ∃ y : Int32, y = x3 + (1 : Int32) := ⟨_, rfl⟩
      replace h := lt1_sub ev10 h
      refine lv_iinc (v := v10) (lv' := [(3, .int v10), (2, .int v9), (0, .ref a), (1, .int x1)]) hx hb dX0_dear_64 hl (k := 3) rfl (by rw [ev10]; rfl) (by decide) rfl (fun ls hl => ?_)
      refine lv_goto (tgt := 29) hx hb dX0_dear_67 (by decide) ?_
      exact ih t8 x1 v9 v10 H locs hT hS hK ls h (lv_sub hl [2, 3, 1, 0] rfl)
theorem bX0_dear {p : Program} {l : Launch} {e : Env} {s : State} {m : MethodId} {args : Array Value} {below : List Frame} {meth : Method} {c : Code} {D : va_G} {dA : Nat → ClassId} {a : Nat} {k : KP a} {t0 : CS} {r : Int32} {t9 : CS} (C : cx p s m args meth c cX0_dear RX0 4 (some .int)) : ∀ (t : CS) (x1 : Int32) (H : Heap) (locs : List Loc) (hT : cW D dA a k t H) (hS : cS a s.heap H locs t0.2.2.2 0 t) (hK : kC D dA a k t.2.2.2 s) (ls : Array Slot), C_dear t x1 = some (r, t9) → lv_has ls 4 [(0, .ref a), (1, .int x1)] → W p l e rmX0_dear s m args below meth c H locs 0 0 (MQ below (cQ D dA a k 0 t0 t9 (some (.int r))) args s 0 0 (ca a)) (F0 m 0 ls []) := by
  obtain ⟨hx, hb, hr, hml, hown, hts, hlocks⟩ := id C
  intro t x1 H locs hT hS hK ls h hl
  unfold C_dear at h
  refine lv_aload_n hx hb dX0_dear_0 rfl (lv_at hl 0 rfl) ?_
  refine lv_iload_n hx hb dX0_dear_1 rfl (lv_at hl 1 rfl) ?_
  obtain ⟨v1, hv1, h⟩ := bd1_some h
  refine r_int (run_c (As := [.int x1]) (rest := []) C hK hT hS.2.1 (rv_X hK hT) (mX0_isSaying hv1) q1212 q1214 qs36 q158 q1215 ⟨rfl, rfl⟩ hdX0_isSaying ⟨Nat.le_of_ble_eq_true rfl, Nat.le_of_ble_eq_true rfl⟩ ⟨Nat.zero_le _, Nat.zero_le _⟩ rfl hl.1 rfl (Nat.le_of_ble_eq_true rfl) dX0_dear_2) ?_
  refine lv_if_eq (tgt := 23) hx hb dX0_dear_5 (by decide) (fun c => ?_) (fun c => ?_)
  · replace h := if_t c h
    refine lv_iconst (v := -1) hx hb dX0_dear_23 (by decide) ?_
    exact ec_i C hT hS h dX0_dear_24
  · replace h := if_f c h
    refine lv_aload_n hx hb dX0_dear_8 rfl (lv_at hl 0 rfl) ?_
    refine lv_iload_n hx hb dX0_dear_9 rfl (lv_at hl 1 rfl) ?_
    refine lv_aload_n hx hb dX0_dear_10 rfl (lv_at hl 0 rfl) ?_
    refine cg0 C hK hT dX0_dear_11 ?_
    obtain ⟨v2, hv2, h⟩ := bd1_some h
    refine r_int (run_c (As := []) (rest := [.int x1, .ref a]) C hK hT hS.2.1 (rv_S hK hT (Or.inl rfl)) (mX1_silent hv2) q1216 q1217 q1218 q159 q1219 ⟨rfl, rfl⟩ hdX1_silent ⟨Nat.le_of_ble_eq_true rfl, Nat.le_of_ble_eq_true rfl⟩ ⟨Nat.zero_le _, Nat.zero_le _⟩ rfl hl.1 rfl (Nat.le_of_ble_eq_true rfl) dX0_dear_14) ?_
    obtain ⟨v3, t4, ht4, h⟩ := bd2_some h
    refine wc_int hS hK (run_c (As := [.int x1, .int v2]) (rest := []) C hK hT hS.2.1 (rv_X hK hT) (mX0_says ht4) q1221 q1223 qs37 q158 q1224 ⟨rfl, rfl⟩ hdX0_says ⟨Nat.le_of_ble_eq_true rfl, Nat.le_of_ble_eq_true rfl⟩ ⟨Nat.zero_le _, Nat.zero_le _⟩ rfl hl.1 rfl (Nat.le_of_ble_eq_true rfl) dX0_dear_17) (fun H locs hT hS hK hNt4 => ?_)
    refine lv_if_ne (tgt := 25) hx hb dX0_dear_20 (by decide) (fun c => ?_) (fun c => ?_)
    · replace h := if_f c h
      refine lv_iconst (v := 0) hx hb dX0_dear_25 (by decide) ?_
      refine lv_istore_n (lv' := [(2, .int (0 : Int32)), (0, .ref a), (1, .int x1)]) hx hb dX0_dear_26 rfl hl (by decide) rfl (fun ls hl => ?_)
      refine lv_iconst (v := 0) hx hb dX0_dear_27 (by decide) ?_
      refine lv_istore_n (lv' := [(3, .int (0 : Int32)), (2, .int (0 : Int32)), (0, .ref a), (1, .int x1)]) hx hb dX0_dear_28 rfl hl (by decide) rfl (fun ls hl => ?_)
      exact bX0_dear_p29 C fu t4 x1 (0 : Int32) (0 : Int32) H locs hT hS hK ls h (lv_sub hl [2, 3, 1, 0] rfl)
    · replace h := if_t c h
      refine lv_iconst (v := -1) hx hb dX0_dear_23 (by decide) ?_
      exact ec_i C hT hS h dX0_dear_24
theorem mX0_dear {l : Launch} {D : va_G} {dA : Nat → ClassId} {a : Nat} {k : KP a} {t : CS} {x1 : Int32} {r : Int32} {t9 : CS} (h : C_dear t x1 = some (r, t9)) : Met l yX0_dear (ws_ yX0_dear cX0_dear 4 (some .int)) rmX0_dear (cPc D dA a k t [.ref a, .int x1]) (cQ D dA a k 0 t t9 (some (.int r))) 0 0 (ca a) := en_C (by decide +kernel) rfl (Nat.le_of_ble_eq_true rfl) (fun p e s m below meth c ls C hK hT hl => bX0_dear C t x1 _ [] hT cS.rf hK ls h hl)
set_option maxRecDepth 20000 in
abbrev rmX0_stops (N : Nat) : Room := { frames := 4 + 1 * N, cells := 0, slots := 0, locals := 90 + 26 * N }
theorem hdX0_stops : yX0_stops.cls = RX0 ∧ yX0_stops.cls ≠ "java/lang/invoke/MethodHandle" ∧ yX0_stops.cls ≠ "java/lang/invoke/VarHandle" ∧ (parseMethodDescriptor yX0_stops.desc).map (fun d => d.parameters.length) = some 4 := by decide +kernel
theorem bX0_stops_p24 {p : Program} {l : Launch} {e : Env} {s : State} {m : MethodId} {args : Array Value} {below : List Frame} {meth : Method} {c : Code} {D : va_G} {dA : Nat → ClassId} {a : Nat} {k : KP a} {t0 : CS} {r : Int32} {t9 : CS} (C : cx p s m args meth c cX0_stops RX0 7 (some .int)) {N : Nat} {rec : CS → Int32 → Int32 → Int32 → Int32 → Option (Int32 × CS)} (hrec : ∀ (t : CS) (x1 : Int32) (x2 : Int32) (x3 : Int32) (x4 : Int32) (r : Int32) (t9 : CS), rec t x1 x2 x3 x4 = some (r, t9) → Met l yX0_stops (ws_ yX0_stops cX0_stops 7 (some .int)) (rmX0_stops N) (cPc D dA a k t [.ref a, .int x1, .int x2, .int x3, .int x4]) (cQ D dA a k 0 t t9 (some (.int r))) 0 0 (ca a)) : ∀ (n : Nat), ∀ (t : CS) (x1 : Int32) (x3 : Int32) (x4 : Int32) (x5 : Int32) (H : Heap) (locs : List Loc) (hT : cW D dA a k t H) (hS : cS a s.heap H locs t0.2.2.2 0 t) (hK : kC D dA a k t.2.2.2 s) (ls : Array Slot), C_stops_p24 rec n t x1 x3 x4 x5 = some (r, t9) → lv_has ls 7 [(0, .ref a), (1, .int x1), (3, .int x3), (4, .int x4), (5, .int x5)] → W p l e (rmX0_stops (N + 1)) s m args below meth c H locs 0 0 (MQ below (cQ D dA a k 0 t0 t9 (some (.int r))) args s 0 0 (ca a)) (F0 m 24 ls []) := by
  obtain ⟨hx, hb, hr, hml, hown, hts, hlocks⟩ := id C
  intro n
  induction n with
  | zero =>
    intro t x1 x3 x4 x5 H locs hT hS hK ls h hl
    have h : none = some _ := h
    cases h
  | succ n ih =>
    intro t x1 x3 x4 x5 H locs hT hS hK ls h hl
    rw [C_stops_p24] at h
    refine lv_iload hx hb dX0_stops_24 (lv_at hl 4 rfl) ?_
    refine lv_bipush (v := 26) hx hb dX0_stops_26 (by decide) ?_
    refine lv_icmp_ge (tgt := 67) hx hb dX0_stops_28 (by decide) (fun c => ?_) (fun c => ?_)
    · replace h := if_t c h
      refine lv_iconst (v := -1) hx hb dX0_stops_67 (by decide) ?_
      exact ec_i C hT hS h dX0_stops_68
    · replace h := if_f c h
      refine lv_aload_n hx hb dX0_stops_31 rfl (lv_at hl 0 rfl) ?_
      refine lv_iload_n hx hb dX0_stops_32 rfl (lv_at hl 1 rfl) ?_
      refine lv_iload hx hb dX0_stops_33 (lv_at hl 4 rfl) ?_
      refine lv_iconst (v := 1) hx hb dX0_stops_35 (by decide) ?_
      refine lv_iadd hx hb dX0_stops_36 ?_
      refine lv_iload_n hx hb dX0_stops_37 rfl (lv_at hl 2 rfl) ?_
      refine lv_iconst (v := 1) hx hb dX0_stops_38 (by decide) ?_
      refine lv_isub hx hb dX0_stops_39 ?_
      refine lv_iload hx hb dX0_stops_40 (lv_at hl 3 rfl) ?_
      refine lv_iconst (v := 1) hx hb dX0_stops_42 (by decide) ?_
      refine lv_iload hx hb dX0_stops_43 (lv_at hl 4 rfl) ?_
      refine lv_ishl hx hb dX0_stops_45 ?_
      refine lv_ior hx hb dX0_stops_46 ?_
      obtain ⟨v1, t2, ht2, h⟩ := bd2_some h
      refine wc_int hS hK (run_c (As := [.int x1, .int (x5 + (1 : Int32)), .int (x3 - (1 : Int32)), .int (x4 ||| ((1 : Int32) <<< (x5 &&& (31 : Int32))))]) (rest := []) C hK hT hS.2.1 (rv_X hK hT) (hrec _ _ _ _ _ _ _ ht2) q1360 q1362 qs49 q158 q1363 ⟨rfl, rfl⟩ hdX0_stops ⟨show 4 + 1 * N + 1 ≤ 4 + 1 * (N + 1) from by omega, show 8 + (7 + 11) + (90 + 26 * N) ≤ 90 + 26 * (N + 1) from by omega⟩ ⟨Nat.zero_le _, Nat.zero_le _⟩ rfl hl.1 rfl (Nat.le_of_ble_eq_true rfl) dX0_stops_47) (fun H locs hT hS hK hNt2 => ?_)
      refine lv_istore (lv' := [(6, .int v1), (0, .ref a), (1, .int x1), (3, .int x3), (4, .int x4), (5, .int x5)]) hx hb dX0_stops_50 hl (by decide) rfl (fun ls hl => ?_)
      refine lv_iload hx hb dX0_stops_52 (lv_at hl 0 rfl) ?_
      refine lv_iconst (v := -1) hx hb dX0_stops_54 (by decide) ?_
      refine lv_icmp_eq (tgt := 61) hx hb dX0_stops_55 (by decide) (fun c => ?_) (fun c => ?_)
      · replace h := if_t c h
        obtain ⟨v3, ev3⟩ : ∃ y : Int32, y = x5 + (1 : Int32) := ⟨_, rfl⟩
        replace h := lt1_sub ev3 h
        refine lv_iinc (v := v3) (lv' := [(5, .int v3), (6, .int v1), (0, .ref a), (1, .int x1), (3, .int x3), (4, .int x4)]) hx hb dX0_stops_61 hl (k := 5) rfl (by rw [ev3]; rfl) (by decide) rfl (fun ls hl => ?_)
        refine lv_goto (tgt := 24) hx hb dX0_stops_64 (by decide) ?_
        exact ih t2 x1 x3 x4 v3 H locs hT hS hK ls h (lv_sub hl [2, 3, 4, 5, 0] rfl)
      · replace h := if_f c h
        refine lv_iload hx hb dX0_stops_58 (lv_at hl 0 rfl) ?_
        exact ec_i C hT hS h dX0_stops_60
theorem bX0_stops {p : Program} {l : Launch} {e : Env} {s : State} {m : MethodId} {args : Array Value} {below : List Frame} {meth : Method} {c : Code} {D : va_G} {dA : Nat → ClassId} {a : Nat} {k : KP a} {t0 : CS} {r : Int32} {t9 : CS} (C : cx p s m args meth c cX0_stops RX0 7 (some .int)) {N : Nat} {rec : CS → Int32 → Int32 → Int32 → Int32 → Option (Int32 × CS)} (hrec : ∀ (t : CS) (x1 : Int32) (x2 : Int32) (x3 : Int32) (x4 : Int32) (r : Int32) (t9 : CS), rec t x1 x2 x3 x4 = some (r, t9) → Met l yX0_stops (ws_ yX0_stops cX0_stops 7 (some .int)) (rmX0_stops N) (cPc D dA a k t [.ref a, .int x1, .int x2, .int x3, .int x4]) (cQ D dA a k 0 t t9 (some (.int r))) 0 0 (ca a)) : ∀ (t : CS) (x1 : Int32) (x2 : Int32) (x3 : Int32) (x4 : Int32) (H : Heap) (locs : List Loc) (hT : cW D dA a k t H) (hS : cS a s.heap H locs t0.2.2.2 0 t) (hK : kC D dA a k t.2.2.2 s) (ls : Array Slot), C_stops_b rec t x1 x2 x3 x4 = some (r, t9) → lv_has ls 7 [(0, .ref a), (1, .int x1), (2, .int x2), (3, .int x3), (4, .int x4)] → W p l e (rmX0_stops (N + 1)) s m args below meth c H locs 0 0 (MQ below (cQ D dA a k 0 t0 t9 (some (.int r))) args s 0 0 (ca a)) (F0 m 0 ls []) := by
  obtain ⟨hx, hb, hr, hml, hown, hts, hlocks⟩ := id C
  intro t x1 x2 x3 x4 H locs hT hS hK ls h hl
  unfold C_stops_b at h
  refine lv_iload_n hx hb dX0_stops_0 rfl (lv_at hl 3 rfl) ?_
  refine lv_if_ne (tgt := 21) hx hb dX0_stops_1 (by decide) (fun c => ?_) (fun c => ?_)
  · replace h := if_f c h
    refine lv_iload_n hx hb dX0_stops_21 rfl (lv_at hl 2 rfl) ?_
    refine lv_istore (lv' := [(5, .int x2), (0, .ref a), (1, .int x1), (2, .int x2), (3, .int x3), (4, .int x4)]) hx hb dX0_stops_22 hl (by decide) rfl (fun ls hl => ?_)
    exact bX0_stops_p24 C hrec fu t x1 x3 x4 x2 H locs hT hS hK ls h (lv_sub hl [1, 2, 4, 5, 0] rfl)
  · replace h := if_t c h
    refine lv_aload_n hx hb dX0_stops_4 rfl (lv_at hl 0 rfl) ?_
    refine lv_iload_n hx hb dX0_stops_5 rfl (lv_at hl 1 rfl) ?_
    refine lv_iload hx hb dX0_stops_6 (lv_at hl 4 rfl) ?_
    obtain ⟨v1, t2, ht2, h⟩ := bd2_some h
    refine wc_int hS hK (run_c (As := [.int x1, .int x4]) (rest := []) C hK hT hS.2.1 (rv_X hK hT) (mX0_says ht2) q1221 q1223 qs37 q158 q1224 ⟨rfl, rfl⟩ hdX0_says ⟨show 3 + 1 ≤ 4 + 1 * (N + 1) from by omega, show 8 + (5 + 11) + (66) ≤ 90 + 26 * (N + 1) from by omega⟩ ⟨Nat.zero_le _, Nat.zero_le _⟩ rfl hl.1 rfl (Nat.le_of_ble_eq_true rfl) dX0_stops_8) (fun H locs hT hS hK hNt2 => ?_)
    refine lv_if_eq (tgt := 18) hx hb dX0_stops_11 (by decide) (fun c => ?_) (fun c => ?_)
    · replace h := if_t c h
      refine lv_iload hx hb dX0_stops_18 (lv_at hl 4 rfl) ?_
      exact ec_i C hT hS h dX0_stops_20
    · replace h := if_f c h
      refine lv_iconst (v := -1) hx hb dX0_stops_14 (by decide) ?_
      refine lv_goto (tgt := 20) hx hb dX0_stops_15 (by decide) ?_
      exact ec_i C hT hS h dX0_stops_20
theorem mX0_stops {l : Launch} {D : va_G} {dA : Nat → ClassId} {a : Nat} {k : KP a} : ∀ (n : Nat), ∀ (t : CS) (x1 : Int32) (x2 : Int32) (x3 : Int32) (x4 : Int32) (r : Int32) (t9 : CS), C_stops n t x1 x2 x3 x4 = some (r, t9) → Met l yX0_stops (ws_ yX0_stops cX0_stops 7 (some .int)) (rmX0_stops n) (cPc D dA a k t [.ref a, .int x1, .int x2, .int x3, .int x4]) (cQ D dA a k 0 t t9 (some (.int r))) 0 0 (ca a) := by
  intro n
  induction n with
  | zero =>
    intro t x1 x2 x3 x4 r t9 h
    have h : none = some _ := h
    cases h
  | succ n ih =>
    intro t x1 x2 x3 x4 r t9 h
    rw [C_stops] at h
    exact en_C (by decide +kernel) rfl (Nat.le_of_ble_eq_true rfl) (fun p e s m below meth c ls C hK hT hl => bX0_stops C ih t x1 x2 x3 x4 _ [] hT cS.rf hK ls h hl)
set_option maxRecDepth 20000 in
abbrev rmX0_stop : Room := { frames := 69, cells := 0, slots := 0, locals := 1780 }
theorem hdX0_stop : yX0_stop.cls = RX0 ∧ yX0_stop.cls ≠ "java/lang/invoke/MethodHandle" ∧ yX0_stop.cls ≠ "java/lang/invoke/VarHandle" ∧ (parseMethodDescriptor yX0_stop.desc).map (fun d => d.parameters.length) = some 1 := by decide +kernel
theorem bX0_stop_p12 {p : Program} {l : Launch} {e : Env} {s : State} {m : MethodId} {args : Array Value} {below : List Frame} {meth : Method} {c : Code} {D : va_G} {dA : Nat → ClassId} {a : Nat} {k : KP a} {t0 : CS} {r : Int32} {t9 : CS} (C : cx p s m args meth c cX0_stop RX0 4 (some .int)) : ∀ (n : Nat), ∀ (t : CS) (x1 : Int32) (x2 : Int32) (H : Heap) (locs : List Loc) (hT : cW D dA a k t H) (hS : cS a s.heap H locs t0.2.2.2 0 t) (hK : kC D dA a k t.2.2.2 s) (ls : Array Slot), C_stop_p12 n t x1 x2 = some (r, t9) → lv_has ls 4 [(0, .ref a), (1, .int x1), (2, .int x2)] → W p l e rmX0_stop s m args below meth c H locs 0 0 (MQ below (cQ D dA a k 0 t0 t9 (some (.int r))) args s 0 0 (ca a)) (F0 m 12 ls []) := by
  obtain ⟨hx, hb, hr, hml, hown, hts, hlocks⟩ := id C
  intro n
  induction n with
  | zero =>
    intro t x1 x2 H locs hT hS hK ls h hl
    have h : none = some _ := h
    cases h
  | succ n ih =>
    intro t x1 x2 H locs hT hS hK ls h hl
    rw [C_stop_p12] at h
    refine lv_iload_n hx hb dX0_stop_12 rfl (lv_at hl 2 rfl) ?_
    refine lv_iconst (v := 5) hx hb dX0_stop_13 (by decide) ?_
    refine lv_icmp_ge (tgt := 39) hx hb dX0_stop_14 (by decide) (fun c => ?_) (fun c => ?_)
    · replace h := if_t c h
      refine lv_iconst (v := -1) hx hb dX0_stop_39 (by decide) ?_
      exact ec_i C hT hS h dX0_stop_40
    · replace h := if_f c h
      refine lv_aload_n hx hb dX0_stop_17 rfl (lv_at hl 0 rfl) ?_
      refine lv_iload_n hx hb dX0_stop_18 rfl (lv_at hl 1 rfl) ?_
      refine lv_iconst (v := 0) hx hb dX0_stop_19 (by decide) ?_
      refine lv_iload_n hx hb dX0_stop_20 rfl (lv_at hl 2 rfl) ?_
      refine lv_iconst (v := 0) hx hb dX0_stop_21 (by decide) ?_
      obtain ⟨v1, t2, ht2, h⟩ := bd2_some h
      refine wc_int hS hK (run_c (As := [.int x1, .int (0 : Int32), .int x2, .int (0 : Int32)]) (rest := []) C hK hT hS.2.1 (rv_X hK hT) (mX0_stops 64 _ _ _ _ _ _ _ ht2) q1360 q1362 qs49 q158 q1363 ⟨rfl, rfl⟩ hdX0_stops ⟨Nat.le_of_ble_eq_true rfl, Nat.le_of_ble_eq_true rfl⟩ ⟨Nat.zero_le _, Nat.zero_le _⟩ rfl hl.1 rfl (Nat.le_of_ble_eq_true rfl) dX0_stop_22) (fun H locs hT hS hK hNt2 => ?_)
      refine lv_istore_n (lv' := [(3, .int v1), (0, .ref a), (1, .int x1), (2, .int x2)]) hx hb dX0_stop_25 rfl hl (by decide) rfl (fun ls hl => ?_)
      refine lv_iload_n hx hb dX0_stop_26 rfl (lv_at hl 0 rfl) ?_
      refine lv_iconst (v := -1) hx hb dX0_stop_27 (by decide) ?_
      refine lv_icmp_eq (tgt := 33) hx hb dX0_stop_28 (by decide) (fun c => ?_) (fun c => ?_)
      · replace h := if_t c h
        obtain ⟨v3, ev3⟩ : ∃ y : Int32, y = x2 + (1 : Int32) := ⟨_, rfl⟩
        replace h := lt1_sub ev3 h
        refine lv_iinc (v := v3) (lv' := [(2, .int v3), (3, .int v1), (0, .ref a), (1, .int x1)]) hx hb dX0_stop_33 hl (k := 3) rfl (by rw [ev3]; rfl) (by decide) rfl (fun ls hl => ?_)
        refine lv_goto (tgt := 12) hx hb dX0_stop_36 (by decide) ?_
        exact ih t2 x1 v3 H locs hT hS hK ls h (lv_sub hl [2, 3, 0] rfl)
      · replace h := if_f c h
        refine lv_iload_n hx hb dX0_stop_31 rfl (lv_at hl 0 rfl) ?_
        exact ec_i C hT hS h dX0_stop_32
theorem bX0_stop {p : Program} {l : Launch} {e : Env} {s : State} {m : MethodId} {args : Array Value} {below : List Frame} {meth : Method} {c : Code} {D : va_G} {dA : Nat → ClassId} {a : Nat} {k : KP a} {t0 : CS} {r : Int32} {t9 : CS} (C : cx p s m args meth c cX0_stop RX0 4 (some .int)) : ∀ (t : CS) (x1 : Int32) (H : Heap) (locs : List Loc) (hT : cW D dA a k t H) (hS : cS a s.heap H locs t0.2.2.2 0 t) (hK : kC D dA a k t.2.2.2 s) (ls : Array Slot), C_stop t x1 = some (r, t9) → lv_has ls 4 [(0, .ref a), (1, .int x1)] → W p l e rmX0_stop s m args below meth c H locs 0 0 (MQ below (cQ D dA a k 0 t0 t9 (some (.int r))) args s 0 0 (ca a)) (F0 m 0 ls []) := by
  obtain ⟨hx, hb, hr, hml, hown, hts, hlocks⟩ := id C
  intro t x1 H locs hT hS hK ls h hl
  unfold C_stop at h
  refine lv_aload_n hx hb dX0_stop_0 rfl (lv_at hl 0 rfl) ?_
  refine lv_iload_n hx hb dX0_stop_1 rfl (lv_at hl 1 rfl) ?_
  obtain ⟨v1, hv1, h⟩ := bd1_some h
  refine r_int (run_c (As := [.int x1]) (rest := []) C hK hT hS.2.1 (rv_X hK hT) (mX0_isSaying hv1) q1212 q1214 qs36 q158 q1215 ⟨rfl, rfl⟩ hdX0_isSaying ⟨Nat.le_of_ble_eq_true rfl, Nat.le_of_ble_eq_true rfl⟩ ⟨Nat.zero_le _, Nat.zero_le _⟩ rfl hl.1 rfl (Nat.le_of_ble_eq_true rfl) dX0_stop_2) ?_
  refine lv_if_ne (tgt := 10) hx hb dX0_stop_5 (by decide) (fun c => ?_) (fun c => ?_)
  · replace h := if_f c h
    refine lv_iconst (v := 0) hx hb dX0_stop_10 (by decide) ?_
    refine lv_istore_n (lv' := [(2, .int (0 : Int32)), (0, .ref a), (1, .int x1)]) hx hb dX0_stop_11 rfl hl (by decide) rfl (fun ls hl => ?_)
    exact bX0_stop_p12 C fu t x1 (0 : Int32) H locs hT hS hK ls h (lv_sub hl [1, 2, 0] rfl)
  · replace h := if_t c h
    refine lv_iconst (v := -1) hx hb dX0_stop_8 (by decide) ?_
    exact ec_i C hT hS h dX0_stop_9
theorem mX0_stop {l : Launch} {D : va_G} {dA : Nat → ClassId} {a : Nat} {k : KP a} {t : CS} {x1 : Int32} {r : Int32} {t9 : CS} (h : C_stop t x1 = some (r, t9)) : Met l yX0_stop (ws_ yX0_stop cX0_stop 4 (some .int)) rmX0_stop (cPc D dA a k t [.ref a, .int x1]) (cQ D dA a k 0 t t9 (some (.int r))) 0 0 (ca a) := en_C (by decide +kernel) rfl (Nat.le_of_ble_eq_true rfl) (fun p e s m below meth c ls C hK hT hl => bX0_stop C t x1 _ [] hT cS.rf hK ls h hl)
set_option maxRecDepth 20000 in
abbrev rmX0_lost : Room := { frames := 4, cells := 0, slots := 0, locals := 90 }
theorem hdX0_lost : yX0_lost.cls = RX0 ∧ yX0_lost.cls ≠ "java/lang/invoke/MethodHandle" ∧ yX0_lost.cls ≠ "java/lang/invoke/VarHandle" ∧ (parseMethodDescriptor yX0_lost.desc).map (fun d => d.parameters.length) = some 1 := by decide +kernel
theorem bX0_lost_p32 {p : Program} {l : Launch} {e : Env} {s : State} {m : MethodId} {args : Array Value} {below : List Frame} {meth : Method} {c : Code} {D : va_G} {dA : Nat → ClassId} {a : Nat} {k : KP a} {t0 : CS} {r : Int32} {t9 : CS} (C : cx p s m args meth c cX0_lost RX0 4 (some .int)) {k4 : CS → Int32 → Int32 → Int32 → Option (Int32 × CS)} (hk4 : ∀ (t : CS) (x1 : Int32) (x2 : Int32) (x3 : Int32) (H : Heap) (locs : List Loc) (hT : cW D dA a k t H) (hS : cS a s.heap H locs t0.2.2.2 0 t) (hK : kC D dA a k t.2.2.2 s) (ls : Array Slot), k4 t x1 x2 x3 = some (r, t9) → lv_has ls 4 [(0, .ref a), (1, .int x1), (2, .int x2), (3, .int x3)] → W p l e rmX0_lost s m args below meth c H locs 0 0 (MQ below (cQ D dA a k 0 t0 t9 (some (.int r))) args s 0 0 (ca a)) (F0 m 4 ls [])) : ∀ (t : CS) (x1 : Int32) (x3 : Int32) (y0 : Int32) (y1 : Int32) (H : Heap) (locs : List Loc) (hT : cW D dA a k t H) (hS : cS a s.heap H locs t0.2.2.2 0 t) (hK : kC D dA a k t.2.2.2 s) (ls : Array Slot), C_lost_p32 k4 t x1 x3 y0 y1 = some (r, t9) → lv_has ls 4 [(0, .ref a), (1, .int x1), (3, .int x3)] → W p l e rmX0_lost s m args below meth c H locs 0 0 (MQ below (cQ D dA a k 0 t0 t9 (some (.int r))) args s 0 0 (ca a)) (F0 m 32 ls [.int y1, .int y0]) := by
  obtain ⟨hx, hb, hr, hml, hown, hts, hlocks⟩ := id C
  intro t x1 x3 y0 y1 H locs hT hS hK ls h hl
  unfold C_lost_p32 at h
  refine lv_iadd hx hb dX0_lost_32 ?_
  refine lv_topi (fun v1 ev1 => ?_)
  replace h := lt1_sub ev1 h
  refine lv_istore_n (lv' := [(2, .int v1), (0, .ref a), (1, .int x1), (3, .int x3)]) hx hb dX0_lost_33 rfl hl (by decide) rfl (fun ls hl => ?_)
  obtain ⟨v2, ev2⟩ : ∃ y : Int32, y = x3 + (1 : Int32) := ⟨_, rfl⟩
  replace h := lt1_sub ev2 h
  refine lv_iinc (v := v2) (lv' := [(3, .int v2), (2, .int v1), (0, .ref a), (1, .int x1)]) hx hb dX0_lost_34 hl (k := 3) rfl (by rw [ev2]; rfl) (by decide) rfl (fun ls hl => ?_)
  refine lv_goto (tgt := 4) hx hb dX0_lost_37 (by decide) ?_
  exact hk4 t x1 v1 v2 H locs hT hS hK ls h (lv_sub hl [2, 3, 1, 0] rfl)
theorem bX0_lost_p4 {p : Program} {l : Launch} {e : Env} {s : State} {m : MethodId} {args : Array Value} {below : List Frame} {meth : Method} {c : Code} {D : va_G} {dA : Nat → ClassId} {a : Nat} {k : KP a} {t0 : CS} {r : Int32} {t9 : CS} (C : cx p s m args meth c cX0_lost RX0 4 (some .int)) : ∀ (n : Nat), ∀ (t : CS) (x1 : Int32) (x2 : Int32) (x3 : Int32) (H : Heap) (locs : List Loc) (hT : cW D dA a k t H) (hS : cS a s.heap H locs t0.2.2.2 0 t) (hK : kC D dA a k t.2.2.2 s) (ls : Array Slot), C_lost_p4 n t x1 x2 x3 = some (r, t9) → lv_has ls 4 [(0, .ref a), (1, .int x1), (2, .int x2), (3, .int x3)] → W p l e rmX0_lost s m args below meth c H locs 0 0 (MQ below (cQ D dA a k 0 t0 t9 (some (.int r))) args s 0 0 (ca a)) (F0 m 4 ls []) := by
  obtain ⟨hx, hb, hr, hml, hown, hts, hlocks⟩ := id C
  intro n
  induction n with
  | zero =>
    intro t x1 x2 x3 H locs hT hS hK ls h hl
    have h : none = some _ := h
    cases h
  | succ n ih =>
    intro t x1 x2 x3 H locs hT hS hK ls h hl
    rw [C_lost_p4] at h
    refine lv_iload_n hx hb dX0_lost_4 rfl (lv_at hl 3 rfl) ?_
    refine lv_aload_n hx hb dX0_lost_5 rfl (lv_at hl 0 rfl) ?_
    refine cg0 C hK hT dX0_lost_6 ?_
    refine c_getSN C hK hT (Or.inl rfl) 0 (by decide) (nf222 hK.2.1) rfl (v := .ref (a + 2)) rfl dX0_lost_9 ?_
    refine lv_iconst (v := 1) hx hb dX0_lost_12 (by decide) ?_
    obtain ⟨hi1, h⟩ := ck_some h
    refine c_ild C hK hT 2 7 (by decide) (fun _ _ => rfl) hi1 dX0_lost_13 ?_
    refine lv_icmp_ge (tgt := 40) hx hb dX0_lost_14 (by decide) (fun c => ?_) (fun c => ?_)
    · replace h := if_t c h
      refine lv_iload_n hx hb dX0_lost_40 rfl (lv_at hl 2 rfl) ?_
      exact ec_i C hT hS h dX0_lost_41
    · replace h := if_f c h
      refine lv_iload_n hx hb dX0_lost_17 rfl (lv_at hl 2 rfl) ?_
      refine lv_aload_n hx hb dX0_lost_18 rfl (lv_at hl 0 rfl) ?_
      refine lv_iload_n hx hb dX0_lost_19 rfl (lv_at hl 3 rfl) ?_
      refine lv_iload_n hx hb dX0_lost_20 rfl (lv_at hl 1 rfl) ?_
      obtain ⟨v2, t3, ht3, h⟩ := bd2_some h
      refine wc_int hS hK (run_c (As := [.int x3, .int x1]) (rest := [.int x2]) C hK hT hS.2.1 (rv_X hK hT) (mX0_says ht3) q1221 q1223 qs37 q158 q1224 ⟨rfl, rfl⟩ hdX0_says ⟨Nat.le_of_ble_eq_true rfl, Nat.le_of_ble_eq_true rfl⟩ ⟨Nat.zero_le _, Nat.zero_le _⟩ rfl hl.1 rfl (Nat.le_of_ble_eq_true rfl) dX0_lost_21) (fun H locs hT hS hK hNt3 => ?_)
      refine lv_if_eq (tgt := 31) hx hb dX0_lost_24 (by decide) (fun c => ?_) (fun c => ?_)
      · replace h := if_t c h
        refine lv_iconst (v := 1) hx hb dX0_lost_31 (by decide) ?_
        exact bX0_lost_p32 C ih t3 x1 x3 x2 (1 : Int32) H locs hT hS hK ls h (lv_sub hl [0, 1, 3] rfl)
      · replace h := if_f c h
        refine lv_iconst (v := 0) hx hb dX0_lost_27 (by decide) ?_
        refine lv_goto (tgt := 32) hx hb dX0_lost_28 (by decide) ?_
        exact bX0_lost_p32 C ih t3 x1 x3 x2 (0 : Int32) H locs hT hS hK ls h (lv_sub hl [0, 1, 3] rfl)
theorem bX0_lost {p : Program} {l : Launch} {e : Env} {s : State} {m : MethodId} {args : Array Value} {below : List Frame} {meth : Method} {c : Code} {D : va_G} {dA : Nat → ClassId} {a : Nat} {k : KP a} {t0 : CS} {r : Int32} {t9 : CS} (C : cx p s m args meth c cX0_lost RX0 4 (some .int)) : ∀ (t : CS) (x1 : Int32) (H : Heap) (locs : List Loc) (hT : cW D dA a k t H) (hS : cS a s.heap H locs t0.2.2.2 0 t) (hK : kC D dA a k t.2.2.2 s) (ls : Array Slot), C_lost t x1 = some (r, t9) → lv_has ls 4 [(0, .ref a), (1, .int x1)] → W p l e rmX0_lost s m args below meth c H locs 0 0 (MQ below (cQ D dA a k 0 t0 t9 (some (.int r))) args s 0 0 (ca a)) (F0 m 0 ls []) := by
  obtain ⟨hx, hb, hr, hml, hown, hts, hlocks⟩ := id C
  intro t x1 H locs hT hS hK ls h hl
  unfold C_lost at h
  refine lv_iconst (v := 0) hx hb dX0_lost_0 (by decide) ?_
  refine lv_istore_n (lv' := [(2, .int (0 : Int32)), (0, .ref a), (1, .int x1)]) hx hb dX0_lost_1 rfl hl (by decide) rfl (fun ls hl => ?_)
  refine lv_iconst (v := 0) hx hb dX0_lost_2 (by decide) ?_
  refine lv_istore_n (lv' := [(3, .int (0 : Int32)), (2, .int (0 : Int32)), (0, .ref a), (1, .int x1)]) hx hb dX0_lost_3 rfl hl (by decide) rfl (fun ls hl => ?_)
  exact bX0_lost_p4 C fu t x1 (0 : Int32) (0 : Int32) H locs hT hS hK ls h (lv_sub hl [2, 3, 1, 0] rfl)
theorem mX0_lost {l : Launch} {D : va_G} {dA : Nat → ClassId} {a : Nat} {k : KP a} {t : CS} {x1 : Int32} {r : Int32} {t9 : CS} (h : C_lost t x1 = some (r, t9)) : Met l yX0_lost (ws_ yX0_lost cX0_lost 4 (some .int)) rmX0_lost (cPc D dA a k t [.ref a, .int x1]) (cQ D dA a k 0 t t9 (some (.int r))) 0 0 (ca a) := en_C (by decide +kernel) rfl (Nat.le_of_ble_eq_true rfl) (fun p e s m below meth c ls C hK hT hl => bX0_lost C t x1 _ [] hT cS.rf hK ls h hl)
set_option maxRecDepth 20000 in
abbrev rmX0_spared : Room := { frames := 5, cells := 0, slots := 0, locals := 113 }
theorem hdX0_spared : yX0_spared.cls = RX0 ∧ yX0_spared.cls ≠ "java/lang/invoke/MethodHandle" ∧ yX0_spared.cls ≠ "java/lang/invoke/VarHandle" ∧ (parseMethodDescriptor yX0_spared.desc).map (fun d => d.parameters.length) = some 1 := by decide +kernel
theorem bX0_spared_p39 {p : Program} {l : Launch} {e : Env} {s : State} {m : MethodId} {args : Array Value} {below : List Frame} {meth : Method} {c : Code} {D : va_G} {dA : Nat → ClassId} {a : Nat} {k : KP a} {t0 : CS} {r : Int32} {t9 : CS} (C : cx p s m args meth c cX0_spared RX0 6 (some .int)) {k7 : CS → Int32 → Int32 → Int32 → Int32 → Option (Int32 × CS)} (hk7 : ∀ (t : CS) (x1 : Int32) (x2 : Int32) (x3 : Int32) (x4 : Int32) (H : Heap) (locs : List Loc) (hT : cW D dA a k t H) (hS : cS a s.heap H locs t0.2.2.2 0 t) (hK : kC D dA a k t.2.2.2 s) (ls : Array Slot), k7 t x1 x2 x3 x4 = some (r, t9) → lv_has ls 6 [(0, .ref a), (1, .int x1), (2, .int x2), (3, .int x3), (4, .int x4)] → W p l e rmX0_spared s m args below meth c H locs 0 0 (MQ below (cQ D dA a k 0 t0 t9 (some (.int r))) args s 0 0 (ca a)) (F0 m 7 ls [])) : ∀ (t : CS) (x1 : Int32) (x2 : Int32) (x3 : Int32) (x4 : Int32) (H : Heap) (locs : List Loc) (hT : cW D dA a k t H) (hS : cS a s.heap H locs t0.2.2.2 0 t) (hK : kC D dA a k t.2.2.2 s) (ls : Array Slot), C_spared_p39 k7 t x1 x2 x3 x4 = some (r, t9) → lv_has ls 6 [(0, .ref a), (1, .int x1), (2, .int x2), (3, .int x3), (4, .int x4)] → W p l e rmX0_spared s m args below meth c H locs 0 0 (MQ below (cQ D dA a k 0 t0 t9 (some (.int r))) args s 0 0 (ca a)) (F0 m 39 ls []) := by
  obtain ⟨hx, hb, hr, hml, hown, hts, hlocks⟩ := id C
  intro t x1 x2 x3 x4 H locs hT hS hK ls h hl
  unfold C_spared_p39 at h
  obtain ⟨v1, ev1⟩ : ∃ y : Int32, y = x4 + (1 : Int32) := ⟨_, rfl⟩
  replace h := lt1_sub ev1 h
  refine lv_iinc (v := v1) (lv' := [(4, .int v1), (0, .ref a), (1, .int x1), (2, .int x2), (3, .int x3)]) hx hb dX0_spared_39 hl (k := 4) rfl (by rw [ev1]; rfl) (by decide) rfl (fun ls hl => ?_)
  refine lv_goto (tgt := 7) hx hb dX0_spared_42 (by decide) ?_
  exact hk7 t x1 x2 x3 v1 H locs hT hS hK ls h (lv_sub hl [1, 2, 3, 4, 0] rfl)
theorem bX0_spared_p7 {p : Program} {l : Launch} {e : Env} {s : State} {m : MethodId} {args : Array Value} {below : List Frame} {meth : Method} {c : Code} {D : va_G} {dA : Nat → ClassId} {a : Nat} {k : KP a} {t0 : CS} {r : Int32} {t9 : CS} (C : cx p s m args meth c cX0_spared RX0 6 (some .int)) : ∀ (n : Nat), ∀ (t : CS) (x1 : Int32) (x2 : Int32) (x3 : Int32) (x4 : Int32) (H : Heap) (locs : List Loc) (hT : cW D dA a k t H) (hS : cS a s.heap H locs t0.2.2.2 0 t) (hK : kC D dA a k t.2.2.2 s) (ls : Array Slot), C_spared_p7 n t x1 x2 x3 x4 = some (r, t9) → lv_has ls 6 [(0, .ref a), (1, .int x1), (2, .int x2), (3, .int x3), (4, .int x4)] → W p l e rmX0_spared s m args below meth c H locs 0 0 (MQ below (cQ D dA a k 0 t0 t9 (some (.int r))) args s 0 0 (ca a)) (F0 m 7 ls []) := by
  obtain ⟨hx, hb, hr, hml, hown, hts, hlocks⟩ := id C
  intro n
  induction n with
  | zero =>
    intro t x1 x2 x3 x4 H locs hT hS hK ls h hl
    have h : none = some _ := h
    cases h
  | succ n ih =>
    intro t x1 x2 x3 x4 H locs hT hS hK ls h hl
    rw [C_spared_p7] at h
    refine lv_iload hx hb dX0_spared_7 (lv_at hl 4 rfl) ?_
    refine lv_bipush (v := 26) hx hb dX0_spared_9 (by decide) ?_
    refine lv_icmp_ge (tgt := 45) hx hb dX0_spared_11 (by decide) (fun c => ?_) (fun c => ?_)
    · replace h := if_t c h
      refine lv_iload_n hx hb dX0_spared_45 rfl (lv_at hl 1 rfl) ?_
      refine lv_if_eq (tgt := 53) hx hb dX0_spared_46 (by decide) (fun c => ?_) (fun c => ?_)
      · replace h := if_t c h
        refine lv_iload_n hx hb dX0_spared_53 rfl (lv_at hl 2 rfl) ?_
        exact ec_i C hT hS h dX0_spared_54
      · replace h := if_f c h
        refine lv_iload_n hx hb dX0_spared_49 rfl (lv_at hl 3 rfl) ?_
        refine lv_goto (tgt := 54) hx hb dX0_spared_50 (by decide) ?_
        exact ec_i C hT hS h dX0_spared_54
    · replace h := if_f c h
      refine lv_aload_n hx hb dX0_spared_14 rfl (lv_at hl 0 rfl) ?_
      refine lv_iconst (v := 1) hx hb dX0_spared_15 (by decide) ?_
      refine lv_iload hx hb dX0_spared_16 (lv_at hl 4 rfl) ?_
      refine lv_ishl hx hb dX0_spared_18 ?_
      obtain ⟨v1, t2, ht2, h⟩ := bd2_some h
      refine wc_int hS hK (run_c (As := [.int ((1 : Int32) <<< (x4 &&& (31 : Int32)))]) (rest := []) C hK hT hS.2.1 (rv_X hK hT) (mX0_lost ht2) q1368 q1370 qs50 q158 q1371 ⟨rfl, rfl⟩ hdX0_lost ⟨Nat.le_of_ble_eq_true rfl, Nat.le_of_ble_eq_true rfl⟩ ⟨Nat.zero_le _, Nat.zero_le _⟩ rfl hl.1 rfl (Nat.le_of_ble_eq_true rfl) dX0_spared_19) (fun H locs hT hS hK hNt2 => ?_)
      refine lv_istore (lv' := [(5, .int v1), (0, .ref a), (1, .int x1), (2, .int x2), (3, .int x3), (4, .int x4)]) hx hb dX0_spared_22 hl (by decide) rfl (fun ls hl => ?_)
      refine lv_iload hx hb dX0_spared_24 (lv_at hl 0 rfl) ?_
      refine lv_iload_n hx hb dX0_spared_26 rfl (lv_at hl 4 rfl) ?_
      refine lv_icmp_gt (tgt := 33) hx hb dX0_spared_27 (by decide) (fun c => ?_) (fun c => ?_)
      · replace h := if_t c h
        refine lv_iload hx hb dX0_spared_33 (lv_at hl 0 rfl) ?_
        refine lv_istore_n (lv' := [(3, .int v1), (5, .int v1), (0, .ref a), (1, .int x1), (2, .int x2), (4, .int x4)]) hx hb dX0_spared_35 rfl hl (by decide) rfl (fun ls hl => ?_)
        refine lv_iload hx hb dX0_spared_36 (lv_at hl 5 rfl) ?_
        refine lv_istore_n (lv' := [(2, .int x4), (3, .int v1), (5, .int v1), (0, .ref a), (1, .int x1), (4, .int x4)]) hx hb dX0_spared_38 rfl hl (by decide) rfl (fun ls hl => ?_)
        exact bX0_spared_p39 C ih t2 x1 x4 v1 x4 H locs hT hS hK ls h (lv_sub hl [3, 4, 0, 1, 5] rfl)
      · replace h := if_f c h
        refine lv_goto (tgt := 39) hx hb dX0_spared_30 (by decide) ?_
        exact bX0_spared_p39 C ih t2 x1 x2 x3 x4 H locs hT hS hK ls h (lv_sub hl [1, 2, 3, 4, 5] rfl)
theorem bX0_spared {p : Program} {l : Launch} {e : Env} {s : State} {m : MethodId} {args : Array Value} {below : List Frame} {meth : Method} {c : Code} {D : va_G} {dA : Nat → ClassId} {a : Nat} {k : KP a} {t0 : CS} {r : Int32} {t9 : CS} (C : cx p s m args meth c cX0_spared RX0 6 (some .int)) : ∀ (t : CS) (x1 : Int32) (H : Heap) (locs : List Loc) (hT : cW D dA a k t H) (hS : cS a s.heap H locs t0.2.2.2 0 t) (hK : kC D dA a k t.2.2.2 s) (ls : Array Slot), C_spared t x1 = some (r, t9) → lv_has ls 6 [(0, .ref a), (1, .int x1)] → W p l e rmX0_spared s m args below meth c H locs 0 0 (MQ below (cQ D dA a k 0 t0 t9 (some (.int r))) args s 0 0 (ca a)) (F0 m 0 ls []) := by
  obtain ⟨hx, hb, hr, hml, hown, hts, hlocks⟩ := id C
  intro t x1 H locs hT hS hK ls h hl
  unfold C_spared at h
  refine lv_iconst (v := 0) hx hb dX0_spared_0 (by decide) ?_
  refine lv_istore_n (lv' := [(2, .int (0 : Int32)), (0, .ref a), (1, .int x1)]) hx hb dX0_spared_1 rfl hl (by decide) rfl (fun ls hl => ?_)
  refine lv_iconst (v := -1) hx hb dX0_spared_2 (by decide) ?_
  refine lv_istore_n (lv' := [(3, .int (-1 : Int32)), (2, .int (0 : Int32)), (0, .ref a), (1, .int x1)]) hx hb dX0_spared_3 rfl hl (by decide) rfl (fun ls hl => ?_)
  refine lv_iconst (v := 0) hx hb dX0_spared_4 (by decide) ?_
  refine lv_istore (lv' := [(4, .int (0 : Int32)), (3, .int (-1 : Int32)), (2, .int (0 : Int32)), (0, .ref a), (1, .int x1)]) hx hb dX0_spared_5 hl (by decide) rfl (fun ls hl => ?_)
  exact bX0_spared_p7 C fu t x1 (0 : Int32) (-1 : Int32) (0 : Int32) H locs hT hS hK ls h (lv_sub hl [3, 4, 2, 1, 0] rfl)
theorem mX0_spared {l : Launch} {D : va_G} {dA : Nat → ClassId} {a : Nat} {k : KP a} {t : CS} {x1 : Int32} {r : Int32} {t9 : CS} (h : C_spared t x1 = some (r, t9)) : Met l yX0_spared (ws_ yX0_spared cX0_spared 6 (some .int)) rmX0_spared (cPc D dA a k t [.ref a, .int x1]) (cQ D dA a k 0 t t9 (some (.int r))) 0 0 (ca a) := en_C (by decide +kernel) rfl (Nat.le_of_ble_eq_true rfl) (fun p e s m below meth c ls C hK hT hl => bX0_spared C t x1 _ [] hT cS.rf hK ls h hl)
set_option maxRecDepth 20000 in
abbrev rmX0_isGroup : Room := { frames := 2, cells := 0, slots := 0, locals := 42 }
theorem hdX0_isGroup : yX0_isGroup.cls ≠ "java/lang/invoke/MethodHandle" ∧ yX0_isGroup.cls ≠ "java/lang/invoke/VarHandle" ∧ (parseMethodDescriptor yX0_isGroup.desc).map (fun d => d.parameters.length) = some 1 := by decide +kernel
theorem bX0_isGroup {p : Program} {l : Launch} {e : Env} {s : State} {m : MethodId} {args : Array Value} {below : List Frame} {meth : Method} {c : Code} {r : Int32} (C : cx p s m args meth c cX0_isGroup RX0 1 (some .boolean)) : ∀ (x0 : Int32) (ls : Array Slot), C_isGroup x0 = some r → lv_has ls 1 [(0, .int x0)] → W p l e rmX0_isGroup s m args below meth c s.heap [] 0 0 (MQ below (rQi r) args s 0 0 nof) (F0 m 0 ls []) := by
  obtain ⟨hx, hb, hr, hml, hown, hts, hlocks⟩ := id C
  intro x0 ls h hl
  unfold C_isGroup at h
  refine lv_iload_n hx hb dX0_isGroup_0 rfl (lv_at hl 0 rfl) ?_
  obtain ⟨v1, hv1, h⟩ := bd1_some h
  refine r_int (run_s (As := [.int x0]) (rest := []) C (mX0_isSet hv1) q1184 q1185 q158 q1186 ⟨rfl, rfl⟩ hdX0_isSet ⟨Nat.le_of_ble_eq_true rfl, Nat.le_of_ble_eq_true rfl⟩ ⟨Nat.zero_le _, Nat.zero_le _⟩ rfl hl.1 rfl (Nat.le_of_ble_eq_true rfl) dX0_isGroup_1) ?_
  refine lv_if_eq (tgt := 20) hx hb dX0_isGroup_4 (by decide) (fun c => ?_) (fun c => ?_)
  · replace h := if_t c h
    refine lv_iconst (v := 0) hx hb dX0_isGroup_20 (by decide) ?_
    exact e_rz C (Or.inl rfl) h dX0_isGroup_21
  · replace h := if_f c h
    refine lv_iload_n hx hb dX0_isGroup_7 rfl (lv_at hl 0 rfl) ?_
    obtain ⟨v2, hv2, h⟩ := bd1_some h
    refine r_int (run_s (As := [.int x0]) (rest := []) C (mJ5_bitCount hv2) q1079 q1080 q168 q1081 ⟨rfl, rfl⟩ hdJ5_bitCount ⟨Nat.le_of_ble_eq_true rfl, Nat.le_of_ble_eq_true rfl⟩ ⟨Nat.zero_le _, Nat.zero_le _⟩ rfl hl.1 rfl (Nat.le_of_ble_eq_true rfl) dX0_isGroup_8) ?_
    refine lv_bipush (v := 10) hx hb dX0_isGroup_11 (by decide) ?_
    refine lv_icmp_gt (tgt := 20) hx hb dX0_isGroup_13 (by decide) (fun c => ?_) (fun c => ?_)
    · replace h := if_t c h
      refine lv_iconst (v := 0) hx hb dX0_isGroup_20 (by decide) ?_
      exact e_rz C (Or.inl rfl) h dX0_isGroup_21
    · replace h := if_f c h
      refine lv_iconst (v := 1) hx hb dX0_isGroup_16 (by decide) ?_
      refine lv_goto (tgt := 21) hx hb dX0_isGroup_17 (by decide) ?_
      exact e_rz C (Or.inr rfl) h dX0_isGroup_21
theorem mX0_isGroup {l : Launch} {x0 : Int32} {r : Int32} (h : C_isGroup x0 = some r) : Met l yX0_isGroup (ws_ yX0_isGroup cX0_isGroup 1 (some .boolean)) rmX0_isGroup (sPc [.int x0]) (rQi r) 0 0 nof := en_S (by decide +kernel) rfl (Nat.le_of_ble_eq_true rfl) (fun p e s m below meth c ls C hl => bX0_isGroup C x0 ls h hl)
set_option maxRecDepth 20000 in
abbrev rmX0_orders (N : Nat) : Room := { frames := 0 + 1 * N, cells := 0, slots := 0, locals := 0 + 20 * N }
theorem hdX0_orders : yX0_orders.cls ≠ "java/lang/invoke/MethodHandle" ∧ yX0_orders.cls ≠ "java/lang/invoke/VarHandle" ∧ (parseMethodDescriptor yX0_orders.desc).map (fun d => d.parameters.length) = some 1 := by decide +kernel
theorem bX0_orders {p : Program} {l : Launch} {e : Env} {s : State} {m : MethodId} {args : Array Value} {below : List Frame} {meth : Method} {c : Code} {r : Int32} (C : cx p s m args meth c cX0_orders RX0 1 (some .int)) {N : Nat} {rec : Int32 → Option Int32} (hrec : ∀ (x0 : Int32) (r : Int32), rec x0 = some r → Met l yX0_orders (ws_ yX0_orders cX0_orders 1 (some .int)) (rmX0_orders N) (sPc [.int x0]) (rQi r) 0 0 nof) : ∀ (x0 : Int32) (ls : Array Slot), C_orders_b rec x0 = some r → lv_has ls 1 [(0, .int x0)] → W p l e (rmX0_orders (N + 1)) s m args below meth c s.heap [] 0 0 (MQ below (rQi r) args s 0 0 nof) (F0 m 0 ls []) := by
  obtain ⟨hx, hb, hr, hml, hown, hts, hlocks⟩ := id C
  intro x0 ls h hl
  unfold C_orders_b at h
  refine lv_iload_n hx hb dX0_orders_0 rfl (lv_at hl 0 rfl) ?_
  refine lv_iconst (v := 2) hx hb dX0_orders_1 (by decide) ?_
  refine lv_icmp_ge (tgt := 9) hx hb dX0_orders_2 (by decide) (fun c => ?_) (fun c => ?_)
  · replace h := if_t c h
    refine lv_iload_n hx hb dX0_orders_9 rfl (lv_at hl 0 rfl) ?_
    refine lv_iload_n hx hb dX0_orders_10 rfl (lv_at hl 0 rfl) ?_
    refine lv_iconst (v := 1) hx hb dX0_orders_11 (by decide) ?_
    refine lv_isub hx hb dX0_orders_12 ?_
    obtain ⟨v1, hv1, h⟩ := bd1_some h
    refine r_int (run_s (As := [.int (x0 - (1 : Int32))]) (rest := [.int x0]) C (hrec _ _ hv1) q1379 q1380 q158 q1381 ⟨rfl, rfl⟩ hdX0_orders ⟨show 0 + 1 * N + 1 ≤ 0 + 1 * (N + 1) from by omega, show 8 + (1 + 11) + (0 + 20 * N) ≤ 0 + 20 * (N + 1) from by omega⟩ ⟨Nat.zero_le _, Nat.zero_le _⟩ rfl hl.1 rfl (Nat.le_of_ble_eq_true rfl) dX0_orders_13) ?_
    refine lv_imul hx hb dX0_orders_16 ?_
    exact e_ri C h dX0_orders_17
  · replace h := if_f c h
    refine lv_iconst (v := 1) hx hb dX0_orders_5 (by decide) ?_
    refine lv_goto (tgt := 17) hx hb dX0_orders_6 (by decide) ?_
    exact e_ri C h dX0_orders_17
theorem mX0_orders {l : Launch} : ∀ (n : Nat), ∀ (x0 : Int32) (r : Int32), C_orders n x0 = some r → Met l yX0_orders (ws_ yX0_orders cX0_orders 1 (some .int)) (rmX0_orders n) (sPc [.int x0]) (rQi r) 0 0 nof := by
  intro n
  induction n with
  | zero =>
    intro x0 r h
    have h : none = some _ := h
    cases h
  | succ n ih =>
    intro x0 r h
    rw [C_orders] at h
    exact en_S (by decide +kernel) rfl (Nat.le_of_ble_eq_true rfl) (fun p e s m below meth c ls C hl => bX0_orders C ih x0 ls h hl)
set_option maxRecDepth 20000 in
abbrev rmX0_common (N : Nat) : Room := { frames := 0 + 1 * N, cells := 0, slots := 0, locals := 0 + 21 * N }
theorem hdX0_common : yX0_common.cls ≠ "java/lang/invoke/MethodHandle" ∧ yX0_common.cls ≠ "java/lang/invoke/VarHandle" ∧ (parseMethodDescriptor yX0_common.desc).map (fun d => d.parameters.length) = some 2 := by decide +kernel
theorem bX0_common {p : Program} {l : Launch} {e : Env} {s : State} {m : MethodId} {args : Array Value} {below : List Frame} {meth : Method} {c : Code} {r : Int32} (C : cx p s m args meth c cX0_common RX0 2 (some .int)) {N : Nat} {rec : Int32 → Int32 → Option Int32} (hrec : ∀ (x0 : Int32) (x1 : Int32) (r : Int32), rec x0 x1 = some r → Met l yX0_common (ws_ yX0_common cX0_common 2 (some .int)) (rmX0_common N) (sPc [.int x0, .int x1]) (rQi r) 0 0 nof) : ∀ (x0 : Int32) (x1 : Int32) (ls : Array Slot), C_common_b rec x0 x1 = some r → lv_has ls 2 [(0, .int x0), (1, .int x1)] → W p l e (rmX0_common (N + 1)) s m args below meth c s.heap [] 0 0 (MQ below (rQi r) args s 0 0 nof) (F0 m 0 ls []) := by
  obtain ⟨hx, hb, hr, hml, hown, hts, hlocks⟩ := id C
  intro x0 x1 ls h hl
  unfold C_common_b at h
  refine lv_iload_n hx hb dX0_common_0 rfl (lv_at hl 1 rfl) ?_
  refine lv_if_ne (tgt := 8) hx hb dX0_common_1 (by decide) (fun c => ?_) (fun c => ?_)
  · replace h := if_f c h
    refine lv_iload_n hx hb dX0_common_8 rfl (lv_at hl 1 rfl) ?_
    refine lv_iload_n hx hb dX0_common_9 rfl (lv_at hl 0 rfl) ?_
    refine lv_iload_n hx hb dX0_common_10 rfl (lv_at hl 1 rfl) ?_
    obtain ⟨hn, h⟩ := nz_some h
    refine lv_irem hx hb dX0_common_11 hn ?_
    obtain ⟨v1, hv1, h⟩ := bd1_some h
    refine r_int (run_s (As := [.int x1, .int (x0 - x0 / x1 * x1)]) (rest := []) C (hrec _ _ _ hv1) q1385 q1386 q158 q1387 ⟨rfl, rfl⟩ hdX0_common ⟨show 0 + 1 * N + 1 ≤ 0 + 1 * (N + 1) from by omega, show 8 + (2 + 11) + (0 + 21 * N) ≤ 0 + 21 * (N + 1) from by omega⟩ ⟨Nat.zero_le _, Nat.zero_le _⟩ rfl hl.1 rfl (Nat.le_of_ble_eq_true rfl) dX0_common_12) ?_
    exact e_ri C h dX0_common_15
  · replace h := if_t c h
    refine lv_iload_n hx hb dX0_common_4 rfl (lv_at hl 0 rfl) ?_
    refine lv_goto (tgt := 15) hx hb dX0_common_5 (by decide) ?_
    exact e_ri C h dX0_common_15
theorem mX0_common {l : Launch} : ∀ (n : Nat), ∀ (x0 : Int32) (x1 : Int32) (r : Int32), C_common n x0 x1 = some r → Met l yX0_common (ws_ yX0_common cX0_common 2 (some .int)) (rmX0_common n) (sPc [.int x0, .int x1]) (rQi r) 0 0 nof := by
  intro n
  induction n with
  | zero =>
    intro x0 x1 r h
    have h : none = some _ := h
    cases h
  | succ n ih =>
    intro x0 x1 r h
    rw [C_common] at h
    exact en_S (by decide +kernel) rfl (Nat.le_of_ble_eq_true rfl) (fun p e s m below meth c ls C hl => bX0_common C ih x0 x1 ls h hl)
set_option maxRecDepth 20000 in
abbrev rmX0_inLowest : Room := { frames := 65, cells := 0, slots := 0, locals := 1365 }
theorem hdX0_inLowest : yX0_inLowest.cls ≠ "java/lang/invoke/MethodHandle" ∧ yX0_inLowest.cls ≠ "java/lang/invoke/VarHandle" ∧ (parseMethodDescriptor yX0_inLowest.desc).map (fun d => d.parameters.length) = some 3 := by decide +kernel
theorem bX0_inLowest {p : Program} {l : Launch} {e : Env} {s : State} {m : MethodId} {args : Array Value} {below : List Frame} {meth : Method} {c : Code} {r : Int32} (C : cx p s m args meth c cX0_inLowest RX0 4 (some .int)) : ∀ (x0 : Int32) (x1 : Int32) (x2 : Int32) (ls : Array Slot), C_inLowest x0 x1 x2 = some r → lv_has ls 4 [(0, .int x0), (1, .int x1), (2, .int x2)] → W p l e rmX0_inLowest s m args below meth c s.heap [] 0 0 (MQ below (rQi r) args s 0 0 nof) (F0 m 0 ls []) := by
  obtain ⟨hx, hb, hr, hml, hown, hts, hlocks⟩ := id C
  intro x0 x1 x2 ls h hl
  unfold C_inLowest at h
  refine lv_iload_n hx hb dX0_inLowest_0 rfl (lv_at hl 1 rfl) ?_
  refine lv_iload_n hx hb dX0_inLowest_1 rfl (lv_at hl 0 rfl) ?_
  obtain ⟨v1, hv1, h⟩ := bd1_some h
  refine r_int (run_s (As := [.int x1, .int x0]) (rest := []) C (mX0_common 64 _ _ _ hv1) q1385 q1386 q158 q1387 ⟨rfl, rfl⟩ hdX0_common ⟨Nat.le_of_ble_eq_true rfl, Nat.le_of_ble_eq_true rfl⟩ ⟨Nat.zero_le _, Nat.zero_le _⟩ rfl hl.1 rfl (Nat.le_of_ble_eq_true rfl) dX0_inLowest_2) ?_
  refine lv_istore_n (lv' := [(3, .int v1), (0, .int x0), (1, .int x1), (2, .int x2)]) hx hb dX0_inLowest_5 rfl hl (by decide) rfl (fun ls hl => ?_)
  refine lv_iload_n hx hb dX0_inLowest_6 rfl (lv_at hl 3 rfl) ?_
  refine lv_if_eq (tgt := 16) hx hb dX0_inLowest_7 (by decide) (fun c => ?_) (fun c => ?_)
  · replace h := if_t c h
    refine lv_iload_n hx hb dX0_inLowest_16 rfl (lv_at hl 1 rfl) ?_
    refine lv_iload_n hx hb dX0_inLowest_17 rfl (lv_at hl 0 rfl) ?_
    obtain ⟨hn, h⟩ := nz_some h
    refine lv_idiv hx hb dX0_inLowest_18 hn ?_
    exact e_ri C h dX0_inLowest_19
  · replace h := if_f c h
    refine lv_iload_n hx hb dX0_inLowest_10 rfl (lv_at hl 2 rfl) ?_
    refine lv_iload_n hx hb dX0_inLowest_11 rfl (lv_at hl 0 rfl) ?_
    obtain ⟨hn, h⟩ := nz_some h
    refine lv_idiv hx hb dX0_inLowest_12 hn ?_
    refine lv_goto (tgt := 19) hx hb dX0_inLowest_13 (by decide) ?_
    exact e_ri C h dX0_inLowest_19
theorem mX0_inLowest {l : Launch} {x0 : Int32} {x1 : Int32} {x2 : Int32} {r : Int32} (h : C_inLowest x0 x1 x2 = some r) : Met l yX0_inLowest (ws_ yX0_inLowest cX0_inLowest 4 (some .int)) rmX0_inLowest (sPc [.int x0, .int x1, .int x2]) (rQi r) 0 0 nof := en_S (by decide +kernel) rfl (Nat.le_of_ble_eq_true rfl) (fun p e s m below meth c ls C hl => bX0_inLowest C x0 x1 x2 ls h hl)
