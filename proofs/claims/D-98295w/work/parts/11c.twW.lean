/-! the reference's walks, 2 (written by gen/gen_twin.py) -/
set_option maxRecDepth 20000
set_option maxRecDepth 20000 in
abbrev rmX2_clause : Room := { frames := 11, cells := 0, slots := 0, locals := 247 }
theorem hdX2_clause : yX2_clause.cls = RX2 ∧ yX2_clause.cls ≠ "java/lang/invoke/MethodHandle" ∧ yX2_clause.cls ≠ "java/lang/invoke/VarHandle" ∧ (parseMethodDescriptor yX2_clause.desc).map (fun d => d.parameters.length) = some 0 := by decide +kernel
theorem bX2_clause_66 {p : Program} {l : Launch} {e : Env} {s : State} {m : MethodId} {args : Array Value} {below : List Frame} {meth : Method} {c : Code} {D : va_G} {dA : Nat → ClassId} {b : Nat} {r : Int32} {t9 : TS} (C : cx p s m args meth c cX2_clause RX2 5 (some .int)) (hK : kk D dA s) : ∀ (t : TS) (x1 : Int32) (x2 : Int32) (H : Heap) (locs : List Loc) (hT : wd D (tw dA b t) H) (hS : tS b s.heap H locs) (ls : Array Slot), T_clause_66 t x1 x2 = some (r, t9) → lv_has ls 5 [(0, .ref b), (1, .int x1), (2, .int x2)] → W p l e rmX2_clause s m args below meth c H locs 0 0 (MQ below (tQ D dA b t9 (some (.int r))) args s 0 0 (ta b)) (F0 m 66 ls []) := by
  obtain ⟨hx, hb, hr, hml, hown, hts, hlocks⟩ := id C
  intro t x1 x2 H locs hT hS ls h hl
  unfold T_clause_66 at h
  refine lv_aload_n hx hb dX2_clause_66 rfl (lv_at hl 0 rfl) ?_
  refine lv_iload_n hx hb dX2_clause_67 rfl (lv_at hl 1 rfl) ?_
  refine tp24 C hK hT hS dX2_clause_68 (fun t1 H locs et1 hT hS => ?_)
  replace h := lt1_sub et1 h
  refine lv_aload_n hx hb dX2_clause_71 rfl (lv_at hl 0 rfl) ?_
  obtain ⟨t2, ht2, h⟩ := bd1_some h
  refine w_void hS (run_t (As := []) (rest := []) C hK hT (mX2_nextToken ht2) q1715 q1717 qs76 q162 q1718 ⟨rfl, rfl⟩ hdX2_nextToken ⟨Nat.le_of_ble_eq_true rfl, Nat.le_of_ble_eq_true rfl⟩ ⟨Nat.zero_le _, Nat.zero_le _⟩ rfl hl.1 rfl (Nat.le_of_ble_eq_true rfl) dX2_clause_72) (fun H locs hT hS => ?_)
  refine lv_aload_n hx hb dX2_clause_75 rfl (lv_at hl 0 rfl) ?_
  refine tg16 C hK hT dX2_clause_76 ?_
  refine lv_iconst (v := 1) hx hb dX2_clause_79 (by decide) ?_
  refine lv_iadd hx hb dX2_clause_80 ?_
  refine lv_bipush (v := 11) hx hb dX2_clause_81 (by decide) ?_
  refine lv_iload_n hx hb dX2_clause_83 rfl (lv_at hl 2 rfl) ?_
  refine lv_imul hx hb dX2_clause_84 ?_
  refine lv_iadd hx hb dX2_clause_85 ?_
  refine lv_topi (fun v3 ev3 => ?_)
  replace h := lt1_sub ev3 h
  refine lv_istore_n (lv' := [(3, .int v3), (0, .ref b), (1, .int x1), (2, .int x2)]) hx hb dX2_clause_86 rfl hl (by decide) rfl (fun ls hl => ?_)
  refine lv_aload_n hx hb dX2_clause_87 rfl (lv_at hl 1 rfl) ?_
  refine tg2 C hK hT dX2_clause_88 ?_
  refine lv_iload_n hx hb dX2_clause_91 rfl (lv_at hl 0 rfl) ?_
  refine lv_iload_n hx hb dX2_clause_92 rfl (lv_at hl 2 rfl) ?_
  obtain ⟨hi, h⟩ := ck_some h
  refine ts2 C hK hT hS hi dX2_clause_93 (fun t4 H locs et4 hT hS => ?_)
  replace h := lt1_sub et4 h
  refine lv_aload_n hx hb dX2_clause_94 rfl (lv_at hl 1 rfl) ?_
  refine lv_iload_n hx hb dX2_clause_95 rfl (lv_at hl 2 rfl) ?_
  refine lv_iload_n hx hb dX2_clause_96 rfl (lv_at hl 0 rfl) ?_
  obtain ⟨v5, t6, ht6, h⟩ := bd2_some h
  refine w_int hS (run_t (As := [.int x1, .int v3]) (rest := []) C hK hT (mX2_body ht6) q1758 q1760 qs82 q162 q1761 ⟨rfl, rfl⟩ hdX2_body ⟨Nat.le_of_ble_eq_true rfl, Nat.le_of_ble_eq_true rfl⟩ ⟨Nat.zero_le _, Nat.zero_le _⟩ rfl hl.1 rfl (Nat.le_of_ble_eq_true rfl) dX2_clause_97) (fun H locs hT hS => ?_)
  refine lv_istore (lv' := [(4, .int v5), (3, .int v3), (0, .ref b), (1, .int x1), (2, .int x2)]) hx hb dX2_clause_100 hl (by decide) rfl (fun ls hl => ?_)
  refine lv_iload hx hb dX2_clause_102 (lv_at hl 0 rfl) ?_
  refine lv_if_eq (tgt := 110) hx hb dX2_clause_104 (by decide) (fun c => ?_) (fun c => ?_)
  · replace h := if_t c h
    refine lv_aload_n hx hb dX2_clause_110 rfl (lv_at hl 2 rfl) ?_
    refine tg2 C hK hT dX2_clause_111 ?_
    refine lv_aload_n hx hb dX2_clause_114 rfl (lv_at hl 2 rfl) ?_
    refine tg16 C hK hT dX2_clause_115 ?_
    refine lv_topi (fun v7 ev7 => ?_)
    replace h := lt1_sub ev7 h
    refine lv_dup2_11 hx hb dX2_clause_118 rfl rfl ?_
    obtain ⟨hi, h⟩ := ck_some h
    refine tl2 C hK hT hi dX2_clause_119 ?_
    refine lv_iconst (v := 1) hx hb dX2_clause_120 (by decide) ?_
    refine lv_iadd hx hb dX2_clause_121 ?_
    obtain ⟨hi, h⟩ := ck_some h
    refine ts2 C hK hT hS hi dX2_clause_122 (fun t8 H locs et8 hT hS => ?_)
    replace h := lt1_sub et8 h
    refine lv_aload_n hx hb dX2_clause_123 rfl (lv_at hl 2 rfl) ?_
    refine tg13 C hK hT dX2_clause_124 ?_
    refine lv_bipush (v := 59) hx hb dX2_clause_127 (by decide) ?_
    refine lv_icmp_eq (tgt := 134) hx hb dX2_clause_129 (by decide) (fun c => ?_) (fun c => ?_)
    · replace h := if_t c h
      refine lv_aload_n hx hb dX2_clause_134 rfl (lv_at hl 2 rfl) ?_
      obtain ⟨t9, ht9, h⟩ := bd1_some h
      refine w_void hS (run_t (As := []) (rest := []) C hK hT (mX2_nextToken ht9) q1715 q1717 qs76 q162 q1718 ⟨rfl, rfl⟩ hdX2_nextToken ⟨Nat.le_of_ble_eq_true rfl, Nat.le_of_ble_eq_true rfl⟩ ⟨Nat.zero_le _, Nat.zero_le _⟩ rfl hl.1 rfl (Nat.le_of_ble_eq_true rfl) dX2_clause_135) (fun H locs hT hS => ?_)
      refine lv_iconst (v := 0) hx hb dX2_clause_138 (by decide) ?_
      exact e_wi C hT hS h dX2_clause_139
    · replace h := if_f c h
      refine lv_iconst (v := 1) hx hb dX2_clause_132 (by decide) ?_
      exact e_wi C hT hS h dX2_clause_133
  · replace h := if_f c h
    refine lv_iload hx hb dX2_clause_107 (lv_at hl 0 rfl) ?_
    exact e_wi C hT hS h dX2_clause_109
theorem bX2_clause_30 {p : Program} {l : Launch} {e : Env} {s : State} {m : MethodId} {args : Array Value} {below : List Frame} {meth : Method} {c : Code} {D : va_G} {dA : Nat → ClassId} {b : Nat} {r : Int32} {t9 : TS} (C : cx p s m args meth c cX2_clause RX2 5 (some .int)) (hK : kk D dA s) : ∀ (t : TS) (x1 : Int32) (H : Heap) (locs : List Loc) (hT : wd D (tw dA b t) H) (hS : tS b s.heap H locs) (ls : Array Slot), T_clause_30 t x1 = some (r, t9) → lv_has ls 5 [(0, .ref b), (1, .int x1)] → W p l e rmX2_clause s m args below meth c H locs 0 0 (MQ below (tQ D dA b t9 (some (.int r))) args s 0 0 (ta b)) (F0 m 30 ls []) := by
  obtain ⟨hx, hb, hr, hml, hown, hts, hlocks⟩ := id C
  intro t x1 H locs hT hS ls h hl
  unfold T_clause_30 at h
  refine lv_aload_n hx hb dX2_clause_30 rfl (lv_at hl 0 rfl) ?_
  refine tg2 C hK hT dX2_clause_31 ?_
  refine lv_aload_n hx hb dX2_clause_34 rfl (lv_at hl 0 rfl) ?_
  refine tg16 C hK hT dX2_clause_35 ?_
  obtain ⟨hi, h⟩ := ck_some h
  refine tl2 C hK hT hi dX2_clause_38 ?_
  refine lv_topi (fun v1 ev1 => ?_)
  replace h := lt1_sub ev1 h
  refine lv_istore_n (lv' := [(2, .int v1), (0, .ref b), (1, .int x1)]) hx hb dX2_clause_39 rfl hl (by decide) rfl (fun ls hl => ?_)
  refine lv_iload_n hx hb dX2_clause_40 rfl (lv_at hl 0 rfl) ?_
  refine lv_bipush (v := 24) hx hb dX2_clause_41 (by decide) ?_
  refine lv_icmp_ne (tgt := 49) hx hb dX2_clause_43 (by decide) (fun c => ?_) (fun c => ?_)
  · replace h := if_f c h
    refine lv_iload_n hx hb dX2_clause_49 rfl (lv_at hl 2 rfl) ?_
    refine lv_iconst (v := 3) hx hb dX2_clause_50 (by decide) ?_
    refine lv_icmp_gt (tgt := 66) hx hb dX2_clause_51 (by decide) (fun c => ?_) (fun c => ?_)
    · replace h := if_t c h
      exact bX2_clause_66 C hK t x1 v1 H locs hT hS ls h (lv_sub hl [1, 2, 0] rfl)
    · replace h := if_f c h
      refine lv_aload_n hx hb dX2_clause_54 rfl (lv_at hl 1 rfl) ?_
      refine lv_dup hx hb dX2_clause_55 rfl ?_
      refine tg25 C hK hT dX2_clause_56 ?_
      refine lv_iconst (v := 1) hx hb dX2_clause_59 (by decide) ?_
      refine lv_iload_n hx hb dX2_clause_60 rfl (lv_at hl 2 rfl) ?_
      refine lv_ishl hx hb dX2_clause_61 ?_
      refine lv_ior hx hb dX2_clause_62 ?_
      refine tp25 C hK hT hS dX2_clause_63 (fun t2 H locs et2 hT hS => ?_)
      replace h := lt1_sub et2 h
      exact bX2_clause_66 C hK t2 x1 v1 H locs hT hS ls h (lv_sub hl [1, 2, 0] rfl)
  · replace h := if_t c h
    refine lv_bipush (v := 6) hx hb dX2_clause_46 (by decide) ?_
    exact e_wi C hT hS h dX2_clause_48
theorem bX2_clause {p : Program} {l : Launch} {e : Env} {s : State} {m : MethodId} {args : Array Value} {below : List Frame} {meth : Method} {c : Code} {D : va_G} {dA : Nat → ClassId} {b : Nat} {r : Int32} {t9 : TS} (C : cx p s m args meth c cX2_clause RX2 5 (some .int)) (hK : kk D dA s) : ∀ (t : TS) (H : Heap) (locs : List Loc) (hT : wd D (tw dA b t) H) (hS : tS b s.heap H locs) (ls : Array Slot), T_clause t = some (r, t9) → lv_has ls 5 [(0, .ref b)] → W p l e rmX2_clause s m args below meth c H locs 0 0 (MQ below (tQ D dA b t9 (some (.int r))) args s 0 0 (ta b)) (F0 m 0 ls []) := by
  obtain ⟨hx, hb, hr, hml, hown, hts, hlocks⟩ := id C
  intro t H locs hT hS ls h hl
  unfold T_clause at h
  refine lv_aload_n hx hb dX2_clause_0 rfl (lv_at hl 0 rfl) ?_
  obtain ⟨v1, hv1, h⟩ := bd1_some h
  refine r_int (run_t (As := []) (rest := []) C hK hT (mX2_sortOf hv1) q1734 q1736 qs79 q162 q1737 ⟨rfl, rfl⟩ hdX2_sortOf ⟨Nat.le_of_ble_eq_true rfl, Nat.le_of_ble_eq_true rfl⟩ ⟨Nat.zero_le _, Nat.zero_le _⟩ rfl hl.1 rfl (Nat.le_of_ble_eq_true rfl) dX2_clause_1) ?_
  refine lv_istore_n (lv' := [(1, .int v1), (0, .ref b)]) hx hb dX2_clause_4 rfl hl (by decide) rfl (fun ls hl => ?_)
  refine lv_iload_n hx hb dX2_clause_5 rfl (lv_at hl 0 rfl) ?_
  refine lv_if_ge (tgt := 11) hx hb dX2_clause_6 (by decide) (fun c => ?_) (fun c => ?_)
  · replace h := if_t c h
    refine lv_iload_n hx hb dX2_clause_11 rfl (lv_at hl 0 rfl) ?_
    refine lv_iconst (v := 3) hx hb dX2_clause_12 (by decide) ?_
    refine lv_icmp_gt (tgt := 30) hx hb dX2_clause_13 (by decide) (fun c => ?_) (fun c => ?_)
    · replace h := if_t c h
      exact bX2_clause_30 C hK t v1 H locs hT hS ls h (lv_sub hl [1, 0] rfl)
    · replace h := if_f c h
      refine lv_aload_n hx hb dX2_clause_16 rfl (lv_at hl 1 rfl) ?_
      refine tg25 C hK hT dX2_clause_17 ?_
      refine lv_iload_n hx hb dX2_clause_20 rfl (lv_at hl 0 rfl) ?_
      refine lv_ishr hx hb dX2_clause_21 ?_
      refine lv_iconst (v := 1) hx hb dX2_clause_22 (by decide) ?_
      refine lv_iand hx hb dX2_clause_23 ?_
      refine lv_iconst (v := 1) hx hb dX2_clause_24 (by decide) ?_
      refine lv_icmp_ne (tgt := 30) hx hb dX2_clause_25 (by decide) (fun c => ?_) (fun c => ?_)
      · replace h := if_f c h
        exact bX2_clause_30 C hK t v1 H locs hT hS ls h (lv_sub hl [1, 0] rfl)
      · replace h := if_t c h
        refine lv_iconst (v := 4) hx hb dX2_clause_28 (by decide) ?_
        exact e_wi C hT hS h dX2_clause_29
  · replace h := if_f c h
    refine lv_iconst (v := 1) hx hb dX2_clause_9 (by decide) ?_
    exact e_wi C hT hS h dX2_clause_10
theorem mX2_clause {l : Launch} {D : va_G} {dA : Nat → ClassId} {b : Nat} {t : TS} {r : Int32} {t9 : TS} (h : T_clause t = some (r, t9)) : Met l yX2_clause (ws_ yX2_clause cX2_clause 5 (some .int)) rmX2_clause (tPc D dA b t [.ref b]) (tQ D dA b t9 (some (.int r))) 0 0 (ta b) := en_R (by decide +kernel) rfl (Nat.le_of_ble_eq_true rfl) (fun p e s m below meth c ls C hK hT hl => bX2_clause C hK t _ [] hT tS.rf ls h hl)
set_option maxRecDepth 20000 in
abbrev rmX2_readText : Room := { frames := 12, cells := 0, slots := 0, locals := 271 }
theorem hdX2_readText : yX2_readText.cls = RX2 ∧ yX2_readText.cls ≠ "java/lang/invoke/MethodHandle" ∧ yX2_readText.cls ≠ "java/lang/invoke/VarHandle" ∧ (parseMethodDescriptor yX2_readText.desc).map (fun d => d.parameters.length) = some 0 := by decide +kernel
theorem bX2_readText_48 {p : Program} {l : Launch} {e : Env} {s : State} {m : MethodId} {args : Array Value} {below : List Frame} {meth : Method} {c : Code} {D : va_G} {dA : Nat → ClassId} {b : Nat} {r : Int32} {t9 : TS} (C : cx p s m args meth c cX2_readText RX2 2 (some .int)) (hK : kk D dA s) : ∀ (n : Nat), ∀ (t : TS) (H : Heap) (locs : List Loc) (hT : wd D (tw dA b t) H) (hS : tS b s.heap H locs) (ls : Array Slot), T_readText_48 n t = some (r, t9) → lv_has ls 2 [(0, .ref b)] → W p l e rmX2_readText s m args below meth c H locs 0 0 (MQ below (tQ D dA b t9 (some (.int r))) args s 0 0 (ta b)) (F0 m 48 ls []) := by
  obtain ⟨hx, hb, hr, hml, hown, hts, hlocks⟩ := id C
  intro n
  induction n with
  | zero =>
    intro t H locs hT hS ls h hl
    have h : none = some _ := h
    cases h
  | succ n ih =>
    intro t H locs hT hS ls h hl
    rw [T_readText_48] at h
    refine lv_aload_n hx hb dX2_readText_48 rfl (lv_at hl 0 rfl) ?_
    refine tg13 C hK hT dX2_readText_49 ?_
    refine lv_if_eq (tgt := 69) hx hb dX2_readText_52 (by decide) (fun c => ?_) (fun c => ?_)
    · replace h := if_t c h
      refine lv_iconst (v := 0) hx hb dX2_readText_69 (by decide) ?_
      exact e_wi C hT hS h dX2_readText_70
    · replace h := if_f c h
      refine lv_aload_n hx hb dX2_readText_55 rfl (lv_at hl 0 rfl) ?_
      obtain ⟨v1, t2, ht2, h⟩ := bd2_some h
      refine w_int hS (run_t (As := []) (rest := []) C hK hT (mX2_clause ht2) q1730 q1732 qs78 q162 q1733 ⟨rfl, rfl⟩ hdX2_clause ⟨Nat.le_of_ble_eq_true rfl, Nat.le_of_ble_eq_true rfl⟩ ⟨Nat.zero_le _, Nat.zero_le _⟩ rfl hl.1 rfl (Nat.le_of_ble_eq_true rfl) dX2_readText_56) (fun H locs hT hS => ?_)
      refine lv_istore_n (lv' := [(1, .int v1), (0, .ref b)]) hx hb dX2_readText_59 rfl hl (by decide) rfl (fun ls hl => ?_)
      refine lv_iload_n hx hb dX2_readText_60 rfl (lv_at hl 0 rfl) ?_
      refine lv_if_eq (tgt := 66) hx hb dX2_readText_61 (by decide) (fun c => ?_) (fun c => ?_)
      · replace h := if_t c h
        refine lv_goto (tgt := 48) hx hb dX2_readText_66 (by decide) ?_
        exact ih t2 H locs hT hS ls h (lv_sub hl [1] rfl)
      · replace h := if_f c h
        refine lv_iload_n hx hb dX2_readText_64 rfl (lv_at hl 0 rfl) ?_
        exact e_wi C hT hS h dX2_readText_65
theorem bX2_readText {p : Program} {l : Launch} {e : Env} {s : State} {m : MethodId} {args : Array Value} {below : List Frame} {meth : Method} {c : Code} {D : va_G} {dA : Nat → ClassId} {b : Nat} {r : Int32} {t9 : TS} (C : cx p s m args meth c cX2_readText RX2 2 (some .int)) (hK : kk D dA s) : ∀ (t : TS) (H : Heap) (locs : List Loc) (hT : wd D (tw dA b t) H) (hS : tS b s.heap H locs) (ls : Array Slot), T_readText t = some (r, t9) → lv_has ls 2 [(0, .ref b)] → W p l e rmX2_readText s m args below meth c H locs 0 0 (MQ below (tQ D dA b t9 (some (.int r))) args s 0 0 (ta b)) (F0 m 0 ls []) := by
  obtain ⟨hx, hb, hr, hml, hown, hts, hlocks⟩ := id C
  intro t H locs hT hS ls h hl
  unfold T_readText at h
  refine lv_aload_n hx hb dX2_readText_0 rfl (lv_at hl 0 rfl) ?_
  refine lv_sipush (v := 873) hx hb dX2_readText_1 (by decide) ?_
  refine lv_aload_n hx hb dX2_readText_4 rfl (lv_at hl 0 rfl) ?_
  refine tg0 C hK hT dX2_readText_5 ?_
  refine lv_iconst (v := 4) hx hb dX2_readText_8 (by decide) ?_
  obtain ⟨hi, h⟩ := ck_some h
  refine tl0 C hK hT hi dX2_readText_9 ?_
  refine lv_imul hx hb dX2_readText_10 ?_
  refine tp16 C hK hT hS dX2_readText_11 (fun t1 H locs et1 hT hS => ?_)
  replace h := lt1_sub et1 h
  refine lv_aload_n hx hb dX2_readText_14 rfl (lv_at hl 0 rfl) ?_
  refine tg2 C hK hT dX2_readText_15 ?_
  refine lv_aload_n hx hb dX2_readText_18 rfl (lv_at hl 0 rfl) ?_
  refine tg16 C hK hT dX2_readText_19 ?_
  refine lv_iconst (v := 0) hx hb dX2_readText_22 (by decide) ?_
  obtain ⟨hi, h⟩ := ck_some h
  refine ts2 C hK hT hS hi dX2_readText_23 (fun t2 H locs et2 hT hS => ?_)
  replace h := lt1_sub et2 h
  refine lv_aload_n hx hb dX2_readText_24 rfl (lv_at hl 0 rfl) ?_
  refine lv_iconst (v := 0) hx hb dX2_readText_25 (by decide) ?_
  refine tp18 C hK hT hS dX2_readText_26 (fun t3 H locs et3 hT hS => ?_)
  replace h := lt1_sub et3 h
  refine lv_aload_n hx hb dX2_readText_29 rfl (lv_at hl 0 rfl) ?_
  refine lv_iconst (v := 0) hx hb dX2_readText_30 (by decide) ?_
  refine tp22 C hK hT hS dX2_readText_31 (fun t4 H locs et4 hT hS => ?_)
  replace h := lt1_sub et4 h
  refine lv_aload_n hx hb dX2_readText_34 rfl (lv_at hl 0 rfl) ?_
  refine lv_iconst (v := 0) hx hb dX2_readText_35 (by decide) ?_
  refine tp25 C hK hT hS dX2_readText_36 (fun t5 H locs et5 hT hS => ?_)
  replace h := lt1_sub et5 h
  refine lv_aload_n hx hb dX2_readText_39 rfl (lv_at hl 0 rfl) ?_
  refine lv_iconst (v := 0) hx hb dX2_readText_40 (by decide) ?_
  refine tp11 C hK hT hS dX2_readText_41 (fun t6 H locs et6 hT hS => ?_)
  replace h := lt1_sub et6 h
  refine lv_aload_n hx hb dX2_readText_44 rfl (lv_at hl 0 rfl) ?_
  obtain ⟨t7, ht7, h⟩ := bd1_some h
  refine w_void hS (run_t (As := []) (rest := []) C hK hT (mX2_nextToken ht7) q1715 q1717 qs76 q162 q1718 ⟨rfl, rfl⟩ hdX2_nextToken ⟨Nat.le_of_ble_eq_true rfl, Nat.le_of_ble_eq_true rfl⟩ ⟨Nat.zero_le _, Nat.zero_le _⟩ rfl hl.1 rfl (Nat.le_of_ble_eq_true rfl) dX2_readText_45) (fun H locs hT hS => ?_)
  exact bX2_readText_48 C hK fu t7 H locs hT hS ls h (lv_sub hl [0] rfl)
theorem mX2_readText {l : Launch} {D : va_G} {dA : Nat → ClassId} {b : Nat} {t : TS} {r : Int32} {t9 : TS} (h : T_readText t = some (r, t9)) : Met l yX2_readText (ws_ yX2_readText cX2_readText 2 (some .int)) rmX2_readText (tPc D dA b t [.ref b]) (tQ D dA b t9 (some (.int r))) 0 0 (ta b) := en_R (by decide +kernel) rfl (Nat.le_of_ble_eq_true rfl) (fun p e s m below meth c ls C hK hT hl => bX2_readText C hK t _ [] hT tS.rf ls h hl)
set_option maxRecDepth 20000 in
abbrev rmX2_text : Room := { frames := 13, cells := 0, slots := 0, locals := 292 }
theorem hdX2_text : yX2_text.cls = RX2 ∧ yX2_text.cls ≠ "java/lang/invoke/MethodHandle" ∧ yX2_text.cls ≠ "java/lang/invoke/VarHandle" ∧ (parseMethodDescriptor yX2_text.desc).map (fun d => d.parameters.length) = some 0 := by decide +kernel
theorem bX2_text_36 {p : Program} {l : Launch} {e : Env} {s : State} {m : MethodId} {args : Array Value} {below : List Frame} {meth : Method} {c : Code} {D : va_G} {dA : Nat → ClassId} {b : Nat} {r : Int32} {t9 : TS} (C : cx p s m args meth c cX2_text RX2 1 (some .int)) (hK : kk D dA s) : ∀ (t : TS) (y1 : Int32) (H : Heap) (locs : List Loc) (hT : wd D (tw dA b t) H) (hS : tS b s.heap H locs) (ls : Array Slot), T_text_36 t y1 = some (r, t9) → lv_has ls 1 [(0, .ref b)] → W p l e rmX2_text s m args below meth c H locs 0 0 (MQ below (tQ D dA b t9 (some (.int r))) args s 0 0 (ta b)) (F0 m 36 ls [.int y1, .ref b]) := by
  obtain ⟨hx, hb, hr, hml, hown, hts, hlocks⟩ := id C
  intro t y1 H locs hT hS ls h hl
  unfold T_text_36 at h
  refine tp10 C hK hT hS dX2_text_36 (fun t1 H locs et1 hT hS => ?_)
  replace h := lt1_sub et1 h
  refine lv_aload_n hx hb dX2_text_39 rfl (lv_at hl 0 rfl) ?_
  refine lv_iconst (v := 0) hx hb dX2_text_40 (by decide) ?_
  refine tp8 C hK hT hS dX2_text_41 (fun t2 H locs et2 hT hS => ?_)
  replace h := lt1_sub et2 h
  refine lv_aload_n hx hb dX2_text_44 rfl (lv_at hl 0 rfl) ?_
  refine tg9 C hK hT dX2_text_45 ?_
  refine lv_if_eq (tgt := 53) hx hb dX2_text_48 (by decide) (fun c => ?_) (fun c => ?_)
  · replace h := if_t c h
    refine lv_aload_n hx hb dX2_text_53 rfl (lv_at hl 0 rfl) ?_
    refine tg0 C hK hT dX2_text_54 ?_
    refine lv_iconst (v := 4) hx hb dX2_text_57 (by decide) ?_
    refine lv_dup2_11 hx hb dX2_text_58 rfl rfl ?_
    obtain ⟨hi, h⟩ := ck_some h
    refine tl0 C hK hT hi dX2_text_59 ?_
    refine lv_iconst (v := 1) hx hb dX2_text_60 (by decide) ?_
    refine lv_iadd hx hb dX2_text_61 ?_
    obtain ⟨hi, h⟩ := ck_some h
    refine ts0 C hK hT hS hi dX2_text_62 (fun t3 H locs et3 hT hS => ?_)
    replace h := lt1_sub et3 h
    refine lv_aload_n hx hb dX2_text_63 rfl (lv_at hl 0 rfl) ?_
    refine tg0 C hK hT dX2_text_64 ?_
    refine lv_iconst (v := 4) hx hb dX2_text_67 (by decide) ?_
    obtain ⟨hi, h⟩ := ck_some h
    refine tl0 C hK hT hi dX2_text_68 ?_
    refine lv_iconst (v := 1) hx hb dX2_text_69 (by decide) ?_
    refine lv_isub hx hb dX2_text_70 ?_
    exact e_wi C hT hS h dX2_text_71
  · replace h := if_f c h
    refine lv_iconst (v := -1) hx hb dX2_text_51 (by decide) ?_
    exact e_wi C hT hS h dX2_text_52
theorem bX2_text {p : Program} {l : Launch} {e : Env} {s : State} {m : MethodId} {args : Array Value} {below : List Frame} {meth : Method} {c : Code} {D : va_G} {dA : Nat → ClassId} {b : Nat} {r : Int32} {t9 : TS} (C : cx p s m args meth c cX2_text RX2 1 (some .int)) (hK : kk D dA s) : ∀ (t : TS) (H : Heap) (locs : List Loc) (hT : wd D (tw dA b t) H) (hS : tS b s.heap H locs) (ls : Array Slot), T_text t = some (r, t9) → lv_has ls 1 [(0, .ref b)] → W p l e rmX2_text s m args below meth c H locs 0 0 (MQ below (tQ D dA b t9 (some (.int r))) args s 0 0 (ta b)) (F0 m 0 ls []) := by
  obtain ⟨hx, hb, hr, hml, hown, hts, hlocks⟩ := id C
  intro t H locs hT hS ls h hl
  unfold T_text at h
  refine lv_aload_n hx hb dX2_text_0 rfl (lv_at hl 0 rfl) ?_
  refine tg0 C hK hT dX2_text_1 ?_
  refine lv_iconst (v := 4) hx hb dX2_text_4 (by decide) ?_
  obtain ⟨hi, h⟩ := ck_some h
  refine tl0 C hK hT hi dX2_text_5 ?_
  refine lv_iconst (v := 4) hx hb dX2_text_6 (by decide) ?_
  refine lv_icmp_ne (tgt := 12) hx hb dX2_text_7 (by decide) (fun c => ?_) (fun c => ?_)
  · replace h := if_f c h
    refine lv_aload_n hx hb dX2_text_12 rfl (lv_at hl 0 rfl) ?_
    refine lv_aload_n hx hb dX2_text_13 rfl (lv_at hl 0 rfl) ?_
    obtain ⟨v1, t2, ht2, h⟩ := bd2_some h
    refine w_int hS (run_t (As := []) (rest := [.ref b]) C hK hT (mX2_readText ht2) q1711 q1713 qs75 q162 q1714 ⟨rfl, rfl⟩ hdX2_readText ⟨Nat.le_of_ble_eq_true rfl, Nat.le_of_ble_eq_true rfl⟩ ⟨Nat.zero_le _, Nat.zero_le _⟩ rfl hl.1 rfl (Nat.le_of_ble_eq_true rfl) dX2_text_14) (fun H locs hT hS => ?_)
    refine tp9 C hK hT hS dX2_text_17 (fun t3 H locs et3 hT hS => ?_)
    replace h := lt1_sub et3 h
    refine lv_aload_n hx hb dX2_text_20 rfl (lv_at hl 0 rfl) ?_
    refine lv_aload_n hx hb dX2_text_21 rfl (lv_at hl 0 rfl) ?_
    refine tg9 C hK hT dX2_text_22 ?_
    refine lv_if_ne (tgt := 32) hx hb dX2_text_25 (by decide) (fun c => ?_) (fun c => ?_)
    · replace h := if_f c h
      refine lv_aload_n hx hb dX2_text_32 rfl (lv_at hl 0 rfl) ?_
      refine tg12 C hK hT dX2_text_33 ?_
      exact bX2_text_36 C hK t3 (t3.1 12 0) H locs hT hS ls h (lv_sub hl [0] rfl)
    · replace h := if_t c h
      refine lv_iconst (v := -1) hx hb dX2_text_28 (by decide) ?_
      refine lv_goto (tgt := 36) hx hb dX2_text_29 (by decide) ?_
      exact bX2_text_36 C hK t3 (-1 : Int32) H locs hT hS ls h (lv_sub hl [0] rfl)
  · replace h := if_t c h
    refine lv_iconst (v := -1) hx hb dX2_text_10 (by decide) ?_
    exact e_wi C hT hS h dX2_text_11
theorem mX2_text {l : Launch} {D : va_G} {dA : Nat → ClassId} {b : Nat} {t : TS} {r : Int32} {t9 : TS} (h : T_text t = some (r, t9)) : Met l yX2_text (ws_ yX2_text cX2_text 1 (some .int)) rmX2_text (tPc D dA b t [.ref b]) (tQ D dA b t9 (some (.int r))) 0 0 (ta b) := en_R (by decide +kernel) rfl (Nat.le_of_ble_eq_true rfl) (fun p e s m below meth c ls C hK hT hl => bX2_text C hK t _ [] hT tS.rf ls h hl)
set_option maxRecDepth 20000 in
abbrev rmX2_fault : Room := { frames := 0, cells := 0, slots := 0, locals := 0 }
theorem hdX2_fault : yX2_fault.cls = RX2 ∧ yX2_fault.cls ≠ "java/lang/invoke/MethodHandle" ∧ yX2_fault.cls ≠ "java/lang/invoke/VarHandle" ∧ (parseMethodDescriptor yX2_fault.desc).map (fun d => d.parameters.length) = some 1 := by decide +kernel
theorem bX2_fault {p : Program} {l : Launch} {e : Env} {s : State} {m : MethodId} {args : Array Value} {below : List Frame} {meth : Method} {c : Code} {D : va_G} {dA : Nat → ClassId} {b : Nat} {t : TS} {r : Int32} (C : cx p s m args meth c cX2_fault RX2 2 (some .int)) (hK : kk D dA s) (hT : wd D (tw dA b t) s.heap) : ∀ (x1 : Int32) (ls : Array Slot), T_fault t x1 = some r → lv_has ls 2 [(0, .ref b), (1, .int x1)] → W p l e rmX2_fault s m args below meth c s.heap [] 0 0 (MQ below (rQi r) args s 0 0 nof) (F0 m 0 ls []) := by
  obtain ⟨hx, hb, hr, hml, hown, hts, hlocks⟩ := id C
  intro x1 ls h hl
  unfold T_fault at h
  refine lv_iload_n hx hb dX2_fault_0 rfl (lv_at hl 1 rfl) ?_
  refine lv_if_ne (tgt := 11) hx hb dX2_fault_1 (by decide) (fun c => ?_) (fun c => ?_)
  · replace h := if_f c h
    refine lv_iload_n hx hb dX2_fault_11 rfl (lv_at hl 1 rfl) ?_
    refine lv_iconst (v := 1) hx hb dX2_fault_12 (by decide) ?_
    refine lv_icmp_ne (tgt := 23) hx hb dX2_fault_13 (by decide) (fun c => ?_) (fun c => ?_)
    · replace h := if_f c h
      refine lv_iconst (v := -1) hx hb dX2_fault_23 (by decide) ?_
      exact e_ri C h dX2_fault_24
    · replace h := if_t c h
      refine lv_aload_n hx hb dX2_fault_16 rfl (lv_at hl 0 rfl) ?_
      refine tg10 C hK hT dX2_fault_17 ?_
      refine lv_goto (tgt := 24) hx hb dX2_fault_20 (by decide) ?_
      exact e_ri C h dX2_fault_24
  · replace h := if_t c h
    refine lv_aload_n hx hb dX2_fault_4 rfl (lv_at hl 0 rfl) ?_
    refine tg9 C hK hT dX2_fault_5 ?_
    refine lv_goto (tgt := 24) hx hb dX2_fault_8 (by decide) ?_
    exact e_ri C h dX2_fault_24
theorem mX2_fault {l : Launch} {D : va_G} {dA : Nat → ClassId} {b : Nat} {t : TS} {x1 : Int32} {r : Int32} (h : T_fault t x1 = some r) : Met l yX2_fault (ws_ yX2_fault cX2_fault 2 (some .int)) rmX2_fault (tPc D dA b t [.ref b, .int x1]) (rQi r) 0 0 nof := en_R (by decide +kernel) rfl (Nat.le_of_ble_eq_true rfl) (fun p e s m below meth c ls C hK hT hl => bX2_fault C hK hT x1 ls h hl)
set_option maxRecDepth 20000 in
abbrev rmX2_by : Room := { frames := 1, cells := 0, slots := 0, locals := 22 }
theorem hdX2_by : yX2_by.cls = RX2 ∧ yX2_by.cls ≠ "java/lang/invoke/MethodHandle" ∧ yX2_by.cls ≠ "java/lang/invoke/VarHandle" ∧ (parseMethodDescriptor yX2_by.desc).map (fun d => d.parameters.length) = some 1 := by decide +kernel
theorem bX2_by {p : Program} {l : Launch} {e : Env} {s : State} {m : MethodId} {args : Array Value} {below : List Frame} {meth : Method} {c : Code} {D : va_G} {dA : Nat → ClassId} {b : Nat} {r : Int32} {t9 : TS} (C : cx p s m args meth c cX2_by RX2 2 (some .boolean)) (hK : kk D dA s) : ∀ (t : TS) (x1 : Int32) (H : Heap) (locs : List Loc) (hT : wd D (tw dA b t) H) (hS : tS b s.heap H locs) (ls : Array Slot), T_by t x1 = some (r, t9) → lv_has ls 2 [(0, .ref b), (1, .int x1)] → W p l e rmX2_by s m args below meth c H locs 0 0 (MQ below (tQ D dA b t9 (some (.int r))) args s 0 0 (ta b)) (F0 m 0 ls []) := by
  obtain ⟨hx, hb, hr, hml, hown, hts, hlocks⟩ := id C
  intro t x1 H locs hT hS ls h hl
  unfold T_by at h
  refine lv_iload_n hx hb dX2_by_0 rfl (lv_at hl 1 rfl) ?_
  refine lv_iconst (v := -1) hx hb dX2_by_1 (by decide) ?_
  refine lv_aload_n hx hb dX2_by_2 rfl (lv_at hl 0 rfl) ?_
  refine tg0 C hK hT dX2_by_3 ?_
  refine lv_iconst (v := 4) hx hb dX2_by_6 (by decide) ?_
  obtain ⟨hi, h⟩ := ck_some h
  refine tl0 C hK hT hi dX2_by_7 ?_
  refine lv_iconst (v := 1) hx hb dX2_by_8 (by decide) ?_
  refine lv_isub hx hb dX2_by_9 ?_
  obtain ⟨v1, hv1, h⟩ := bd1_some h
  refine r_int (run_s (As := [.int x1, .int (-1 : Int32), .int ((t.1 0 (4 : Int32).toNatClampNeg) - (1 : Int32))]) (rest := []) C (mX2_isIn hv1) q1656 q1657 q162 q1658 ⟨rfl, rfl⟩ hdX2_isIn ⟨Nat.le_of_ble_eq_true rfl, Nat.le_of_ble_eq_true rfl⟩ ⟨Nat.zero_le _, Nat.zero_le _⟩ rfl hl.1 rfl (Nat.le_of_ble_eq_true rfl) dX2_by_10) ?_
  refine lv_if_ne (tgt := 18) hx hb dX2_by_13 (by decide) (fun c => ?_) (fun c => ?_)
  · replace h := if_f c h
    refine lv_aload_n hx hb dX2_by_18 rfl (lv_at hl 0 rfl) ?_
    refine tg0 C hK hT dX2_by_19 ?_
    refine lv_iconst (v := 5) hx hb dX2_by_22 (by decide) ?_
    refine lv_iload_n hx hb dX2_by_23 rfl (lv_at hl 1 rfl) ?_
    obtain ⟨hi, h⟩ := ck_some h
    refine ts0 C hK hT hS hi dX2_by_24 (fun t2 H locs et2 hT hS => ?_)
    replace h := lt1_sub et2 h
    refine lv_iconst (v := 1) hx hb dX2_by_25 (by decide) ?_
    exact e_wz C hT hS (Or.inr rfl) h dX2_by_26
  · replace h := if_t c h
    refine lv_iconst (v := 0) hx hb dX2_by_16 (by decide) ?_
    exact e_wz C hT hS (Or.inl rfl) h dX2_by_17
theorem mX2_by {l : Launch} {D : va_G} {dA : Nat → ClassId} {b : Nat} {t : TS} {x1 : Int32} {r : Int32} {t9 : TS} (h : T_by t x1 = some (r, t9)) : Met l yX2_by (ws_ yX2_by cX2_by 2 (some .boolean)) rmX2_by (tPc D dA b t [.ref b, .int x1]) (tQ D dA b t9 (some (.int r))) 0 0 (ta b) := en_R (by decide +kernel) rfl (Nat.le_of_ble_eq_true rfl) (fun p e s m below meth c ls C hK hT hl => bX2_by C hK t x1 _ [] hT tS.rf ls h hl)
set_option maxRecDepth 20000 in
abbrev rmX2_undo : Room := { frames := 0, cells := 0, slots := 0, locals := 0 }
theorem hdX2_undo : yX2_undo.cls = RX2 ∧ yX2_undo.cls ≠ "java/lang/invoke/MethodHandle" ∧ yX2_undo.cls ≠ "java/lang/invoke/VarHandle" ∧ (parseMethodDescriptor yX2_undo.desc).map (fun d => d.parameters.length) = some 0 := by decide +kernel
theorem bX2_undo_96 {p : Program} {l : Launch} {e : Env} {s : State} {m : MethodId} {args : Array Value} {below : List Frame} {meth : Method} {c : Code} {D : va_G} {dA : Nat → ClassId} {b : Nat} {r : Int32} {t9 : TS} (C : cx p s m args meth c cX2_undo RX2 3 (some .int)) (hK : kk D dA s) : ∀ (n : Nat), ∀ (t : TS) (x1 : Int32) (x2 : Int32) (H : Heap) (locs : List Loc) (hT : wd D (tw dA b t) H) (hS : tS b s.heap H locs) (ls : Array Slot), T_undo_96 n t x1 x2 = some (r, t9) → lv_has ls 3 [(0, .ref b), (1, .int x1), (2, .int x2)] → W p l e rmX2_undo s m args below meth c H locs 0 0 (MQ below (tQ D dA b t9 (some (.int r))) args s 0 0 (ta b)) (F0 m 96 ls []) := by
  obtain ⟨hx, hb, hr, hml, hown, hts, hlocks⟩ := id C
  intro n
  induction n with
  | zero =>
    intro t x1 x2 H locs hT hS ls h hl
    have h : none = some _ := h
    cases h
  | succ n ih =>
    intro t x1 x2 H locs hT hS ls h hl
    rw [T_undo_96] at h
    refine lv_iload_n hx hb dX2_undo_96 rfl (lv_at hl 2 rfl) ?_
    refine lv_bipush (v := 78) hx hb dX2_undo_97 (by decide) ?_
    refine lv_icmp_ge (tgt := 127) hx hb dX2_undo_99 (by decide) (fun c => ?_) (fun c => ?_)
    · replace h := if_t c h
      refine lv_aload_n hx hb dX2_undo_127 rfl (lv_at hl 0 rfl) ?_
      refine tg0 C hK hT dX2_undo_128 ?_
      refine lv_bipush (v := 6) hx hb dX2_undo_131 (by decide) ?_
      obtain ⟨hi, h⟩ := ck_some h
      refine tl0 C hK hT hi dX2_undo_133 ?_
      exact e_wi C hT hS h dX2_undo_134
    · replace h := if_f c h
      refine lv_aload_n hx hb dX2_undo_102 rfl (lv_at hl 0 rfl) ?_
      refine tg0 C hK hT dX2_undo_103 ?_
      refine lv_bipush (v := 12) hx hb dX2_undo_106 (by decide) ?_
      refine lv_iload_n hx hb dX2_undo_108 rfl (lv_at hl 2 rfl) ?_
      refine lv_iadd hx hb dX2_undo_109 ?_
      refine lv_aload_n hx hb dX2_undo_110 rfl (lv_at hl 0 rfl) ?_
      refine tg0 C hK hT dX2_undo_111 ?_
      refine lv_iload_n hx hb dX2_undo_114 rfl (lv_at hl 1 rfl) ?_
      refine lv_iconst (v := 4) hx hb dX2_undo_115 (by decide) ?_
      refine lv_iadd hx hb dX2_undo_116 ?_
      refine lv_iload_n hx hb dX2_undo_117 rfl (lv_at hl 2 rfl) ?_
      refine lv_iadd hx hb dX2_undo_118 ?_
      obtain ⟨hi, h⟩ := ck_some h
      refine tl0 C hK hT hi dX2_undo_119 ?_
      obtain ⟨hi, h⟩ := ck_some h
      refine ts0 C hK hT hS hi dX2_undo_120 (fun t1 H locs et1 hT hS => ?_)
      replace h := lt1_sub et1 h
      obtain ⟨v2, ev2⟩ : ∃ y : Int32, y = x2 + (1 : Int32) := ⟨_, rfl⟩
      replace h := lt1_sub ev2 h
      refine lv_iinc (v := v2) (lv' := [(2, .int v2), (0, .ref b), (1, .int x1)]) hx hb dX2_undo_121 hl (k := 2) rfl (by rw [ev2]; rfl) (by decide) rfl (fun ls hl => ?_)
      refine lv_goto (tgt := 96) hx hb dX2_undo_124 (by decide) ?_
      exact ih t1 x1 v2 H locs hT hS ls h (lv_sub hl [1, 2, 0] rfl)
theorem bX2_undo {p : Program} {l : Launch} {e : Env} {s : State} {m : MethodId} {args : Array Value} {below : List Frame} {meth : Method} {c : Code} {D : va_G} {dA : Nat → ClassId} {b : Nat} {r : Int32} {t9 : TS} (C : cx p s m args meth c cX2_undo RX2 3 (some .int)) (hK : kk D dA s) : ∀ (t : TS) (H : Heap) (locs : List Loc) (hT : wd D (tw dA b t) H) (hS : tS b s.heap H locs) (ls : Array Slot), T_undo t = some (r, t9) → lv_has ls 3 [(0, .ref b)] → W p l e rmX2_undo s m args below meth c H locs 0 0 (MQ below (tQ D dA b t9 (some (.int r))) args s 0 0 (ta b)) (F0 m 0 ls []) := by
  obtain ⟨hx, hb, hr, hml, hown, hts, hlocks⟩ := id C
  intro t H locs hT hS ls h hl
  unfold T_undo at h
  refine lv_aload_n hx hb dX2_undo_0 rfl (lv_at hl 0 rfl) ?_
  refine tg0 C hK hT dX2_undo_1 ?_
  refine lv_bipush (v := 6) hx hb dX2_undo_4 (by decide) ?_
  obtain ⟨hi, h⟩ := ck_some h
  refine tl0 C hK hT hi dX2_undo_6 ?_
  refine lv_if_ne (tgt := 12) hx hb dX2_undo_7 (by decide) (fun c => ?_) (fun c => ?_)
  · replace h := if_f c h
    refine lv_aload_n hx hb dX2_undo_12 rfl (lv_at hl 0 rfl) ?_
    refine tg0 C hK hT dX2_undo_13 ?_
    refine lv_bipush (v := 6) hx hb dX2_undo_16 (by decide) ?_
    refine lv_dup2_11 hx hb dX2_undo_18 rfl rfl ?_
    obtain ⟨hi, h⟩ := ck_some h
    refine tl0 C hK hT hi dX2_undo_19 ?_
    refine lv_iconst (v := 1) hx hb dX2_undo_20 (by decide) ?_
    refine lv_isub hx hb dX2_undo_21 ?_
    obtain ⟨hi, h⟩ := ck_some h
    refine ts0 C hK hT hS hi dX2_undo_22 (fun t1 H locs et1 hT hS => ?_)
    replace h := lt1_sub et1 h
    refine lv_sipush (v := 578) hx hb dX2_undo_23 (by decide) ?_
    refine lv_bipush (v := 82) hx hb dX2_undo_26 (by decide) ?_
    refine lv_aload_n hx hb dX2_undo_28 rfl (lv_at hl 0 rfl) ?_
    refine tg0 C hK hT dX2_undo_29 ?_
    refine lv_bipush (v := 6) hx hb dX2_undo_32 (by decide) ?_
    obtain ⟨hi, h⟩ := ck_some h
    refine tl0 C hK hT hi dX2_undo_34 ?_
    refine lv_imul hx hb dX2_undo_35 ?_
    refine lv_iadd hx hb dX2_undo_36 ?_
    refine lv_topi (fun v2 ev2 => ?_)
    replace h := lt1_sub ev2 h
    refine lv_istore_n (lv' := [(1, .int v2), (0, .ref b)]) hx hb dX2_undo_37 rfl hl (by decide) rfl (fun ls hl => ?_)
    refine lv_aload_n hx hb dX2_undo_38 rfl (lv_at hl 1 rfl) ?_
    refine tg0 C hK hT dX2_undo_39 ?_
    refine lv_bipush (v := 7) hx hb dX2_undo_42 (by decide) ?_
    refine lv_aload_n hx hb dX2_undo_44 rfl (lv_at hl 1 rfl) ?_
    refine tg0 C hK hT dX2_undo_45 ?_
    refine lv_iload_n hx hb dX2_undo_48 rfl (lv_at hl 0 rfl) ?_
    obtain ⟨hi, h⟩ := ck_some h
    refine tl0 C hK hT hi dX2_undo_49 ?_
    obtain ⟨hi, h⟩ := ck_some h
    refine ts0 C hK hT hS hi dX2_undo_50 (fun t3 H locs et3 hT hS => ?_)
    replace h := lt1_sub et3 h
    refine lv_aload_n hx hb dX2_undo_51 rfl (lv_at hl 1 rfl) ?_
    refine tg0 C hK hT dX2_undo_52 ?_
    refine lv_bipush (v := 10) hx hb dX2_undo_55 (by decide) ?_
    refine lv_aload_n hx hb dX2_undo_57 rfl (lv_at hl 1 rfl) ?_
    refine tg0 C hK hT dX2_undo_58 ?_
    refine lv_iload_n hx hb dX2_undo_61 rfl (lv_at hl 0 rfl) ?_
    refine lv_iconst (v := 1) hx hb dX2_undo_62 (by decide) ?_
    refine lv_iadd hx hb dX2_undo_63 ?_
    obtain ⟨hi, h⟩ := ck_some h
    refine tl0 C hK hT hi dX2_undo_64 ?_
    obtain ⟨hi, h⟩ := ck_some h
    refine ts0 C hK hT hS hi dX2_undo_65 (fun t4 H locs et4 hT hS => ?_)
    replace h := lt1_sub et4 h
    refine lv_aload_n hx hb dX2_undo_66 rfl (lv_at hl 1 rfl) ?_
    refine tg0 C hK hT dX2_undo_67 ?_
    refine lv_iconst (v := 2) hx hb dX2_undo_70 (by decide) ?_
    refine lv_aload_n hx hb dX2_undo_71 rfl (lv_at hl 1 rfl) ?_
    refine tg0 C hK hT dX2_undo_72 ?_
    refine lv_iload_n hx hb dX2_undo_75 rfl (lv_at hl 0 rfl) ?_
    refine lv_iconst (v := 2) hx hb dX2_undo_76 (by decide) ?_
    refine lv_iadd hx hb dX2_undo_77 ?_
    obtain ⟨hi, h⟩ := ck_some h
    refine tl0 C hK hT hi dX2_undo_78 ?_
    obtain ⟨hi, h⟩ := ck_some h
    refine ts0 C hK hT hS hi dX2_undo_79 (fun t5 H locs et5 hT hS => ?_)
    replace h := lt1_sub et5 h
    refine lv_aload_n hx hb dX2_undo_80 rfl (lv_at hl 1 rfl) ?_
    refine tg0 C hK hT dX2_undo_81 ?_
    refine lv_iconst (v := 3) hx hb dX2_undo_84 (by decide) ?_
    refine lv_aload_n hx hb dX2_undo_85 rfl (lv_at hl 1 rfl) ?_
    refine tg0 C hK hT dX2_undo_86 ?_
    refine lv_iload_n hx hb dX2_undo_89 rfl (lv_at hl 0 rfl) ?_
    refine lv_iconst (v := 3) hx hb dX2_undo_90 (by decide) ?_
    refine lv_iadd hx hb dX2_undo_91 ?_
    obtain ⟨hi, h⟩ := ck_some h
    refine tl0 C hK hT hi dX2_undo_92 ?_
    obtain ⟨hi, h⟩ := ck_some h
    refine ts0 C hK hT hS hi dX2_undo_93 (fun t6 H locs et6 hT hS => ?_)
    replace h := lt1_sub et6 h
    refine lv_iconst (v := 0) hx hb dX2_undo_94 (by decide) ?_
    refine lv_istore_n (lv' := [(2, .int (0 : Int32)), (1, .int v2), (0, .ref b)]) hx hb dX2_undo_95 rfl hl (by decide) rfl (fun ls hl => ?_)
    exact bX2_undo_96 C hK fu t6 v2 (0 : Int32) H locs hT hS ls h (lv_sub hl [2, 1, 0] rfl)
  · replace h := if_t c h
    refine lv_iconst (v := -1) hx hb dX2_undo_10 (by decide) ?_
    exact e_wi C hT hS h dX2_undo_11
theorem mX2_undo {l : Launch} {D : va_G} {dA : Nat → ClassId} {b : Nat} {t : TS} {r : Int32} {t9 : TS} (h : T_undo t = some (r, t9)) : Met l yX2_undo (ws_ yX2_undo cX2_undo 3 (some .int)) rmX2_undo (tPc D dA b t [.ref b]) (tQ D dA b t9 (some (.int r))) 0 0 (ta b) := en_R (by decide +kernel) rfl (Nat.le_of_ble_eq_true rfl) (fun p e s m below meth c ls C hK hT hl => bX2_undo C hK t _ [] hT tS.rf ls h hl)
set_option maxRecDepth 20000 in
abbrev rmX2_bits : Room := { frames := 0, cells := 0, slots := 0, locals := 0 }
theorem hdX2_bits : yX2_bits.cls ≠ "java/lang/invoke/MethodHandle" ∧ yX2_bits.cls ≠ "java/lang/invoke/VarHandle" ∧ (parseMethodDescriptor yX2_bits.desc).map (fun d => d.parameters.length) = some 1 := by decide +kernel
theorem bX2_bits_4 {p : Program} {l : Launch} {e : Env} {s : State} {m : MethodId} {args : Array Value} {below : List Frame} {meth : Method} {c : Code} {r : Int32} (C : cx p s m args meth c cX2_bits RX2 3 (some .int)) : ∀ (n : Nat), ∀ (x0 : Int32) (x1 : Int32) (x2 : Int32) (ls : Array Slot), T_bits_4 n x0 x1 x2 = some r → lv_has ls 3 [(0, .int x0), (1, .int x1), (2, .int x2)] → W p l e rmX2_bits s m args below meth c s.heap [] 0 0 (MQ below (rQi r) args s 0 0 nof) (F0 m 4 ls []) := by
  obtain ⟨hx, hb, hr, hml, hown, hts, hlocks⟩ := id C
  intro n
  induction n with
  | zero =>
    intro x0 x1 x2 ls h hl
    have h : none = some _ := h
    cases h
  | succ n ih =>
    intro x0 x1 x2 ls h hl
    rw [T_bits_4] at h
    refine lv_iload_n hx hb dX2_bits_4 rfl (lv_at hl 2 rfl) ?_
    refine lv_bipush (v := 26) hx hb dX2_bits_5 (by decide) ?_
    refine lv_icmp_ge (tgt := 24) hx hb dX2_bits_7 (by decide) (fun c => ?_) (fun c => ?_)
    · replace h := if_t c h
      refine lv_iload_n hx hb dX2_bits_24 rfl (lv_at hl 1 rfl) ?_
      exact e_ri C h dX2_bits_25
    · replace h := if_f c h
      refine lv_iload_n hx hb dX2_bits_10 rfl (lv_at hl 1 rfl) ?_
      refine lv_iload_n hx hb dX2_bits_11 rfl (lv_at hl 0 rfl) ?_
      refine lv_iload_n hx hb dX2_bits_12 rfl (lv_at hl 2 rfl) ?_
      refine lv_ishr hx hb dX2_bits_13 ?_
      refine lv_iconst (v := 1) hx hb dX2_bits_14 (by decide) ?_
      refine lv_iand hx hb dX2_bits_15 ?_
      refine lv_iadd hx hb dX2_bits_16 ?_
      refine lv_topi (fun v1 ev1 => ?_)
      replace h := lt1_sub ev1 h
      refine lv_istore_n (lv' := [(1, .int v1), (0, .int x0), (2, .int x2)]) hx hb dX2_bits_17 rfl hl (by decide) rfl (fun ls hl => ?_)
      obtain ⟨v2, ev2⟩ : ∃ y : Int32, y = x2 + (1 : Int32) := ⟨_, rfl⟩
      replace h := lt1_sub ev2 h
      refine lv_iinc (v := v2) (lv' := [(2, .int v2), (1, .int v1), (0, .int x0)]) hx hb dX2_bits_18 hl (k := 2) rfl (by rw [ev2]; rfl) (by decide) rfl (fun ls hl => ?_)
      refine lv_goto (tgt := 4) hx hb dX2_bits_21 (by decide) ?_
      exact ih x0 v1 v2 ls h (lv_sub hl [2, 1, 0] rfl)
theorem bX2_bits {p : Program} {l : Launch} {e : Env} {s : State} {m : MethodId} {args : Array Value} {below : List Frame} {meth : Method} {c : Code} {r : Int32} (C : cx p s m args meth c cX2_bits RX2 3 (some .int)) : ∀ (x0 : Int32) (ls : Array Slot), T_bits x0 = some r → lv_has ls 3 [(0, .int x0)] → W p l e rmX2_bits s m args below meth c s.heap [] 0 0 (MQ below (rQi r) args s 0 0 nof) (F0 m 0 ls []) := by
  obtain ⟨hx, hb, hr, hml, hown, hts, hlocks⟩ := id C
  intro x0 ls h hl
  unfold T_bits at h
  refine lv_iconst (v := 0) hx hb dX2_bits_0 (by decide) ?_
  refine lv_istore_n (lv' := [(1, .int (0 : Int32)), (0, .int x0)]) hx hb dX2_bits_1 rfl hl (by decide) rfl (fun ls hl => ?_)
  refine lv_iconst (v := 0) hx hb dX2_bits_2 (by decide) ?_
  refine lv_istore_n (lv' := [(2, .int (0 : Int32)), (1, .int (0 : Int32)), (0, .int x0)]) hx hb dX2_bits_3 rfl hl (by decide) rfl (fun ls hl => ?_)
  exact bX2_bits_4 C fu x0 (0 : Int32) (0 : Int32) ls h (lv_sub hl [2, 1, 0] rfl)
theorem mX2_bits {l : Launch} {x0 : Int32} {r : Int32} (h : T_bits x0 = some r) : Met l yX2_bits (ws_ yX2_bits cX2_bits 3 (some .int)) rmX2_bits (sPc [.int x0]) (rQi r) 0 0 nof := en_S (by decide +kernel) rfl (Nat.le_of_ble_eq_true rfl) (fun p e s m below meth c ls C hl => bX2_bits C x0 ls h hl)
set_option maxRecDepth 20000 in
abbrev rmX2_clauseOf : Room := { frames := 0, cells := 0, slots := 0, locals := 0 }
theorem hdX2_clauseOf : yX2_clauseOf.cls = RX2 ∧ yX2_clauseOf.cls ≠ "java/lang/invoke/MethodHandle" ∧ yX2_clauseOf.cls ≠ "java/lang/invoke/VarHandle" ∧ (parseMethodDescriptor yX2_clauseOf.desc).map (fun d => d.parameters.length) = some 1 := by decide +kernel
theorem bX2_clauseOf_2 {p : Program} {l : Launch} {e : Env} {s : State} {m : MethodId} {args : Array Value} {below : List Frame} {meth : Method} {c : Code} {D : va_G} {dA : Nat → ClassId} {b : Nat} {t : TS} {r : Int32} (C : cx p s m args meth c cX2_clauseOf RX2 3 (some .int)) (hK : kk D dA s) (hT : wd D (tw dA b t) s.heap) : ∀ (n : Nat), ∀ (x1 : Int32) (x2 : Int32) (ls : Array Slot), T_clauseOf_2 t n x1 x2 = some r → lv_has ls 3 [(0, .ref b), (1, .int x1), (2, .int x2)] → W p l e rmX2_clauseOf s m args below meth c s.heap [] 0 0 (MQ below (rQi r) args s 0 0 nof) (F0 m 2 ls []) := by
  obtain ⟨hx, hb, hr, hml, hown, hts, hlocks⟩ := id C
  intro n
  induction n with
  | zero =>
    intro x1 x2 ls h hl
    have h : none = some _ := h
    cases h
  | succ n ih =>
    intro x1 x2 ls h hl
    rw [T_clauseOf_2] at h
    refine lv_aload_n hx hb dX2_clauseOf_2 rfl (lv_at hl 0 rfl) ?_
    refine tg0 C hK hT dX2_clauseOf_3 ?_
    refine lv_iconst (v := 5) hx hb dX2_clauseOf_6 (by decide) ?_
    obtain ⟨hi, h⟩ := ck_some h
    refine tl0 C hK hT hi dX2_clauseOf_7 ?_
    refine lv_if_lt (tgt := 64) hx hb dX2_clauseOf_8 (by decide) (fun c => ?_) (fun c => ?_)
    · replace h := if_t c h
      refine lv_iconst (v := -1) hx hb dX2_clauseOf_64 (by decide) ?_
      exact e_ri C h dX2_clauseOf_65
    · replace h := if_f c h
      refine lv_iload_n hx hb dX2_clauseOf_11 rfl (lv_at hl 2 rfl) ?_
      refine lv_aload_n hx hb dX2_clauseOf_12 rfl (lv_at hl 0 rfl) ?_
      refine tg2 C hK hT dX2_clauseOf_13 ?_
      refine lv_sipush (v := 873) hx hb dX2_clauseOf_16 (by decide) ?_
      refine lv_aload_n hx hb dX2_clauseOf_19 rfl (lv_at hl 0 rfl) ?_
      refine tg0 C hK hT dX2_clauseOf_20 ?_
      refine lv_iconst (v := 5) hx hb dX2_clauseOf_23 (by decide) ?_
      obtain ⟨hi, h⟩ := ck_some h
      refine tl0 C hK hT hi dX2_clauseOf_24 ?_
      refine lv_imul hx hb dX2_clauseOf_25 ?_
      obtain ⟨hi, h⟩ := ck_some h
      refine tl2 C hK hT hi dX2_clauseOf_26 ?_
      refine lv_icmp_ge (tgt := 64) hx hb dX2_clauseOf_27 (by decide) (fun c => ?_) (fun c => ?_)
      · replace h := if_t c h
        refine lv_iconst (v := -1) hx hb dX2_clauseOf_64 (by decide) ?_
        exact e_ri C h dX2_clauseOf_65
      · replace h := if_f c h
        refine lv_aload_n hx hb dX2_clauseOf_30 rfl (lv_at hl 0 rfl) ?_
        refine tg2 C hK hT dX2_clauseOf_31 ?_
        refine lv_sipush (v := 873) hx hb dX2_clauseOf_34 (by decide) ?_
        refine lv_aload_n hx hb dX2_clauseOf_37 rfl (lv_at hl 0 rfl) ?_
        refine tg0 C hK hT dX2_clauseOf_38 ?_
        refine lv_iconst (v := 5) hx hb dX2_clauseOf_41 (by decide) ?_
        obtain ⟨hi, h⟩ := ck_some h
        refine tl0 C hK hT hi dX2_clauseOf_42 ?_
        refine lv_imul hx hb dX2_clauseOf_43 ?_
        refine lv_iconst (v := 1) hx hb dX2_clauseOf_44 (by decide) ?_
        refine lv_iadd hx hb dX2_clauseOf_45 ?_
        refine lv_bipush (v := 11) hx hb dX2_clauseOf_46 (by decide) ?_
        refine lv_iload_n hx hb dX2_clauseOf_48 rfl (lv_at hl 2 rfl) ?_
        refine lv_imul hx hb dX2_clauseOf_49 ?_
        refine lv_iadd hx hb dX2_clauseOf_50 ?_
        obtain ⟨hi, h⟩ := ck_some h
        refine tl2 C hK hT hi dX2_clauseOf_51 ?_
        refine lv_iload_n hx hb dX2_clauseOf_52 rfl (lv_at hl 1 rfl) ?_
        refine lv_icmp_ne (tgt := 58) hx hb dX2_clauseOf_53 (by decide) (fun c => ?_) (fun c => ?_)
        · replace h := if_f c h
          obtain ⟨v1, ev1⟩ : ∃ y : Int32, y = x2 + (1 : Int32) := ⟨_, rfl⟩
          replace h := lt1_sub ev1 h
          refine lv_iinc (v := v1) (lv' := [(2, .int v1), (0, .ref b), (1, .int x1)]) hx hb dX2_clauseOf_58 hl (k := 2) rfl (by rw [ev1]; rfl) (by decide) rfl (fun ls hl => ?_)
          refine lv_goto (tgt := 2) hx hb dX2_clauseOf_61 (by decide) ?_
          exact ih x1 v1 ls h (lv_sub hl [1, 2, 0] rfl)
        · replace h := if_t c h
          refine lv_iload_n hx hb dX2_clauseOf_56 rfl (lv_at hl 2 rfl) ?_
          exact e_ri C h dX2_clauseOf_57
theorem bX2_clauseOf {p : Program} {l : Launch} {e : Env} {s : State} {m : MethodId} {args : Array Value} {below : List Frame} {meth : Method} {c : Code} {D : va_G} {dA : Nat → ClassId} {b : Nat} {t : TS} {r : Int32} (C : cx p s m args meth c cX2_clauseOf RX2 3 (some .int)) (hK : kk D dA s) (hT : wd D (tw dA b t) s.heap) : ∀ (x1 : Int32) (ls : Array Slot), T_clauseOf t x1 = some r → lv_has ls 3 [(0, .ref b), (1, .int x1)] → W p l e rmX2_clauseOf s m args below meth c s.heap [] 0 0 (MQ below (rQi r) args s 0 0 nof) (F0 m 0 ls []) := by
  obtain ⟨hx, hb, hr, hml, hown, hts, hlocks⟩ := id C
  intro x1 ls h hl
  unfold T_clauseOf at h
  refine lv_iconst (v := 0) hx hb dX2_clauseOf_0 (by decide) ?_
  refine lv_istore_n (lv' := [(2, .int (0 : Int32)), (0, .ref b), (1, .int x1)]) hx hb dX2_clauseOf_1 rfl hl (by decide) rfl (fun ls hl => ?_)
  exact bX2_clauseOf_2 C hK hT fu x1 (0 : Int32) ls h (lv_sub hl [1, 2, 0] rfl)
theorem mX2_clauseOf {l : Launch} {D : va_G} {dA : Nat → ClassId} {b : Nat} {t : TS} {x1 : Int32} {r : Int32} (h : T_clauseOf t x1 = some r) : Met l yX2_clauseOf (ws_ yX2_clauseOf cX2_clauseOf 3 (some .int)) rmX2_clauseOf (tPc D dA b t [.ref b, .int x1]) (rQi r) 0 0 nof := en_R (by decide +kernel) rfl (Nat.le_of_ble_eq_true rfl) (fun p e s m below meth c ls C hK hT hl => bX2_clauseOf C hK hT x1 ls h hl)
set_option maxRecDepth 20000 in
abbrev rmX2_isOut : Room := { frames := 1, cells := 0, slots := 0, locals := 21 }
theorem hdX2_isOut : yX2_isOut.cls = RX2 ∧ yX2_isOut.cls ≠ "java/lang/invoke/MethodHandle" ∧ yX2_isOut.cls ≠ "java/lang/invoke/VarHandle" ∧ (parseMethodDescriptor yX2_isOut.desc).map (fun d => d.parameters.length) = some 1 := by decide +kernel
theorem bX2_isOut {p : Program} {l : Launch} {e : Env} {s : State} {m : MethodId} {args : Array Value} {below : List Frame} {meth : Method} {c : Code} {D : va_G} {dA : Nat → ClassId} {b : Nat} {t : TS} {r : Int32} (C : cx p s m args meth c cX2_isOut RX2 2 (some .boolean)) (hK : kk D dA s) (hT : wd D (tw dA b t) s.heap) : ∀ (x1 : Int32) (ls : Array Slot), T_isOut t x1 = some r → lv_has ls 2 [(0, .ref b), (1, .int x1)] → W p l e rmX2_isOut s m args below meth c s.heap [] 0 0 (MQ below (rQi r) args s 0 0 nof) (F0 m 0 ls []) := by
  obtain ⟨hx, hb, hr, hml, hown, hts, hlocks⟩ := id C
  intro x1 ls h hl
  unfold T_isOut at h
  refine lv_aload_n hx hb dX2_isOut_0 rfl (lv_at hl 0 rfl) ?_
  refine tg0 C hK hT dX2_isOut_1 ?_
  refine lv_bipush (v := 7) hx hb dX2_isOut_4 (by decide) ?_
  obtain ⟨hi, h⟩ := ck_some h
  refine tl0 C hK hT hi dX2_isOut_6 ?_
  refine lv_iload_n hx hb dX2_isOut_7 rfl (lv_at hl 1 rfl) ?_
  obtain ⟨v1, hv1, h⟩ := bd1_some h
  refine r_int (run_s (As := [.int (t.1 0 (7 : Int32).toNatClampNeg), .int x1]) (rest := []) C (mX2_has hv1) q1659 q1660 q162 q1661 ⟨rfl, rfl⟩ hdX2_has ⟨Nat.le_of_ble_eq_true rfl, Nat.le_of_ble_eq_true rfl⟩ ⟨Nat.zero_le _, Nat.zero_le _⟩ rfl hl.1 rfl (Nat.le_of_ble_eq_true rfl) dX2_isOut_8) ?_
  obtain ⟨hz, h⟩ := zr_some h
  exact e_rz C hz h dX2_isOut_11
theorem mX2_isOut {l : Launch} {D : va_G} {dA : Nat → ClassId} {b : Nat} {t : TS} {x1 : Int32} {r : Int32} (h : T_isOut t x1 = some r) : Met l yX2_isOut (ws_ yX2_isOut cX2_isOut 2 (some .boolean)) rmX2_isOut (tPc D dA b t [.ref b, .int x1]) (rQi r) 0 0 nof := en_R (by decide +kernel) rfl (Nat.le_of_ble_eq_true rfl) (fun p e s m below meth c ls C hK hT hl => bX2_isOut C hK hT x1 ls h hl)
set_option maxRecDepth 20000 in
abbrev rmX2_isVowel : Room := { frames := 0, cells := 0, slots := 0, locals := 0 }
theorem hdX2_isVowel : yX2_isVowel.cls ≠ "java/lang/invoke/MethodHandle" ∧ yX2_isVowel.cls ≠ "java/lang/invoke/VarHandle" ∧ (parseMethodDescriptor yX2_isVowel.desc).map (fun d => d.parameters.length) = some 1 := by decide +kernel
theorem bX2_isVowel_27 {p : Program} {l : Launch} {e : Env} {s : State} {m : MethodId} {args : Array Value} {below : List Frame} {meth : Method} {c : Code} {r : Int32} (C : cx p s m args meth c cX2_isVowel RX2 1 (some .boolean)) : ∀ (ls : Array Slot), T_isVowel_27 = some r → lv_has ls 1 [] → W p l e rmX2_isVowel s m args below meth c s.heap [] 0 0 (MQ below (rQi r) args s 0 0 nof) (F0 m 27 ls []) := by
  obtain ⟨hx, hb, hr, hml, hown, hts, hlocks⟩ := id C
  intro ls h hl
  unfold T_isVowel_27 at h
  refine lv_iconst (v := 1) hx hb dX2_isVowel_27 (by decide) ?_
  refine lv_goto (tgt := 32) hx hb dX2_isVowel_28 (by decide) ?_
  exact e_rz C (Or.inr rfl) h dX2_isVowel_32
theorem bX2_isVowel {p : Program} {l : Launch} {e : Env} {s : State} {m : MethodId} {args : Array Value} {below : List Frame} {meth : Method} {c : Code} {r : Int32} (C : cx p s m args meth c cX2_isVowel RX2 1 (some .boolean)) : ∀ (x0 : Int32) (ls : Array Slot), T_isVowel x0 = some r → lv_has ls 1 [(0, .int x0)] → W p l e rmX2_isVowel s m args below meth c s.heap [] 0 0 (MQ below (rQi r) args s 0 0 nof) (F0 m 0 ls []) := by
  obtain ⟨hx, hb, hr, hml, hown, hts, hlocks⟩ := id C
  intro x0 ls h hl
  unfold T_isVowel at h
  refine lv_iload_n hx hb dX2_isVowel_0 rfl (lv_at hl 0 rfl) ?_
  refine lv_if_eq (tgt := 27) hx hb dX2_isVowel_1 (by decide) (fun c => ?_) (fun c => ?_)
  · replace h := if_t c h
    exact bX2_isVowel_27 C  ls h (lv_sub hl [] rfl)
  · replace h := if_f c h
    refine lv_iload_n hx hb dX2_isVowel_4 rfl (lv_at hl 0 rfl) ?_
    refine lv_iconst (v := 4) hx hb dX2_isVowel_5 (by decide) ?_
    refine lv_icmp_eq (tgt := 27) hx hb dX2_isVowel_6 (by decide) (fun c => ?_) (fun c => ?_)
    · replace h := if_t c h
      exact bX2_isVowel_27 C  ls h (lv_sub hl [] rfl)
    · replace h := if_f c h
      refine lv_iload_n hx hb dX2_isVowel_9 rfl (lv_at hl 0 rfl) ?_
      refine lv_bipush (v := 8) hx hb dX2_isVowel_10 (by decide) ?_
      refine lv_icmp_eq (tgt := 27) hx hb dX2_isVowel_12 (by decide) (fun c => ?_) (fun c => ?_)
      · replace h := if_t c h
        exact bX2_isVowel_27 C  ls h (lv_sub hl [] rfl)
      · replace h := if_f c h
        refine lv_iload_n hx hb dX2_isVowel_15 rfl (lv_at hl 0 rfl) ?_
        refine lv_bipush (v := 14) hx hb dX2_isVowel_16 (by decide) ?_
        refine lv_icmp_eq (tgt := 27) hx hb dX2_isVowel_18 (by decide) (fun c => ?_) (fun c => ?_)
        · replace h := if_t c h
          exact bX2_isVowel_27 C  ls h (lv_sub hl [] rfl)
        · replace h := if_f c h
          refine lv_iload_n hx hb dX2_isVowel_21 rfl (lv_at hl 0 rfl) ?_
          refine lv_bipush (v := 20) hx hb dX2_isVowel_22 (by decide) ?_
          refine lv_icmp_ne (tgt := 31) hx hb dX2_isVowel_24 (by decide) (fun c => ?_) (fun c => ?_)
          · replace h := if_f c h
            refine lv_iconst (v := 0) hx hb dX2_isVowel_31 (by decide) ?_
            exact e_rz C (Or.inl rfl) h dX2_isVowel_32
          · replace h := if_t c h
            exact bX2_isVowel_27 C  ls h (lv_sub hl [] rfl)
theorem mX2_isVowel {l : Launch} {x0 : Int32} {r : Int32} (h : T_isVowel x0 = some r) : Met l yX2_isVowel (ws_ yX2_isVowel cX2_isVowel 1 (some .boolean)) rmX2_isVowel (sPc [.int x0]) (rQi r) 0 0 nof := en_S (by decide +kernel) rfl (Nat.le_of_ble_eq_true rfl) (fun p e s m below meth c ls C hl => bX2_isVowel C x0 ls h hl)
set_option maxRecDepth 20000 in
abbrev rmX2_setOf : Room := { frames := 1, cells := 0, slots := 0, locals := 22 }
theorem hdX2_setOf : yX2_setOf.cls = RX2 ∧ yX2_setOf.cls ≠ "java/lang/invoke/MethodHandle" ∧ yX2_setOf.cls ≠ "java/lang/invoke/VarHandle" ∧ (parseMethodDescriptor yX2_setOf.desc).map (fun d => d.parameters.length) = some 1 := by decide +kernel
theorem bX2_setOf_4 {p : Program} {l : Launch} {e : Env} {s : State} {m : MethodId} {args : Array Value} {below : List Frame} {meth : Method} {c : Code} {D : va_G} {dA : Nat → ClassId} {b : Nat} {t : TS} {r : Int32} (C : cx p s m args meth c cX2_setOf RX2 4 (some .int)) (hK : kk D dA s) (hT : wd D (tw dA b t) s.heap) : ∀ (n : Nat), ∀ (x1 : Int32) (x2 : Int32) (x3 : Int32) (ls : Array Slot), T_setOf_4 t n x1 x2 x3 = some r → lv_has ls 4 [(0, .ref b), (1, .int x1), (2, .int x2), (3, .int x3)] → W p l e rmX2_setOf s m args below meth c s.heap [] 0 0 (MQ below (rQi r) args s 0 0 nof) (F0 m 4 ls []) := by
  obtain ⟨hx, hb, hr, hml, hown, hts, hlocks⟩ := id C
  intro n
  induction n with
  | zero =>
    intro x1 x2 x3 ls h hl
    have h : none = some _ := h
    cases h
  | succ n ih =>
    intro x1 x2 x3 ls h hl
    rw [T_setOf_4] at h
    refine lv_iload_n hx hb dX2_setOf_4 rfl (lv_at hl 3 rfl) ?_
    refine lv_aload_n hx hb dX2_setOf_5 rfl (lv_at hl 0 rfl) ?_
    refine lv_iload_n hx hb dX2_setOf_6 rfl (lv_at hl 1 rfl) ?_
    obtain ⟨v1, hv1, h⟩ := bd1_some h
    refine r_int (run_t (As := [.int x1]) (rest := [.int x3]) C hK hT (mX2_lengthOf hv1) q1678 q1680 qs71 q162 q1681 ⟨rfl, rfl⟩ hdX2_lengthOf ⟨Nat.le_of_ble_eq_true rfl, Nat.le_of_ble_eq_true rfl⟩ ⟨Nat.zero_le _, Nat.zero_le _⟩ rfl hl.1 rfl (Nat.le_of_ble_eq_true rfl) dX2_setOf_7) ?_
    refine lv_icmp_ge (tgt := 30) hx hb dX2_setOf_10 (by decide) (fun c => ?_) (fun c => ?_)
    · replace h := if_t c h
      refine lv_iload_n hx hb dX2_setOf_30 rfl (lv_at hl 2 rfl) ?_
      exact e_ri C h dX2_setOf_31
    · replace h := if_f c h
      refine lv_iload_n hx hb dX2_setOf_13 rfl (lv_at hl 2 rfl) ?_
      refine lv_iconst (v := 1) hx hb dX2_setOf_14 (by decide) ?_
      refine lv_aload_n hx hb dX2_setOf_15 rfl (lv_at hl 0 rfl) ?_
      refine lv_iload_n hx hb dX2_setOf_16 rfl (lv_at hl 1 rfl) ?_
      refine lv_iload_n hx hb dX2_setOf_17 rfl (lv_at hl 3 rfl) ?_
      obtain ⟨v2, hv2, h⟩ := bd1_some h
      refine r_int (run_t (As := [.int x1, .int x3]) (rest := [.int (1 : Int32), .int x2]) C hK hT (mX2_letterOf hv2) q1682 q1684 qs72 q162 q1685 ⟨rfl, rfl⟩ hdX2_letterOf ⟨Nat.le_of_ble_eq_true rfl, Nat.le_of_ble_eq_true rfl⟩ ⟨Nat.zero_le _, Nat.zero_le _⟩ rfl hl.1 rfl (Nat.le_of_ble_eq_true rfl) dX2_setOf_18) ?_
      refine lv_ishl hx hb dX2_setOf_21 ?_
      refine lv_ior hx hb dX2_setOf_22 ?_
      refine lv_topi (fun v3 ev3 => ?_)
      replace h := lt1_sub ev3 h
      refine lv_istore_n (lv' := [(2, .int v3), (0, .ref b), (1, .int x1), (3, .int x3)]) hx hb dX2_setOf_23 rfl hl (by decide) rfl (fun ls hl => ?_)
      obtain ⟨v4, ev4⟩ : ∃ y : Int32, y = x3 + (1 : Int32) := ⟨_, rfl⟩
      replace h := lt1_sub ev4 h
      refine lv_iinc (v := v4) (lv' := [(3, .int v4), (2, .int v3), (0, .ref b), (1, .int x1)]) hx hb dX2_setOf_24 hl (k := 3) rfl (by rw [ev4]; rfl) (by decide) rfl (fun ls hl => ?_)
      refine lv_goto (tgt := 4) hx hb dX2_setOf_27 (by decide) ?_
      exact ih x1 v3 v4 ls h (lv_sub hl [2, 3, 1, 0] rfl)
theorem bX2_setOf {p : Program} {l : Launch} {e : Env} {s : State} {m : MethodId} {args : Array Value} {below : List Frame} {meth : Method} {c : Code} {D : va_G} {dA : Nat → ClassId} {b : Nat} {t : TS} {r : Int32} (C : cx p s m args meth c cX2_setOf RX2 4 (some .int)) (hK : kk D dA s) (hT : wd D (tw dA b t) s.heap) : ∀ (x1 : Int32) (ls : Array Slot), T_setOf t x1 = some r → lv_has ls 4 [(0, .ref b), (1, .int x1)] → W p l e rmX2_setOf s m args below meth c s.heap [] 0 0 (MQ below (rQi r) args s 0 0 nof) (F0 m 0 ls []) := by
  obtain ⟨hx, hb, hr, hml, hown, hts, hlocks⟩ := id C
  intro x1 ls h hl
  unfold T_setOf at h
  refine lv_iconst (v := 0) hx hb dX2_setOf_0 (by decide) ?_
  refine lv_istore_n (lv' := [(2, .int (0 : Int32)), (0, .ref b), (1, .int x1)]) hx hb dX2_setOf_1 rfl hl (by decide) rfl (fun ls hl => ?_)
  refine lv_iconst (v := 0) hx hb dX2_setOf_2 (by decide) ?_
  refine lv_istore_n (lv' := [(3, .int (0 : Int32)), (2, .int (0 : Int32)), (0, .ref b), (1, .int x1)]) hx hb dX2_setOf_3 rfl hl (by decide) rfl (fun ls hl => ?_)
  exact bX2_setOf_4 C hK hT fu x1 (0 : Int32) (0 : Int32) ls h (lv_sub hl [2, 3, 1, 0] rfl)
theorem mX2_setOf {l : Launch} {D : va_G} {dA : Nat → ClassId} {b : Nat} {t : TS} {x1 : Int32} {r : Int32} (h : T_setOf t x1 = some r) : Met l yX2_setOf (ws_ yX2_setOf cX2_setOf 4 (some .int)) rmX2_setOf (tPc D dA b t [.ref b, .int x1]) (rQi r) 0 0 nof := en_R (by decide +kernel) rfl (Nat.le_of_ble_eq_true rfl) (fun p e s m below meth c ls C hK hT hl => bX2_setOf C hK hT x1 ls h hl)
set_option maxRecDepth 20000 in
abbrev rmX2_usesOf : Room := { frames := 2, cells := 0, slots := 0, locals := 45 }
theorem hdX2_usesOf : yX2_usesOf.cls = RX2 ∧ yX2_usesOf.cls ≠ "java/lang/invoke/MethodHandle" ∧ yX2_usesOf.cls ≠ "java/lang/invoke/VarHandle" ∧ (parseMethodDescriptor yX2_usesOf.desc).map (fun d => d.parameters.length) = some 1 := by decide +kernel
theorem bX2_usesOf_32 {p : Program} {l : Launch} {e : Env} {s : State} {m : MethodId} {args : Array Value} {below : List Frame} {meth : Method} {c : Code} {D : va_G} {dA : Nat → ClassId} {b : Nat} {t : TS} {r : Int32} (C : cx p s m args meth c cX2_usesOf RX2 4 (some .int)) (hK : kk D dA s) (hT : wd D (tw dA b t) s.heap) {k4 : Int32 → Int32 → Int32 → Option Int32} (hk4 : ∀ (x1 : Int32) (x2 : Int32) (x3 : Int32) (ls : Array Slot), k4 x1 x2 x3 = some r → lv_has ls 4 [(0, .ref b), (1, .int x1), (2, .int x2), (3, .int x3)] → W p l e rmX2_usesOf s m args below meth c s.heap [] 0 0 (MQ below (rQi r) args s 0 0 nof) (F0 m 4 ls [])) : ∀ (x1 : Int32) (x3 : Int32) (y0 : Int32) (y1 : Int32) (ls : Array Slot), T_usesOf_32 k4 t x1 x3 y0 y1 = some r → lv_has ls 4 [(0, .ref b), (1, .int x1), (3, .int x3)] → W p l e rmX2_usesOf s m args below meth c s.heap [] 0 0 (MQ below (rQi r) args s 0 0 nof) (F0 m 32 ls [.int y1, .int y0]) := by
  obtain ⟨hx, hb, hr, hml, hown, hts, hlocks⟩ := id C
  intro x1 x3 y0 y1 ls h hl
  unfold T_usesOf_32 at h
  refine lv_iadd hx hb dX2_usesOf_32 ?_
  refine lv_topi (fun v1 ev1 => ?_)
  replace h := lt1_sub ev1 h
  refine lv_istore_n (lv' := [(2, .int v1), (0, .ref b), (1, .int x1), (3, .int x3)]) hx hb dX2_usesOf_33 rfl hl (by decide) rfl (fun ls hl => ?_)
  obtain ⟨v2, ev2⟩ : ∃ y : Int32, y = x3 + (1 : Int32) := ⟨_, rfl⟩
  replace h := lt1_sub ev2 h
  refine lv_iinc (v := v2) (lv' := [(3, .int v2), (2, .int v1), (0, .ref b), (1, .int x1)]) hx hb dX2_usesOf_34 hl (k := 3) rfl (by rw [ev2]; rfl) (by decide) rfl (fun ls hl => ?_)
  refine lv_goto (tgt := 4) hx hb dX2_usesOf_37 (by decide) ?_
  exact hk4 x1 v1 v2 ls h (lv_sub hl [2, 3, 1, 0] rfl)
theorem bX2_usesOf_4 {p : Program} {l : Launch} {e : Env} {s : State} {m : MethodId} {args : Array Value} {below : List Frame} {meth : Method} {c : Code} {D : va_G} {dA : Nat → ClassId} {b : Nat} {t : TS} {r : Int32} (C : cx p s m args meth c cX2_usesOf RX2 4 (some .int)) (hK : kk D dA s) (hT : wd D (tw dA b t) s.heap) : ∀ (n : Nat), ∀ (x1 : Int32) (x2 : Int32) (x3 : Int32) (ls : Array Slot), T_usesOf_4 t n x1 x2 x3 = some r → lv_has ls 4 [(0, .ref b), (1, .int x1), (2, .int x2), (3, .int x3)] → W p l e rmX2_usesOf s m args below meth c s.heap [] 0 0 (MQ below (rQi r) args s 0 0 nof) (F0 m 4 ls []) := by
  obtain ⟨hx, hb, hr, hml, hown, hts, hlocks⟩ := id C
  intro n
  induction n with
  | zero =>
    intro x1 x2 x3 ls h hl
    have h : none = some _ := h
    cases h
  | succ n ih =>
    intro x1 x2 x3 ls h hl
    rw [T_usesOf_4] at h
    refine lv_iload_n hx hb dX2_usesOf_4 rfl (lv_at hl 3 rfl) ?_
    refine lv_aload_n hx hb dX2_usesOf_5 rfl (lv_at hl 0 rfl) ?_
    refine tg0 C hK hT dX2_usesOf_6 ?_
    refine lv_iconst (v := 0) hx hb dX2_usesOf_9 (by decide) ?_
    obtain ⟨hi, h⟩ := ck_some h
    refine tl0 C hK hT hi dX2_usesOf_10 ?_
    refine lv_icmp_ge (tgt := 40) hx hb dX2_usesOf_11 (by decide) (fun c => ?_) (fun c => ?_)
    · replace h := if_t c h
      refine lv_iload_n hx hb dX2_usesOf_40 rfl (lv_at hl 2 rfl) ?_
      exact e_ri C h dX2_usesOf_41
    · replace h := if_f c h
      refine lv_iload_n hx hb dX2_usesOf_14 rfl (lv_at hl 2 rfl) ?_
      refine lv_aload_n hx hb dX2_usesOf_15 rfl (lv_at hl 0 rfl) ?_
      refine lv_iload_n hx hb dX2_usesOf_16 rfl (lv_at hl 3 rfl) ?_
      obtain ⟨v1, hv1, h⟩ := bd1_some h
      refine r_int (run_t (As := [.int x3]) (rest := [.int x2]) C hK hT (mX2_setOf hv1) q1912 q1914 qs114 q162 q1915 ⟨rfl, rfl⟩ hdX2_setOf ⟨Nat.le_of_ble_eq_true rfl, Nat.le_of_ble_eq_true rfl⟩ ⟨Nat.zero_le _, Nat.zero_le _⟩ rfl hl.1 rfl (Nat.le_of_ble_eq_true rfl) dX2_usesOf_17) ?_
      refine lv_iload_n hx hb dX2_usesOf_20 rfl (lv_at hl 1 rfl) ?_
      obtain ⟨v2, hv2, h⟩ := bd1_some h
      refine r_int (run_s (As := [.int v1, .int x1]) (rest := [.int x2]) C (mX2_has hv2) q1659 q1660 q162 q1661 ⟨rfl, rfl⟩ hdX2_has ⟨Nat.le_of_ble_eq_true rfl, Nat.le_of_ble_eq_true rfl⟩ ⟨Nat.zero_le _, Nat.zero_le _⟩ rfl hl.1 rfl (Nat.le_of_ble_eq_true rfl) dX2_usesOf_21) ?_
      refine lv_if_eq (tgt := 31) hx hb dX2_usesOf_24 (by decide) (fun c => ?_) (fun c => ?_)
      · replace h := if_t c h
        refine lv_iconst (v := 0) hx hb dX2_usesOf_31 (by decide) ?_
        exact bX2_usesOf_32 C hK hT ih x1 x3 x2 (0 : Int32) ls h (lv_sub hl [0, 1, 3] rfl)
      · replace h := if_f c h
        refine lv_iconst (v := 1) hx hb dX2_usesOf_27 (by decide) ?_
        refine lv_goto (tgt := 32) hx hb dX2_usesOf_28 (by decide) ?_
        exact bX2_usesOf_32 C hK hT ih x1 x3 x2 (1 : Int32) ls h (lv_sub hl [0, 1, 3] rfl)
theorem bX2_usesOf {p : Program} {l : Launch} {e : Env} {s : State} {m : MethodId} {args : Array Value} {below : List Frame} {meth : Method} {c : Code} {D : va_G} {dA : Nat → ClassId} {b : Nat} {t : TS} {r : Int32} (C : cx p s m args meth c cX2_usesOf RX2 4 (some .int)) (hK : kk D dA s) (hT : wd D (tw dA b t) s.heap) : ∀ (x1 : Int32) (ls : Array Slot), T_usesOf t x1 = some r → lv_has ls 4 [(0, .ref b), (1, .int x1)] → W p l e rmX2_usesOf s m args below meth c s.heap [] 0 0 (MQ below (rQi r) args s 0 0 nof) (F0 m 0 ls []) := by
  obtain ⟨hx, hb, hr, hml, hown, hts, hlocks⟩ := id C
  intro x1 ls h hl
  unfold T_usesOf at h
  refine lv_iconst (v := 0) hx hb dX2_usesOf_0 (by decide) ?_
  refine lv_istore_n (lv' := [(2, .int (0 : Int32)), (0, .ref b), (1, .int x1)]) hx hb dX2_usesOf_1 rfl hl (by decide) rfl (fun ls hl => ?_)
  refine lv_iconst (v := 0) hx hb dX2_usesOf_2 (by decide) ?_
  refine lv_istore_n (lv' := [(3, .int (0 : Int32)), (2, .int (0 : Int32)), (0, .ref b), (1, .int x1)]) hx hb dX2_usesOf_3 rfl hl (by decide) rfl (fun ls hl => ?_)
  exact bX2_usesOf_4 C hK hT fu x1 (0 : Int32) (0 : Int32) ls h (lv_sub hl [2, 3, 1, 0] rfl)
theorem mX2_usesOf {l : Launch} {D : va_G} {dA : Nat → ClassId} {b : Nat} {t : TS} {x1 : Int32} {r : Int32} (h : T_usesOf t x1 = some r) : Met l yX2_usesOf (ws_ yX2_usesOf cX2_usesOf 4 (some .int)) rmX2_usesOf (tPc D dA b t [.ref b, .int x1]) (rQi r) 0 0 nof := en_R (by decide +kernel) rfl (Nat.le_of_ble_eq_true rfl) (fun p e s m below meth c ls C hK hT hl => bX2_usesOf C hK hT x1 ls h hl)
set_option maxRecDepth 20000 in
abbrev rmX2_isAsked : Room := { frames := 0, cells := 0, slots := 0, locals := 0 }
theorem hdX2_isAsked : yX2_isAsked.cls ≠ "java/lang/invoke/MethodHandle" ∧ yX2_isAsked.cls ≠ "java/lang/invoke/VarHandle" ∧ (parseMethodDescriptor yX2_isAsked.desc).map (fun d => d.parameters.length) = some 3 := by decide +kernel
theorem bX2_isAsked {p : Program} {l : Launch} {e : Env} {s : State} {m : MethodId} {args : Array Value} {below : List Frame} {meth : Method} {c : Code} {r : Int32} (C : cx p s m args meth c cX2_isAsked RX2 5 (some .boolean)) : ∀ (x0 : Int32) (x1 : Int64) (x3 : Int64) (ls : Array Slot), T_isAsked x0 x1 x3 = some r → lv_has ls 5 [(0, .int x0), (1, .long x1), (3, .long x3)] → W p l e rmX2_isAsked s m args below meth c s.heap [] 0 0 (MQ below (rQi r) args s 0 0 nof) (F0 m 0 ls []) := by
  obtain ⟨hx, hb, hr, hml, hown, hts, hlocks⟩ := id C
  intro x0 x1 x3 ls h hl
  unfold T_isAsked at h
  refine lv_iload_n hx hb dX2_isAsked_0 rfl (lv_at hl 0 rfl) ?_
  refine lv_bipush (v := 10) hx hb dX2_isAsked_1 (by decide) ?_
  refine lv_icmp_ne (tgt := 20) hx hb dX2_isAsked_3 (by decide) (fun c => ?_) (fun c => ?_)
  · replace h := if_f c h
    refine lv_iload_n hx hb dX2_isAsked_20 rfl (lv_at hl 0 rfl) ?_
    refine lv_bipush (v := 11) hx hb dX2_isAsked_21 (by decide) ?_
    refine lv_icmp_ne (tgt := 40) hx hb dX2_isAsked_23 (by decide) (fun c => ?_) (fun c => ?_)
    · replace h := if_f c h
      refine lv_iload_n hx hb dX2_isAsked_40 rfl (lv_at hl 0 rfl) ?_
      refine lv_bipush (v := 12) hx hb dX2_isAsked_41 (by decide) ?_
      refine lv_icmp_ne (tgt := 60) hx hb dX2_isAsked_43 (by decide) (fun c => ?_) (fun c => ?_)
      · replace h := if_f c h
        refine lv_iload_n hx hb dX2_isAsked_60 rfl (lv_at hl 0 rfl) ?_
        refine lv_bipush (v := 13) hx hb dX2_isAsked_61 (by decide) ?_
        refine lv_icmp_ne (tgt := 80) hx hb dX2_isAsked_63 (by decide) (fun c => ?_) (fun c => ?_)
        · replace h := if_f c h
          refine lv_iload_n hx hb dX2_isAsked_80 rfl (lv_at hl 0 rfl) ?_
          refine lv_bipush (v := 14) hx hb dX2_isAsked_81 (by decide) ?_
          refine lv_icmp_ne (tgt := 100) hx hb dX2_isAsked_83 (by decide) (fun c => ?_) (fun c => ?_)
          · replace h := if_f c h
            refine lv_lload_n hx hb dX2_isAsked_100 rfl (lv_at hl 1 rfl) ?_
            refine lv_lload_n hx hb dX2_isAsked_101 rfl (lv_at hl 2 rfl) ?_
            refine W.lcmp hx hb dX2_isAsked_102 ?_
            refine lv_if_eq (tgt := 110) hx hb dX2_isAsked_103 (by decide) (fun c => ?_) (fun c => ?_)
            · replace h := if_t c h
              refine lv_iconst (v := 0) hx hb dX2_isAsked_110 (by decide) ?_
              exact e_rz C (Or.inl rfl) h dX2_isAsked_111
            · replace h := if_f c h
              refine lv_iconst (v := 1) hx hb dX2_isAsked_106 (by decide) ?_
              refine lv_goto (tgt := 111) hx hb dX2_isAsked_107 (by decide) ?_
              exact e_rz C (Or.inr rfl) h dX2_isAsked_111
          · replace h := if_t c h
            refine lv_lload_n hx hb dX2_isAsked_86 rfl (lv_at hl 1 rfl) ?_
            refine lv_lload_n hx hb dX2_isAsked_87 rfl (lv_at hl 2 rfl) ?_
            refine W.lcmp hx hb dX2_isAsked_88 ?_
            refine lv_if_ne (tgt := 96) hx hb dX2_isAsked_89 (by decide) (fun c => ?_) (fun c => ?_)
            · replace h := if_f c h
              refine lv_iconst (v := 0) hx hb dX2_isAsked_96 (by decide) ?_
              refine lv_goto (tgt := 111) hx hb dX2_isAsked_97 (by decide) ?_
              exact e_rz C (Or.inl rfl) h dX2_isAsked_111
            · replace h := if_t c h
              refine lv_iconst (v := 1) hx hb dX2_isAsked_92 (by decide) ?_
              refine lv_goto (tgt := 111) hx hb dX2_isAsked_93 (by decide) ?_
              exact e_rz C (Or.inr rfl) h dX2_isAsked_111
        · replace h := if_t c h
          refine lv_lload_n hx hb dX2_isAsked_66 rfl (lv_at hl 1 rfl) ?_
          refine lv_lload_n hx hb dX2_isAsked_67 rfl (lv_at hl 2 rfl) ?_
          refine W.lcmp hx hb dX2_isAsked_68 ?_
          refine lv_if_lt (tgt := 76) hx hb dX2_isAsked_69 (by decide) (fun c => ?_) (fun c => ?_)
          · replace h := if_t c h
            refine lv_iconst (v := 0) hx hb dX2_isAsked_76 (by decide) ?_
            refine lv_goto (tgt := 111) hx hb dX2_isAsked_77 (by decide) ?_
            exact e_rz C (Or.inl rfl) h dX2_isAsked_111
          · replace h := if_f c h
            refine lv_iconst (v := 1) hx hb dX2_isAsked_72 (by decide) ?_
            refine lv_goto (tgt := 111) hx hb dX2_isAsked_73 (by decide) ?_
            exact e_rz C (Or.inr rfl) h dX2_isAsked_111
      · replace h := if_t c h
        refine lv_lload_n hx hb dX2_isAsked_46 rfl (lv_at hl 1 rfl) ?_
        refine lv_lload_n hx hb dX2_isAsked_47 rfl (lv_at hl 2 rfl) ?_
        refine W.lcmp hx hb dX2_isAsked_48 ?_
        refine lv_if_le (tgt := 56) hx hb dX2_isAsked_49 (by decide) (fun c => ?_) (fun c => ?_)
        · replace h := if_t c h
          refine lv_iconst (v := 0) hx hb dX2_isAsked_56 (by decide) ?_
          refine lv_goto (tgt := 111) hx hb dX2_isAsked_57 (by decide) ?_
          exact e_rz C (Or.inl rfl) h dX2_isAsked_111
        · replace h := if_f c h
          refine lv_iconst (v := 1) hx hb dX2_isAsked_52 (by decide) ?_
          refine lv_goto (tgt := 111) hx hb dX2_isAsked_53 (by decide) ?_
          exact e_rz C (Or.inr rfl) h dX2_isAsked_111
    · replace h := if_t c h
      refine lv_lload_n hx hb dX2_isAsked_26 rfl (lv_at hl 1 rfl) ?_
      refine lv_lload_n hx hb dX2_isAsked_27 rfl (lv_at hl 2 rfl) ?_
      refine W.lcmp hx hb dX2_isAsked_28 ?_
      refine lv_if_gt (tgt := 36) hx hb dX2_isAsked_29 (by decide) (fun c => ?_) (fun c => ?_)
      · replace h := if_t c h
        refine lv_iconst (v := 0) hx hb dX2_isAsked_36 (by decide) ?_
        refine lv_goto (tgt := 111) hx hb dX2_isAsked_37 (by decide) ?_
        exact e_rz C (Or.inl rfl) h dX2_isAsked_111
      · replace h := if_f c h
        refine lv_iconst (v := 1) hx hb dX2_isAsked_32 (by decide) ?_
        refine lv_goto (tgt := 111) hx hb dX2_isAsked_33 (by decide) ?_
        exact e_rz C (Or.inr rfl) h dX2_isAsked_111
  · replace h := if_t c h
    refine lv_lload_n hx hb dX2_isAsked_6 rfl (lv_at hl 1 rfl) ?_
    refine lv_lload_n hx hb dX2_isAsked_7 rfl (lv_at hl 2 rfl) ?_
    refine W.lcmp hx hb dX2_isAsked_8 ?_
    refine lv_if_ge (tgt := 16) hx hb dX2_isAsked_9 (by decide) (fun c => ?_) (fun c => ?_)
    · replace h := if_t c h
      refine lv_iconst (v := 0) hx hb dX2_isAsked_16 (by decide) ?_
      refine lv_goto (tgt := 111) hx hb dX2_isAsked_17 (by decide) ?_
      exact e_rz C (Or.inl rfl) h dX2_isAsked_111
    · replace h := if_f c h
      refine lv_iconst (v := 1) hx hb dX2_isAsked_12 (by decide) ?_
      refine lv_goto (tgt := 111) hx hb dX2_isAsked_13 (by decide) ?_
      exact e_rz C (Or.inr rfl) h dX2_isAsked_111
theorem mX2_isAsked {l : Launch} {x0 : Int32} {x1 : Int64} {x3 : Int64} {r : Int32} (h : T_isAsked x0 x1 x3 = some r) : Met l yX2_isAsked (ws_ yX2_isAsked cX2_isAsked 5 (some .boolean)) rmX2_isAsked (sPc [.int x0, .long x1, .long x3]) (rQi r) 0 0 nof := en_S (by decide +kernel) rfl (Nat.le_of_ble_eq_true rfl) (fun p e s m below meth c ls C hl => bX2_isAsked C x0 x1 x3 ls h hl)
set_option maxRecDepth 20000 in
abbrev rmX2_clip : Room := { frames := 0, cells := 0, slots := 0, locals := 0 }
theorem hdX2_clip : yX2_clip.cls ≠ "java/lang/invoke/MethodHandle" ∧ yX2_clip.cls ≠ "java/lang/invoke/VarHandle" ∧ (parseMethodDescriptor yX2_clip.desc).map (fun d => d.parameters.length) = some 1 := by decide +kernel
theorem bX2_clip {p : Program} {l : Launch} {e : Env} {s : State} {m : MethodId} {args : Array Value} {below : List Frame} {meth : Method} {c : Code} {r : Int64} (C : cx p s m args meth c cX2_clip RX2 2 (some .long)) : ∀ (x0 : Int64) (ls : Array Slot), T_clip x0 = some r → lv_has ls 2 [(0, .long x0)] → W p l e rmX2_clip s m args below meth c s.heap [] 0 0 (MQ below (rQl r) args s 0 0 nof) (F0 m 0 ls []) := by
  obtain ⟨hx, hb, hr, hml, hown, hts, hlocks⟩ := id C
  intro x0 ls h hl
  unfold T_clip at h
  refine lv_lload_n hx hb dX2_clip_0 rfl (lv_at hl 0 rfl) ?_
  refine lv_ldc2 hx hb hown (hts _ q1926) dX2_clip_1 ?_
  refine W.lcmp hx hb dX2_clip_4 ?_
  refine lv_if_le (tgt := 14) hx hb dX2_clip_5 (by decide) (fun c => ?_) (fun c => ?_)
  · replace h := if_t c h
    refine lv_lload_n hx hb dX2_clip_14 rfl (lv_at hl 0 rfl) ?_
    refine lv_ldc2 hx hb hown (hts _ q1927) dX2_clip_15 ?_
    refine W.lcmp hx hb dX2_clip_18 ?_
    refine lv_if_ge (tgt := 28) hx hb dX2_clip_19 (by decide) (fun c => ?_) (fun c => ?_)
    · replace h := if_t c h
      refine lv_lload_n hx hb dX2_clip_28 rfl (lv_at hl 0 rfl) ?_
      exact e_rl C h dX2_clip_29
    · replace h := if_f c h
      refine lv_ldc2 hx hb hown (hts _ q1927) dX2_clip_22 ?_
      refine lv_goto (tgt := 29) hx hb dX2_clip_25 (by decide) ?_
      exact e_rl C h dX2_clip_29
  · replace h := if_f c h
    refine lv_ldc2 hx hb hown (hts _ q1926) dX2_clip_8 ?_
    refine lv_goto (tgt := 29) hx hb dX2_clip_11 (by decide) ?_
    exact e_rl C h dX2_clip_29
theorem mX2_clip {l : Launch} {x0 : Int64} {r : Int64} (h : T_clip x0 = some r) : Met l yX2_clip (ws_ yX2_clip cX2_clip 2 (some .long)) rmX2_clip (sPc [.long x0]) (rQl r) 0 0 nof := en_S (by decide +kernel) rfl (Nat.le_of_ble_eq_true rfl) (fun p e s m below meth c ls C hl => bX2_clip C x0 ls h hl)
set_option maxRecDepth 20000 in
abbrev rmX2_two : Room := { frames := 1, cells := 0, slots := 0, locals := 21 }
theorem hdX2_two : yX2_two.cls ≠ "java/lang/invoke/MethodHandle" ∧ yX2_two.cls ≠ "java/lang/invoke/VarHandle" ∧ (parseMethodDescriptor yX2_two.desc).map (fun d => d.parameters.length) = some 3 := by decide +kernel
theorem bX2_two {p : Program} {l : Launch} {e : Env} {s : State} {m : MethodId} {args : Array Value} {below : List Frame} {meth : Method} {c : Code} {r : Int64} (C : cx p s m args meth c cX2_two RX2 5 (some .long)) : ∀ (x0 : Int32) (x1 : Int64) (x3 : Int64) (ls : Array Slot), T_two x0 x1 x3 = some r → lv_has ls 5 [(0, .int x0), (1, .long x1), (3, .long x3)] → W p l e rmX2_two s m args below meth c s.heap [] 0 0 (MQ below (rQl r) args s 0 0 nof) (F0 m 0 ls []) := by
  obtain ⟨hx, hb, hr, hml, hown, hts, hlocks⟩ := id C
  intro x0 x1 x3 ls h hl
  unfold T_two at h
  refine lv_iload_n hx hb dX2_two_0 rfl (lv_at hl 0 rfl) ?_
  by_cases c : x0 = (3 : Int32)
  · replace h := if_t c h
    rw [c]
    refine lv_tableIn (off := 27) (tgt := 28) hx hb dX2_two_1 (by decide) (by decide) rfl (by decide) ?_
    refine lv_lload_n hx hb dX2_two_28 rfl (lv_at hl 1 rfl) ?_
    refine lv_lload_n hx hb dX2_two_29 rfl (lv_at hl 2 rfl) ?_
    refine lv_ladd hx hb dX2_two_30 ?_
    obtain ⟨v1, hv1, h⟩ := bd1_some h
    refine r_long (run_s (As := [.long (x1 + x3)]) (rest := []) C (mX2_clip hv1) q1923 q1924 q162 q1925 ⟨rfl, rfl⟩ hdX2_clip ⟨Nat.le_of_ble_eq_true rfl, Nat.le_of_ble_eq_true rfl⟩ ⟨Nat.zero_le _, Nat.zero_le _⟩ rfl hl.1 rfl (Nat.le_of_ble_eq_true rfl) dX2_two_31) ?_
    exact e_rl C h dX2_two_34
  replace h := if_f c h
  have g0 := tI_ne (k := 3) (by decide) c
  by_cases c : x0 = (4 : Int32)
  · replace h := if_t c h
    rw [c]
    refine lv_tableIn (off := 34) (tgt := 35) hx hb dX2_two_1 (by decide) (by decide) rfl (by decide) ?_
    refine lv_lload_n hx hb dX2_two_35 rfl (lv_at hl 1 rfl) ?_
    refine lv_lload_n hx hb dX2_two_36 rfl (lv_at hl 2 rfl) ?_
    refine lv_lsub hx hb dX2_two_37 ?_
    obtain ⟨v2, hv2, h⟩ := bd1_some h
    refine r_long (run_s (As := [.long (x1 - x3)]) (rest := []) C (mX2_clip hv2) q1923 q1924 q162 q1925 ⟨rfl, rfl⟩ hdX2_clip ⟨Nat.le_of_ble_eq_true rfl, Nat.le_of_ble_eq_true rfl⟩ ⟨Nat.zero_le _, Nat.zero_le _⟩ rfl hl.1 rfl (Nat.le_of_ble_eq_true rfl) dX2_two_38) ?_
    exact e_rl C h dX2_two_41
  replace h := if_f c h
  have g1 := tI_ne (k := 4) (by decide) c
  by_cases c : x0 = (5 : Int32)
  · replace h := if_t c h
    rw [c]
    refine lv_tableIn (off := 41) (tgt := 42) hx hb dX2_two_1 (by decide) (by decide) rfl (by decide) ?_
    refine lv_lload_n hx hb dX2_two_42 rfl (lv_at hl 1 rfl) ?_
    refine lv_lload_n hx hb dX2_two_43 rfl (lv_at hl 2 rfl) ?_
    refine lv_lmul hx hb dX2_two_44 ?_
    obtain ⟨v3, hv3, h⟩ := bd1_some h
    refine r_long (run_s (As := [.long (x1 * x3)]) (rest := []) C (mX2_clip hv3) q1923 q1924 q162 q1925 ⟨rfl, rfl⟩ hdX2_clip ⟨Nat.le_of_ble_eq_true rfl, Nat.le_of_ble_eq_true rfl⟩ ⟨Nat.zero_le _, Nat.zero_le _⟩ rfl hl.1 rfl (Nat.le_of_ble_eq_true rfl) dX2_two_45) ?_
    exact e_rl C h dX2_two_48
  replace h := if_f c h
  have g2 := tI_ne (k := 5) (by decide) c
  refine lv_tableOut (tgt := 49) hx hb dX2_two_1 (by omega) (by decide) ?_
  refine lv_lload_n hx hb dX2_two_49 rfl (lv_at hl 2 rfl) ?_
  refine lv_lconst (v := 0) hx hb dX2_two_50 (by decide) ?_
  refine W.lcmp hx hb dX2_two_51 ?_
  refine lv_if_ne (tgt := 59) hx hb dX2_two_52 (by decide) (fun c => ?_) (fun c => ?_)
  · replace h := if_f c h
    refine lv_lload_n hx hb dX2_two_59 rfl (lv_at hl 1 rfl) ?_
    refine lv_lload_n hx hb dX2_two_60 rfl (lv_at hl 2 rfl) ?_
    obtain ⟨hn, h⟩ := nzl_some h
    refine lv_ldiv hx hb dX2_two_61 hn ?_
    obtain ⟨v4, hv4, h⟩ := bd1_some h
    refine r_long (run_s (As := [.long (x1 / x3)]) (rest := []) C (mX2_clip hv4) q1923 q1924 q162 q1925 ⟨rfl, rfl⟩ hdX2_clip ⟨Nat.le_of_ble_eq_true rfl, Nat.le_of_ble_eq_true rfl⟩ ⟨Nat.zero_le _, Nat.zero_le _⟩ rfl hl.1 rfl (Nat.le_of_ble_eq_true rfl) dX2_two_62) ?_
    exact e_rl C h dX2_two_65
  · replace h := if_t c h
    refine lv_lconst (v := 0) hx hb dX2_two_55 (by decide) ?_
    refine lv_goto (tgt := 65) hx hb dX2_two_56 (by decide) ?_
    exact e_rl C h dX2_two_65
theorem mX2_two {l : Launch} {x0 : Int32} {x1 : Int64} {x3 : Int64} {r : Int64} (h : T_two x0 x1 x3 = some r) : Met l yX2_two (ws_ yX2_two cX2_two 5 (some .long)) rmX2_two (sPc [.int x0, .long x1, .long x3]) (rQl r) 0 0 nof := en_S (by decide +kernel) rfl (Nat.le_of_ble_eq_true rfl) (fun p e s m below meth c ls C hl => bX2_two C x0 x1 x3 ls h hl)
set_option maxRecDepth 20000 in
abbrev rmX2_work : Room := { frames := 2, cells := 0, slots := 0, locals := 45 }
theorem hdX2_work : yX2_work.cls = RX2 ∧ yX2_work.cls ≠ "java/lang/invoke/MethodHandle" ∧ yX2_work.cls ≠ "java/lang/invoke/VarHandle" ∧ (parseMethodDescriptor yX2_work.desc).map (fun d => d.parameters.length) = some 1 := by decide +kernel
theorem bX2_work_367 {p : Program} {l : Launch} {e : Env} {s : State} {m : MethodId} {args : Array Value} {below : List Frame} {meth : Method} {c : Code} {D : va_G} {dA : Nat → ClassId} {b : Nat} {t9 : TS} (C : cx p s m args meth c cX2_work RX2 9 none) (hK : kk D dA s) {k61 : TS → Int32 → Int32 → Int32 → Int32 → Int32 → Option TS} (hk61 : ∀ (t : TS) (x2 : Int32) (x3 : Int32) (x4 : Int32) (x5 : Int32) (x6 : Int32) (H : Heap) (locs : List Loc) (hT : wd D (tw dA b t) H) (hS : tS b s.heap H locs) (ls : Array Slot), k61 t x2 x3 x4 x5 x6 = some t9 → lv_has ls 9 [(0, .ref b), (2, .int x2), (3, .int x3), (4, .int x4), (5, .int x5), (6, .int x6)] → W p l e rmX2_work s m args below meth c H locs 0 0 (MQ below (tQ D dA b t9 none) args s 0 0 (ta b)) (F0 m 61 ls [])) : ∀ (t : TS) (x2 : Int32) (x3 : Int32) (x4 : Int32) (x5 : Int32) (x6 : Int32) (H : Heap) (locs : List Loc) (hT : wd D (tw dA b t) H) (hS : tS b s.heap H locs) (ls : Array Slot), T_work_367 k61 t x2 x3 x4 x5 x6 = some t9 → lv_has ls 9 [(0, .ref b), (2, .int x2), (3, .int x3), (4, .int x4), (5, .int x5), (6, .int x6)] → W p l e rmX2_work s m args below meth c H locs 0 0 (MQ below (tQ D dA b t9 none) args s 0 0 (ta b)) (F0 m 367 ls []) := by
  obtain ⟨hx, hb, hr, hml, hown, hts, hlocks⟩ := id C
  intro t x2 x3 x4 x5 x6 H locs hT hS ls h hl
  unfold T_work_367 at h
  obtain ⟨v1, ev1⟩ : ∃ y : Int32, y = x6 + (1 : Int32) := ⟨_, rfl⟩
  replace h := lt1_sub ev1 h
  refine lv_iinc (v := v1) (lv' := [(6, .int v1), (0, .ref b), (2, .int x2), (3, .int x3), (4, .int x4), (5, .int x5)]) hx hb dX2_work_367 hl (k := 5) rfl (by rw [ev1]; rfl) (by decide) rfl (fun ls hl => ?_)
  refine lv_goto (tgt := 61) hx hb dX2_work_370 (by decide) ?_
  exact hk61 t x2 x3 x4 x5 v1 H locs hT hS ls h (lv_sub hl [1, 2, 3, 4, 5, 0] rfl)
theorem bX2_work_133 {p : Program} {l : Launch} {e : Env} {s : State} {m : MethodId} {args : Array Value} {below : List Frame} {meth : Method} {c : Code} {D : va_G} {dA : Nat → ClassId} {b : Nat} {t9 : TS} (C : cx p s m args meth c cX2_work RX2 9 none) (hK : kk D dA s) {k61 : TS → Int32 → Int32 → Int32 → Int32 → Int32 → Option TS} (hk61 : ∀ (t : TS) (x2 : Int32) (x3 : Int32) (x4 : Int32) (x5 : Int32) (x6 : Int32) (H : Heap) (locs : List Loc) (hT : wd D (tw dA b t) H) (hS : tS b s.heap H locs) (ls : Array Slot), k61 t x2 x3 x4 x5 x6 = some t9 → lv_has ls 9 [(0, .ref b), (2, .int x2), (3, .int x3), (4, .int x4), (5, .int x5), (6, .int x6)] → W p l e rmX2_work s m args below meth c H locs 0 0 (MQ below (tQ D dA b t9 none) args s 0 0 (ta b)) (F0 m 61 ls [])) : ∀ (t : TS) (x2 : Int32) (x3 : Int32) (x4 : Int32) (x5 : Int32) (x6 : Int32) (y1 : Int32) (y2 : Int64) (H : Heap) (locs : List Loc) (hT : wd D (tw dA b t) H) (hS : tS b s.heap H locs) (ls : Array Slot), T_work_133 k61 t x2 x3 x4 x5 x6 y1 y2 = some t9 → lv_has ls 9 [(0, .ref b), (2, .int x2), (3, .int x3), (4, .int x4), (5, .int x5), (6, .int x6)] → W p l e rmX2_work s m args below meth c H locs 0 0 (MQ below (tQ D dA b t9 none) args s 0 0 (ta b)) (F0 m 133 ls [.long y2, .int y1, .ref (b + 9)]) := by
  obtain ⟨hx, hb, hr, hml, hown, hts, hlocks⟩ := id C
  intro t x2 x3 x4 x5 x6 y1 y2 H locs hT hS ls h hl
  unfold T_work_133 at h
  obtain ⟨hi, h⟩ := ck_some h
  refine ts27 C hK hT hS hi dX2_work_133 (fun t1 H locs et1 hT hS => ?_)
  replace h := lt1_sub et1 h
  obtain ⟨v2, ev2⟩ : ∃ y : Int32, y = x4 + (1 : Int32) := ⟨_, rfl⟩
  replace h := lt1_sub ev2 h
  refine lv_iinc (v := v2) (lv' := [(4, .int v2), (0, .ref b), (2, .int x2), (3, .int x3), (5, .int x5), (6, .int x6)]) hx hb dX2_work_134 hl (k := 3) rfl (by rw [ev2]; rfl) (by decide) rfl (fun ls hl => ?_)
  refine lv_goto (tgt := 367) hx hb dX2_work_137 (by decide) ?_
  exact bX2_work_367 C hK hk61 t1 x2 x3 v2 x5 x6 H locs hT hS ls h (lv_sub hl [1, 2, 3, 0, 4, 5] rfl)
theorem bX2_work_287 {p : Program} {l : Launch} {e : Env} {s : State} {m : MethodId} {args : Array Value} {below : List Frame} {meth : Method} {c : Code} {D : va_G} {dA : Nat → ClassId} {b : Nat} {t9 : TS} (C : cx p s m args meth c cX2_work RX2 9 none) (hK : kk D dA s) {k61 : TS → Int32 → Int32 → Int32 → Int32 → Int32 → Option TS} (hk61 : ∀ (t : TS) (x2 : Int32) (x3 : Int32) (x4 : Int32) (x5 : Int32) (x6 : Int32) (H : Heap) (locs : List Loc) (hT : wd D (tw dA b t) H) (hS : tS b s.heap H locs) (ls : Array Slot), k61 t x2 x3 x4 x5 x6 = some t9 → lv_has ls 9 [(0, .ref b), (2, .int x2), (3, .int x3), (4, .int x4), (5, .int x5), (6, .int x6)] → W p l e rmX2_work s m args below meth c H locs 0 0 (MQ below (tQ D dA b t9 none) args s 0 0 (ta b)) (F0 m 61 ls [])) : ∀ (t : TS) (x2 : Int32) (x3 : Int32) (x4 : Int32) (x5 : Int32) (x6 : Int32) (y1 : Int32) (y2 : Int32) (H : Heap) (locs : List Loc) (hT : wd D (tw dA b t) H) (hS : tS b s.heap H locs) (ls : Array Slot), T_work_287 k61 t x2 x3 x4 x5 x6 y1 y2 = some t9 → lv_has ls 9 [(0, .ref b), (2, .int x2), (3, .int x3), (4, .int x4), (5, .int x5), (6, .int x6)] → W p l e rmX2_work s m args below meth c H locs 0 0 (MQ below (tQ D dA b t9 none) args s 0 0 (ta b)) (F0 m 287 ls [.int y2, .int y1, .ref (b + 10)]) := by
  obtain ⟨hx, hb, hr, hml, hown, hts, hlocks⟩ := id C
  intro t x2 x3 x4 x5 x6 y1 y2 H locs hT hS ls h hl
  unfold T_work_287 at h
  obtain ⟨hi, h⟩ := ck_some h
  refine ts28 C hK hT hS hi dX2_work_287 (fun t1 H locs et1 hT hS => ?_)
  replace h := lt1_sub et1 h
  refine lv_goto (tgt := 367) hx hb dX2_work_288 (by decide) ?_
  exact bX2_work_367 C hK hk61 t1 x2 x3 x4 x5 x6 H locs hT hS ls h (lv_sub hl [0, 1, 2, 3, 4, 5] rfl)
theorem bX2_work_366 {p : Program} {l : Launch} {e : Env} {s : State} {m : MethodId} {args : Array Value} {below : List Frame} {meth : Method} {c : Code} {D : va_G} {dA : Nat → ClassId} {b : Nat} {t9 : TS} (C : cx p s m args meth c cX2_work RX2 9 none) (hK : kk D dA s) {k61 : TS → Int32 → Int32 → Int32 → Int32 → Int32 → Option TS} (hk61 : ∀ (t : TS) (x2 : Int32) (x3 : Int32) (x4 : Int32) (x5 : Int32) (x6 : Int32) (H : Heap) (locs : List Loc) (hT : wd D (tw dA b t) H) (hS : tS b s.heap H locs) (ls : Array Slot), k61 t x2 x3 x4 x5 x6 = some t9 → lv_has ls 9 [(0, .ref b), (2, .int x2), (3, .int x3), (4, .int x4), (5, .int x5), (6, .int x6)] → W p l e rmX2_work s m args below meth c H locs 0 0 (MQ below (tQ D dA b t9 none) args s 0 0 (ta b)) (F0 m 61 ls [])) : ∀ (t : TS) (x2 : Int32) (x3 : Int32) (x4 : Int32) (x5 : Int32) (x6 : Int32) (y1 : Int32) (y2 : Int32) (H : Heap) (locs : List Loc) (hT : wd D (tw dA b t) H) (hS : tS b s.heap H locs) (ls : Array Slot), T_work_366 k61 t x2 x3 x4 x5 x6 y1 y2 = some t9 → lv_has ls 9 [(0, .ref b), (2, .int x2), (3, .int x3), (4, .int x4), (5, .int x5), (6, .int x6)] → W p l e rmX2_work s m args below meth c H locs 0 0 (MQ below (tQ D dA b t9 none) args s 0 0 (ta b)) (F0 m 366 ls [.int y2, .int y1, .ref (b + 10)]) := by
  obtain ⟨hx, hb, hr, hml, hown, hts, hlocks⟩ := id C
  intro t x2 x3 x4 x5 x6 y1 y2 H locs hT hS ls h hl
  unfold T_work_366 at h
  obtain ⟨hi, h⟩ := ck_some h
  refine ts28 C hK hT hS hi dX2_work_366 (fun t1 H locs et1 hT hS => ?_)
  replace h := lt1_sub et1 h
  exact bX2_work_367 C hK hk61 t1 x2 x3 x4 x5 x6 H locs hT hS ls h (lv_sub hl [0, 1, 2, 3, 4, 5] rfl)
theorem bX2_work_335 {p : Program} {l : Launch} {e : Env} {s : State} {m : MethodId} {args : Array Value} {below : List Frame} {meth : Method} {c : Code} {D : va_G} {dA : Nat → ClassId} {b : Nat} {t9 : TS} (C : cx p s m args meth c cX2_work RX2 9 none) (hK : kk D dA s) {k61 : TS → Int32 → Int32 → Int32 → Int32 → Int32 → Option TS} (hk61 : ∀ (t : TS) (x2 : Int32) (x3 : Int32) (x4 : Int32) (x5 : Int32) (x6 : Int32) (H : Heap) (locs : List Loc) (hT : wd D (tw dA b t) H) (hS : tS b s.heap H locs) (ls : Array Slot), k61 t x2 x3 x4 x5 x6 = some t9 → lv_has ls 9 [(0, .ref b), (2, .int x2), (3, .int x3), (4, .int x4), (5, .int x5), (6, .int x6)] → W p l e rmX2_work s m args below meth c H locs 0 0 (MQ below (tQ D dA b t9 none) args s 0 0 (ta b)) (F0 m 61 ls [])) : ∀ (t : TS) (x2 : Int32) (x3 : Int32) (x4 : Int32) (x5 : Int32) (x6 : Int32) (y1 : Int32) (H : Heap) (locs : List Loc) (hT : wd D (tw dA b t) H) (hS : tS b s.heap H locs) (ls : Array Slot), T_work_335 k61 t x2 x3 x4 x5 x6 y1 = some t9 → lv_has ls 9 [(0, .ref b), (2, .int x2), (3, .int x3), (4, .int x4), (5, .int x5), (6, .int x6)] → W p l e rmX2_work s m args below meth c H locs 0 0 (MQ below (tQ D dA b t9 none) args s 0 0 (ta b)) (F0 m 335 ls [.int y1, .ref (b + 10)]) := by
  obtain ⟨hx, hb, hr, hml, hown, hts, hlocks⟩ := id C
  intro t x2 x3 x4 x5 x6 y1 H locs hT hS ls h hl
  unfold T_work_335 at h
  refine lv_iconst (v := 0) hx hb dX2_work_335 (by decide) ?_
  refine lv_goto (tgt := 366) hx hb dX2_work_336 (by decide) ?_
  exact bX2_work_366 C hK hk61 t x2 x3 x4 x5 x6 y1 (0 : Int32) H locs hT hS ls h (lv_sub hl [0, 1, 2, 3, 4, 5] rfl)
theorem bX2_work_361 {p : Program} {l : Launch} {e : Env} {s : State} {m : MethodId} {args : Array Value} {below : List Frame} {meth : Method} {c : Code} {D : va_G} {dA : Nat → ClassId} {b : Nat} {t9 : TS} (C : cx p s m args meth c cX2_work RX2 9 none) (hK : kk D dA s) {k61 : TS → Int32 → Int32 → Int32 → Int32 → Int32 → Option TS} (hk61 : ∀ (t : TS) (x2 : Int32) (x3 : Int32) (x4 : Int32) (x5 : Int32) (x6 : Int32) (H : Heap) (locs : List Loc) (hT : wd D (tw dA b t) H) (hS : tS b s.heap H locs) (ls : Array Slot), k61 t x2 x3 x4 x5 x6 = some t9 → lv_has ls 9 [(0, .ref b), (2, .int x2), (3, .int x3), (4, .int x4), (5, .int x5), (6, .int x6)] → W p l e rmX2_work s m args below meth c H locs 0 0 (MQ below (tQ D dA b t9 none) args s 0 0 (ta b)) (F0 m 61 ls [])) : ∀ (t : TS) (x2 : Int32) (x3 : Int32) (x4 : Int32) (x5 : Int32) (x6 : Int32) (y1 : Int32) (H : Heap) (locs : List Loc) (hT : wd D (tw dA b t) H) (hS : tS b s.heap H locs) (ls : Array Slot), T_work_361 k61 t x2 x3 x4 x5 x6 y1 = some t9 → lv_has ls 9 [(0, .ref b), (2, .int x2), (3, .int x3), (4, .int x4), (5, .int x5), (6, .int x6)] → W p l e rmX2_work s m args below meth c H locs 0 0 (MQ below (tQ D dA b t9 none) args s 0 0 (ta b)) (F0 m 361 ls [.int y1, .ref (b + 10)]) := by
  obtain ⟨hx, hb, hr, hml, hown, hts, hlocks⟩ := id C
  intro t x2 x3 x4 x5 x6 y1 H locs hT hS ls h hl
  unfold T_work_361 at h
  refine lv_iconst (v := 1) hx hb dX2_work_361 (by decide) ?_
  refine lv_goto (tgt := 366) hx hb dX2_work_362 (by decide) ?_
  exact bX2_work_366 C hK hk61 t x2 x3 x4 x5 x6 y1 (1 : Int32) H locs hT hS ls h (lv_sub hl [0, 1, 2, 3, 4, 5] rfl)
theorem bX2_work_61 {p : Program} {l : Launch} {e : Env} {s : State} {m : MethodId} {args : Array Value} {below : List Frame} {meth : Method} {c : Code} {D : va_G} {dA : Nat → ClassId} {b : Nat} {t9 : TS} (C : cx p s m args meth c cX2_work RX2 9 none) (hK : kk D dA s) : ∀ (n : Nat), ∀ (t : TS) (x2 : Int32) (x3 : Int32) (x4 : Int32) (x5 : Int32) (x6 : Int32) (H : Heap) (locs : List Loc) (hT : wd D (tw dA b t) H) (hS : tS b s.heap H locs) (ls : Array Slot), T_work_61 n t x2 x3 x4 x5 x6 = some t9 → lv_has ls 9 [(0, .ref b), (2, .int x2), (3, .int x3), (4, .int x4), (5, .int x5), (6, .int x6)] → W p l e rmX2_work s m args below meth c H locs 0 0 (MQ below (tQ D dA b t9 none) args s 0 0 (ta b)) (F0 m 61 ls []) := by
  obtain ⟨hx, hb, hr, hml, hown, hts, hlocks⟩ := id C
  intro n
  induction n with
  | zero =>
    intro t x2 x3 x4 x5 x6 H locs hT hS ls h hl
    have h : none = some _ := h
    cases h
  | succ n ih =>
    intro t x2 x3 x4 x5 x6 H locs hT hS ls h hl
    rw [T_work_61] at h
    refine lv_iload hx hb dX2_work_61 (lv_at hl 5 rfl) ?_
    refine lv_aload_n hx hb dX2_work_63 rfl (lv_at hl 0 rfl) ?_
    refine tg2 C hK hT dX2_work_64 ?_
    refine lv_iload_n hx hb dX2_work_67 rfl (lv_at hl 1 rfl) ?_
    refine lv_iconst (v := 2) hx hb dX2_work_68 (by decide) ?_
    refine lv_iadd hx hb dX2_work_69 ?_
    obtain ⟨hi, h⟩ := ck_some h
    refine tl2 C hK hT hi dX2_work_70 ?_
    refine lv_icmp_ge (tgt := 373) hx hb dX2_work_71 (by decide) (fun c => ?_) (fun c => ?_)
    · replace h := if_t c h
      exact e_wv C hT hS h dX2_work_373
    · replace h := if_f c h
      refine lv_aload_n hx hb dX2_work_74 rfl (lv_at hl 0 rfl) ?_
      refine tg2 C hK hT dX2_work_75 ?_
      refine lv_iload_n hx hb dX2_work_78 rfl (lv_at hl 2 rfl) ?_
      refine lv_iconst (v := 2) hx hb dX2_work_79 (by decide) ?_
      refine lv_iload hx hb dX2_work_80 (lv_at hl 5 rfl) ?_
      refine lv_imul hx hb dX2_work_82 ?_
      refine lv_iadd hx hb dX2_work_83 ?_
      obtain ⟨hi, h⟩ := ck_some h
      refine tl2 C hK hT hi dX2_work_84 ?_
      refine lv_topi (fun v1 ev1 => ?_)
      replace h := lt1_sub ev1 h
      refine lv_istore (lv' := [(7, .int v1), (0, .ref b), (2, .int x2), (3, .int x3), (4, .int x4), (5, .int x5), (6, .int x6)]) hx hb dX2_work_85 hl (by decide) rfl (fun ls hl => ?_)
      refine lv_aload_n hx hb dX2_work_87 rfl (lv_at hl 1 rfl) ?_
      refine tg2 C hK hT dX2_work_88 ?_
      refine lv_iload_n hx hb dX2_work_91 rfl (lv_at hl 3 rfl) ?_
      refine lv_iconst (v := 2) hx hb dX2_work_92 (by decide) ?_
      refine lv_iload hx hb dX2_work_93 (lv_at hl 6 rfl) ?_
      refine lv_imul hx hb dX2_work_95 ?_
      refine lv_iadd hx hb dX2_work_96 ?_
      refine lv_iconst (v := 1) hx hb dX2_work_97 (by decide) ?_
      refine lv_iadd hx hb dX2_work_98 ?_
      obtain ⟨hi, h⟩ := ck_some h
      refine tl2 C hK hT hi dX2_work_99 ?_
      refine lv_topi (fun v2 ev2 => ?_)
      replace h := lt1_sub ev2 h
      refine lv_istore (lv' := [(8, .int v2), (7, .int v1), (0, .ref b), (2, .int x2), (3, .int x3), (4, .int x4), (5, .int x5), (6, .int x6)]) hx hb dX2_work_100 hl (by decide) rfl (fun ls hl => ?_)
      refine lv_iload hx hb dX2_work_102 (lv_at hl 1 rfl) ?_
      refine lv_iconst (v := 1) hx hb dX2_work_104 (by decide) ?_
      refine lv_icmp_gt (tgt := 140) hx hb dX2_work_105 (by decide) (fun c => ?_) (fun c => ?_)
      · replace h := if_t c h
        refine lv_iload hx hb dX2_work_140 (lv_at hl 1 rfl) ?_
        refine lv_iconst (v := 2) hx hb dX2_work_142 (by decide) ?_
        refine lv_icmp_ne (tgt := 168) hx hb dX2_work_143 (by decide) (fun c => ?_) (fun c => ?_)
        · replace h := if_f c h
          refine lv_iload hx hb dX2_work_168 (lv_at hl 1 rfl) ?_
          refine lv_bipush (v := 10) hx hb dX2_work_170 (by decide) ?_
          refine lv_icmp_ge (tgt := 211) hx hb dX2_work_172 (by decide) (fun c => ?_) (fun c => ?_)
          · replace h := if_t c h
            refine lv_iload hx hb dX2_work_211 (lv_at hl 1 rfl) ?_
            refine lv_bipush (v := 20) hx hb dX2_work_213 (by decide) ?_
            refine lv_icmp_ge (tgt := 255) hx hb dX2_work_215 (by decide) (fun c => ?_) (fun c => ?_)
            · replace h := if_t c h
              refine lv_iload hx hb dX2_work_255 (lv_at hl 1 rfl) ?_
              refine lv_bipush (v := 20) hx hb dX2_work_257 (by decide) ?_
              refine lv_icmp_ne (tgt := 291) hx hb dX2_work_259 (by decide) (fun c => ?_) (fun c => ?_)
              · replace h := if_f c h
                obtain ⟨v3, ev3⟩ : ∃ y : Int32, y = x5 + (-1 : Int32) := ⟨_, rfl⟩
                replace h := lt1_sub ev3 h
                refine lv_iinc (v := v3) (lv' := [(5, .int v3), (8, .int v2), (7, .int v1), (0, .ref b), (2, .int x2), (3, .int x3), (4, .int x4), (6, .int x6)]) hx hb dX2_work_291 hl (k := 6) rfl (by rw [ev3]; rfl) (by decide) rfl (fun ls hl => ?_)
                refine lv_aload_n hx hb dX2_work_294 rfl (lv_at hl 3 rfl) ?_
                refine tg28 C hK hT dX2_work_295 ?_
                refine lv_iload hx hb dX2_work_298 (lv_at hl 0 rfl) ?_
                refine lv_iconst (v := 1) hx hb dX2_work_300 (by decide) ?_
                refine lv_isub hx hb dX2_work_301 ?_
                refine lv_iload hx hb dX2_work_302 (lv_at hl 2 rfl) ?_
                refine lv_bipush (v := 21) hx hb dX2_work_304 (by decide) ?_
                refine lv_icmp_ne (tgt := 339) hx hb dX2_work_306 (by decide) (fun c => ?_) (fun c => ?_)
                · replace h := if_f c h
                  refine lv_aload_n hx hb dX2_work_339 rfl (lv_at hl 3 rfl) ?_
                  refine tg28 C hK hT dX2_work_340 ?_
                  refine lv_iload hx hb dX2_work_343 (lv_at hl 0 rfl) ?_
                  refine lv_iconst (v := 1) hx hb dX2_work_345 (by decide) ?_
                  refine lv_isub hx hb dX2_work_346 ?_
                  obtain ⟨hi, h⟩ := ck_some h
                  refine tl28 C hK hT hi dX2_work_347 ?_
                  refine lv_if_ne (tgt := 361) hx hb dX2_work_348 (by decide) (fun c => ?_) (fun c => ?_)
                  · replace h := if_f c h
                    exact bX2_work_361 C hK ih t x2 x3 x4 v3 x6 (v3 - (1 : Int32)) H locs hT hS ls h (lv_sub hl [3, 4, 5, 6, 0, 7] rfl)
                  · replace h := if_t c h
                    refine lv_aload_n hx hb dX2_work_351 rfl (lv_at hl 3 rfl) ?_
                    refine tg28 C hK hT dX2_work_352 ?_
                    refine lv_iload hx hb dX2_work_355 (lv_at hl 0 rfl) ?_
                    obtain ⟨hi, h⟩ := ck_some h
                    refine tl28 C hK hT hi dX2_work_357 ?_
                    refine lv_if_eq (tgt := 365) hx hb dX2_work_358 (by decide) (fun c => ?_) (fun c => ?_)
                    · replace h := if_t c h
                      refine lv_iconst (v := 0) hx hb dX2_work_365 (by decide) ?_
                      exact bX2_work_366 C hK ih t x2 x3 x4 v3 x6 (v3 - (1 : Int32)) (0 : Int32) H locs hT hS ls h (lv_sub hl [3, 4, 5, 6, 0, 7] rfl)
                    · replace h := if_f c h
                      exact bX2_work_361 C hK ih t x2 x3 x4 v3 x6 (v3 - (1 : Int32)) H locs hT hS ls h (lv_sub hl [3, 4, 5, 6, 0, 7] rfl)
                · replace h := if_t c h
                  refine lv_aload_n hx hb dX2_work_309 rfl (lv_at hl 3 rfl) ?_
                  refine tg28 C hK hT dX2_work_310 ?_
                  refine lv_iload hx hb dX2_work_313 (lv_at hl 0 rfl) ?_
                  refine lv_iconst (v := 1) hx hb dX2_work_315 (by decide) ?_
                  refine lv_isub hx hb dX2_work_316 ?_
                  obtain ⟨hi, h⟩ := ck_some h
                  refine tl28 C hK hT hi dX2_work_317 ?_
                  refine lv_if_eq (tgt := 335) hx hb dX2_work_318 (by decide) (fun c => ?_) (fun c => ?_)
                  · replace h := if_t c h
                    exact bX2_work_335 C hK ih t x2 x3 x4 v3 x6 (v3 - (1 : Int32)) H locs hT hS ls h (lv_sub hl [3, 4, 5, 6, 0, 7] rfl)
                  · replace h := if_f c h
                    refine lv_aload_n hx hb dX2_work_321 rfl (lv_at hl 3 rfl) ?_
                    refine tg28 C hK hT dX2_work_322 ?_
                    refine lv_iload hx hb dX2_work_325 (lv_at hl 0 rfl) ?_
                    obtain ⟨hi, h⟩ := ck_some h
                    refine tl28 C hK hT hi dX2_work_327 ?_
                    refine lv_if_eq (tgt := 335) hx hb dX2_work_328 (by decide) (fun c => ?_) (fun c => ?_)
                    · replace h := if_t c h
                      exact bX2_work_335 C hK ih t x2 x3 x4 v3 x6 (v3 - (1 : Int32)) H locs hT hS ls h (lv_sub hl [3, 4, 5, 6, 0, 7] rfl)
                    · replace h := if_f c h
                      refine lv_iconst (v := 1) hx hb dX2_work_331 (by decide) ?_
                      refine lv_goto (tgt := 366) hx hb dX2_work_332 (by decide) ?_
                      exact bX2_work_366 C hK ih t x2 x3 x4 v3 x6 (v3 - (1 : Int32)) (1 : Int32) H locs hT hS ls h (lv_sub hl [3, 4, 5, 6, 0, 7] rfl)
              · replace h := if_t c h
                refine lv_aload_n hx hb dX2_work_262 rfl (lv_at hl 2 rfl) ?_
                refine tg28 C hK hT dX2_work_263 ?_
                refine lv_iload hx hb dX2_work_266 (lv_at hl 6 rfl) ?_
                refine lv_iconst (v := 1) hx hb dX2_work_268 (by decide) ?_
                refine lv_isub hx hb dX2_work_269 ?_
                refine lv_aload_n hx hb dX2_work_270 rfl (lv_at hl 2 rfl) ?_
                refine tg28 C hK hT dX2_work_271 ?_
                refine lv_iload hx hb dX2_work_274 (lv_at hl 6 rfl) ?_
                refine lv_iconst (v := 1) hx hb dX2_work_276 (by decide) ?_
                refine lv_isub hx hb dX2_work_277 ?_
                obtain ⟨hi, h⟩ := ck_some h
                refine tl28 C hK hT hi dX2_work_278 ?_
                refine lv_if_ne (tgt := 286) hx hb dX2_work_279 (by decide) (fun c => ?_) (fun c => ?_)
                · replace h := if_f c h
                  refine lv_iconst (v := 0) hx hb dX2_work_286 (by decide) ?_
                  exact bX2_work_287 C hK ih t x2 x3 x4 x5 x6 (x5 - (1 : Int32)) (0 : Int32) H locs hT hS ls h (lv_sub hl [2, 3, 4, 5, 6, 7] rfl)
                · replace h := if_t c h
                  refine lv_iconst (v := 1) hx hb dX2_work_282 (by decide) ?_
                  refine lv_goto (tgt := 287) hx hb dX2_work_283 (by decide) ?_
                  exact bX2_work_287 C hK ih t x2 x3 x4 x5 x6 (x5 - (1 : Int32)) (1 : Int32) H locs hT hS ls h (lv_sub hl [2, 3, 4, 5, 6, 7] rfl)
            · replace h := if_f c h
              obtain ⟨v4, ev4⟩ : ∃ y : Int32, y = x4 + (-2 : Int32) := ⟨_, rfl⟩
              replace h := lt1_sub ev4 h
              refine lv_iinc (v := v4) (lv' := [(4, .int v4), (8, .int v2), (7, .int v1), (0, .ref b), (2, .int x2), (3, .int x3), (5, .int x5), (6, .int x6)]) hx hb dX2_work_218 hl (k := 5) rfl (by rw [ev4]; rfl) (by decide) rfl (fun ls hl => ?_)
              refine lv_aload_n hx hb dX2_work_221 rfl (lv_at hl 3 rfl) ?_
              refine tg28 C hK hT dX2_work_222 ?_
              refine lv_iload hx hb dX2_work_225 (lv_at hl 6 rfl) ?_
              refine lv_iload hx hb dX2_work_227 (lv_at hl 2 rfl) ?_
              refine lv_aload_n hx hb dX2_work_229 rfl (lv_at hl 3 rfl) ?_
              refine tg27 C hK hT dX2_work_230 ?_
              refine lv_iload hx hb dX2_work_233 (lv_at hl 0 rfl) ?_
              obtain ⟨hi, h⟩ := ck_some h
              refine tl27 C hK hT hi dX2_work_235 ?_
              refine lv_aload_n hx hb dX2_work_236 rfl (lv_at hl 3 rfl) ?_
              refine tg27 C hK hT dX2_work_237 ?_
              refine lv_iload hx hb dX2_work_240 (lv_at hl 0 rfl) ?_
              refine lv_iconst (v := 1) hx hb dX2_work_242 (by decide) ?_
              refine lv_iadd hx hb dX2_work_243 ?_
              obtain ⟨hi, h⟩ := ck_some h
              refine tl27 C hK hT hi dX2_work_244 ?_
              obtain ⟨v5, hv5, h⟩ := bd1_some h
              refine r_int (run_s (As := [.int v1, .long (t.2 27 v4.toNatClampNeg), .long (t.2 27 (v4 + (1 : Int32)).toNatClampNeg)]) (rest := [.int x5, .ref (b + 10)]) C (mX2_isAsked hv5) q1928 q1929 q162 q1930 ⟨rfl, rfl⟩ hdX2_isAsked ⟨Nat.le_of_ble_eq_true rfl, Nat.le_of_ble_eq_true rfl⟩ ⟨Nat.zero_le _, Nat.zero_le _⟩ rfl hl.1 rfl (Nat.le_of_ble_eq_true rfl) dX2_work_245) ?_
              obtain ⟨hi, h⟩ := ck_some h
              refine ts28 C hK hT hS hi dX2_work_248 (fun t6 H locs et6 hT hS => ?_)
              replace h := lt1_sub et6 h
              obtain ⟨v7, ev7⟩ : ∃ y : Int32, y = x5 + (1 : Int32) := ⟨_, rfl⟩
              replace h := lt1_sub ev7 h
              refine lv_iinc (v := v7) (lv' := [(5, .int v7), (4, .int v4), (8, .int v2), (7, .int v1), (0, .ref b), (2, .int x2), (3, .int x3), (6, .int x6)]) hx hb dX2_work_249 hl (k := 6) rfl (by rw [ev7]; rfl) (by decide) rfl (fun ls hl => ?_)
              refine lv_goto (tgt := 367) hx hb dX2_work_252 (by decide) ?_
              exact bX2_work_367 C hK ih t6 x2 x3 v4 v7 x6 H locs hT hS ls h (lv_sub hl [4, 5, 6, 1, 0, 7] rfl)
          · replace h := if_f c h
            obtain ⟨v8, ev8⟩ : ∃ y : Int32, y = x4 + (-1 : Int32) := ⟨_, rfl⟩
            replace h := lt1_sub ev8 h
            refine lv_iinc (v := v8) (lv' := [(4, .int v8), (8, .int v2), (7, .int v1), (0, .ref b), (2, .int x2), (3, .int x3), (5, .int x5), (6, .int x6)]) hx hb dX2_work_175 hl (k := 5) rfl (by rw [ev8]; rfl) (by decide) rfl (fun ls hl => ?_)
            refine lv_aload_n hx hb dX2_work_178 rfl (lv_at hl 3 rfl) ?_
            refine tg27 C hK hT dX2_work_179 ?_
            refine lv_iload hx hb dX2_work_182 (lv_at hl 0 rfl) ?_
            refine lv_iconst (v := 1) hx hb dX2_work_184 (by decide) ?_
            refine lv_isub hx hb dX2_work_185 ?_
            refine lv_iload hx hb dX2_work_186 (lv_at hl 2 rfl) ?_
            refine lv_aload_n hx hb dX2_work_188 rfl (lv_at hl 3 rfl) ?_
            refine tg27 C hK hT dX2_work_189 ?_
            refine lv_iload hx hb dX2_work_192 (lv_at hl 0 rfl) ?_
            refine lv_iconst (v := 1) hx hb dX2_work_194 (by decide) ?_
            refine lv_isub hx hb dX2_work_195 ?_
            obtain ⟨hi, h⟩ := ck_some h
            refine tl27 C hK hT hi dX2_work_196 ?_
            refine lv_aload_n hx hb dX2_work_197 rfl (lv_at hl 3 rfl) ?_
            refine tg27 C hK hT dX2_work_198 ?_
            refine lv_iload hx hb dX2_work_201 (lv_at hl 0 rfl) ?_
            obtain ⟨hi, h⟩ := ck_some h
            refine tl27 C hK hT hi dX2_work_203 ?_
            obtain ⟨v9, hv9, h⟩ := bd1_some h
            refine r_long (run_s (As := [.int v1, .long (t.2 27 (v8 - (1 : Int32)).toNatClampNeg), .long (t.2 27 v8.toNatClampNeg)]) (rest := [.int (v8 - (1 : Int32)), .ref (b + 9)]) C (mX2_two hv9) q1920 q1921 q162 q1922 ⟨rfl, rfl⟩ hdX2_two ⟨Nat.le_of_ble_eq_true rfl, Nat.le_of_ble_eq_true rfl⟩ ⟨Nat.zero_le _, Nat.zero_le _⟩ rfl hl.1 rfl (Nat.le_of_ble_eq_true rfl) dX2_work_204) ?_
            obtain ⟨hi, h⟩ := ck_some h
            refine ts27 C hK hT hS hi dX2_work_207 (fun t10 H locs et10 hT hS => ?_)
            replace h := lt1_sub et10 h
            refine lv_goto (tgt := 367) hx hb dX2_work_208 (by decide) ?_
            exact bX2_work_367 C hK ih t10 x2 x3 v8 x5 x6 H locs hT hS ls h (lv_sub hl [3, 4, 5, 0, 6, 7] rfl)
        · replace h := if_t c h
          refine lv_aload_n hx hb dX2_work_146 rfl (lv_at hl 2 rfl) ?_
          refine tg27 C hK hT dX2_work_147 ?_
          refine lv_iload hx hb dX2_work_150 (lv_at hl 5 rfl) ?_
          refine lv_iconst (v := 1) hx hb dX2_work_152 (by decide) ?_
          refine lv_isub hx hb dX2_work_153 ?_
          refine lv_aload_n hx hb dX2_work_154 rfl (lv_at hl 2 rfl) ?_
          refine tg27 C hK hT dX2_work_155 ?_
          refine lv_iload hx hb dX2_work_158 (lv_at hl 5 rfl) ?_
          refine lv_iconst (v := 1) hx hb dX2_work_160 (by decide) ?_
          refine lv_isub hx hb dX2_work_161 ?_
          obtain ⟨hi, h⟩ := ck_some h
          refine tl27 C hK hT hi dX2_work_162 ?_
          refine lv_lneg hx hb dX2_work_163 ?_
          obtain ⟨hi, h⟩ := ck_some h
          refine ts27 C hK hT hS hi dX2_work_164 (fun t11 H locs et11 hT hS => ?_)
          replace h := lt1_sub et11 h
          refine lv_goto (tgt := 367) hx hb dX2_work_165 (by decide) ?_
          exact bX2_work_367 C hK ih t11 x2 x3 x4 x5 x6 H locs hT hS ls h (lv_sub hl [2, 3, 4, 5, 6, 7] rfl)
      · replace h := if_f c h
        refine lv_aload_n hx hb dX2_work_108 rfl (lv_at hl 2 rfl) ?_
        refine tg27 C hK hT dX2_work_109 ?_
        refine lv_iload hx hb dX2_work_112 (lv_at hl 5 rfl) ?_
        refine lv_iload hx hb dX2_work_114 (lv_at hl 1 rfl) ?_
        refine lv_if_ne (tgt := 125) hx hb dX2_work_116 (by decide) (fun c => ?_) (fun c => ?_)
        · replace h := if_f c h
          refine lv_aload_n hx hb dX2_work_125 rfl (lv_at hl 2 rfl) ?_
          refine tg26 C hK hT dX2_work_126 ?_
          refine lv_iload hx hb dX2_work_129 (lv_at hl 0 rfl) ?_
          obtain ⟨hi, h⟩ := ck_some h
          refine tl26 C hK hT hi dX2_work_131 ?_
          refine lv_i2l hx hb dX2_work_132 rfl ?_
          exact bX2_work_133 C hK ih t x2 x3 x4 x5 x6 x4 ((t.1 26 v2.toNatClampNeg).toInt64) H locs hT hS ls h (lv_sub hl [2, 3, 4, 5, 6, 7] rfl)
        · replace h := if_t c h
          refine lv_iload hx hb dX2_work_119 (lv_at hl 0 rfl) ?_
          refine lv_i2l hx hb dX2_work_121 rfl ?_
          refine lv_goto (tgt := 133) hx hb dX2_work_122 (by decide) ?_
          exact bX2_work_133 C hK ih t x2 x3 x4 x5 x6 x4 v2.toInt64 H locs hT hS ls h (lv_sub hl [2, 3, 4, 5, 6, 7] rfl)
theorem bX2_work {p : Program} {l : Launch} {e : Env} {s : State} {m : MethodId} {args : Array Value} {below : List Frame} {meth : Method} {c : Code} {D : va_G} {dA : Nat → ClassId} {b : Nat} {t9 : TS} (C : cx p s m args meth c cX2_work RX2 9 none) (hK : kk D dA s) : ∀ (t : TS) (x1 : Int32) (H : Heap) (locs : List Loc) (hT : wd D (tw dA b t) H) (hS : tS b s.heap H locs) (ls : Array Slot), T_work t x1 = some t9 → lv_has ls 9 [(0, .ref b), (1, .int x1)] → W p l e rmX2_work s m args below meth c H locs 0 0 (MQ below (tQ D dA b t9 none) args s 0 0 (ta b)) (F0 m 0 ls []) := by
  obtain ⟨hx, hb, hr, hml, hown, hts, hlocks⟩ := id C
  intro t x1 H locs hT hS ls h hl
  unfold T_work at h
  refine lv_sipush (v := 873) hx hb dX2_work_0 (by decide) ?_
  refine lv_aload_n hx hb dX2_work_3 rfl (lv_at hl 0 rfl) ?_
  refine tg0 C hK hT dX2_work_4 ?_
  refine lv_iconst (v := 5) hx hb dX2_work_7 (by decide) ?_
  obtain ⟨hi, h⟩ := ck_some h
  refine tl0 C hK hT hi dX2_work_8 ?_
  refine lv_imul hx hb dX2_work_9 ?_
  refine lv_iconst (v := 1) hx hb dX2_work_10 (by decide) ?_
  refine lv_iadd hx hb dX2_work_11 ?_
  refine lv_bipush (v := 11) hx hb dX2_work_12 (by decide) ?_
  refine lv_iload_n hx hb dX2_work_14 rfl (lv_at hl 1 rfl) ?_
  refine lv_imul hx hb dX2_work_15 ?_
  refine lv_iadd hx hb dX2_work_16 ?_
  refine lv_topi (fun v1 ev1 => ?_)
  replace h := lt1_sub ev1 h
  refine lv_istore_n (lv' := [(2, .int v1), (0, .ref b), (1, .int x1)]) hx hb dX2_work_17 rfl hl (by decide) rfl (fun ls hl => ?_)
  refine lv_sipush (v := 873) hx hb dX2_work_18 (by decide) ?_
  refine lv_aload_n hx hb dX2_work_21 rfl (lv_at hl 1 rfl) ?_
  refine tg0 C hK hT dX2_work_22 ?_
  refine lv_iconst (v := 5) hx hb dX2_work_25 (by decide) ?_
  obtain ⟨hi, h⟩ := ck_some h
  refine tl0 C hK hT hi dX2_work_26 ?_
  refine lv_imul hx hb dX2_work_27 ?_
  refine lv_sipush (v := 265) hx hb dX2_work_28 (by decide) ?_
  refine lv_iadd hx hb dX2_work_31 ?_
  refine lv_topi (fun v2 ev2 => ?_)
  replace h := lt1_sub ev2 h
  refine lv_istore_n (lv' := [(3, .int v2), (2, .int v1), (0, .ref b), (1, .int x1)]) hx hb dX2_work_32 rfl hl (by decide) rfl (fun ls hl => ?_)
  refine lv_iconst (v := 0) hx hb dX2_work_33 (by decide) ?_
  refine lv_istore (lv' := [(4, .int (0 : Int32)), (3, .int v2), (2, .int v1), (0, .ref b), (1, .int x1)]) hx hb dX2_work_34 hl (by decide) rfl (fun ls hl => ?_)
  refine lv_iconst (v := 0) hx hb dX2_work_36 (by decide) ?_
  refine lv_istore (lv' := [(5, .int (0 : Int32)), (4, .int (0 : Int32)), (3, .int v2), (2, .int v1), (0, .ref b), (1, .int x1)]) hx hb dX2_work_37 hl (by decide) rfl (fun ls hl => ?_)
  refine lv_aload_n hx hb dX2_work_39 rfl (lv_at hl 4 rfl) ?_
  refine tg26 C hK hT dX2_work_40 ?_
  refine lv_iconst (v := 0) hx hb dX2_work_43 (by decide) ?_
  refine lv_aload_n hx hb dX2_work_44 rfl (lv_at hl 4 rfl) ?_
  refine tg0 C hK hT dX2_work_45 ?_
  refine lv_iconst (v := 2) hx hb dX2_work_48 (by decide) ?_
  obtain ⟨hi, h⟩ := ck_some h
  refine tl0 C hK hT hi dX2_work_49 ?_
  obtain ⟨hi, h⟩ := ck_some h
  refine ts26 C hK hT hS hi dX2_work_50 (fun t3 H locs et3 hT hS => ?_)
  replace h := lt1_sub et3 h
  refine lv_aload_n hx hb dX2_work_51 rfl (lv_at hl 4 rfl) ?_
  refine tg2 C hK hT dX2_work_52 ?_
  refine lv_iload_n hx hb dX2_work_55 rfl (lv_at hl 3 rfl) ?_
  refine lv_iconst (v := 1) hx hb dX2_work_56 (by decide) ?_
  refine lv_iadd hx hb dX2_work_57 ?_
  obtain ⟨hi, h⟩ := ck_some h
  refine tl2 C hK hT hi dX2_work_58 ?_
  refine lv_topi (fun v4 ev4 => ?_)
  replace h := lt1_sub ev4 h
  refine lv_istore (lv' := [(6, .int v4), (5, .int (0 : Int32)), (4, .int (0 : Int32)), (3, .int v2), (2, .int v1), (0, .ref b), (1, .int x1)]) hx hb dX2_work_59 hl (by decide) rfl (fun ls hl => ?_)
  exact bX2_work_61 C hK fu t3 v1 v2 (0 : Int32) (0 : Int32) v4 H locs hT hS ls h (lv_sub hl [5, 4, 3, 2, 1, 0] rfl)
theorem mX2_work {l : Launch} {D : va_G} {dA : Nat → ClassId} {b : Nat} {t : TS} {x1 : Int32} {t9 : TS} (h : T_work t x1 = some t9) : Met l yX2_work (ws_ yX2_work cX2_work 9 none) rmX2_work (tPc D dA b t [.ref b, .int x1]) (tQ D dA b t9 none) 0 0 (ta b) := en_R (by decide +kernel) rfl (Nat.le_of_ble_eq_true rfl) (fun p e s m below meth c ls C hK hT hl => bX2_work C hK t x1 _ [] hT tS.rf ls h hl)
set_option maxRecDepth 20000 in
abbrev rmX2_wouldChange : Room := { frames := 3, cells := 0, slots := 0, locals := 73 }
theorem hdX2_wouldChange : yX2_wouldChange.cls = RX2 ∧ yX2_wouldChange.cls ≠ "java/lang/invoke/MethodHandle" ∧ yX2_wouldChange.cls ≠ "java/lang/invoke/VarHandle" ∧ (parseMethodDescriptor yX2_wouldChange.desc).map (fun d => d.parameters.length) = some 1 := by decide +kernel
theorem bX2_wouldChange_166 {p : Program} {l : Launch} {e : Env} {s : State} {m : MethodId} {args : Array Value} {below : List Frame} {meth : Method} {c : Code} {D : va_G} {dA : Nat → ClassId} {b : Nat} {r : Int32} {t9 : TS} (C : cx p s m args meth c cX2_wouldChange RX2 5 (some .boolean)) (hK : kk D dA s) : ∀ (t : TS) (x1 : Int32) (x3 : Int32) (x4 : Int32) (y1 : Int32) (y2 : Int32) (H : Heap) (locs : List Loc) (hT : wd D (tw dA b t) H) (hS : tS b s.heap H locs) (ls : Array Slot), T_wouldChange_166 t x1 x3 x4 y1 y2 = some (r, t9) → lv_has ls 5 [(0, .ref b), (1, .int x1), (3, .int x3), (4, .int x4)] → W p l e rmX2_wouldChange s m args below meth c H locs 0 0 (MQ below (tQ D dA b t9 (some (.int r))) args s 0 0 (ta b)) (F0 m 166 ls [.int y2, .int y1, .ref (b + 8)]) := by
  obtain ⟨hx, hb, hr, hml, hown, hts, hlocks⟩ := id C
  intro t x1 x3 x4 y1 y2 H locs hT hS ls h hl
  unfold T_wouldChange_166 at h
  obtain ⟨hi, h⟩ := ck_some h
  refine ts26 C hK hT hS hi dX2_wouldChange_166 (fun t1 H locs et1 hT hS => ?_)
  replace h := lt1_sub et1 h
  refine lv_aload_n hx hb dX2_wouldChange_167 rfl (lv_at hl 0 rfl) ?_
  refine tg26 C hK hT dX2_wouldChange_168 ?_
  refine lv_bipush (v := 6) hx hb dX2_wouldChange_171 (by decide) ?_
  refine lv_iload hx hb dX2_wouldChange_173 (lv_at hl 3 rfl) ?_
  obtain ⟨hi, h⟩ := ck_some h
  refine ts26 C hK hT hS hi dX2_wouldChange_175 (fun t2 H locs et2 hT hS => ?_)
  replace h := lt1_sub et2 h
  refine lv_aload_n hx hb dX2_wouldChange_176 rfl (lv_at hl 0 rfl) ?_
  refine tg26 C hK hT dX2_wouldChange_177 ?_
  refine lv_bipush (v := 7) hx hb dX2_wouldChange_180 (by decide) ?_
  refine lv_aload_n hx hb dX2_wouldChange_182 rfl (lv_at hl 0 rfl) ?_
  refine lv_iload_n hx hb dX2_wouldChange_183 rfl (lv_at hl 1 rfl) ?_
  obtain ⟨v3, hv3, h⟩ := bd1_some h
  refine r_int (run_t (As := [.int x1]) (rest := [.int (7 : Int32), .ref (b + 8)]) C hK hT (mX2_usesOf hv3) q1908 q1910 qs113 q162 q1911 ⟨rfl, rfl⟩ hdX2_usesOf ⟨Nat.le_of_ble_eq_true rfl, Nat.le_of_ble_eq_true rfl⟩ ⟨Nat.zero_le _, Nat.zero_le _⟩ rfl hl.1 rfl (Nat.le_of_ble_eq_true rfl) dX2_wouldChange_184) ?_
  obtain ⟨hi, h⟩ := ck_some h
  refine ts26 C hK hT hS hi dX2_wouldChange_187 (fun t4 H locs et4 hT hS => ?_)
  replace h := lt1_sub et4 h
  refine lv_aload_n hx hb dX2_wouldChange_188 rfl (lv_at hl 0 rfl) ?_
  refine lv_iload_n hx hb dX2_wouldChange_189 rfl (lv_at hl 2 rfl) ?_
  obtain ⟨t5, ht5, h⟩ := bd1_some h
  refine w_void hS (run_t (As := [.int x3]) (rest := []) C hK hT (mX2_work ht5) q1916 q1918 qs115 q162 q1919 ⟨rfl, rfl⟩ hdX2_work ⟨Nat.le_of_ble_eq_true rfl, Nat.le_of_ble_eq_true rfl⟩ ⟨Nat.zero_le _, Nat.zero_le _⟩ rfl hl.1 rfl (Nat.le_of_ble_eq_true rfl) dX2_wouldChange_190) (fun H locs hT hS => ?_)
  refine lv_aload_n hx hb dX2_wouldChange_193 rfl (lv_at hl 0 rfl) ?_
  refine tg28 C hK hT dX2_wouldChange_194 ?_
  refine lv_iconst (v := 0) hx hb dX2_wouldChange_197 (by decide) ?_
  obtain ⟨hi, h⟩ := ck_some h
  refine tl28 C hK hT hi dX2_wouldChange_198 ?_
  obtain ⟨hz, h⟩ := zr_some h
  exact e_wz C hT hS hz h dX2_wouldChange_199
theorem bX2_wouldChange_13 {p : Program} {l : Launch} {e : Env} {s : State} {m : MethodId} {args : Array Value} {below : List Frame} {meth : Method} {c : Code} {D : va_G} {dA : Nat → ClassId} {b : Nat} {r : Int32} {t9 : TS} (C : cx p s m args meth c cX2_wouldChange RX2 5 (some .boolean)) (hK : kk D dA s) : ∀ (t : TS) (x1 : Int32) (y0 : Int32) (H : Heap) (locs : List Loc) (hT : wd D (tw dA b t) H) (hS : tS b s.heap H locs) (ls : Array Slot), T_wouldChange_13 t x1 y0 = some (r, t9) → lv_has ls 5 [(0, .ref b), (1, .int x1)] → W p l e rmX2_wouldChange s m args below meth c H locs 0 0 (MQ below (tQ D dA b t9 (some (.int r))) args s 0 0 (ta b)) (F0 m 13 ls [.int y0]) := by
  obtain ⟨hx, hb, hr, hml, hown, hts, hlocks⟩ := id C
  intro t x1 y0 H locs hT hS ls h hl
  unfold T_wouldChange_13 at h
  refine lv_istore_n (lv' := [(2, .int y0), (0, .ref b), (1, .int x1)]) hx hb dX2_wouldChange_13 rfl hl (by decide) rfl (fun ls hl => ?_)
  refine lv_aload_n hx hb dX2_wouldChange_14 rfl (lv_at hl 1 rfl) ?_
  refine lv_iload_n hx hb dX2_wouldChange_15 rfl (lv_at hl 0 rfl) ?_
  obtain ⟨v1, hv1, h⟩ := bd1_some h
  refine r_int (run_t (As := [.int y0]) (rest := []) C hK hT (mX2_clauseOf hv1) q1898 q1900 qs112 q162 q1901 ⟨rfl, rfl⟩ hdX2_clauseOf ⟨Nat.le_of_ble_eq_true rfl, Nat.le_of_ble_eq_true rfl⟩ ⟨Nat.zero_le _, Nat.zero_le _⟩ rfl hl.1 rfl (Nat.le_of_ble_eq_true rfl) dX2_wouldChange_16) ?_
  refine lv_istore_n (lv' := [(3, .int v1), (2, .int y0), (0, .ref b), (1, .int x1)]) hx hb dX2_wouldChange_19 rfl hl (by decide) rfl (fun ls hl => ?_)
  refine lv_aload_n hx hb dX2_wouldChange_20 rfl (lv_at hl 2 rfl) ?_
  refine tg0 C hK hT dX2_wouldChange_21 ?_
  refine lv_bipush (v := 90) hx hb dX2_wouldChange_24 (by decide) ?_
  refine lv_iload_n hx hb dX2_wouldChange_26 rfl (lv_at hl 3 rfl) ?_
  refine lv_iadd hx hb dX2_wouldChange_27 ?_
  obtain ⟨hi, h⟩ := ck_some h
  refine tl0 C hK hT hi dX2_wouldChange_28 ?_
  refine lv_aload_n hx hb dX2_wouldChange_29 rfl (lv_at hl 2 rfl) ?_
  refine tg0 C hK hT dX2_wouldChange_30 ?_
  refine lv_bipush (v := 7) hx hb dX2_wouldChange_33 (by decide) ?_
  obtain ⟨hi, h⟩ := ck_some h
  refine tl0 C hK hT hi dX2_wouldChange_35 ?_
  refine lv_iand hx hb dX2_wouldChange_36 ?_
  obtain ⟨v2, hv2, h⟩ := bd1_some h
  refine r_int (run_s (As := [.int ((t.1 0 ((90 : Int32) + x1).toNatClampNeg) &&& (t.1 0 (7 : Int32).toNatClampNeg))]) (rest := []) C (mX2_bits hv2) q1902 q1903 q162 q1904 ⟨rfl, rfl⟩ hdX2_bits ⟨Nat.le_of_ble_eq_true rfl, Nat.le_of_ble_eq_true rfl⟩ ⟨Nat.zero_le _, Nat.zero_le _⟩ rfl hl.1 rfl (Nat.le_of_ble_eq_true rfl) dX2_wouldChange_37) ?_
  refine lv_istore (lv' := [(4, .int v2), (3, .int v1), (2, .int y0), (0, .ref b), (1, .int x1)]) hx hb dX2_wouldChange_40 hl (by decide) rfl (fun ls hl => ?_)
  refine lv_iload_n hx hb dX2_wouldChange_42 rfl (lv_at hl 1 rfl) ?_
  refine lv_if_ge (tgt := 96) hx hb dX2_wouldChange_43 (by decide) (fun c => ?_) (fun c => ?_)
  · replace h := if_t c h
    refine lv_aload_n hx hb dX2_wouldChange_96 rfl (lv_at hl 3 rfl) ?_
    refine tg26 C hK hT dX2_wouldChange_97 ?_
    refine lv_iconst (v := 1) hx hb dX2_wouldChange_100 (by decide) ?_
    refine lv_aload_n hx hb dX2_wouldChange_101 rfl (lv_at hl 3 rfl) ?_
    refine tg0 C hK hT dX2_wouldChange_102 ?_
    refine lv_bipush (v := 7) hx hb dX2_wouldChange_105 (by decide) ?_
    obtain ⟨hi, h⟩ := ck_some h
    refine tl0 C hK hT hi dX2_wouldChange_107 ?_
    obtain ⟨v3, hv3, h⟩ := bd1_some h
    refine r_int (run_s (As := [.int (t.1 0 (7 : Int32).toNatClampNeg)]) (rest := [.int (1 : Int32), .ref (b + 8)]) C (mX2_bits hv3) q1902 q1903 q162 q1904 ⟨rfl, rfl⟩ hdX2_bits ⟨Nat.le_of_ble_eq_true rfl, Nat.le_of_ble_eq_true rfl⟩ ⟨Nat.zero_le _, Nat.zero_le _⟩ rfl hl.1 rfl (Nat.le_of_ble_eq_true rfl) dX2_wouldChange_108) ?_
    obtain ⟨hi, h⟩ := ck_some h
    refine ts26 C hK hT hS hi dX2_wouldChange_111 (fun t4 H locs et4 hT hS => ?_)
    replace h := lt1_sub et4 h
    refine lv_aload_n hx hb dX2_wouldChange_112 rfl (lv_at hl 3 rfl) ?_
    refine tg26 C hK hT dX2_wouldChange_113 ?_
    refine lv_iconst (v := 2) hx hb dX2_wouldChange_116 (by decide) ?_
    refine lv_iload_n hx hb dX2_wouldChange_117 rfl (lv_at hl 4 rfl) ?_
    obtain ⟨hi, h⟩ := ck_some h
    refine ts26 C hK hT hS hi dX2_wouldChange_118 (fun t5 H locs et5 hT hS => ?_)
    replace h := lt1_sub et5 h
    refine lv_aload_n hx hb dX2_wouldChange_119 rfl (lv_at hl 3 rfl) ?_
    refine tg26 C hK hT dX2_wouldChange_120 ?_
    refine lv_iconst (v := 3) hx hb dX2_wouldChange_123 (by decide) ?_
    refine lv_aload_n hx hb dX2_wouldChange_124 rfl (lv_at hl 3 rfl) ?_
    refine tg0 C hK hT dX2_wouldChange_125 ?_
    refine lv_bipush (v := 12) hx hb dX2_wouldChange_128 (by decide) ?_
    refine lv_iload_n hx hb dX2_wouldChange_130 rfl (lv_at hl 4 rfl) ?_
    refine lv_iadd hx hb dX2_wouldChange_131 ?_
    obtain ⟨hi, h⟩ := ck_some h
    refine tl0 C hK hT hi dX2_wouldChange_132 ?_
    obtain ⟨hi, h⟩ := ck_some h
    refine ts26 C hK hT hS hi dX2_wouldChange_133 (fun t6 H locs et6 hT hS => ?_)
    replace h := lt1_sub et6 h
    refine lv_aload_n hx hb dX2_wouldChange_134 rfl (lv_at hl 3 rfl) ?_
    refine tg26 C hK hT dX2_wouldChange_135 ?_
    refine lv_iconst (v := 4) hx hb dX2_wouldChange_138 (by decide) ?_
    refine lv_aload_n hx hb dX2_wouldChange_139 rfl (lv_at hl 3 rfl) ?_
    refine tg0 C hK hT dX2_wouldChange_140 ?_
    refine lv_bipush (v := 38) hx hb dX2_wouldChange_143 (by decide) ?_
    refine lv_iload_n hx hb dX2_wouldChange_145 rfl (lv_at hl 4 rfl) ?_
    refine lv_iadd hx hb dX2_wouldChange_146 ?_
    obtain ⟨hi, h⟩ := ck_some h
    refine tl0 C hK hT hi dX2_wouldChange_147 ?_
    obtain ⟨hi, h⟩ := ck_some h
    refine ts26 C hK hT hS hi dX2_wouldChange_148 (fun t7 H locs et7 hT hS => ?_)
    replace h := lt1_sub et7 h
    refine lv_aload_n hx hb dX2_wouldChange_149 rfl (lv_at hl 3 rfl) ?_
    refine tg26 C hK hT dX2_wouldChange_150 ?_
    refine lv_iconst (v := 5) hx hb dX2_wouldChange_153 (by decide) ?_
    refine lv_iload_n hx hb dX2_wouldChange_154 rfl (lv_at hl 4 rfl) ?_
    obtain ⟨v8, hv8, h⟩ := bd1_some h
    refine r_int (run_s (As := [.int x1]) (rest := [.int (5 : Int32), .ref (b + 8)]) C (mX2_isVowel hv8) q1905 q1906 q162 q1907 ⟨rfl, rfl⟩ hdX2_isVowel ⟨Nat.le_of_ble_eq_true rfl, Nat.le_of_ble_eq_true rfl⟩ ⟨Nat.zero_le _, Nat.zero_le _⟩ rfl hl.1 rfl (Nat.le_of_ble_eq_true rfl) dX2_wouldChange_155) ?_
    refine lv_if_eq (tgt := 165) hx hb dX2_wouldChange_158 (by decide) (fun c => ?_) (fun c => ?_)
    · replace h := if_t c h
      refine lv_iconst (v := 0) hx hb dX2_wouldChange_165 (by decide) ?_
      exact bX2_wouldChange_166 C hK t7 x1 v1 v2 (5 : Int32) (0 : Int32) H locs hT hS ls h (lv_sub hl [3, 4, 1, 0] rfl)
    · replace h := if_f c h
      refine lv_iconst (v := 1) hx hb dX2_wouldChange_161 (by decide) ?_
      refine lv_goto (tgt := 166) hx hb dX2_wouldChange_162 (by decide) ?_
      exact bX2_wouldChange_166 C hK t7 x1 v1 v2 (5 : Int32) (1 : Int32) H locs hT hS ls h (lv_sub hl [3, 4, 1, 0] rfl)
  · replace h := if_f c h
    refine lv_iload_n hx hb dX2_wouldChange_46 rfl (lv_at hl 2 rfl) ?_
    refine lv_iconst (v := 1) hx hb dX2_wouldChange_47 (by decide) ?_
    refine lv_icmp_ne (tgt := 73) hx hb dX2_wouldChange_48 (by decide) (fun c => ?_) (fun c => ?_)
    · replace h := if_f c h
      refine lv_iload hx hb dX2_wouldChange_73 (lv_at hl 0 rfl) ?_
      refine lv_if_le (tgt := 94) hx hb dX2_wouldChange_75 (by decide) (fun c => ?_) (fun c => ?_)
      · replace h := if_t c h
        refine lv_iconst (v := 0) hx hb dX2_wouldChange_94 (by decide) ?_
        exact e_wz C hT hS (Or.inl rfl) h dX2_wouldChange_95
      · replace h := if_f c h
        refine lv_aload_n hx hb dX2_wouldChange_78 rfl (lv_at hl 3 rfl) ?_
        refine tg0 C hK hT dX2_wouldChange_79 ?_
        refine lv_bipush (v := 38) hx hb dX2_wouldChange_82 (by decide) ?_
        refine lv_iload_n hx hb dX2_wouldChange_84 rfl (lv_at hl 4 rfl) ?_
        refine lv_iadd hx hb dX2_wouldChange_85 ?_
        obtain ⟨hi, h⟩ := ck_some h
        refine tl0 C hK hT hi dX2_wouldChange_86 ?_
        refine lv_if_le (tgt := 94) hx hb dX2_wouldChange_87 (by decide) (fun c => ?_) (fun c => ?_)
        · replace h := if_t c h
          refine lv_iconst (v := 0) hx hb dX2_wouldChange_94 (by decide) ?_
          exact e_wz C hT hS (Or.inl rfl) h dX2_wouldChange_95
        · replace h := if_f c h
          refine lv_iconst (v := 1) hx hb dX2_wouldChange_90 (by decide) ?_
          refine lv_goto (tgt := 95) hx hb dX2_wouldChange_91 (by decide) ?_
          exact e_wz C hT hS (Or.inr rfl) h dX2_wouldChange_95
    · replace h := if_t c h
      refine lv_aload_n hx hb dX2_wouldChange_51 rfl (lv_at hl 3 rfl) ?_
      refine tg0 C hK hT dX2_wouldChange_52 ?_
      refine lv_bipush (v := 12) hx hb dX2_wouldChange_55 (by decide) ?_
      refine lv_iload_n hx hb dX2_wouldChange_57 rfl (lv_at hl 4 rfl) ?_
      refine lv_iadd hx hb dX2_wouldChange_58 ?_
      obtain ⟨hi, h⟩ := ck_some h
      refine tl0 C hK hT hi dX2_wouldChange_59 ?_
      refine lv_bipush (v := 9) hx hb dX2_wouldChange_60 (by decide) ?_
      refine lv_icmp_le (tgt := 69) hx hb dX2_wouldChange_62 (by decide) (fun c => ?_) (fun c => ?_)
      · replace h := if_t c h
        refine lv_iconst (v := 0) hx hb dX2_wouldChange_69 (by decide) ?_
        refine lv_goto (tgt := 95) hx hb dX2_wouldChange_70 (by decide) ?_
        exact e_wz C hT hS (Or.inl rfl) h dX2_wouldChange_95
      · replace h := if_f c h
        refine lv_iconst (v := 1) hx hb dX2_wouldChange_65 (by decide) ?_
        refine lv_goto (tgt := 95) hx hb dX2_wouldChange_66 (by decide) ?_
        exact e_wz C hT hS (Or.inr rfl) h dX2_wouldChange_95
theorem bX2_wouldChange {p : Program} {l : Launch} {e : Env} {s : State} {m : MethodId} {args : Array Value} {below : List Frame} {meth : Method} {c : Code} {D : va_G} {dA : Nat → ClassId} {b : Nat} {r : Int32} {t9 : TS} (C : cx p s m args meth c cX2_wouldChange RX2 5 (some .boolean)) (hK : kk D dA s) : ∀ (t : TS) (x1 : Int32) (H : Heap) (locs : List Loc) (hT : wd D (tw dA b t) H) (hS : tS b s.heap H locs) (ls : Array Slot), T_wouldChange t x1 = some (r, t9) → lv_has ls 5 [(0, .ref b), (1, .int x1)] → W p l e rmX2_wouldChange s m args below meth c H locs 0 0 (MQ below (tQ D dA b t9 (some (.int r))) args s 0 0 (ta b)) (F0 m 0 ls []) := by
  obtain ⟨hx, hb, hr, hml, hown, hts, hlocks⟩ := id C
  intro t x1 H locs hT hS ls h hl
  unfold T_wouldChange at h
  refine lv_aload_n hx hb dX2_wouldChange_0 rfl (lv_at hl 0 rfl) ?_
  refine lv_iload_n hx hb dX2_wouldChange_1 rfl (lv_at hl 1 rfl) ?_
  obtain ⟨v1, hv1, h⟩ := bd1_some h
  refine r_int (run_t (As := [.int x1]) (rest := []) C hK hT (mX2_isOut hv1) q1894 q1896 qs111 q162 q1897 ⟨rfl, rfl⟩ hdX2_isOut ⟨Nat.le_of_ble_eq_true rfl, Nat.le_of_ble_eq_true rfl⟩ ⟨Nat.zero_le _, Nat.zero_le _⟩ rfl hl.1 rfl (Nat.le_of_ble_eq_true rfl) dX2_wouldChange_2) ?_
  refine lv_if_eq (tgt := 12) hx hb dX2_wouldChange_5 (by decide) (fun c => ?_) (fun c => ?_)
  · replace h := if_t c h
    refine lv_iconst (v := 0) hx hb dX2_wouldChange_12 (by decide) ?_
    exact bX2_wouldChange_13 C hK t x1 (0 : Int32) H locs hT hS ls h (lv_sub hl [0, 1] rfl)
  · replace h := if_f c h
    refine lv_iconst (v := 1) hx hb dX2_wouldChange_8 (by decide) ?_
    refine lv_goto (tgt := 13) hx hb dX2_wouldChange_9 (by decide) ?_
    exact bX2_wouldChange_13 C hK t x1 (1 : Int32) H locs hT hS ls h (lv_sub hl [0, 1] rfl)
theorem mX2_wouldChange {l : Launch} {D : va_G} {dA : Nat → ClassId} {b : Nat} {t : TS} {x1 : Int32} {r : Int32} {t9 : TS} (h : T_wouldChange t x1 = some (r, t9)) : Met l yX2_wouldChange (ws_ yX2_wouldChange cX2_wouldChange 5 (some .boolean)) rmX2_wouldChange (tPc D dA b t [.ref b, .int x1]) (tQ D dA b t9 (some (.int r))) 0 0 (ta b) := en_R (by decide +kernel) rfl (Nat.le_of_ble_eq_true rfl) (fun p e s m below meth c ls C hK hT hl => bX2_wouldChange C hK t x1 _ [] hT tS.rf ls h hl)
set_option maxRecDepth 20000 in
abbrev rmX2_dawn : Room := { frames := 4, cells := 0, slots := 0, locals := 97 }
theorem hdX2_dawn : yX2_dawn.cls = RX2 ∧ yX2_dawn.cls ≠ "java/lang/invoke/MethodHandle" ∧ yX2_dawn.cls ≠ "java/lang/invoke/VarHandle" ∧ (parseMethodDescriptor yX2_dawn.desc).map (fun d => d.parameters.length) = some 0 := by decide +kernel
theorem bX2_dawn_26 {p : Program} {l : Launch} {e : Env} {s : State} {m : MethodId} {args : Array Value} {below : List Frame} {meth : Method} {c : Code} {D : va_G} {dA : Nat → ClassId} {b : Nat} {t9 : TS} (C : cx p s m args meth c cX2_dawn RX2 3 none) (hK : kk D dA s) {k4 : TS → Int32 → Int32 → Option TS} (hk4 : ∀ (t : TS) (x1 : Int32) (x2 : Int32) (H : Heap) (locs : List Loc) (hT : wd D (tw dA b t) H) (hS : tS b s.heap H locs) (ls : Array Slot), k4 t x1 x2 = some t9 → lv_has ls 3 [(0, .ref b), (1, .int x1), (2, .int x2)] → W p l e rmX2_dawn s m args below meth c H locs 0 0 (MQ below (tQ D dA b t9 none) args s 0 0 (ta b)) (F0 m 4 ls [])) : ∀ (t : TS) (x2 : Int32) (y0 : Int32) (y1 : Int32) (H : Heap) (locs : List Loc) (hT : wd D (tw dA b t) H) (hS : tS b s.heap H locs) (ls : Array Slot), T_dawn_26 k4 t x2 y0 y1 = some t9 → lv_has ls 3 [(0, .ref b), (2, .int x2)] → W p l e rmX2_dawn s m args below meth c H locs 0 0 (MQ below (tQ D dA b t9 none) args s 0 0 (ta b)) (F0 m 26 ls [.int y1, .int y0]) := by
  obtain ⟨hx, hb, hr, hml, hown, hts, hlocks⟩ := id C
  intro t x2 y0 y1 H locs hT hS ls h hl
  unfold T_dawn_26 at h
  refine lv_ior hx hb dX2_dawn_26 ?_
  refine lv_topi (fun v1 ev1 => ?_)
  replace h := lt1_sub ev1 h
  refine lv_istore_n (lv' := [(1, .int v1), (0, .ref b), (2, .int x2)]) hx hb dX2_dawn_27 rfl hl (by decide) rfl (fun ls hl => ?_)
  obtain ⟨v2, ev2⟩ : ∃ y : Int32, y = x2 + (1 : Int32) := ⟨_, rfl⟩
  replace h := lt1_sub ev2 h
  refine lv_iinc (v := v2) (lv' := [(2, .int v2), (1, .int v1), (0, .ref b)]) hx hb dX2_dawn_28 hl (k := 2) rfl (by rw [ev2]; rfl) (by decide) rfl (fun ls hl => ?_)
  refine lv_goto (tgt := 4) hx hb dX2_dawn_31 (by decide) ?_
  exact hk4 t v1 v2 H locs hT hS ls h (lv_sub hl [2, 1, 0] rfl)
theorem bX2_dawn_94 {p : Program} {l : Launch} {e : Env} {s : State} {m : MethodId} {args : Array Value} {below : List Frame} {meth : Method} {c : Code} {D : va_G} {dA : Nat → ClassId} {b : Nat} {t9 : TS} (C : cx p s m args meth c cX2_dawn RX2 3 none) (hK : kk D dA s) {k36 : TS → Int32 → Int32 → Option TS} (hk36 : ∀ (t : TS) (x1 : Int32) (x2 : Int32) (H : Heap) (locs : List Loc) (hT : wd D (tw dA b t) H) (hS : tS b s.heap H locs) (ls : Array Slot), k36 t x1 x2 = some t9 → lv_has ls 3 [(0, .ref b), (1, .int x1), (2, .int x2)] → W p l e rmX2_dawn s m args below meth c H locs 0 0 (MQ below (tQ D dA b t9 none) args s 0 0 (ta b)) (F0 m 36 ls [])) : ∀ (t : TS) (x1 : Int32) (x2 : Int32) (y1 : Int32) (y2 : Int32) (H : Heap) (locs : List Loc) (hT : wd D (tw dA b t) H) (hS : tS b s.heap H locs) (ls : Array Slot), T_dawn_94 k36 t x1 x2 y1 y2 = some t9 → lv_has ls 3 [(0, .ref b), (1, .int x1), (2, .int x2)] → W p l e rmX2_dawn s m args below meth c H locs 0 0 (MQ below (tQ D dA b t9 none) args s 0 0 (ta b)) (F0 m 94 ls [.int y2, .int y1, .ref (b + 1)]) := by
  obtain ⟨hx, hb, hr, hml, hown, hts, hlocks⟩ := id C
  intro t x1 x2 y1 y2 H locs hT hS ls h hl
  unfold T_dawn_94 at h
  obtain ⟨hi, h⟩ := ck_some h
  refine ts0 C hK hT hS hi dX2_dawn_94 (fun t1 H locs et1 hT hS => ?_)
  replace h := lt1_sub et1 h
  obtain ⟨v2, ev2⟩ : ∃ y : Int32, y = x2 + (1 : Int32) := ⟨_, rfl⟩
  replace h := lt1_sub ev2 h
  refine lv_iinc (v := v2) (lv' := [(2, .int v2), (0, .ref b), (1, .int x1)]) hx hb dX2_dawn_95 hl (k := 2) rfl (by rw [ev2]; rfl) (by decide) rfl (fun ls hl => ?_)
  refine lv_goto (tgt := 36) hx hb dX2_dawn_98 (by decide) ?_
  exact hk36 t1 x1 v2 H locs hT hS ls h (lv_sub hl [1, 2, 0] rfl)
theorem bX2_dawn_36 {p : Program} {l : Launch} {e : Env} {s : State} {m : MethodId} {args : Array Value} {below : List Frame} {meth : Method} {c : Code} {D : va_G} {dA : Nat → ClassId} {b : Nat} {t9 : TS} (C : cx p s m args meth c cX2_dawn RX2 3 none) (hK : kk D dA s) : ∀ (n : Nat), ∀ (t : TS) (x1 : Int32) (x2 : Int32) (H : Heap) (locs : List Loc) (hT : wd D (tw dA b t) H) (hS : tS b s.heap H locs) (ls : Array Slot), T_dawn_36 n t x1 x2 = some t9 → lv_has ls 3 [(0, .ref b), (1, .int x1), (2, .int x2)] → W p l e rmX2_dawn s m args below meth c H locs 0 0 (MQ below (tQ D dA b t9 none) args s 0 0 (ta b)) (F0 m 36 ls []) := by
  obtain ⟨hx, hb, hr, hml, hown, hts, hlocks⟩ := id C
  intro n
  induction n with
  | zero =>
    intro t x1 x2 H locs hT hS ls h hl
    have h : none = some _ := h
    cases h
  | succ n ih =>
    intro t x1 x2 H locs hT hS ls h hl
    rw [T_dawn_36] at h
    refine lv_iload_n hx hb dX2_dawn_36 rfl (lv_at hl 2 rfl) ?_
    refine lv_bipush (v := 26) hx hb dX2_dawn_37 (by decide) ?_
    refine lv_icmp_ge (tgt := 101) hx hb dX2_dawn_39 (by decide) (fun c => ?_) (fun c => ?_)
    · replace h := if_t c h
      refine lv_aload_n hx hb dX2_dawn_101 rfl (lv_at hl 0 rfl) ?_
      refine tg0 C hK hT dX2_dawn_102 ?_
      refine lv_bipush (v := 7) hx hb dX2_dawn_105 (by decide) ?_
      refine lv_dup2_11 hx hb dX2_dawn_107 rfl rfl ?_
      obtain ⟨hi, h⟩ := ck_some h
      refine tl0 C hK hT hi dX2_dawn_108 ?_
      refine lv_iload_n hx hb dX2_dawn_109 rfl (lv_at hl 1 rfl) ?_
      refine lv_ixor hx hb dX2_dawn_110 ?_
      obtain ⟨hi, h⟩ := ck_some h
      refine ts0 C hK hT hS hi dX2_dawn_111 (fun t1 H locs et1 hT hS => ?_)
      replace h := lt1_sub et1 h
      refine lv_aload_n hx hb dX2_dawn_112 rfl (lv_at hl 0 rfl) ?_
      refine tg0 C hK hT dX2_dawn_113 ?_
      refine lv_iconst (v := 2) hx hb dX2_dawn_116 (by decide) ?_
      refine lv_dup2_11 hx hb dX2_dawn_117 rfl rfl ?_
      obtain ⟨hi, h⟩ := ck_some h
      refine tl0 C hK hT hi dX2_dawn_118 ?_
      refine lv_iconst (v := 1) hx hb dX2_dawn_119 (by decide) ?_
      refine lv_iadd hx hb dX2_dawn_120 ?_
      obtain ⟨hi, h⟩ := ck_some h
      refine ts0 C hK hT hS hi dX2_dawn_121 (fun t2 H locs et2 hT hS => ?_)
      replace h := lt1_sub et2 h
      exact e_wv C hT hS h dX2_dawn_122
    · replace h := if_f c h
      refine lv_aload_n hx hb dX2_dawn_42 rfl (lv_at hl 0 rfl) ?_
      refine tg0 C hK hT dX2_dawn_43 ?_
      refine lv_bipush (v := 38) hx hb dX2_dawn_46 (by decide) ?_
      refine lv_iload_n hx hb dX2_dawn_48 rfl (lv_at hl 2 rfl) ?_
      refine lv_iadd hx hb dX2_dawn_49 ?_
      refine lv_iload_n hx hb dX2_dawn_50 rfl (lv_at hl 1 rfl) ?_
      refine lv_iload_n hx hb dX2_dawn_51 rfl (lv_at hl 2 rfl) ?_
      obtain ⟨v3, hv3, h⟩ := bd1_some h
      refine r_int (run_s (As := [.int x1, .int x2]) (rest := [.int ((38 : Int32) + x2), .ref (b + 1)]) C (mX2_has hv3) q1659 q1660 q162 q1661 ⟨rfl, rfl⟩ hdX2_has ⟨Nat.le_of_ble_eq_true rfl, Nat.le_of_ble_eq_true rfl⟩ ⟨Nat.zero_le _, Nat.zero_le _⟩ rfl hl.1 rfl (Nat.le_of_ble_eq_true rfl) dX2_dawn_52) ?_
      refine lv_if_eq (tgt := 62) hx hb dX2_dawn_55 (by decide) (fun c => ?_) (fun c => ?_)
      · replace h := if_t c h
        refine lv_aload_n hx hb dX2_dawn_62 rfl (lv_at hl 0 rfl) ?_
        refine tg0 C hK hT dX2_dawn_63 ?_
        refine lv_bipush (v := 38) hx hb dX2_dawn_66 (by decide) ?_
        refine lv_iload_n hx hb dX2_dawn_68 rfl (lv_at hl 2 rfl) ?_
        refine lv_iadd hx hb dX2_dawn_69 ?_
        obtain ⟨hi, h⟩ := ck_some h
        refine tl0 C hK hT hi dX2_dawn_70 ?_
        refine lv_sipush (v := 999) hx hb dX2_dawn_71 (by decide) ?_
        refine lv_icmp_ge (tgt := 91) hx hb dX2_dawn_74 (by decide) (fun c => ?_) (fun c => ?_)
        · replace h := if_t c h
          refine lv_sipush (v := 999) hx hb dX2_dawn_91 (by decide) ?_
          exact bX2_dawn_94 C hK ih t x1 x2 ((38 : Int32) + x2) (999 : Int32) H locs hT hS ls h (lv_sub hl [0, 1, 2] rfl)
        · replace h := if_f c h
          refine lv_aload_n hx hb dX2_dawn_77 rfl (lv_at hl 0 rfl) ?_
          refine tg0 C hK hT dX2_dawn_78 ?_
          refine lv_bipush (v := 38) hx hb dX2_dawn_81 (by decide) ?_
          refine lv_iload_n hx hb dX2_dawn_83 rfl (lv_at hl 2 rfl) ?_
          refine lv_iadd hx hb dX2_dawn_84 ?_
          obtain ⟨hi, h⟩ := ck_some h
          refine tl0 C hK hT hi dX2_dawn_85 ?_
          refine lv_iconst (v := 1) hx hb dX2_dawn_86 (by decide) ?_
          refine lv_iadd hx hb dX2_dawn_87 ?_
          refine lv_goto (tgt := 94) hx hb dX2_dawn_88 (by decide) ?_
          exact bX2_dawn_94 C hK ih t x1 x2 ((38 : Int32) + x2) ((t.1 0 ((38 : Int32) + x2).toNatClampNeg) + (1 : Int32)) H locs hT hS ls h (lv_sub hl [0, 1, 2] rfl)
      · replace h := if_f c h
        refine lv_iconst (v := 0) hx hb dX2_dawn_58 (by decide) ?_
        refine lv_goto (tgt := 94) hx hb dX2_dawn_59 (by decide) ?_
        exact bX2_dawn_94 C hK ih t x1 x2 ((38 : Int32) + x2) (0 : Int32) H locs hT hS ls h (lv_sub hl [0, 1, 2] rfl)
theorem bX2_dawn_4 {p : Program} {l : Launch} {e : Env} {s : State} {m : MethodId} {args : Array Value} {below : List Frame} {meth : Method} {c : Code} {D : va_G} {dA : Nat → ClassId} {b : Nat} {t9 : TS} (C : cx p s m args meth c cX2_dawn RX2 3 none) (hK : kk D dA s) : ∀ (n : Nat), ∀ (t : TS) (x1 : Int32) (x2 : Int32) (H : Heap) (locs : List Loc) (hT : wd D (tw dA b t) H) (hS : tS b s.heap H locs) (ls : Array Slot), T_dawn_4 n t x1 x2 = some t9 → lv_has ls 3 [(0, .ref b), (1, .int x1), (2, .int x2)] → W p l e rmX2_dawn s m args below meth c H locs 0 0 (MQ below (tQ D dA b t9 none) args s 0 0 (ta b)) (F0 m 4 ls []) := by
  obtain ⟨hx, hb, hr, hml, hown, hts, hlocks⟩ := id C
  intro n
  induction n with
  | zero =>
    intro t x1 x2 H locs hT hS ls h hl
    have h : none = some _ := h
    cases h
  | succ n ih =>
    intro t x1 x2 H locs hT hS ls h hl
    rw [T_dawn_4] at h
    refine lv_iload_n hx hb dX2_dawn_4 rfl (lv_at hl 2 rfl) ?_
    refine lv_bipush (v := 26) hx hb dX2_dawn_5 (by decide) ?_
    refine lv_icmp_ge (tgt := 34) hx hb dX2_dawn_7 (by decide) (fun c => ?_) (fun c => ?_)
    · replace h := if_t c h
      refine lv_iconst (v := 0) hx hb dX2_dawn_34 (by decide) ?_
      refine lv_istore_n (lv' := [(2, .int (0 : Int32)), (0, .ref b), (1, .int x1)]) hx hb dX2_dawn_35 rfl hl (by decide) rfl (fun ls hl => ?_)
      exact bX2_dawn_36 C hK fu t x1 (0 : Int32) H locs hT hS ls h (lv_sub hl [1, 2, 0] rfl)
    · replace h := if_f c h
      refine lv_iload_n hx hb dX2_dawn_10 rfl (lv_at hl 1 rfl) ?_
      refine lv_aload_n hx hb dX2_dawn_11 rfl (lv_at hl 0 rfl) ?_
      refine lv_iload_n hx hb dX2_dawn_12 rfl (lv_at hl 2 rfl) ?_
      obtain ⟨v1, t2, ht2, h⟩ := bd2_some h
      refine w_int hS (run_t (As := [.int x2]) (rest := [.int x1]) C hK hT (mX2_wouldChange ht2) q1890 q1892 qs110 q162 q1893 ⟨rfl, rfl⟩ hdX2_wouldChange ⟨Nat.le_of_ble_eq_true rfl, Nat.le_of_ble_eq_true rfl⟩ ⟨Nat.zero_le _, Nat.zero_le _⟩ rfl hl.1 rfl (Nat.le_of_ble_eq_true rfl) dX2_dawn_13) (fun H locs hT hS => ?_)
      refine lv_if_eq (tgt := 25) hx hb dX2_dawn_16 (by decide) (fun c => ?_) (fun c => ?_)
      · replace h := if_t c h
        refine lv_iconst (v := 0) hx hb dX2_dawn_25 (by decide) ?_
        exact bX2_dawn_26 C hK ih t2 x2 x1 (0 : Int32) H locs hT hS ls h (lv_sub hl [0, 2] rfl)
      · replace h := if_f c h
        refine lv_iconst (v := 1) hx hb dX2_dawn_19 (by decide) ?_
        refine lv_iload_n hx hb dX2_dawn_20 rfl (lv_at hl 2 rfl) ?_
        refine lv_ishl hx hb dX2_dawn_21 ?_
        refine lv_goto (tgt := 26) hx hb dX2_dawn_22 (by decide) ?_
        exact bX2_dawn_26 C hK ih t2 x2 x1 ((1 : Int32) <<< (x2 &&& (31 : Int32))) H locs hT hS ls h (lv_sub hl [0, 2] rfl)
theorem bX2_dawn {p : Program} {l : Launch} {e : Env} {s : State} {m : MethodId} {args : Array Value} {below : List Frame} {meth : Method} {c : Code} {D : va_G} {dA : Nat → ClassId} {b : Nat} {t9 : TS} (C : cx p s m args meth c cX2_dawn RX2 3 none) (hK : kk D dA s) : ∀ (t : TS) (H : Heap) (locs : List Loc) (hT : wd D (tw dA b t) H) (hS : tS b s.heap H locs) (ls : Array Slot), T_dawn t = some t9 → lv_has ls 3 [(0, .ref b)] → W p l e rmX2_dawn s m args below meth c H locs 0 0 (MQ below (tQ D dA b t9 none) args s 0 0 (ta b)) (F0 m 0 ls []) := by
  obtain ⟨hx, hb, hr, hml, hown, hts, hlocks⟩ := id C
  intro t H locs hT hS ls h hl
  unfold T_dawn at h
  refine lv_iconst (v := 0) hx hb dX2_dawn_0 (by decide) ?_
  refine lv_istore_n (lv' := [(1, .int (0 : Int32)), (0, .ref b)]) hx hb dX2_dawn_1 rfl hl (by decide) rfl (fun ls hl => ?_)
  refine lv_iconst (v := 0) hx hb dX2_dawn_2 (by decide) ?_
  refine lv_istore_n (lv' := [(2, .int (0 : Int32)), (1, .int (0 : Int32)), (0, .ref b)]) hx hb dX2_dawn_3 rfl hl (by decide) rfl (fun ls hl => ?_)
  exact bX2_dawn_4 C hK fu t (0 : Int32) (0 : Int32) H locs hT hS ls h (lv_sub hl [2, 1, 0] rfl)
theorem mX2_dawn {l : Launch} {D : va_G} {dA : Nat → ClassId} {b : Nat} {t : TS} {t9 : TS} (h : T_dawn t = some t9) : Met l yX2_dawn (ws_ yX2_dawn cX2_dawn 3 none) rmX2_dawn (tPc D dA b t [.ref b]) (tQ D dA b t9 none) 0 0 (ta b) := en_R (by decide +kernel) rfl (Nat.le_of_ble_eq_true rfl) (fun p e s m below meth c ls C hK hT hl => bX2_dawn C hK t _ [] hT tS.rf ls h hl)
set_option maxRecDepth 20000 in
abbrev rmX2_keep : Room := { frames := 0, cells := 0, slots := 0, locals := 0 }
theorem hdX2_keep : yX2_keep.cls = RX2 ∧ yX2_keep.cls ≠ "java/lang/invoke/MethodHandle" ∧ yX2_keep.cls ≠ "java/lang/invoke/VarHandle" ∧ (parseMethodDescriptor yX2_keep.desc).map (fun d => d.parameters.length) = some 0 := by decide +kernel
theorem bX2_keep_131 {p : Program} {l : Launch} {e : Env} {s : State} {m : MethodId} {args : Array Value} {below : List Frame} {meth : Method} {c : Code} {D : va_G} {dA : Nat → ClassId} {b : Nat} {t9 : TS} (C : cx p s m args meth c cX2_keep RX2 3 none) (hK : kk D dA s) : ∀ (n : Nat), ∀ (t : TS) (x1 : Int32) (x2 : Int32) (H : Heap) (locs : List Loc) (hT : wd D (tw dA b t) H) (hS : tS b s.heap H locs) (ls : Array Slot), T_keep_131 n t x1 x2 = some t9 → lv_has ls 3 [(0, .ref b), (1, .int x1), (2, .int x2)] → W p l e rmX2_keep s m args below meth c H locs 0 0 (MQ below (tQ D dA b t9 none) args s 0 0 (ta b)) (F0 m 131 ls []) := by
  obtain ⟨hx, hb, hr, hml, hown, hts, hlocks⟩ := id C
  intro n
  induction n with
  | zero =>
    intro t x1 x2 H locs hT hS ls h hl
    have h : none = some _ := h
    cases h
  | succ n ih =>
    intro t x1 x2 H locs hT hS ls h hl
    rw [T_keep_131] at h
    refine lv_iload_n hx hb dX2_keep_131 rfl (lv_at hl 2 rfl) ?_
    refine lv_bipush (v := 78) hx hb dX2_keep_132 (by decide) ?_
    refine lv_icmp_ge (tgt := 162) hx hb dX2_keep_134 (by decide) (fun c => ?_) (fun c => ?_)
    · replace h := if_t c h
      refine lv_aload_n hx hb dX2_keep_162 rfl (lv_at hl 0 rfl) ?_
      refine tg0 C hK hT dX2_keep_163 ?_
      refine lv_bipush (v := 6) hx hb dX2_keep_166 (by decide) ?_
      refine lv_dup2_11 hx hb dX2_keep_168 rfl rfl ?_
      obtain ⟨hi, h⟩ := ck_some h
      refine tl0 C hK hT hi dX2_keep_169 ?_
      refine lv_iconst (v := 1) hx hb dX2_keep_170 (by decide) ?_
      refine lv_iadd hx hb dX2_keep_171 ?_
      obtain ⟨hi, h⟩ := ck_some h
      refine ts0 C hK hT hS hi dX2_keep_172 (fun t1 H locs et1 hT hS => ?_)
      replace h := lt1_sub et1 h
      exact e_wv C hT hS h dX2_keep_173
    · replace h := if_f c h
      refine lv_aload_n hx hb dX2_keep_137 rfl (lv_at hl 0 rfl) ?_
      refine tg0 C hK hT dX2_keep_138 ?_
      refine lv_iload_n hx hb dX2_keep_141 rfl (lv_at hl 1 rfl) ?_
      refine lv_iconst (v := 4) hx hb dX2_keep_142 (by decide) ?_
      refine lv_iadd hx hb dX2_keep_143 ?_
      refine lv_iload_n hx hb dX2_keep_144 rfl (lv_at hl 2 rfl) ?_
      refine lv_iadd hx hb dX2_keep_145 ?_
      refine lv_aload_n hx hb dX2_keep_146 rfl (lv_at hl 0 rfl) ?_
      refine tg0 C hK hT dX2_keep_147 ?_
      refine lv_bipush (v := 12) hx hb dX2_keep_150 (by decide) ?_
      refine lv_iload_n hx hb dX2_keep_152 rfl (lv_at hl 2 rfl) ?_
      refine lv_iadd hx hb dX2_keep_153 ?_
      obtain ⟨hi, h⟩ := ck_some h
      refine tl0 C hK hT hi dX2_keep_154 ?_
      obtain ⟨hi, h⟩ := ck_some h
      refine ts0 C hK hT hS hi dX2_keep_155 (fun t2 H locs et2 hT hS => ?_)
      replace h := lt1_sub et2 h
      obtain ⟨v3, ev3⟩ : ∃ y : Int32, y = x2 + (1 : Int32) := ⟨_, rfl⟩
      replace h := lt1_sub ev3 h
      refine lv_iinc (v := v3) (lv' := [(2, .int v3), (0, .ref b), (1, .int x1)]) hx hb dX2_keep_156 hl (k := 2) rfl (by rw [ev3]; rfl) (by decide) rfl (fun ls hl => ?_)
      refine lv_goto (tgt := 131) hx hb dX2_keep_159 (by decide) ?_
      exact ih t2 x1 v3 H locs hT hS ls h (lv_sub hl [1, 2, 0] rfl)
theorem bX2_keep_58 {p : Program} {l : Launch} {e : Env} {s : State} {m : MethodId} {args : Array Value} {below : List Frame} {meth : Method} {c : Code} {D : va_G} {dA : Nat → ClassId} {b : Nat} {t9 : TS} (C : cx p s m args meth c cX2_keep RX2 3 none) (hK : kk D dA s) : ∀ (t : TS) (H : Heap) (locs : List Loc) (hT : wd D (tw dA b t) H) (hS : tS b s.heap H locs) (ls : Array Slot), T_keep_58 t = some t9 → lv_has ls 3 [(0, .ref b)] → W p l e rmX2_keep s m args below meth c H locs 0 0 (MQ below (tQ D dA b t9 none) args s 0 0 (ta b)) (F0 m 58 ls []) := by
  obtain ⟨hx, hb, hr, hml, hown, hts, hlocks⟩ := id C
  intro t H locs hT hS ls h hl
  unfold T_keep_58 at h
  refine lv_sipush (v := 578) hx hb dX2_keep_58 (by decide) ?_
  refine lv_bipush (v := 82) hx hb dX2_keep_61 (by decide) ?_
  refine lv_aload_n hx hb dX2_keep_63 rfl (lv_at hl 0 rfl) ?_
  refine tg0 C hK hT dX2_keep_64 ?_
  refine lv_bipush (v := 6) hx hb dX2_keep_67 (by decide) ?_
  obtain ⟨hi, h⟩ := ck_some h
  refine tl0 C hK hT hi dX2_keep_69 ?_
  refine lv_imul hx hb dX2_keep_70 ?_
  refine lv_iadd hx hb dX2_keep_71 ?_
  refine lv_topi (fun v1 ev1 => ?_)
  replace h := lt1_sub ev1 h
  refine lv_istore_n (lv' := [(1, .int v1), (0, .ref b)]) hx hb dX2_keep_72 rfl hl (by decide) rfl (fun ls hl => ?_)
  refine lv_aload_n hx hb dX2_keep_73 rfl (lv_at hl 1 rfl) ?_
  refine tg0 C hK hT dX2_keep_74 ?_
  refine lv_iload_n hx hb dX2_keep_77 rfl (lv_at hl 0 rfl) ?_
  refine lv_aload_n hx hb dX2_keep_78 rfl (lv_at hl 1 rfl) ?_
  refine tg0 C hK hT dX2_keep_79 ?_
  refine lv_bipush (v := 7) hx hb dX2_keep_82 (by decide) ?_
  obtain ⟨hi, h⟩ := ck_some h
  refine tl0 C hK hT hi dX2_keep_84 ?_
  obtain ⟨hi, h⟩ := ck_some h
  refine ts0 C hK hT hS hi dX2_keep_85 (fun t2 H locs et2 hT hS => ?_)
  replace h := lt1_sub et2 h
  refine lv_aload_n hx hb dX2_keep_86 rfl (lv_at hl 1 rfl) ?_
  refine tg0 C hK hT dX2_keep_87 ?_
  refine lv_iload_n hx hb dX2_keep_90 rfl (lv_at hl 0 rfl) ?_
  refine lv_iconst (v := 1) hx hb dX2_keep_91 (by decide) ?_
  refine lv_iadd hx hb dX2_keep_92 ?_
  refine lv_aload_n hx hb dX2_keep_93 rfl (lv_at hl 1 rfl) ?_
  refine tg0 C hK hT dX2_keep_94 ?_
  refine lv_bipush (v := 10) hx hb dX2_keep_97 (by decide) ?_
  obtain ⟨hi, h⟩ := ck_some h
  refine tl0 C hK hT hi dX2_keep_99 ?_
  obtain ⟨hi, h⟩ := ck_some h
  refine ts0 C hK hT hS hi dX2_keep_100 (fun t3 H locs et3 hT hS => ?_)
  replace h := lt1_sub et3 h
  refine lv_aload_n hx hb dX2_keep_101 rfl (lv_at hl 1 rfl) ?_
  refine tg0 C hK hT dX2_keep_102 ?_
  refine lv_iload_n hx hb dX2_keep_105 rfl (lv_at hl 0 rfl) ?_
  refine lv_iconst (v := 2) hx hb dX2_keep_106 (by decide) ?_
  refine lv_iadd hx hb dX2_keep_107 ?_
  refine lv_aload_n hx hb dX2_keep_108 rfl (lv_at hl 1 rfl) ?_
  refine tg0 C hK hT dX2_keep_109 ?_
  refine lv_iconst (v := 2) hx hb dX2_keep_112 (by decide) ?_
  obtain ⟨hi, h⟩ := ck_some h
  refine tl0 C hK hT hi dX2_keep_113 ?_
  obtain ⟨hi, h⟩ := ck_some h
  refine ts0 C hK hT hS hi dX2_keep_114 (fun t4 H locs et4 hT hS => ?_)
  replace h := lt1_sub et4 h
  refine lv_aload_n hx hb dX2_keep_115 rfl (lv_at hl 1 rfl) ?_
  refine tg0 C hK hT dX2_keep_116 ?_
  refine lv_iload_n hx hb dX2_keep_119 rfl (lv_at hl 0 rfl) ?_
  refine lv_iconst (v := 3) hx hb dX2_keep_120 (by decide) ?_
  refine lv_iadd hx hb dX2_keep_121 ?_
  refine lv_aload_n hx hb dX2_keep_122 rfl (lv_at hl 1 rfl) ?_
  refine tg0 C hK hT dX2_keep_123 ?_
  refine lv_iconst (v := 3) hx hb dX2_keep_126 (by decide) ?_
  obtain ⟨hi, h⟩ := ck_some h
  refine tl0 C hK hT hi dX2_keep_127 ?_
  obtain ⟨hi, h⟩ := ck_some h
  refine ts0 C hK hT hS hi dX2_keep_128 (fun t5 H locs et5 hT hS => ?_)
  replace h := lt1_sub et5 h
  refine lv_iconst (v := 0) hx hb dX2_keep_129 (by decide) ?_
  refine lv_istore_n (lv' := [(2, .int (0 : Int32)), (1, .int v1), (0, .ref b)]) hx hb dX2_keep_130 rfl hl (by decide) rfl (fun ls hl => ?_)
  exact bX2_keep_131 C hK fu t5 v1 (0 : Int32) H locs hT hS ls h (lv_sub hl [2, 1, 0] rfl)
theorem bX2_keep_14 {p : Program} {l : Launch} {e : Env} {s : State} {m : MethodId} {args : Array Value} {below : List Frame} {meth : Method} {c : Code} {D : va_G} {dA : Nat → ClassId} {b : Nat} {t9 : TS} (C : cx p s m args meth c cX2_keep RX2 3 none) (hK : kk D dA s) : ∀ (n : Nat), ∀ (t : TS) (x1 : Int32) (H : Heap) (locs : List Loc) (hT : wd D (tw dA b t) H) (hS : tS b s.heap H locs) (ls : Array Slot), T_keep_14 n t x1 = some t9 → lv_has ls 3 [(0, .ref b), (1, .int x1)] → W p l e rmX2_keep s m args below meth c H locs 0 0 (MQ below (tQ D dA b t9 none) args s 0 0 (ta b)) (F0 m 14 ls []) := by
  obtain ⟨hx, hb, hr, hml, hown, hts, hlocks⟩ := id C
  intro n
  induction n with
  | zero =>
    intro t x1 H locs hT hS ls h hl
    have h : none = some _ := h
    cases h
  | succ n ih =>
    intro t x1 H locs hT hS ls h hl
    rw [T_keep_14] at h
    refine lv_iload_n hx hb dX2_keep_14 rfl (lv_at hl 1 rfl) ?_
    refine lv_sipush (v := 2378) hx hb dX2_keep_15 (by decide) ?_
    refine lv_icmp_ge (tgt := 47) hx hb dX2_keep_18 (by decide) (fun c => ?_) (fun c => ?_)
    · replace h := if_t c h
      refine lv_aload_n hx hb dX2_keep_47 rfl (lv_at hl 0 rfl) ?_
      refine tg0 C hK hT dX2_keep_48 ?_
      refine lv_bipush (v := 6) hx hb dX2_keep_51 (by decide) ?_
      refine lv_dup2_11 hx hb dX2_keep_53 rfl rfl ?_
      obtain ⟨hi, h⟩ := ck_some h
      refine tl0 C hK hT hi dX2_keep_54 ?_
      refine lv_iconst (v := 1) hx hb dX2_keep_55 (by decide) ?_
      refine lv_isub hx hb dX2_keep_56 ?_
      obtain ⟨hi, h⟩ := ck_some h
      refine ts0 C hK hT hS hi dX2_keep_57 (fun t1 H locs et1 hT hS => ?_)
      replace h := lt1_sub et1 h
      exact bX2_keep_58 C hK t1 H locs hT hS ls h (lv_sub hl [0] rfl)
    · replace h := if_f c h
      refine lv_aload_n hx hb dX2_keep_21 rfl (lv_at hl 0 rfl) ?_
      refine tg0 C hK hT dX2_keep_22 ?_
      refine lv_sipush (v := 578) hx hb dX2_keep_25 (by decide) ?_
      refine lv_iload_n hx hb dX2_keep_28 rfl (lv_at hl 1 rfl) ?_
      refine lv_iadd hx hb dX2_keep_29 ?_
      refine lv_aload_n hx hb dX2_keep_30 rfl (lv_at hl 0 rfl) ?_
      refine tg0 C hK hT dX2_keep_31 ?_
      refine lv_sipush (v := 660) hx hb dX2_keep_34 (by decide) ?_
      refine lv_iload_n hx hb dX2_keep_37 rfl (lv_at hl 1 rfl) ?_
      refine lv_iadd hx hb dX2_keep_38 ?_
      obtain ⟨hi, h⟩ := ck_some h
      refine tl0 C hK hT hi dX2_keep_39 ?_
      obtain ⟨hi, h⟩ := ck_some h
      refine ts0 C hK hT hS hi dX2_keep_40 (fun t2 H locs et2 hT hS => ?_)
      replace h := lt1_sub et2 h
      obtain ⟨v3, ev3⟩ : ∃ y : Int32, y = x1 + (1 : Int32) := ⟨_, rfl⟩
      replace h := lt1_sub ev3 h
      refine lv_iinc (v := v3) (lv' := [(1, .int v3), (0, .ref b)]) hx hb dX2_keep_41 hl (k := 1) rfl (by rw [ev3]; rfl) (by decide) rfl (fun ls hl => ?_)
      refine lv_goto (tgt := 14) hx hb dX2_keep_44 (by decide) ?_
      exact ih t2 v3 H locs hT hS ls h (lv_sub hl [1, 0] rfl)
theorem bX2_keep {p : Program} {l : Launch} {e : Env} {s : State} {m : MethodId} {args : Array Value} {below : List Frame} {meth : Method} {c : Code} {D : va_G} {dA : Nat → ClassId} {b : Nat} {t9 : TS} (C : cx p s m args meth c cX2_keep RX2 3 none) (hK : kk D dA s) : ∀ (t : TS) (H : Heap) (locs : List Loc) (hT : wd D (tw dA b t) H) (hS : tS b s.heap H locs) (ls : Array Slot), T_keep t = some t9 → lv_has ls 3 [(0, .ref b)] → W p l e rmX2_keep s m args below meth c H locs 0 0 (MQ below (tQ D dA b t9 none) args s 0 0 (ta b)) (F0 m 0 ls []) := by
  obtain ⟨hx, hb, hr, hml, hown, hts, hlocks⟩ := id C
  intro t H locs hT hS ls h hl
  unfold T_keep at h
  refine lv_aload_n hx hb dX2_keep_0 rfl (lv_at hl 0 rfl) ?_
  refine tg0 C hK hT dX2_keep_1 ?_
  refine lv_bipush (v := 6) hx hb dX2_keep_4 (by decide) ?_
  obtain ⟨hi, h⟩ := ck_some h
  refine tl0 C hK hT hi dX2_keep_6 ?_
  refine lv_bipush (v := 30) hx hb dX2_keep_7 (by decide) ?_
  refine lv_icmp_ne (tgt := 58) hx hb dX2_keep_9 (by decide) (fun c => ?_) (fun c => ?_)
  · replace h := if_f c h
    exact bX2_keep_58 C hK t H locs hT hS ls h (lv_sub hl [0] rfl)
  · replace h := if_t c h
    refine lv_iconst (v := 0) hx hb dX2_keep_12 (by decide) ?_
    refine lv_istore_n (lv' := [(1, .int (0 : Int32)), (0, .ref b)]) hx hb dX2_keep_13 rfl hl (by decide) rfl (fun ls hl => ?_)
    exact bX2_keep_14 C hK fu t (0 : Int32) H locs hT hS ls h (lv_sub hl [1, 0] rfl)
theorem mX2_keep {l : Launch} {D : va_G} {dA : Nat → ClassId} {b : Nat} {t : TS} {t9 : TS} (h : T_keep t = some t9) : Met l yX2_keep (ws_ yX2_keep cX2_keep 3 none) rmX2_keep (tPc D dA b t [.ref b]) (tQ D dA b t9 none) 0 0 (ta b) := en_R (by decide +kernel) rfl (Nat.le_of_ble_eq_true rfl) (fun p e s m below meth c ls C hK hT hl => bX2_keep C hK t _ [] hT tS.rf ls h hl)
set_option maxRecDepth 20000 in
abbrev rmX2_isMorning : Room := { frames := 5, cells := 0, slots := 0, locals := 119 }
theorem hdX2_isMorning : yX2_isMorning.cls = RX2 ∧ yX2_isMorning.cls ≠ "java/lang/invoke/MethodHandle" ∧ yX2_isMorning.cls ≠ "java/lang/invoke/VarHandle" ∧ (parseMethodDescriptor yX2_isMorning.desc).map (fun d => d.parameters.length) = some 0 := by decide +kernel
theorem bX2_isMorning {p : Program} {l : Launch} {e : Env} {s : State} {m : MethodId} {args : Array Value} {below : List Frame} {meth : Method} {c : Code} {D : va_G} {dA : Nat → ClassId} {b : Nat} {r : Int32} {t9 : TS} (C : cx p s m args meth c cX2_isMorning RX2 1 (some .boolean)) (hK : kk D dA s) : ∀ (t : TS) (H : Heap) (locs : List Loc) (hT : wd D (tw dA b t) H) (hS : tS b s.heap H locs) (ls : Array Slot), T_isMorning t = some (r, t9) → lv_has ls 1 [(0, .ref b)] → W p l e rmX2_isMorning s m args below meth c H locs 0 0 (MQ below (tQ D dA b t9 (some (.int r))) args s 0 0 (ta b)) (F0 m 0 ls []) := by
  obtain ⟨hx, hb, hr, hml, hown, hts, hlocks⟩ := id C
  intro t H locs hT hS ls h hl
  unfold T_isMorning at h
  refine lv_aload_n hx hb dX2_isMorning_0 rfl (lv_at hl 0 rfl) ?_
  refine tg0 C hK hT dX2_isMorning_1 ?_
  refine lv_iconst (v := 2) hx hb dX2_isMorning_4 (by decide) ?_
  obtain ⟨hi, h⟩ := ck_some h
  refine tl0 C hK hT hi dX2_isMorning_5 ?_
  refine lv_sipush (v := 999) hx hb dX2_isMorning_6 (by decide) ?_
  refine lv_icmp_ne (tgt := 14) hx hb dX2_isMorning_9 (by decide) (fun c => ?_) (fun c => ?_)
  · replace h := if_f c h
    refine lv_aload_n hx hb dX2_isMorning_14 rfl (lv_at hl 0 rfl) ?_
    obtain ⟨t1, ht1, h⟩ := bd1_some h
    refine w_void hS (run_t (As := []) (rest := []) C hK hT (mX2_keep ht1) q1882 q1884 qs108 q162 q1885 ⟨rfl, rfl⟩ hdX2_keep ⟨Nat.le_of_ble_eq_true rfl, Nat.le_of_ble_eq_true rfl⟩ ⟨Nat.zero_le _, Nat.zero_le _⟩ rfl hl.1 rfl (Nat.le_of_ble_eq_true rfl) dX2_isMorning_15) (fun H locs hT hS => ?_)
    refine lv_aload_n hx hb dX2_isMorning_18 rfl (lv_at hl 0 rfl) ?_
    obtain ⟨t2, ht2, h⟩ := bd1_some h
    refine w_void hS (run_t (As := []) (rest := []) C hK hT (mX2_dawn ht2) q1886 q1888 qs109 q162 q1889 ⟨rfl, rfl⟩ hdX2_dawn ⟨Nat.le_of_ble_eq_true rfl, Nat.le_of_ble_eq_true rfl⟩ ⟨Nat.zero_le _, Nat.zero_le _⟩ rfl hl.1 rfl (Nat.le_of_ble_eq_true rfl) dX2_isMorning_19) (fun H locs hT hS => ?_)
    refine lv_iconst (v := 1) hx hb dX2_isMorning_22 (by decide) ?_
    exact e_wz C hT hS (Or.inr rfl) h dX2_isMorning_23
  · replace h := if_t c h
    refine lv_iconst (v := 0) hx hb dX2_isMorning_12 (by decide) ?_
    exact e_wz C hT hS (Or.inl rfl) h dX2_isMorning_13
theorem mX2_isMorning {l : Launch} {D : va_G} {dA : Nat → ClassId} {b : Nat} {t : TS} {r : Int32} {t9 : TS} (h : T_isMorning t = some (r, t9)) : Met l yX2_isMorning (ws_ yX2_isMorning cX2_isMorning 1 (some .boolean)) rmX2_isMorning (tPc D dA b t [.ref b]) (tQ D dA b t9 (some (.int r))) 0 0 (ta b) := en_R (by decide +kernel) rfl (Nat.le_of_ble_eq_true rfl) (fun p e s m below meth c ls C hK hT hl => bX2_isMorning C hK t _ [] hT tS.rf ls h hl)
set_option maxRecDepth 20000 in
abbrev rmX2_morning : Room := { frames := 6, cells := 0, slots := 0, locals := 139 }
theorem hdX2_morning : yX2_morning.cls = RX2 ∧ yX2_morning.cls ≠ "java/lang/invoke/MethodHandle" ∧ yX2_morning.cls ≠ "java/lang/invoke/VarHandle" ∧ (parseMethodDescriptor yX2_morning.desc).map (fun d => d.parameters.length) = some 1 := by decide +kernel
theorem bX2_morning_48 {p : Program} {l : Launch} {e : Env} {s : State} {m : MethodId} {args : Array Value} {below : List Frame} {meth : Method} {c : Code} {D : va_G} {dA : Nat → ClassId} {b : Nat} {r : Int32} {t9 : TS} (C : cx p s m args meth c cX2_morning RX2 4 (some .int)) (hK : kk D dA s) {k30 : TS → Int32 → Int32 → Int32 → Option (Int32 × TS)} (hk30 : ∀ (t : TS) (x1 : Int32) (x2 : Int32) (x3 : Int32) (H : Heap) (locs : List Loc) (hT : wd D (tw dA b t) H) (hS : tS b s.heap H locs) (ls : Array Slot), k30 t x1 x2 x3 = some (r, t9) → lv_has ls 4 [(0, .ref b), (1, .int x1), (2, .int x2), (3, .int x3)] → W p l e rmX2_morning s m args below meth c H locs 0 0 (MQ below (tQ D dA b t9 (some (.int r))) args s 0 0 (ta b)) (F0 m 30 ls [])) : ∀ (t : TS) (x1 : Int32) (x3 : Int32) (y0 : Int32) (y1 : Int32) (H : Heap) (locs : List Loc) (hT : wd D (tw dA b t) H) (hS : tS b s.heap H locs) (ls : Array Slot), T_morning_48 k30 t x1 x3 y0 y1 = some (r, t9) → lv_has ls 4 [(0, .ref b), (1, .int x1), (3, .int x3)] → W p l e rmX2_morning s m args below meth c H locs 0 0 (MQ below (tQ D dA b t9 (some (.int r))) args s 0 0 (ta b)) (F0 m 48 ls [.int y1, .int y0]) := by
  obtain ⟨hx, hb, hr, hml, hown, hts, hlocks⟩ := id C
  intro t x1 x3 y0 y1 H locs hT hS ls h hl
  unfold T_morning_48 at h
  refine lv_iadd hx hb dX2_morning_48 ?_
  refine lv_topi (fun v1 ev1 => ?_)
  replace h := lt1_sub ev1 h
  refine lv_istore_n (lv' := [(2, .int v1), (0, .ref b), (1, .int x1), (3, .int x3)]) hx hb dX2_morning_49 rfl hl (by decide) rfl (fun ls hl => ?_)
  obtain ⟨v2, ev2⟩ : ∃ y : Int32, y = x3 + (1 : Int32) := ⟨_, rfl⟩
  replace h := lt1_sub ev2 h
  refine lv_iinc (v := v2) (lv' := [(3, .int v2), (2, .int v1), (0, .ref b), (1, .int x1)]) hx hb dX2_morning_50 hl (k := 3) rfl (by rw [ev2]; rfl) (by decide) rfl (fun ls hl => ?_)
  refine lv_goto (tgt := 30) hx hb dX2_morning_53 (by decide) ?_
  exact hk30 t x1 v1 v2 H locs hT hS ls h (lv_sub hl [2, 3, 1, 0] rfl)
theorem bX2_morning_30 {p : Program} {l : Launch} {e : Env} {s : State} {m : MethodId} {args : Array Value} {below : List Frame} {meth : Method} {c : Code} {D : va_G} {dA : Nat → ClassId} {b : Nat} {r : Int32} {t9 : TS} (C : cx p s m args meth c cX2_morning RX2 4 (some .int)) (hK : kk D dA s) : ∀ (n : Nat), ∀ (t : TS) (x1 : Int32) (x2 : Int32) (x3 : Int32) (H : Heap) (locs : List Loc) (hT : wd D (tw dA b t) H) (hS : tS b s.heap H locs) (ls : Array Slot), T_morning_30 n t x1 x2 x3 = some (r, t9) → lv_has ls 4 [(0, .ref b), (1, .int x1), (2, .int x2), (3, .int x3)] → W p l e rmX2_morning s m args below meth c H locs 0 0 (MQ below (tQ D dA b t9 (some (.int r))) args s 0 0 (ta b)) (F0 m 30 ls []) := by
  obtain ⟨hx, hb, hr, hml, hown, hts, hlocks⟩ := id C
  intro n
  induction n with
  | zero =>
    intro t x1 x2 x3 H locs hT hS ls h hl
    have h : none = some _ := h
    cases h
  | succ n ih =>
    intro t x1 x2 x3 H locs hT hS ls h hl
    rw [T_morning_30] at h
    refine lv_iload_n hx hb dX2_morning_30 rfl (lv_at hl 3 rfl) ?_
    refine lv_iload_n hx hb dX2_morning_31 rfl (lv_at hl 1 rfl) ?_
    refine lv_icmp_ge (tgt := 56) hx hb dX2_morning_32 (by decide) (fun c => ?_) (fun c => ?_)
    · replace h := if_t c h
      refine lv_iload_n hx hb dX2_morning_56 rfl (lv_at hl 2 rfl) ?_
      refine lv_iload_n hx hb dX2_morning_57 rfl (lv_at hl 1 rfl) ?_
      refine lv_icmp_ge (tgt := 65) hx hb dX2_morning_58 (by decide) (fun c => ?_) (fun c => ?_)
      · replace h := if_t c h
        refine lv_aload_n hx hb dX2_morning_65 rfl (lv_at hl 0 rfl) ?_
        refine tg0 C hK hT dX2_morning_66 ?_
        refine lv_bipush (v := 7) hx hb dX2_morning_69 (by decide) ?_
        obtain ⟨hi, h⟩ := ck_some h
        refine tl0 C hK hT hi dX2_morning_71 ?_
        obtain ⟨v1, hv1, h⟩ := bd1_some h
        refine r_int (run_s (As := [.int (t.1 0 (7 : Int32).toNatClampNeg)]) (rest := []) C (mX2_bits hv1) q1902 q1903 q162 q1904 ⟨rfl, rfl⟩ hdX2_bits ⟨Nat.le_of_ble_eq_true rfl, Nat.le_of_ble_eq_true rfl⟩ ⟨Nat.zero_le _, Nat.zero_le _⟩ rfl hl.1 rfl (Nat.le_of_ble_eq_true rfl) dX2_morning_72) ?_
        exact e_wi C hT hS h dX2_morning_75
      · replace h := if_f c h
        refine lv_iconst (v := -1) hx hb dX2_morning_61 (by decide) ?_
        refine lv_goto (tgt := 75) hx hb dX2_morning_62 (by decide) ?_
        exact e_wi C hT hS h dX2_morning_75
    · replace h := if_f c h
      refine lv_iload_n hx hb dX2_morning_35 rfl (lv_at hl 2 rfl) ?_
      refine lv_aload_n hx hb dX2_morning_36 rfl (lv_at hl 0 rfl) ?_
      obtain ⟨v2, t3, ht3, h⟩ := bd2_some h
      refine w_int hS (run_t (As := []) (rest := [.int x2]) C hK hT (mX2_isMorning ht3) q1878 q1880 qs107 q162 q1881 ⟨rfl, rfl⟩ hdX2_isMorning ⟨Nat.le_of_ble_eq_true rfl, Nat.le_of_ble_eq_true rfl⟩ ⟨Nat.zero_le _, Nat.zero_le _⟩ rfl hl.1 rfl (Nat.le_of_ble_eq_true rfl) dX2_morning_37) (fun H locs hT hS => ?_)
      refine lv_if_eq (tgt := 47) hx hb dX2_morning_40 (by decide) (fun c => ?_) (fun c => ?_)
      · replace h := if_t c h
        refine lv_iconst (v := 0) hx hb dX2_morning_47 (by decide) ?_
        exact bX2_morning_48 C hK ih t3 x1 x3 x2 (0 : Int32) H locs hT hS ls h (lv_sub hl [0, 1, 3] rfl)
      · replace h := if_f c h
        refine lv_iconst (v := 1) hx hb dX2_morning_43 (by decide) ?_
        refine lv_goto (tgt := 48) hx hb dX2_morning_44 (by decide) ?_
        exact bX2_morning_48 C hK ih t3 x1 x3 x2 (1 : Int32) H locs hT hS ls h (lv_sub hl [0, 1, 3] rfl)
theorem bX2_morning {p : Program} {l : Launch} {e : Env} {s : State} {m : MethodId} {args : Array Value} {below : List Frame} {meth : Method} {c : Code} {D : va_G} {dA : Nat → ClassId} {b : Nat} {r : Int32} {t9 : TS} (C : cx p s m args meth c cX2_morning RX2 4 (some .int)) (hK : kk D dA s) : ∀ (t : TS) (x1 : Int32) (H : Heap) (locs : List Loc) (hT : wd D (tw dA b t) H) (hS : tS b s.heap H locs) (ls : Array Slot), T_morning t x1 = some (r, t9) → lv_has ls 4 [(0, .ref b), (1, .int x1)] → W p l e rmX2_morning s m args below meth c H locs 0 0 (MQ below (tQ D dA b t9 (some (.int r))) args s 0 0 (ta b)) (F0 m 0 ls []) := by
  obtain ⟨hx, hb, hr, hml, hown, hts, hlocks⟩ := id C
  intro t x1 H locs hT hS ls h hl
  unfold T_morning at h
  refine lv_iload_n hx hb dX2_morning_0 rfl (lv_at hl 1 rfl) ?_
  refine lv_iconst (v := 1) hx hb dX2_morning_1 (by decide) ?_
  refine lv_bipush (v := 99) hx hb dX2_morning_2 (by decide) ?_
  obtain ⟨v1, hv1, h⟩ := bd1_some h
  refine r_int (run_s (As := [.int x1, .int (1 : Int32), .int (99 : Int32)]) (rest := []) C (mX2_isIn hv1) q1656 q1657 q162 q1658 ⟨rfl, rfl⟩ hdX2_isIn ⟨Nat.le_of_ble_eq_true rfl, Nat.le_of_ble_eq_true rfl⟩ ⟨Nat.zero_le _, Nat.zero_le _⟩ rfl hl.1 rfl (Nat.le_of_ble_eq_true rfl) dX2_morning_4) ?_
  refine lv_if_eq (tgt := 24) hx hb dX2_morning_7 (by decide) (fun c => ?_) (fun c => ?_)
  · replace h := if_t c h
    refine lv_iconst (v := -1) hx hb dX2_morning_24 (by decide) ?_
    exact e_wi C hT hS h dX2_morning_25
  · replace h := if_f c h
    refine lv_aload_n hx hb dX2_morning_10 rfl (lv_at hl 0 rfl) ?_
    refine tg0 C hK hT dX2_morning_11 ?_
    refine lv_iconst (v := 2) hx hb dX2_morning_14 (by decide) ?_
    obtain ⟨hi, h⟩ := ck_some h
    refine tl0 C hK hT hi dX2_morning_15 ?_
    refine lv_iload_n hx hb dX2_morning_16 rfl (lv_at hl 1 rfl) ?_
    refine lv_iadd hx hb dX2_morning_17 ?_
    refine lv_sipush (v := 999) hx hb dX2_morning_18 (by decide) ?_
    refine lv_icmp_le (tgt := 26) hx hb dX2_morning_21 (by decide) (fun c => ?_) (fun c => ?_)
    · replace h := if_t c h
      refine lv_iconst (v := 0) hx hb dX2_morning_26 (by decide) ?_
      refine lv_istore_n (lv' := [(2, .int (0 : Int32)), (0, .ref b), (1, .int x1)]) hx hb dX2_morning_27 rfl hl (by decide) rfl (fun ls hl => ?_)
      refine lv_iconst (v := 0) hx hb dX2_morning_28 (by decide) ?_
      refine lv_istore_n (lv' := [(3, .int (0 : Int32)), (2, .int (0 : Int32)), (0, .ref b), (1, .int x1)]) hx hb dX2_morning_29 rfl hl (by decide) rfl (fun ls hl => ?_)
      exact bX2_morning_30 C hK fu t x1 (0 : Int32) (0 : Int32) H locs hT hS ls h (lv_sub hl [2, 3, 1, 0] rfl)
    · replace h := if_f c h
      refine lv_iconst (v := -1) hx hb dX2_morning_24 (by decide) ?_
      exact e_wi C hT hS h dX2_morning_25
theorem mX2_morning {l : Launch} {D : va_G} {dA : Nat → ClassId} {b : Nat} {t : TS} {x1 : Int32} {r : Int32} {t9 : TS} (h : T_morning t x1 = some (r, t9)) : Met l yX2_morning (ws_ yX2_morning cX2_morning 4 (some .int)) rmX2_morning (tPc D dA b t [.ref b, .int x1]) (tQ D dA b t9 (some (.int r))) 0 0 (ta b) := en_R (by decide +kernel) rfl (Nat.le_of_ble_eq_true rfl) (fun p e s m below meth c ls C hK hT hl => bX2_morning C hK t x1 _ [] hT tS.rf ls h hl)
set_option maxRecDepth 20000 in
abbrev rmX2_call : Room := { frames := 1, cells := 0, slots := 0, locals := 22 }
theorem hdX2_call : yX2_call.cls = RX2 ∧ yX2_call.cls ≠ "java/lang/invoke/MethodHandle" ∧ yX2_call.cls ≠ "java/lang/invoke/VarHandle" ∧ (parseMethodDescriptor yX2_call.desc).map (fun d => d.parameters.length) = some 1 := by decide +kernel
theorem bX2_call_36 {p : Program} {l : Launch} {e : Env} {s : State} {m : MethodId} {args : Array Value} {below : List Frame} {meth : Method} {c : Code} {D : va_G} {dA : Nat → ClassId} {b : Nat} {r : Int32} {t9 : TS} (C : cx p s m args meth c cX2_call RX2 3 (some .int)) (hK : kk D dA s) {k12 : TS → Int32 → Int32 → Option (Int32 × TS)} (hk12 : ∀ (t : TS) (x1 : Int32) (x2 : Int32) (H : Heap) (locs : List Loc) (hT : wd D (tw dA b t) H) (hS : tS b s.heap H locs) (ls : Array Slot), k12 t x1 x2 = some (r, t9) → lv_has ls 3 [(0, .ref b), (1, .int x1), (2, .int x2)] → W p l e rmX2_call s m args below meth c H locs 0 0 (MQ below (tQ D dA b t9 (some (.int r))) args s 0 0 (ta b)) (F0 m 12 ls [])) : ∀ (t : TS) (x1 : Int32) (x2 : Int32) (H : Heap) (locs : List Loc) (hT : wd D (tw dA b t) H) (hS : tS b s.heap H locs) (ls : Array Slot), T_call_36 k12 t x1 x2 = some (r, t9) → lv_has ls 3 [(0, .ref b), (1, .int x1), (2, .int x2)] → W p l e rmX2_call s m args below meth c H locs 0 0 (MQ below (tQ D dA b t9 (some (.int r))) args s 0 0 (ta b)) (F0 m 36 ls []) := by
  obtain ⟨hx, hb, hr, hml, hown, hts, hlocks⟩ := id C
  intro t x1 x2 H locs hT hS ls h hl
  unfold T_call_36 at h
  obtain ⟨v1, ev1⟩ : ∃ y : Int32, y = x2 + (1 : Int32) := ⟨_, rfl⟩
  replace h := lt1_sub ev1 h
  refine lv_iinc (v := v1) (lv' := [(2, .int v1), (0, .ref b), (1, .int x1)]) hx hb dX2_call_36 hl (k := 2) rfl (by rw [ev1]; rfl) (by decide) rfl (fun ls hl => ?_)
  refine lv_goto (tgt := 12) hx hb dX2_call_39 (by decide) ?_
  exact hk12 t x1 v1 H locs hT hS ls h (lv_sub hl [1, 2, 0] rfl)
theorem bX2_call_12 {p : Program} {l : Launch} {e : Env} {s : State} {m : MethodId} {args : Array Value} {below : List Frame} {meth : Method} {c : Code} {D : va_G} {dA : Nat → ClassId} {b : Nat} {r : Int32} {t9 : TS} (C : cx p s m args meth c cX2_call RX2 3 (some .int)) (hK : kk D dA s) : ∀ (n : Nat), ∀ (t : TS) (x1 : Int32) (x2 : Int32) (H : Heap) (locs : List Loc) (hT : wd D (tw dA b t) H) (hS : tS b s.heap H locs) (ls : Array Slot), T_call_12 n t x1 x2 = some (r, t9) → lv_has ls 3 [(0, .ref b), (1, .int x1), (2, .int x2)] → W p l e rmX2_call s m args below meth c H locs 0 0 (MQ below (tQ D dA b t9 (some (.int r))) args s 0 0 (ta b)) (F0 m 12 ls []) := by
  obtain ⟨hx, hb, hr, hml, hown, hts, hlocks⟩ := id C
  intro n
  induction n with
  | zero =>
    intro t x1 x2 H locs hT hS ls h hl
    have h : none = some _ := h
    cases h
  | succ n ih =>
    intro t x1 x2 H locs hT hS ls h hl
    rw [T_call_12] at h
    refine lv_iload_n hx hb dX2_call_12 rfl (lv_at hl 2 rfl) ?_
    refine lv_bipush (v := 26) hx hb dX2_call_13 (by decide) ?_
    refine lv_icmp_ge (tgt := 42) hx hb dX2_call_15 (by decide) (fun c => ?_) (fun c => ?_)
    · replace h := if_t c h
      refine lv_aload_n hx hb dX2_call_42 rfl (lv_at hl 0 rfl) ?_
      refine tg0 C hK hT dX2_call_43 ?_
      refine lv_bipush (v := 7) hx hb dX2_call_46 (by decide) ?_
      refine lv_dup2_11 hx hb dX2_call_48 rfl rfl ?_
      obtain ⟨hi, h⟩ := ck_some h
      refine tl0 C hK hT hi dX2_call_49 ?_
      refine lv_iload_n hx hb dX2_call_50 rfl (lv_at hl 1 rfl) ?_
      refine lv_ixor hx hb dX2_call_51 ?_
      obtain ⟨hi, h⟩ := ck_some h
      refine ts0 C hK hT hS hi dX2_call_52 (fun t1 H locs et1 hT hS => ?_)
      replace h := lt1_sub et1 h
      refine lv_iload_n hx hb dX2_call_53 rfl (lv_at hl 1 rfl) ?_
      obtain ⟨v2, hv2, h⟩ := bd1_some h
      refine r_int (run_s (As := [.int x1]) (rest := []) C (mX2_bits hv2) q1902 q1903 q162 q1904 ⟨rfl, rfl⟩ hdX2_bits ⟨Nat.le_of_ble_eq_true rfl, Nat.le_of_ble_eq_true rfl⟩ ⟨Nat.zero_le _, Nat.zero_le _⟩ rfl hl.1 rfl (Nat.le_of_ble_eq_true rfl) dX2_call_54) ?_
      exact e_wi C hT hS h dX2_call_57
    · replace h := if_f c h
      refine lv_iload_n hx hb dX2_call_18 rfl (lv_at hl 1 rfl) ?_
      refine lv_iload_n hx hb dX2_call_19 rfl (lv_at hl 2 rfl) ?_
      obtain ⟨v3, hv3, h⟩ := bd1_some h
      refine r_int (run_s (As := [.int x1, .int x2]) (rest := []) C (mX2_has hv3) q1659 q1660 q162 q1661 ⟨rfl, rfl⟩ hdX2_has ⟨Nat.le_of_ble_eq_true rfl, Nat.le_of_ble_eq_true rfl⟩ ⟨Nat.zero_le _, Nat.zero_le _⟩ rfl hl.1 rfl (Nat.le_of_ble_eq_true rfl) dX2_call_20) ?_
      refine lv_if_eq (tgt := 36) hx hb dX2_call_23 (by decide) (fun c => ?_) (fun c => ?_)
      · replace h := if_t c h
        exact bX2_call_36 C hK ih t x1 x2 H locs hT hS ls h (lv_sub hl [0, 1, 2] rfl)
      · replace h := if_f c h
        refine lv_aload_n hx hb dX2_call_26 rfl (lv_at hl 0 rfl) ?_
        refine tg0 C hK hT dX2_call_27 ?_
        refine lv_bipush (v := 38) hx hb dX2_call_30 (by decide) ?_
        refine lv_iload_n hx hb dX2_call_32 rfl (lv_at hl 2 rfl) ?_
        refine lv_iadd hx hb dX2_call_33 ?_
        refine lv_iconst (v := 0) hx hb dX2_call_34 (by decide) ?_
        obtain ⟨hi, h⟩ := ck_some h
        refine ts0 C hK hT hS hi dX2_call_35 (fun t4 H locs et4 hT hS => ?_)
        replace h := lt1_sub et4 h
        exact bX2_call_36 C hK ih t4 x1 x2 H locs hT hS ls h (lv_sub hl [0, 1, 2] rfl)
theorem bX2_call {p : Program} {l : Launch} {e : Env} {s : State} {m : MethodId} {args : Array Value} {below : List Frame} {meth : Method} {c : Code} {D : va_G} {dA : Nat → ClassId} {b : Nat} {r : Int32} {t9 : TS} (C : cx p s m args meth c cX2_call RX2 3 (some .int)) (hK : kk D dA s) : ∀ (t : TS) (x1 : Int32) (H : Heap) (locs : List Loc) (hT : wd D (tw dA b t) H) (hS : tS b s.heap H locs) (ls : Array Slot), T_call t x1 = some (r, t9) → lv_has ls 3 [(0, .ref b), (1, .int x1)] → W p l e rmX2_call s m args below meth c H locs 0 0 (MQ below (tQ D dA b t9 (some (.int r))) args s 0 0 (ta b)) (F0 m 0 ls []) := by
  obtain ⟨hx, hb, hr, hml, hown, hts, hlocks⟩ := id C
  intro t x1 H locs hT hS ls h hl
  unfold T_call at h
  refine lv_iload_n hx hb dX2_call_0 rfl (lv_at hl 1 rfl) ?_
  refine lv_if_ne (tgt := 6) hx hb dX2_call_1 (by decide) (fun c => ?_) (fun c => ?_)
  · replace h := if_f c h
    refine lv_aload_n hx hb dX2_call_6 rfl (lv_at hl 0 rfl) ?_
    obtain ⟨t1, ht1, h⟩ := bd1_some h
    refine w_void hS (run_t (As := []) (rest := []) C hK hT (mX2_keep ht1) q1882 q1884 qs108 q162 q1885 ⟨rfl, rfl⟩ hdX2_keep ⟨Nat.le_of_ble_eq_true rfl, Nat.le_of_ble_eq_true rfl⟩ ⟨Nat.zero_le _, Nat.zero_le _⟩ rfl hl.1 rfl (Nat.le_of_ble_eq_true rfl) dX2_call_7) (fun H locs hT hS => ?_)
    refine lv_iconst (v := 0) hx hb dX2_call_10 (by decide) ?_
    refine lv_istore_n (lv' := [(2, .int (0 : Int32)), (0, .ref b), (1, .int x1)]) hx hb dX2_call_11 rfl hl (by decide) rfl (fun ls hl => ?_)
    exact bX2_call_12 C hK fu t1 x1 (0 : Int32) H locs hT hS ls h (lv_sub hl [1, 2, 0] rfl)
  · replace h := if_t c h
    refine lv_iconst (v := -1) hx hb dX2_call_4 (by decide) ?_
    exact e_wi C hT hS h dX2_call_5
theorem mX2_call {l : Launch} {D : va_G} {dA : Nat → ClassId} {b : Nat} {t : TS} {x1 : Int32} {r : Int32} {t9 : TS} (h : T_call t x1 = some (r, t9)) : Met l yX2_call (ws_ yX2_call cX2_call 3 (some .int)) rmX2_call (tPc D dA b t [.ref b, .int x1]) (tQ D dA b t9 (some (.int r))) 0 0 (ta b) := en_R (by decide +kernel) rfl (Nat.le_of_ble_eq_true rfl) (fun p e s m below meth c ls C hK hT hl => bX2_call C hK t x1 _ [] hT tS.rf ls h hl)
set_option maxRecDepth 20000 in
abbrev rmX2_isSet : Room := { frames := 1, cells := 0, slots := 0, locals := 22 }
theorem hdX2_isSet : yX2_isSet.cls ≠ "java/lang/invoke/MethodHandle" ∧ yX2_isSet.cls ≠ "java/lang/invoke/VarHandle" ∧ (parseMethodDescriptor yX2_isSet.desc).map (fun d => d.parameters.length) = some 1 := by decide +kernel
theorem bX2_isSet {p : Program} {l : Launch} {e : Env} {s : State} {m : MethodId} {args : Array Value} {below : List Frame} {meth : Method} {c : Code} {r : Int32} (C : cx p s m args meth c cX2_isSet RX2 1 (some .boolean)) : ∀ (x0 : Int32) (ls : Array Slot), T_isSet x0 = some r → lv_has ls 1 [(0, .int x0)] → W p l e rmX2_isSet s m args below meth c s.heap [] 0 0 (MQ below (rQi r) args s 0 0 nof) (F0 m 0 ls []) := by
  obtain ⟨hx, hb, hr, hml, hown, hts, hlocks⟩ := id C
  intro x0 ls h hl
  unfold T_isSet at h
  refine lv_iload_n hx hb dX2_isSet_0 rfl (lv_at hl 0 rfl) ?_
  refine lv_iconst (v := 1) hx hb dX2_isSet_1 (by decide) ?_
  refine lv_ldc hx hb hown (hts _ q1938) dX2_isSet_2 ?_
  obtain ⟨v1, hv1, h⟩ := bd1_some h
  refine r_int (run_s (As := [.int x0, .int (1 : Int32), .int (67108863 : Int32)]) (rest := []) C (mX2_isIn hv1) q1656 q1657 q162 q1658 ⟨rfl, rfl⟩ hdX2_isIn ⟨Nat.le_of_ble_eq_true rfl, Nat.le_of_ble_eq_true rfl⟩ ⟨Nat.zero_le _, Nat.zero_le _⟩ rfl hl.1 rfl (Nat.le_of_ble_eq_true rfl) dX2_isSet_4) ?_
  obtain ⟨hz, h⟩ := zr_some h
  exact e_rz C hz h dX2_isSet_7
theorem mX2_isSet {l : Launch} {x0 : Int32} {r : Int32} (h : T_isSet x0 = some r) : Met l yX2_isSet (ws_ yX2_isSet cX2_isSet 1 (some .boolean)) rmX2_isSet (sPc [.int x0]) (rQi r) 0 0 nof := en_S (by decide +kernel) rfl (Nat.le_of_ble_eq_true rfl) (fun p e s m below meth c ls C hl => bX2_isSet C x0 ls h hl)
set_option maxRecDepth 20000 in
abbrev rmX2_strike : Room := { frames := 2, cells := 0, slots := 0, locals := 44 }
theorem hdX2_strike : yX2_strike.cls = RX2 ∧ yX2_strike.cls ≠ "java/lang/invoke/MethodHandle" ∧ yX2_strike.cls ≠ "java/lang/invoke/VarHandle" ∧ (parseMethodDescriptor yX2_strike.desc).map (fun d => d.parameters.length) = some 1 := by decide +kernel
theorem bX2_strike {p : Program} {l : Launch} {e : Env} {s : State} {m : MethodId} {args : Array Value} {below : List Frame} {meth : Method} {c : Code} {D : va_G} {dA : Nat → ClassId} {b : Nat} {r : Int32} {t9 : TS} (C : cx p s m args meth c cX2_strike RX2 2 (some .int)) (hK : kk D dA s) : ∀ (t : TS) (x1 : Int32) (H : Heap) (locs : List Loc) (hT : wd D (tw dA b t) H) (hS : tS b s.heap H locs) (ls : Array Slot), T_strike t x1 = some (r, t9) → lv_has ls 2 [(0, .ref b), (1, .int x1)] → W p l e rmX2_strike s m args below meth c H locs 0 0 (MQ below (tQ D dA b t9 (some (.int r))) args s 0 0 (ta b)) (F0 m 0 ls []) := by
  obtain ⟨hx, hb, hr, hml, hown, hts, hlocks⟩ := id C
  intro t x1 H locs hT hS ls h hl
  unfold T_strike at h
  refine lv_iload_n hx hb dX2_strike_0 rfl (lv_at hl 1 rfl) ?_
  obtain ⟨v1, hv1, h⟩ := bd1_some h
  refine r_int (run_s (As := [.int x1]) (rest := []) C (mX2_isSet hv1) q1935 q1936 q162 q1937 ⟨rfl, rfl⟩ hdX2_isSet ⟨Nat.le_of_ble_eq_true rfl, Nat.le_of_ble_eq_true rfl⟩ ⟨Nat.zero_le _, Nat.zero_le _⟩ rfl hl.1 rfl (Nat.le_of_ble_eq_true rfl) dX2_strike_1) ?_
  refine lv_if_eq (tgt := 25) hx hb dX2_strike_4 (by decide) (fun c => ?_) (fun c => ?_)
  · replace h := if_t c h
    refine lv_iconst (v := -1) hx hb dX2_strike_25 (by decide) ?_
    exact e_wi C hT hS h dX2_strike_26
  · replace h := if_f c h
    refine lv_aload_n hx hb dX2_strike_7 rfl (lv_at hl 0 rfl) ?_
    refine lv_iload_n hx hb dX2_strike_8 rfl (lv_at hl 1 rfl) ?_
    refine lv_aload_n hx hb dX2_strike_9 rfl (lv_at hl 0 rfl) ?_
    refine tg0 C hK hT dX2_strike_10 ?_
    refine lv_bipush (v := 7) hx hb dX2_strike_13 (by decide) ?_
    obtain ⟨hi, h⟩ := ck_some h
    refine tl0 C hK hT hi dX2_strike_15 ?_
    refine lv_iconst (v := -1) hx hb dX2_strike_16 (by decide) ?_
    refine lv_ixor hx hb dX2_strike_17 ?_
    refine lv_iand hx hb dX2_strike_18 ?_
    obtain ⟨v2, t3, ht3, h⟩ := bd2_some h
    refine w_int hS (run_t (As := [.int (x1 &&& ((t.1 0 (7 : Int32).toNatClampNeg) ^^^ (-1 : Int32)))]) (rest := []) C hK hT (mX2_call ht3) q1939 q1941 qs116 q162 q1942 ⟨rfl, rfl⟩ hdX2_call ⟨Nat.le_of_ble_eq_true rfl, Nat.le_of_ble_eq_true rfl⟩ ⟨Nat.zero_le _, Nat.zero_le _⟩ rfl hl.1 rfl (Nat.le_of_ble_eq_true rfl) dX2_strike_19) (fun H locs hT hS => ?_)
    refine lv_goto (tgt := 26) hx hb dX2_strike_22 (by decide) ?_
    exact e_wi C hT hS h dX2_strike_26
theorem mX2_strike {l : Launch} {D : va_G} {dA : Nat → ClassId} {b : Nat} {t : TS} {x1 : Int32} {r : Int32} {t9 : TS} (h : T_strike t x1 = some (r, t9)) : Met l yX2_strike (ws_ yX2_strike cX2_strike 2 (some .int)) rmX2_strike (tPc D dA b t [.ref b, .int x1]) (tQ D dA b t9 (some (.int r))) 0 0 (ta b) := en_R (by decide +kernel) rfl (Nat.le_of_ble_eq_true rfl) (fun p e s m below meth c ls C hK hT hl => bX2_strike C hK t x1 _ [] hT tS.rf ls h hl)
set_option maxRecDepth 20000 in
abbrev rmX2_comeBack : Room := { frames := 2, cells := 0, slots := 0, locals := 44 }
theorem hdX2_comeBack : yX2_comeBack.cls = RX2 ∧ yX2_comeBack.cls ≠ "java/lang/invoke/MethodHandle" ∧ yX2_comeBack.cls ≠ "java/lang/invoke/VarHandle" ∧ (parseMethodDescriptor yX2_comeBack.desc).map (fun d => d.parameters.length) = some 1 := by decide +kernel
theorem bX2_comeBack {p : Program} {l : Launch} {e : Env} {s : State} {m : MethodId} {args : Array Value} {below : List Frame} {meth : Method} {c : Code} {D : va_G} {dA : Nat → ClassId} {b : Nat} {r : Int32} {t9 : TS} (C : cx p s m args meth c cX2_comeBack RX2 2 (some .int)) (hK : kk D dA s) : ∀ (t : TS) (x1 : Int32) (H : Heap) (locs : List Loc) (hT : wd D (tw dA b t) H) (hS : tS b s.heap H locs) (ls : Array Slot), T_comeBack t x1 = some (r, t9) → lv_has ls 2 [(0, .ref b), (1, .int x1)] → W p l e rmX2_comeBack s m args below meth c H locs 0 0 (MQ below (tQ D dA b t9 (some (.int r))) args s 0 0 (ta b)) (F0 m 0 ls []) := by
  obtain ⟨hx, hb, hr, hml, hown, hts, hlocks⟩ := id C
  intro t x1 H locs hT hS ls h hl
  unfold T_comeBack at h
  refine lv_iload_n hx hb dX2_comeBack_0 rfl (lv_at hl 1 rfl) ?_
  obtain ⟨v1, hv1, h⟩ := bd1_some h
  refine r_int (run_s (As := [.int x1]) (rest := []) C (mX2_isSet hv1) q1935 q1936 q162 q1937 ⟨rfl, rfl⟩ hdX2_isSet ⟨Nat.le_of_ble_eq_true rfl, Nat.le_of_ble_eq_true rfl⟩ ⟨Nat.zero_le _, Nat.zero_le _⟩ rfl hl.1 rfl (Nat.le_of_ble_eq_true rfl) dX2_comeBack_1) ?_
  refine lv_if_eq (tgt := 23) hx hb dX2_comeBack_4 (by decide) (fun c => ?_) (fun c => ?_)
  · replace h := if_t c h
    refine lv_iconst (v := -1) hx hb dX2_comeBack_23 (by decide) ?_
    exact e_wi C hT hS h dX2_comeBack_24
  · replace h := if_f c h
    refine lv_aload_n hx hb dX2_comeBack_7 rfl (lv_at hl 0 rfl) ?_
    refine lv_iload_n hx hb dX2_comeBack_8 rfl (lv_at hl 1 rfl) ?_
    refine lv_aload_n hx hb dX2_comeBack_9 rfl (lv_at hl 0 rfl) ?_
    refine tg0 C hK hT dX2_comeBack_10 ?_
    refine lv_bipush (v := 7) hx hb dX2_comeBack_13 (by decide) ?_
    obtain ⟨hi, h⟩ := ck_some h
    refine tl0 C hK hT hi dX2_comeBack_15 ?_
    refine lv_iand hx hb dX2_comeBack_16 ?_
    obtain ⟨v2, t3, ht3, h⟩ := bd2_some h
    refine w_int hS (run_t (As := [.int (x1 &&& (t.1 0 (7 : Int32).toNatClampNeg))]) (rest := []) C hK hT (mX2_call ht3) q1939 q1941 qs116 q162 q1942 ⟨rfl, rfl⟩ hdX2_call ⟨Nat.le_of_ble_eq_true rfl, Nat.le_of_ble_eq_true rfl⟩ ⟨Nat.zero_le _, Nat.zero_le _⟩ rfl hl.1 rfl (Nat.le_of_ble_eq_true rfl) dX2_comeBack_17) (fun H locs hT hS => ?_)
    refine lv_goto (tgt := 24) hx hb dX2_comeBack_20 (by decide) ?_
    exact e_wi C hT hS h dX2_comeBack_24
theorem mX2_comeBack {l : Launch} {D : va_G} {dA : Nat → ClassId} {b : Nat} {t : TS} {x1 : Int32} {r : Int32} {t9 : TS} (h : T_comeBack t x1 = some (r, t9)) : Met l yX2_comeBack (ws_ yX2_comeBack cX2_comeBack 2 (some .int)) rmX2_comeBack (tPc D dA b t [.ref b, .int x1]) (tQ D dA b t9 (some (.int r))) 0 0 (ta b) := en_R (by decide +kernel) rfl (Nat.le_of_ble_eq_true rfl) (fun p e s m below meth c ls C hK hT hl => bX2_comeBack C hK t x1 _ [] hT tS.rf ls h hl)
set_option maxRecDepth 20000 in
abbrev rmX2_raise : Room := { frames := 2, cells := 0, slots := 0, locals := 42 }
theorem hdX2_raise : yX2_raise.cls = RX2 ∧ yX2_raise.cls ≠ "java/lang/invoke/MethodHandle" ∧ yX2_raise.cls ≠ "java/lang/invoke/VarHandle" ∧ (parseMethodDescriptor yX2_raise.desc).map (fun d => d.parameters.length) = some 2 := by decide +kernel
theorem bX2_raise {p : Program} {l : Launch} {e : Env} {s : State} {m : MethodId} {args : Array Value} {below : List Frame} {meth : Method} {c : Code} {D : va_G} {dA : Nat → ClassId} {b : Nat} {r : Int32} {t9 : TS} (C : cx p s m args meth c cX2_raise RX2 3 (some .boolean)) (hK : kk D dA s) : ∀ (t : TS) (x1 : Int32) (x2 : Int32) (H : Heap) (locs : List Loc) (hT : wd D (tw dA b t) H) (hS : tS b s.heap H locs) (ls : Array Slot), T_raise t x1 x2 = some (r, t9) → lv_has ls 3 [(0, .ref b), (1, .int x1), (2, .int x2)] → W p l e rmX2_raise s m args below meth c H locs 0 0 (MQ below (tQ D dA b t9 (some (.int r))) args s 0 0 (ta b)) (F0 m 0 ls []) := by
  obtain ⟨hx, hb, hr, hml, hown, hts, hlocks⟩ := id C
  intro t x1 x2 H locs hT hS ls h hl
  unfold T_raise at h
  refine lv_iload_n hx hb dX2_raise_0 rfl (lv_at hl 1 rfl) ?_
  obtain ⟨v1, hv1, h⟩ := bd1_some h
  refine r_int (run_s (As := [.int x1]) (rest := []) C (mX2_isLetter0 hv1) q1653 q1654 q162 q1655 ⟨rfl, rfl⟩ hdX2_isLetter0 ⟨Nat.le_of_ble_eq_true rfl, Nat.le_of_ble_eq_true rfl⟩ ⟨Nat.zero_le _, Nat.zero_le _⟩ rfl hl.1 rfl (Nat.le_of_ble_eq_true rfl) dX2_raise_1) ?_
  refine lv_if_eq (tgt := 30) hx hb dX2_raise_4 (by decide) (fun c => ?_) (fun c => ?_)
  · replace h := if_t c h
    refine lv_iconst (v := 0) hx hb dX2_raise_30 (by decide) ?_
    exact e_wz C hT hS (Or.inl rfl) h dX2_raise_31
  · replace h := if_f c h
    refine lv_iload_n hx hb dX2_raise_7 rfl (lv_at hl 2 rfl) ?_
    refine lv_iconst (v := 0) hx hb dX2_raise_8 (by decide) ?_
    refine lv_bipush (v := 99) hx hb dX2_raise_9 (by decide) ?_
    obtain ⟨v2, hv2, h⟩ := bd1_some h
    refine r_int (run_s (As := [.int x2, .int (0 : Int32), .int (99 : Int32)]) (rest := []) C (mX2_isIn hv2) q1656 q1657 q162 q1658 ⟨rfl, rfl⟩ hdX2_isIn ⟨Nat.le_of_ble_eq_true rfl, Nat.le_of_ble_eq_true rfl⟩ ⟨Nat.zero_le _, Nat.zero_le _⟩ rfl hl.1 rfl (Nat.le_of_ble_eq_true rfl) dX2_raise_11) ?_
    refine lv_if_eq (tgt := 30) hx hb dX2_raise_14 (by decide) (fun c => ?_) (fun c => ?_)
    · replace h := if_t c h
      refine lv_iconst (v := 0) hx hb dX2_raise_30 (by decide) ?_
      exact e_wz C hT hS (Or.inl rfl) h dX2_raise_31
    · replace h := if_f c h
      refine lv_aload_n hx hb dX2_raise_17 rfl (lv_at hl 0 rfl) ?_
      refine tg0 C hK hT dX2_raise_18 ?_
      refine lv_bipush (v := 12) hx hb dX2_raise_21 (by decide) ?_
      refine lv_iload_n hx hb dX2_raise_23 rfl (lv_at hl 1 rfl) ?_
      refine lv_iadd hx hb dX2_raise_24 ?_
      obtain ⟨hi, h⟩ := ck_some h
      refine tl0 C hK hT hi dX2_raise_25 ?_
      refine lv_iload_n hx hb dX2_raise_26 rfl (lv_at hl 2 rfl) ?_
      refine lv_icmp_ne (tgt := 32) hx hb dX2_raise_27 (by decide) (fun c => ?_) (fun c => ?_)
      · replace h := if_f c h
        refine lv_aload_n hx hb dX2_raise_32 rfl (lv_at hl 0 rfl) ?_
        obtain ⟨t3, ht3, h⟩ := bd1_some h
        refine w_void hS (run_t (As := []) (rest := []) C hK hT (mX2_keep ht3) q1882 q1884 qs108 q162 q1885 ⟨rfl, rfl⟩ hdX2_keep ⟨Nat.le_of_ble_eq_true rfl, Nat.le_of_ble_eq_true rfl⟩ ⟨Nat.zero_le _, Nat.zero_le _⟩ rfl hl.1 rfl (Nat.le_of_ble_eq_true rfl) dX2_raise_33) (fun H locs hT hS => ?_)
        refine lv_aload_n hx hb dX2_raise_36 rfl (lv_at hl 0 rfl) ?_
        refine tg0 C hK hT dX2_raise_37 ?_
        refine lv_bipush (v := 12) hx hb dX2_raise_40 (by decide) ?_
        refine lv_iload_n hx hb dX2_raise_42 rfl (lv_at hl 1 rfl) ?_
        refine lv_iadd hx hb dX2_raise_43 ?_
        refine lv_iload_n hx hb dX2_raise_44 rfl (lv_at hl 2 rfl) ?_
        obtain ⟨hi, h⟩ := ck_some h
        refine ts0 C hK hT hS hi dX2_raise_45 (fun t4 H locs et4 hT hS => ?_)
        replace h := lt1_sub et4 h
        refine lv_iconst (v := 1) hx hb dX2_raise_46 (by decide) ?_
        exact e_wz C hT hS (Or.inr rfl) h dX2_raise_47
      · replace h := if_t c h
        refine lv_iconst (v := 0) hx hb dX2_raise_30 (by decide) ?_
        exact e_wz C hT hS (Or.inl rfl) h dX2_raise_31
theorem mX2_raise {l : Launch} {D : va_G} {dA : Nat → ClassId} {b : Nat} {t : TS} {x1 : Int32} {x2 : Int32} {r : Int32} {t9 : TS} (h : T_raise t x1 x2 = some (r, t9)) : Met l yX2_raise (ws_ yX2_raise cX2_raise 3 (some .boolean)) rmX2_raise (tPc D dA b t [.ref b, .int x1, .int x2]) (tQ D dA b t9 (some (.int r))) 0 0 (ta b) := en_R (by decide +kernel) rfl (Nat.le_of_ble_eq_true rfl) (fun p e s m below meth c ls C hK hT hl => bX2_raise C hK t x1 x2 _ [] hT tS.rf ls h hl)
set_option maxRecDepth 20000 in
abbrev rmX2_sign : Room := { frames := 2, cells := 0, slots := 0, locals := 42 }
theorem hdX2_sign : yX2_sign.cls = RX2 ∧ yX2_sign.cls ≠ "java/lang/invoke/MethodHandle" ∧ yX2_sign.cls ≠ "java/lang/invoke/VarHandle" ∧ (parseMethodDescriptor yX2_sign.desc).map (fun d => d.parameters.length) = some 2 := by decide +kernel
theorem bX2_sign {p : Program} {l : Launch} {e : Env} {s : State} {m : MethodId} {args : Array Value} {below : List Frame} {meth : Method} {c : Code} {D : va_G} {dA : Nat → ClassId} {b : Nat} {r : Int32} {t9 : TS} (C : cx p s m args meth c cX2_sign RX2 3 (some .boolean)) (hK : kk D dA s) : ∀ (t : TS) (x1 : Int32) (x2 : Int32) (H : Heap) (locs : List Loc) (hT : wd D (tw dA b t) H) (hS : tS b s.heap H locs) (ls : Array Slot), T_sign t x1 x2 = some (r, t9) → lv_has ls 3 [(0, .ref b), (1, .int x1), (2, .int x2)] → W p l e rmX2_sign s m args below meth c H locs 0 0 (MQ below (tQ D dA b t9 (some (.int r))) args s 0 0 (ta b)) (F0 m 0 ls []) := by
  obtain ⟨hx, hb, hr, hml, hown, hts, hlocks⟩ := id C
  intro t x1 x2 H locs hT hS ls h hl
  unfold T_sign at h
  refine lv_iload_n hx hb dX2_sign_0 rfl (lv_at hl 1 rfl) ?_
  obtain ⟨v1, hv1, h⟩ := bd1_some h
  refine r_int (run_s (As := [.int x1]) (rest := []) C (mX2_isLetter0 hv1) q1653 q1654 q162 q1655 ⟨rfl, rfl⟩ hdX2_isLetter0 ⟨Nat.le_of_ble_eq_true rfl, Nat.le_of_ble_eq_true rfl⟩ ⟨Nat.zero_le _, Nat.zero_le _⟩ rfl hl.1 rfl (Nat.le_of_ble_eq_true rfl) dX2_sign_1) ?_
  refine lv_if_eq (tgt := 30) hx hb dX2_sign_4 (by decide) (fun c => ?_) (fun c => ?_)
  · replace h := if_t c h
    refine lv_iconst (v := 0) hx hb dX2_sign_30 (by decide) ?_
    exact e_wz C hT hS (Or.inl rfl) h dX2_sign_31
  · replace h := if_f c h
    refine lv_iload_n hx hb dX2_sign_7 rfl (lv_at hl 2 rfl) ?_
    refine lv_iconst (v := -1) hx hb dX2_sign_8 (by decide) ?_
    refine lv_bipush (v := 9) hx hb dX2_sign_9 (by decide) ?_
    obtain ⟨v2, hv2, h⟩ := bd1_some h
    refine r_int (run_s (As := [.int x2, .int (-1 : Int32), .int (9 : Int32)]) (rest := []) C (mX2_isIn hv2) q1656 q1657 q162 q1658 ⟨rfl, rfl⟩ hdX2_isIn ⟨Nat.le_of_ble_eq_true rfl, Nat.le_of_ble_eq_true rfl⟩ ⟨Nat.zero_le _, Nat.zero_le _⟩ rfl hl.1 rfl (Nat.le_of_ble_eq_true rfl) dX2_sign_11) ?_
    refine lv_if_eq (tgt := 30) hx hb dX2_sign_14 (by decide) (fun c => ?_) (fun c => ?_)
    · replace h := if_t c h
      refine lv_iconst (v := 0) hx hb dX2_sign_30 (by decide) ?_
      exact e_wz C hT hS (Or.inl rfl) h dX2_sign_31
    · replace h := if_f c h
      refine lv_aload_n hx hb dX2_sign_17 rfl (lv_at hl 0 rfl) ?_
      refine tg0 C hK hT dX2_sign_18 ?_
      refine lv_bipush (v := 64) hx hb dX2_sign_21 (by decide) ?_
      refine lv_iload_n hx hb dX2_sign_23 rfl (lv_at hl 1 rfl) ?_
      refine lv_iadd hx hb dX2_sign_24 ?_
      obtain ⟨hi, h⟩ := ck_some h
      refine tl0 C hK hT hi dX2_sign_25 ?_
      refine lv_iload_n hx hb dX2_sign_26 rfl (lv_at hl 2 rfl) ?_
      refine lv_icmp_ne (tgt := 32) hx hb dX2_sign_27 (by decide) (fun c => ?_) (fun c => ?_)
      · replace h := if_f c h
        refine lv_aload_n hx hb dX2_sign_32 rfl (lv_at hl 0 rfl) ?_
        obtain ⟨t3, ht3, h⟩ := bd1_some h
        refine w_void hS (run_t (As := []) (rest := []) C hK hT (mX2_keep ht3) q1882 q1884 qs108 q162 q1885 ⟨rfl, rfl⟩ hdX2_keep ⟨Nat.le_of_ble_eq_true rfl, Nat.le_of_ble_eq_true rfl⟩ ⟨Nat.zero_le _, Nat.zero_le _⟩ rfl hl.1 rfl (Nat.le_of_ble_eq_true rfl) dX2_sign_33) (fun H locs hT hS => ?_)
        refine lv_aload_n hx hb dX2_sign_36 rfl (lv_at hl 0 rfl) ?_
        refine tg0 C hK hT dX2_sign_37 ?_
        refine lv_bipush (v := 64) hx hb dX2_sign_40 (by decide) ?_
        refine lv_iload_n hx hb dX2_sign_42 rfl (lv_at hl 1 rfl) ?_
        refine lv_iadd hx hb dX2_sign_43 ?_
        refine lv_iload_n hx hb dX2_sign_44 rfl (lv_at hl 2 rfl) ?_
        obtain ⟨hi, h⟩ := ck_some h
        refine ts0 C hK hT hS hi dX2_sign_45 (fun t4 H locs et4 hT hS => ?_)
        replace h := lt1_sub et4 h
        refine lv_iconst (v := 1) hx hb dX2_sign_46 (by decide) ?_
        exact e_wz C hT hS (Or.inr rfl) h dX2_sign_47
      · replace h := if_t c h
        refine lv_iconst (v := 0) hx hb dX2_sign_30 (by decide) ?_
        exact e_wz C hT hS (Or.inl rfl) h dX2_sign_31
theorem mX2_sign {l : Launch} {D : va_G} {dA : Nat → ClassId} {b : Nat} {t : TS} {x1 : Int32} {x2 : Int32} {r : Int32} {t9 : TS} (h : T_sign t x1 x2 = some (r, t9)) : Met l yX2_sign (ws_ yX2_sign cX2_sign 3 (some .boolean)) rmX2_sign (tPc D dA b t [.ref b, .int x1, .int x2]) (tQ D dA b t9 (some (.int r))) 0 0 (ta b) := en_R (by decide +kernel) rfl (Nat.le_of_ble_eq_true rfl) (fun p e s m below meth c ls C hK hT hl => bX2_sign C hK t x1 x2 _ [] hT tS.rf ls h hl)
set_option maxRecDepth 20000 in
abbrev rmX2_senseAt : Room := { frames := 0, cells := 0, slots := 0, locals := 0 }
theorem hdX2_senseAt : yX2_senseAt.cls = RX2 ∧ yX2_senseAt.cls ≠ "java/lang/invoke/MethodHandle" ∧ yX2_senseAt.cls ≠ "java/lang/invoke/VarHandle" ∧ (parseMethodDescriptor yX2_senseAt.desc).map (fun d => d.parameters.length) = some 2 := by decide +kernel
theorem bX2_senseAt {p : Program} {l : Launch} {e : Env} {s : State} {m : MethodId} {args : Array Value} {below : List Frame} {meth : Method} {c : Code} {D : va_G} {dA : Nat → ClassId} {b : Nat} {t : TS} {r : Int32} (C : cx p s m args meth c cX2_senseAt RX2 3 (some .int)) (hK : kk D dA s) (hT : wd D (tw dA b t) s.heap) : ∀ (x1 : Int32) (x2 : Int32) (ls : Array Slot), T_senseAt t x1 x2 = some r → lv_has ls 3 [(0, .ref b), (1, .int x1), (2, .int x2)] → W p l e rmX2_senseAt s m args below meth c s.heap [] 0 0 (MQ below (rQi r) args s 0 0 nof) (F0 m 0 ls []) := by
  obtain ⟨hx, hb, hr, hml, hown, hts, hlocks⟩ := id C
  intro x1 x2 ls h hl
  unfold T_senseAt at h
  refine lv_aload_n hx hb dX2_senseAt_0 rfl (lv_at hl 0 rfl) ?_
  refine tg0 C hK hT dX2_senseAt_1 ?_
  refine lv_sipush (v := 356) hx hb dX2_senseAt_4 (by decide) ?_
  refine lv_bipush (v := 9) hx hb dX2_senseAt_7 (by decide) ?_
  refine lv_iload_n hx hb dX2_senseAt_9 rfl (lv_at hl 1 rfl) ?_
  refine lv_imul hx hb dX2_senseAt_10 ?_
  refine lv_iadd hx hb dX2_senseAt_11 ?_
  refine lv_iconst (v := 1) hx hb dX2_senseAt_12 (by decide) ?_
  refine lv_iadd hx hb dX2_senseAt_13 ?_
  refine lv_iload_n hx hb dX2_senseAt_14 rfl (lv_at hl 2 rfl) ?_
  refine lv_iadd hx hb dX2_senseAt_15 ?_
  obtain ⟨hi, h⟩ := ck_some h
  refine tl0 C hK hT hi dX2_senseAt_16 ?_
  exact e_ri C h dX2_senseAt_17
theorem mX2_senseAt {l : Launch} {D : va_G} {dA : Nat → ClassId} {b : Nat} {t : TS} {x1 : Int32} {x2 : Int32} {r : Int32} (h : T_senseAt t x1 x2 = some r) : Met l yX2_senseAt (ws_ yX2_senseAt cX2_senseAt 3 (some .int)) rmX2_senseAt (tPc D dA b t [.ref b, .int x1, .int x2]) (rQi r) 0 0 nof := en_R (by decide +kernel) rfl (Nat.le_of_ble_eq_true rfl) (fun p e s m below meth c ls C hK hT hl => bX2_senseAt C hK hT x1 x2 ls h hl)
