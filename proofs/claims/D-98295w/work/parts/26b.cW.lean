/-! the component's walks (texts), 1 (written by gen/gen_comp.py) -/
set_option maxRecDepth 20000
set_option maxRecDepth 20000 in
theorem bX4_sum_p48 {p : Program} {l : Launch} {e : Env} {s : State} {m : MethodId} {args : Array Value} {below : List Frame} {meth : Method} {c : Code} {D : va_G} {dA : Nat → ClassId} {a : Nat} {k : KP a} {t0 : CS} {r : Except Nat Nat} {t9 : CS} (C : cx p s m args meth c cX4_sum RX4 3 (some (.object "LettersOnStrike$Sum"))) (hxt : ∀ x ∈ c.exceptionTable.toList, False) (hkl : k.1 ≠ a ∧ l.stackTraces = false) {N : Nat} {rec : CS → Option (Except Nat Nat × CS)} (hrec : ∀ (t : CS) (r : Except Nat Nat) (t9 : CS), rec t = some (r, t9) → vx_Met l yX4_one (ws_ yX4_one cX4_one 2 (some (.object "LettersOnStrike$Sum"))) (rmX4_one N t t9) (cPc D dA a k t [.ref k.1]) (xQ D dA a k t t9 fR r) (xX D dA a k t t9 r) (t9.2.2.2 0 - t.2.2.2 0) (t9.2.2.2 1 - t.2.2.2 1) (ca a)) (mrec : ∀ (t : CS)  (r : Except Nat Nat) (t9 : CS), rec t  = some (r, t9) → mo t t9) {k12 : CS → Nat → Option (Except Nat Nat × CS)} (hk12 : ∀ (t : CS) (x1 : Nat) (H : Heap) (locs : List Loc) (hT : cW D dA a k t H) (hS : cS a s.heap H locs t0.2.2.2 2 t) (hK : kC D dA a k t.2.2.2 s) (hm : mo t0 t) (ls : Array Slot), k12 t x1 = some (r, t9) → lv_has ls 3 [(0, .ref k.1), (1, .ref x1)] → W p l e (rmX4_sum N t0 t9) s m args below meth c H locs (t.2.2.2 0 - t0.2.2.2 0) (t.2.2.2 1 - t0.2.2.2 1) (vx_MQ below (xQ D dA a k t0 t9 fR r) (xX D dA a k t0 t9 r) args s (t9.2.2.2 0 - t0.2.2.2 0) (t9.2.2.2 1 - t0.2.2.2 1) (ca a)) (F0 m 12 ls [])) (mk12 : ∀ (t : CS) (x1 : Nat) (r : Except Nat Nat) (t9 : CS), k12 t x1 = some (r, t9) → mo t t9) : ∀ (t : CS) (x1 : Nat) (H : Heap) (locs : List Loc) (hT : cW D dA a k t H) (hS : cS a s.heap H locs t0.2.2.2 2 t) (hK : kC D dA a k t.2.2.2 s) (hm : mo t0 t) (ls : Array Slot), C_X4_sum_p48 rec k12 t x1 = some (r, t9) → lv_has ls 3 [(0, .ref k.1), (1, .ref x1)] → W p l e (rmX4_sum N t0 t9) s m args below meth c H locs (t.2.2.2 0 - t0.2.2.2 0) (t.2.2.2 1 - t0.2.2.2 1) (vx_MQ below (xQ D dA a k t0 t9 fR r) (xX D dA a k t0 t9 r) args s (t9.2.2.2 0 - t0.2.2.2 0) (t9.2.2.2 1 - t0.2.2.2 1) (ca a)) (F0 m 48 ls []) := by
  obtain ⟨hx, hb, hr, hml, hown, hts, hlocks⟩ := id C
  intro t x1 H locs hT hS hK hm ls h hl
  have m9 : mo t t9 := mo_C_X4_sum_p48 mrec mk12 h
  unfold C_X4_sum_p48 at h
  refine lv_goto (tgt := 12) hx hb dX4_sum_48 (by decide) ?_
  exact hk12 t x1 H locs hT hS hK hm ls h (lv_sub hl [0, 1] rfl)
theorem bX4_sum_p45 {p : Program} {l : Launch} {e : Env} {s : State} {m : MethodId} {args : Array Value} {below : List Frame} {meth : Method} {c : Code} {D : va_G} {dA : Nat → ClassId} {a : Nat} {k : KP a} {t0 : CS} {r : Except Nat Nat} {t9 : CS} (C : cx p s m args meth c cX4_sum RX4 3 (some (.object "LettersOnStrike$Sum"))) (hxt : ∀ x ∈ c.exceptionTable.toList, False) (hkl : k.1 ≠ a ∧ l.stackTraces = false) {N : Nat} {rec : CS → Option (Except Nat Nat × CS)} (hrec : ∀ (t : CS) (r : Except Nat Nat) (t9 : CS), rec t = some (r, t9) → vx_Met l yX4_one (ws_ yX4_one cX4_one 2 (some (.object "LettersOnStrike$Sum"))) (rmX4_one N t t9) (cPc D dA a k t [.ref k.1]) (xQ D dA a k t t9 fR r) (xX D dA a k t t9 r) (t9.2.2.2 0 - t.2.2.2 0) (t9.2.2.2 1 - t.2.2.2 1) (ca a)) (mrec : ∀ (t : CS)  (r : Except Nat Nat) (t9 : CS), rec t  = some (r, t9) → mo t t9) {k12 : CS → Nat → Option (Except Nat Nat × CS)} (hk12 : ∀ (t : CS) (x1 : Nat) (H : Heap) (locs : List Loc) (hT : cW D dA a k t H) (hS : cS a s.heap H locs t0.2.2.2 2 t) (hK : kC D dA a k t.2.2.2 s) (hm : mo t0 t) (ls : Array Slot), k12 t x1 = some (r, t9) → lv_has ls 3 [(0, .ref k.1), (1, .ref x1)] → W p l e (rmX4_sum N t0 t9) s m args below meth c H locs (t.2.2.2 0 - t0.2.2.2 0) (t.2.2.2 1 - t0.2.2.2 1) (vx_MQ below (xQ D dA a k t0 t9 fR r) (xX D dA a k t0 t9 r) args s (t9.2.2.2 0 - t0.2.2.2 0) (t9.2.2.2 1 - t0.2.2.2 1) (ca a)) (F0 m 12 ls [])) (mk12 : ∀ (t : CS) (x1 : Nat) (r : Except Nat Nat) (t9 : CS), k12 t x1 = some (r, t9) → mo t t9) : ∀ (t : CS) (x1 : Nat) (y0 : Nat) (y1 : Int32) (y2 : Nat) (H : Heap) (locs : List Loc) (hT : cW D dA a k t H) (hS : cS a s.heap H locs t0.2.2.2 2 t) (hK : kC D dA a k t.2.2.2 s) (hm : mo t0 t) (ls : Array Slot), C_X4_sum_p45 rec k12 t x1 y0 y1 y2 = some (r, t9) → lv_has ls 3 [(0, .ref k.1), (1, .ref x1)] → W p l e (rmX4_sum N t0 t9) s m args below meth c H locs (t.2.2.2 0 - t0.2.2.2 0) (t.2.2.2 1 - t0.2.2.2 1) (vx_MQ below (xQ D dA a k t0 t9 fR r) (xX D dA a k t0 t9 r) args s (t9.2.2.2 0 - t0.2.2.2 0) (t9.2.2.2 1 - t0.2.2.2 1) (ca a)) (F0 m 45 ls [.ref y2, .int y1, .ref y0]) := by
  obtain ⟨hx, hb, hr, hml, hown, hts, hlocks⟩ := id C
  intro t x1 y0 y1 y2 H locs hT hS hK hm ls h hl
  have m9 : mo t t9 := mo_C_X4_sum_p45 mrec mk12 h
  unfold C_X4_sum_p45 at h
  obtain ⟨hc1, h⟩ := ckC_some h
  obtain ⟨t2, ht2, h⟩ := bd1_some h
  have mm : mo t t2 := mo_C_X8_add ht2
  have m9 : mo t2 t9 := mo_C_X4_sum_p48 mrec mk12 h
  refine wa_void hS hK (run_c (As := [.int y1, .ref y2]) (rest := []) C hK hT hS.2.1 (rv_D (ci := 8) rfl hK hT hc1) (mX8_add ht2) q844 q845 q846 q185 q847 ⟨rfl, rfl⟩ hdX8_add ⟨show 7 + 1 ≤ 24 + 3 * N from by omega, show 8 + (3 + 11) + (171) ≤ 288 + 66 * N from by omega⟩ (mo_c hm mm m9) rfl hl.1 rfl (Nat.le_of_ble_eq_true rfl) dX4_sum_45) (fun H locs hT hS hK => ?_)
  refine W.widen (mo_c hm mm mo.rf).1 (mo_c hm mm mo.rf).2 ?_
  replace hm := hm.tr mm
  exact bX4_sum_p48 C hxt hkl hrec mrec hk12 mk12 t2 x1 H locs hT hS hK hm ls h (lv_sub hl [0, 1] rfl)
theorem bX4_sum_p30 {p : Program} {l : Launch} {e : Env} {s : State} {m : MethodId} {args : Array Value} {below : List Frame} {meth : Method} {c : Code} {D : va_G} {dA : Nat → ClassId} {a : Nat} {k : KP a} {t0 : CS} {r : Except Nat Nat} {t9 : CS} (C : cx p s m args meth c cX4_sum RX4 3 (some (.object "LettersOnStrike$Sum"))) (hxt : ∀ x ∈ c.exceptionTable.toList, False) (hkl : k.1 ≠ a ∧ l.stackTraces = false) {N : Nat} {rec : CS → Option (Except Nat Nat × CS)} (hrec : ∀ (t : CS) (r : Except Nat Nat) (t9 : CS), rec t = some (r, t9) → vx_Met l yX4_one (ws_ yX4_one cX4_one 2 (some (.object "LettersOnStrike$Sum"))) (rmX4_one N t t9) (cPc D dA a k t [.ref k.1]) (xQ D dA a k t t9 fR r) (xX D dA a k t t9 r) (t9.2.2.2 0 - t.2.2.2 0) (t9.2.2.2 1 - t.2.2.2 1) (ca a)) (mrec : ∀ (t : CS)  (r : Except Nat Nat) (t9 : CS), rec t  = some (r, t9) → mo t t9) {k12 : CS → Nat → Option (Except Nat Nat × CS)} (hk12 : ∀ (t : CS) (x1 : Nat) (H : Heap) (locs : List Loc) (hT : cW D dA a k t H) (hS : cS a s.heap H locs t0.2.2.2 2 t) (hK : kC D dA a k t.2.2.2 s) (hm : mo t0 t) (ls : Array Slot), k12 t x1 = some (r, t9) → lv_has ls 3 [(0, .ref k.1), (1, .ref x1)] → W p l e (rmX4_sum N t0 t9) s m args below meth c H locs (t.2.2.2 0 - t0.2.2.2 0) (t.2.2.2 1 - t0.2.2.2 1) (vx_MQ below (xQ D dA a k t0 t9 fR r) (xX D dA a k t0 t9 r) args s (t9.2.2.2 0 - t0.2.2.2 0) (t9.2.2.2 1 - t0.2.2.2 1) (ca a)) (F0 m 12 ls [])) (mk12 : ∀ (t : CS) (x1 : Nat) (r : Except Nat Nat) (t9 : CS), k12 t x1 = some (r, t9) → mo t t9) : ∀ (t : CS) (x1 : Nat) (H : Heap) (locs : List Loc) (hT : cW D dA a k t H) (hS : cS a s.heap H locs t0.2.2.2 2 t) (hK : kC D dA a k t.2.2.2 s) (hm : mo t0 t) (ls : Array Slot), C_X4_sum_p30 rec k12 t x1 = some (r, t9) → lv_has ls 3 [(0, .ref k.1), (1, .ref x1)] → W p l e (rmX4_sum N t0 t9) s m args below meth c H locs (t.2.2.2 0 - t0.2.2.2 0) (t.2.2.2 1 - t0.2.2.2 1) (vx_MQ below (xQ D dA a k t0 t9 fR r) (xX D dA a k t0 t9 r) args s (t9.2.2.2 0 - t0.2.2.2 0) (t9.2.2.2 1 - t0.2.2.2 1) (ca a)) (F0 m 30 ls []) := by
  obtain ⟨hx, hb, hr, hml, hown, hts, hlocks⟩ := id C
  intro t x1 H locs hT hS hK hm ls h hl
  have m9 : mo t t9 := mo_C_X4_sum_p30 mrec mk12 h
  unfold C_X4_sum_p30 at h
  refine lv_aload_n hx hb dX4_sum_30 rfl (lv_at hl 0 rfl) ?_
  refine c_getT C hK hT hkl.1 4 (by decide) q521 rfl (v := .int (t.1 200 4)) rfl dX4_sum_31 ?_
  refine lv_topi (fun v1 ev1 => ?_)
  replace h := lt1_sub ev1 h
  refine lv_istore_n (lv' := [(2, .int v1), (0, .ref k.1), (1, .ref x1)]) hx hb dX4_sum_34 rfl hl (by decide) rfl (fun ls hl => ?_)
  refine lv_aload_n hx hb dX4_sum_35 rfl (lv_at hl 1 rfl) ?_
  obtain ⟨t2, ht2, h⟩ := bd1_some h
  refine wc_void hS hK (run_c (As := []) (rest := []) C hK hT hS.2.1 (rv_T hK hT hkl.1) (mX4_next hkl ht2) q603 q605 qs3 q171 q606 ⟨rfl, rfl⟩ hdX4_next ⟨show 5 + 1 ≤ 24 + 3 * N from by omega, show 8 + (3 + 11) + (107) ≤ 288 + 66 * N from by omega⟩ (mo_z m9) rfl hl.1 rfl (Nat.le_of_ble_eq_true rfl) dX4_sum_36) (fun H locs hT hS hK hNt2 => ?_)
  have mm : mo t t2 := mo.ni hNt2
  replace hm := hm.tr mm
  replace m9 : mo t2 t9 := mo.bk (funext fun i => hNt2 i (Nat.zero_le _)) m9
  refine W.widen (mo_s mm).1 (mo_s mm).2 ?_
  refine lv_aload_n hx hb dX4_sum_39 rfl (lv_at hl 2 rfl) ?_
  refine lv_iload_n hx hb dX4_sum_40 rfl (lv_at hl 0 rfl) ?_
  refine lv_aload_n hx hb dX4_sum_41 rfl (lv_at hl 1 rfl) ?_
  rcases bdx_some h with ⟨q5, ht3, hr_⟩ | ⟨v4, t3, ht3, h⟩
  · subst hr_
    have mm : mo t2 t9 := mo_C_X4_product mrec ht3
    exact ex_err C hxt hS (run_x (As := []) (rest := [.int v1, .ref x1]) C hK hT hS.2.1 (rv_T hK hT hkl.1) (mX4_product hrec mrec hkl ht3) q778 q780 qs13 q171 q781 ⟨rfl, rfl⟩ hdX4_product ⟨show 23 + 3 * N + 1 ≤ 24 + 3 * N from by omega, show 8 + (3 + 11) + (266 + 66 * N) ≤ 288 + 66 * N from by omega⟩ (mo_c hm mm mo.rf) rfl hl.1 rfl (Nat.le_of_ble_eq_true rfl) dX4_sum_42) (mo_c hm mm mo.rf)
  · have mm : mo t2 t3 := mo_C_X4_product mrec ht3
    have m9 : mo t3 t9 := mo_C_X4_sum_p45 mrec mk12 h
    refine ex_okR hS hK (run_x (As := []) (rest := [.int v1, .ref x1]) C hK hT hS.2.1 (rv_T hK hT hkl.1) (mX4_product hrec mrec hkl ht3) q778 q780 qs13 q171 q781 ⟨rfl, rfl⟩ hdX4_product ⟨show 23 + 3 * N + 1 ≤ 24 + 3 * N from by omega, show 8 + (3 + 11) + (266 + 66 * N) ≤ 288 + 66 * N from by omega⟩ (mo_c hm mm m9) rfl hl.1 rfl (Nat.le_of_ble_eq_true rfl) dX4_sum_42) (fun H locs hT hS hK => ?_)
    refine W.widen (mo_c hm mm mo.rf).1 (mo_c hm mm mo.rf).2 ?_
    replace hm := hm.tr mm
    exact bX4_sum_p45 C hxt hkl hrec mrec hk12 mk12 t3 x1 x1 v1 v4 H locs hT hS hK hm ls h (lv_sub hl [1, 2] rfl)
theorem bX4_sum_p12 {p : Program} {l : Launch} {e : Env} {s : State} {m : MethodId} {args : Array Value} {below : List Frame} {meth : Method} {c : Code} {D : va_G} {dA : Nat → ClassId} {a : Nat} {k : KP a} {t0 : CS} {r : Except Nat Nat} {t9 : CS} (C : cx p s m args meth c cX4_sum RX4 3 (some (.object "LettersOnStrike$Sum"))) (hxt : ∀ x ∈ c.exceptionTable.toList, False) (hkl : k.1 ≠ a ∧ l.stackTraces = false) {N : Nat} {rec : CS → Option (Except Nat Nat × CS)} (hrec : ∀ (t : CS) (r : Except Nat Nat) (t9 : CS), rec t = some (r, t9) → vx_Met l yX4_one (ws_ yX4_one cX4_one 2 (some (.object "LettersOnStrike$Sum"))) (rmX4_one N t t9) (cPc D dA a k t [.ref k.1]) (xQ D dA a k t t9 fR r) (xX D dA a k t t9 r) (t9.2.2.2 0 - t.2.2.2 0) (t9.2.2.2 1 - t.2.2.2 1) (ca a)) (mrec : ∀ (t : CS)  (r : Except Nat Nat) (t9 : CS), rec t  = some (r, t9) → mo t t9) : ∀ (n : Nat), ∀ (t : CS) (x1 : Nat) (H : Heap) (locs : List Loc) (hT : cW D dA a k t H) (hS : cS a s.heap H locs t0.2.2.2 2 t) (hK : kC D dA a k t.2.2.2 s) (hm : mo t0 t) (ls : Array Slot), C_X4_sum_p12 rec n t x1 = some (r, t9) → lv_has ls 3 [(0, .ref k.1), (1, .ref x1)] → W p l e (rmX4_sum N t0 t9) s m args below meth c H locs (t.2.2.2 0 - t0.2.2.2 0) (t.2.2.2 1 - t0.2.2.2 1) (vx_MQ below (xQ D dA a k t0 t9 fR r) (xX D dA a k t0 t9 r) args s (t9.2.2.2 0 - t0.2.2.2 0) (t9.2.2.2 1 - t0.2.2.2 1) (ca a)) (F0 m 12 ls []) := by
  obtain ⟨hx, hb, hr, hml, hown, hts, hlocks⟩ := id C
  intro n
  induction n with
  | zero =>
    intro t x1 H locs hT hS hK hm ls h hl
    have h : none = some _ := h
    cases h
  | succ n ih =>
    intro t x1 H locs hT hS hK hm ls h hl
    have m9 : mo t t9 := mo_C_X4_sum_p12 mrec (n + 1) _ _ _ _ h
    rw [C_X4_sum_p12] at h
    refine lv_aload_n hx hb dX4_sum_12 rfl (lv_at hl 0 rfl) ?_
    refine c_getT C hK hT hkl.1 4 (by decide) q521 rfl (v := .int (t.1 200 4)) rfl dX4_sum_13 ?_
    refine lv_bipush (v := 43) hx hb dX4_sum_16 (by decide) ?_
    refine lv_icmp_eq (tgt := 30) hx hb dX4_sum_18 (by decide) (fun c => ?_) (fun c => ?_)
    · replace h := if_t c h
      exact bX4_sum_p30 C hxt hkl hrec mrec ih (mo_C_X4_sum_p12 mrec n) t x1 H locs hT hS hK hm ls h (lv_sub hl [0, 1] rfl)
    · replace h := if_f c h
      refine lv_aload_n hx hb dX4_sum_21 rfl (lv_at hl 0 rfl) ?_
      refine c_getT C hK hT hkl.1 4 (by decide) q521 rfl (v := .int (t.1 200 4)) rfl dX4_sum_22 ?_
      refine lv_bipush (v := 45) hx hb dX4_sum_25 (by decide) ?_
      refine lv_icmp_ne (tgt := 51) hx hb dX4_sum_27 (by decide) (fun c => ?_) (fun c => ?_)
      · replace h := if_f c h
        refine lv_aload_n hx hb dX4_sum_51 rfl (lv_at hl 1 rfl) ?_
        obtain ⟨hc1, h⟩ := ckC_some h
        obtain ⟨v2, hv2, h⟩ := bd1_some h
        refine r_ref1 (run_c (As := []) (rest := []) C hK hT hS.2.1 (rv_D (ci := 8) rfl hK hT hc1) (mX8_itself hv2) q929 q930 q931 q185 q932 ⟨rfl, rfl⟩ hdX8_itself ⟨show 1 + 1 ≤ 24 + 3 * N from by omega, show 8 + (1 + 11) + (20) ≤ 288 + 66 * N from by omega⟩ (mo_z m9) rfl hl.1 rfl (Nat.le_of_ble_eq_true rfl) dX4_sum_52) ?_
        cases h
        exact toX (ec_r C (Or.inl ⟨_, rfl⟩) hT hS rfl dX4_sum_55)
      · replace h := if_t c h
        exact bX4_sum_p30 C hxt hkl hrec mrec ih (mo_C_X4_sum_p12 mrec n) t x1 H locs hT hS hK hm ls h (lv_sub hl [0, 1] rfl)
theorem bX4_sum_p11 {p : Program} {l : Launch} {e : Env} {s : State} {m : MethodId} {args : Array Value} {below : List Frame} {meth : Method} {c : Code} {D : va_G} {dA : Nat → ClassId} {a : Nat} {k : KP a} {t0 : CS} {r : Except Nat Nat} {t9 : CS} (C : cx p s m args meth c cX4_sum RX4 3 (some (.object "LettersOnStrike$Sum"))) (hxt : ∀ x ∈ c.exceptionTable.toList, False) (hkl : k.1 ≠ a ∧ l.stackTraces = false) {N : Nat} {rec : CS → Option (Except Nat Nat × CS)} (hrec : ∀ (t : CS) (r : Except Nat Nat) (t9 : CS), rec t = some (r, t9) → vx_Met l yX4_one (ws_ yX4_one cX4_one 2 (some (.object "LettersOnStrike$Sum"))) (rmX4_one N t t9) (cPc D dA a k t [.ref k.1]) (xQ D dA a k t t9 fR r) (xX D dA a k t t9 r) (t9.2.2.2 0 - t.2.2.2 0) (t9.2.2.2 1 - t.2.2.2 1) (ca a)) (mrec : ∀ (t : CS)  (r : Except Nat Nat) (t9 : CS), rec t  = some (r, t9) → mo t t9) : ∀ (t : CS) (y0 : Nat) (H : Heap) (locs : List Loc) (hT : cW D dA a k t H) (hS : cS a s.heap H locs t0.2.2.2 2 t) (hK : kC D dA a k t.2.2.2 s) (hm : mo t0 t) (ls : Array Slot), C_X4_sum_p11 rec t y0 = some (r, t9) → lv_has ls 3 [(0, .ref k.1)] → W p l e (rmX4_sum N t0 t9) s m args below meth c H locs (t.2.2.2 0 - t0.2.2.2 0) (t.2.2.2 1 - t0.2.2.2 1) (vx_MQ below (xQ D dA a k t0 t9 fR r) (xX D dA a k t0 t9 r) args s (t9.2.2.2 0 - t0.2.2.2 0) (t9.2.2.2 1 - t0.2.2.2 1) (ca a)) (F0 m 11 ls [.ref y0]) := by
  obtain ⟨hx, hb, hr, hml, hown, hts, hlocks⟩ := id C
  intro t y0 H locs hT hS hK hm ls h hl
  have m9 : mo t t9 := mo_C_X4_sum_p11 mrec h
  unfold C_X4_sum_p11 at h
  refine lv_astore_n (lv' := [(1, .ref y0), (0, .ref k.1)]) hx hb dX4_sum_11 rfl hl (by decide) rfl (fun ls hl => ?_)
  exact bX4_sum_p12 C hxt hkl hrec mrec fu t y0 H locs hT hS hK hm ls h (lv_sub hl [1, 0] rfl)
theorem bX4_sum_p8 {p : Program} {l : Launch} {e : Env} {s : State} {m : MethodId} {args : Array Value} {below : List Frame} {meth : Method} {c : Code} {D : va_G} {dA : Nat → ClassId} {a : Nat} {k : KP a} {t0 : CS} {r : Except Nat Nat} {t9 : CS} (C : cx p s m args meth c cX4_sum RX4 3 (some (.object "LettersOnStrike$Sum"))) (hxt : ∀ x ∈ c.exceptionTable.toList, False) (hkl : k.1 ≠ a ∧ l.stackTraces = false) {N : Nat} {rec : CS → Option (Except Nat Nat × CS)} (hrec : ∀ (t : CS) (r : Except Nat Nat) (t9 : CS), rec t = some (r, t9) → vx_Met l yX4_one (ws_ yX4_one cX4_one 2 (some (.object "LettersOnStrike$Sum"))) (rmX4_one N t t9) (cPc D dA a k t [.ref k.1]) (xQ D dA a k t t9 fR r) (xX D dA a k t t9 r) (t9.2.2.2 0 - t.2.2.2 0) (t9.2.2.2 1 - t.2.2.2 1) (ca a)) (mrec : ∀ (t : CS)  (r : Except Nat Nat) (t9 : CS), rec t  = some (r, t9) → mo t t9) : ∀ (t : CS) (y0 : Nat) (y1 : Nat) (y2 : Nat) (H : Heap) (locs : List Loc) (hT : cW D dA a k t H) (hS : cS a s.heap H locs t0.2.2.2 2 t) (hK : kC D dA a k t.2.2.2 s) (hm : mo t0 t) (ls : Array Slot), C_X4_sum_p8 rec t y0 y1 y2 = some (r, t9) → lv_has ls 3 [(0, .ref k.1)] → W p l e (rmX4_sum N t0 t9) s m args below meth c H locs (t.2.2.2 0 - t0.2.2.2 0) (t.2.2.2 1 - t0.2.2.2 1) (vx_MQ below (xQ D dA a k t0 t9 fR r) (xX D dA a k t0 t9 r) args s (t9.2.2.2 0 - t0.2.2.2 0) (t9.2.2.2 1 - t0.2.2.2 1) (ca a)) (F0 m 8 ls [.ref y2, .ref y1, .ref y0]) := by
  obtain ⟨hx, hb, hr, hml, hown, hts, hlocks⟩ := id C
  intro t y0 y1 y2 H locs hT hS hK hm ls h hl
  have m9 : mo t t9 := mo_C_X4_sum_p8 mrec h
  unfold C_X4_sum_p8 at h
  obtain ⟨t1, ht1, h⟩ := bd1_some h
  have mm : mo t t1 := mo_C_X8_init ht1
  have m9 : mo t1 t9 := mo_C_X4_sum_p11 mrec h
  refine wa_void hS hK (run_i (As := [.ref y2]) (rest := [.ref y0]) C hK hT hS.2.1 (mX8_init ht1) q828 q829 q185 q830 ⟨rfl, rfl⟩ hdX8_init ⟨show 4 + 1 ≤ 24 + 3 * N from by omega, show 8 + (2 + 11) + (90) ≤ 288 + 66 * N from by omega⟩ (mo_c hm mm m9) rfl hl.1 rfl (Nat.le_of_ble_eq_true rfl) dX4_sum_8) (fun H locs hT hS hK => ?_)
  refine W.widen (mo_c hm mm mo.rf).1 (mo_c hm mm mo.rf).2 ?_
  replace hm := hm.tr mm
  exact bX4_sum_p11 C hxt hkl hrec mrec t1 y0 H locs hT hS hK hm ls h (lv_sub hl [0] rfl)
theorem bX4_sum_p3 {p : Program} {l : Launch} {e : Env} {s : State} {m : MethodId} {args : Array Value} {below : List Frame} {meth : Method} {c : Code} {D : va_G} {dA : Nat → ClassId} {a : Nat} {k : KP a} {t0 : CS} {r : Except Nat Nat} {t9 : CS} (C : cx p s m args meth c cX4_sum RX4 3 (some (.object "LettersOnStrike$Sum"))) (hxt : ∀ x ∈ c.exceptionTable.toList, False) (hkl : k.1 ≠ a ∧ l.stackTraces = false) {N : Nat} {rec : CS → Option (Except Nat Nat × CS)} (hrec : ∀ (t : CS) (r : Except Nat Nat) (t9 : CS), rec t = some (r, t9) → vx_Met l yX4_one (ws_ yX4_one cX4_one 2 (some (.object "LettersOnStrike$Sum"))) (rmX4_one N t t9) (cPc D dA a k t [.ref k.1]) (xQ D dA a k t t9 fR r) (xX D dA a k t t9 r) (t9.2.2.2 0 - t.2.2.2 0) (t9.2.2.2 1 - t.2.2.2 1) (ca a)) (mrec : ∀ (t : CS)  (r : Except Nat Nat) (t9 : CS), rec t  = some (r, t9) → mo t t9) : ∀ (t : CS) (y0 : Nat) (H : Heap) (locs : List Loc) (hT : cW D dA a k t H) (hS : cS a s.heap H locs t0.2.2.2 2 t) (hK : kC D dA a k t.2.2.2 s) (hm : mo t0 t) (ls : Array Slot), C_X4_sum_p3 rec t y0 = some (r, t9) → lv_has ls 3 [(0, .ref k.1)] → W p l e (rmX4_sum N t0 t9) s m args below meth c H locs (t.2.2.2 0 - t0.2.2.2 0) (t.2.2.2 1 - t0.2.2.2 1) (vx_MQ below (xQ D dA a k t0 t9 fR r) (xX D dA a k t0 t9 r) args s (t9.2.2.2 0 - t0.2.2.2 0) (t9.2.2.2 1 - t0.2.2.2 1) (ca a)) (F0 m 3 ls [.ref y0]) := by
  obtain ⟨hx, hb, hr, hml, hown, hts, hlocks⟩ := id C
  intro t y0 H locs hT hS hK hm ls h hl
  have m9 : mo t t9 := mo_C_X4_sum_p3 mrec h
  unfold C_X4_sum_p3 at h
  refine lv_dup hx hb dX4_sum_3 rfl ?_
  refine lv_aload_n hx hb dX4_sum_4 rfl (lv_at hl 0 rfl) ?_
  rcases bdx_some h with ⟨q3, ht1, hr_⟩ | ⟨v2, t1, ht1, h⟩
  · subst hr_
    have mm : mo t t9 := mo_C_X4_product mrec ht1
    exact ex_err C hxt hS (run_x (As := []) (rest := [.ref y0, .ref y0]) C hK hT hS.2.1 (rv_T hK hT hkl.1) (mX4_product hrec mrec hkl ht1) q778 q780 qs13 q171 q781 ⟨rfl, rfl⟩ hdX4_product ⟨show 23 + 3 * N + 1 ≤ 24 + 3 * N from by omega, show 8 + (3 + 11) + (266 + 66 * N) ≤ 288 + 66 * N from by omega⟩ (mo_c hm mm mo.rf) rfl hl.1 rfl (Nat.le_of_ble_eq_true rfl) dX4_sum_5) (mo_c hm mm mo.rf)
  · have mm : mo t t1 := mo_C_X4_product mrec ht1
    have m9 : mo t1 t9 := mo_C_X4_sum_p8 mrec h
    refine ex_okR hS hK (run_x (As := []) (rest := [.ref y0, .ref y0]) C hK hT hS.2.1 (rv_T hK hT hkl.1) (mX4_product hrec mrec hkl ht1) q778 q780 qs13 q171 q781 ⟨rfl, rfl⟩ hdX4_product ⟨show 23 + 3 * N + 1 ≤ 24 + 3 * N from by omega, show 8 + (3 + 11) + (266 + 66 * N) ≤ 288 + 66 * N from by omega⟩ (mo_c hm mm m9) rfl hl.1 rfl (Nat.le_of_ble_eq_true rfl) dX4_sum_5) (fun H locs hT hS hK => ?_)
    refine W.widen (mo_c hm mm mo.rf).1 (mo_c hm mm mo.rf).2 ?_
    replace hm := hm.tr mm
    exact bX4_sum_p8 C hxt hkl hrec mrec t1 y0 y0 v2 H locs hT hS hK hm ls h (lv_sub hl [0] rfl)
theorem bX4_sum {p : Program} {l : Launch} {e : Env} {s : State} {m : MethodId} {args : Array Value} {below : List Frame} {meth : Method} {c : Code} {D : va_G} {dA : Nat → ClassId} {a : Nat} {k : KP a} {t0 : CS} {r : Except Nat Nat} {t9 : CS} (C : cx p s m args meth c cX4_sum RX4 3 (some (.object "LettersOnStrike$Sum"))) (hxt : ∀ x ∈ c.exceptionTable.toList, False) (hkl : k.1 ≠ a ∧ l.stackTraces = false) {N : Nat} {rec : CS → Option (Except Nat Nat × CS)} (hrec : ∀ (t : CS) (r : Except Nat Nat) (t9 : CS), rec t = some (r, t9) → vx_Met l yX4_one (ws_ yX4_one cX4_one 2 (some (.object "LettersOnStrike$Sum"))) (rmX4_one N t t9) (cPc D dA a k t [.ref k.1]) (xQ D dA a k t t9 fR r) (xX D dA a k t t9 r) (t9.2.2.2 0 - t.2.2.2 0) (t9.2.2.2 1 - t.2.2.2 1) (ca a)) (mrec : ∀ (t : CS)  (r : Except Nat Nat) (t9 : CS), rec t  = some (r, t9) → mo t t9) : ∀ (t : CS) (H : Heap) (locs : List Loc) (hT : cW D dA a k t H) (hS : cS a s.heap H locs t0.2.2.2 2 t) (hK : kC D dA a k t.2.2.2 s) (hm : mo t0 t) (ls : Array Slot), C_X4_sum rec t = some (r, t9) → lv_has ls 3 [(0, .ref k.1)] → W p l e (rmX4_sum N t0 t9) s m args below meth c H locs (t.2.2.2 0 - t0.2.2.2 0) (t.2.2.2 1 - t0.2.2.2 1) (vx_MQ below (xQ D dA a k t0 t9 fR r) (xX D dA a k t0 t9 r) args s (t9.2.2.2 0 - t0.2.2.2 0) (t9.2.2.2 1 - t0.2.2.2 1) (ca a)) (F0 m 0 ls []) := by
  obtain ⟨hx, hb, hr, hml, hown, hts, hlocks⟩ := id C
  intro t H locs hT hS hK hm ls h hl
  have m9 : mo t t9 := mo_C_X4_sum mrec h
  unfold C_X4_sum at h
  obtain ⟨t1, et1, h⟩ := lt1_ex h
  have m9 : mo t1 t9 := mo_C_X4_sum_p3 mrec h
  refine n_new (ci := 8) (fs := [.null, .null, .null]) in_X8 tyX8 tyX8_ok rfl C hK hT hS q776 q777 q185 (fun j hj => by rcases (show j = 0 ∨ j = 1 ∨ j = 2 by omega) with rfl | rfl | rfl <;> rfl) (mo_n hm et1 m9) dX4_sum_0 (fun t_ H et_ hT hS hK => ?_)
  obtain rfl := et1.trans et_.symm
  refine W.widen (mo_n1 hm et1).1 (mo_n1 hm et1).2 ?_
  replace hm := hm.tr (mo.new et1)
  exact bX4_sum_p3 C hxt hkl hrec mrec t1 (t.2.2.2 0) H locs hT hS hK hm ls h (lv_sub hl [0] rfl)
theorem mX4_sum {l : Launch} {D : va_G} {dA : Nat → ClassId} {a : Nat} {k : KP a} {r : Except Nat Nat} {t9 : CS} {N : Nat} {rec : CS → Option (Except Nat Nat × CS)} (hrec : ∀ (t : CS) (r : Except Nat Nat) (t9 : CS), rec t = some (r, t9) → vx_Met l yX4_one (ws_ yX4_one cX4_one 2 (some (.object "LettersOnStrike$Sum"))) (rmX4_one N t t9) (cPc D dA a k t [.ref k.1]) (xQ D dA a k t t9 fR r) (xX D dA a k t t9 r) (t9.2.2.2 0 - t.2.2.2 0) (t9.2.2.2 1 - t.2.2.2 1) (ca a)) (mrec : ∀ (t : CS)  (r : Except Nat Nat) (t9 : CS), rec t  = some (r, t9) → mo t t9) {t : CS} (hkl : k.1 ≠ a ∧ l.stackTraces = false) (h : C_X4_sum rec t = some (r, t9)) : vx_Met l yX4_sum (ws_ yX4_sum cX4_sum 3 (some (.object "LettersOnStrike$Sum"))) (rmX4_sum N t t9) (cPc D dA a k t [.ref k.1]) (xQ D dA a k t t9 fR r) (xX D dA a k t t9 r) (t9.2.2.2 0 - t.2.2.2 0) (t9.2.2.2 1 - t.2.2.2 1) (ca a) := en_X (by decide +kernel) rfl (Nat.le_of_ble_eq_true rfl) (fun p e s m below meth c ls C hxt hK hT hl => sub0 (bX4_sum C hxt hkl hrec mrec t _ [] hT cS.rf hK mo.rf ls h hl))
set_option maxRecDepth 20000 in
abbrev rmX9_init : Room := { frames := 2, cells := 0, slots := 0, locals := 50 }
theorem hdX9_init : yX9_init.name = "<init>" ∧ yX9_init.cls ≠ "java/lang/invoke/MethodHandle" ∧ yX9_init.cls ≠ "java/lang/invoke/VarHandle" ∧ (parseMethodDescriptor yX9_init.desc).map (fun d => d.parameters.length) = some 1 := by decide +kernel
theorem bX9_init {p : Program} {l : Launch} {e : Env} {s : State} {m : MethodId} {args : Array Value} {below : List Frame} {meth : Method} {c : Code} {D : va_G} {dA : Nat → ClassId} {a : Nat} {k : KP a} {t0 : CS} {t9 : CS} (C : cx p s m args meth c cX9_init RX9 2 none) (hin : meth.name = "<init>") : ∀ (t : CS) (x0 : Nat) (x1 : Int32) (H : Heap) (locs : List Loc) (hT : cW D dA a k t H) (hS : cS a s.heap H locs t0.2.2.2 0 t) (hK : kC D dA a k t.2.2.2 s) (ls : Array Slot), C_X9_init t x0 x1 = some t9 → lv_has ls 2 [(0, .ref x0), (1, .int x1)] → W p l e rmX9_init s m args below meth c H locs 0 0 (MQ below (cQ D dA a k 0 t0 t9 none) args s 0 0 (ca a)) (F0 m 0 ls []) := by
  obtain ⟨hx, hb, hr, hml, hown, hts, hlocks⟩ := id C
  intro t x0 x1 H locs hT hS hK ls h hl
  unfold C_X9_init at h
  refine lv_aload_n hx hb dX9_init_0 rfl (lv_at hl 0 rfl) ?_
  obtain ⟨v1, hv1, h⟩ := bd1_some h
  refine r_void (run_i (As := []) (rest := []) C hK hT hS.2.1 (mJ6_init hv1) q795 q473 q169 q474 ⟨rfl, rfl⟩ hdJ6_init ⟨Nat.le_of_ble_eq_true rfl, Nat.le_of_ble_eq_true rfl⟩ ⟨Nat.zero_le _, Nat.zero_le _⟩ rfl hl.1 rfl (Nat.le_of_ble_eq_true rfl) dX9_init_1) ?_
  refine lv_aload_n hx hb dX9_init_4 rfl (lv_at hl 0 rfl) ?_
  refine lv_iload_n hx hb dX9_init_5 rfl (lv_at hl 1 rfl) ?_
  obtain ⟨t2, ht2, h⟩ := bd1_some h
  refine d_put (ci := 9) in_X9 tyX9 tyX9_ok nmX9 rfl C hK hT hS 0 (by decide) q796 rfl (Or.inr ⟨rfl, hin, rfl⟩) ht2 (tyX9_ok 0 (by decide)) rfl rfl dX9_init_6 (fun H locs hT hS hK => ?_)
  exact ec_v C hT hS h dX9_init_9
theorem mX9_init {l : Launch} {D : va_G} {dA : Nat → ClassId} {a : Nat} {k : KP a} {t : CS} {x0 : Nat} {x1 : Int32} {t9 : CS} (h : C_X9_init t x0 x1 = some t9) : Met l yX9_init (ws_ yX9_init cX9_init 2 none) rmX9_init (cPc D dA a k t [.ref x0, .int x1]) (cQ D dA a k 0 t t9 none) 0 0 (ca a) := en_Ci (by decide +kernel) rfl (Nat.le_of_ble_eq_true rfl) (fun p e s m below meth c ls C hin hK hT hl => bX9_init C hin t x0 x1 _ [] hT cS.rf hK ls h hl)
set_option maxRecDepth 20000 in
abbrev rmX4_want (t t9 : CS) : Room := { frames := 21, cells := t9.2.2.2 0 - t.2.2.2 0, slots := t9.2.2.2 1 - t.2.2.2 1, locals := 221 }
theorem hdX4_want : yX4_want.cls = RX4 ∧ yX4_want.cls ≠ "java/lang/invoke/MethodHandle" ∧ yX4_want.cls ≠ "java/lang/invoke/VarHandle" ∧ (parseMethodDescriptor yX4_want.desc).map (fun d => d.parameters.length) = some 1 := by decide +kernel
theorem bX4_want_p13 {p : Program} {l : Launch} {e : Env} {s : State} {m : MethodId} {args : Array Value} {below : List Frame} {meth : Method} {c : Code} {D : va_G} {dA : Nat → ClassId} {a : Nat} {k : KP a} {t0 : CS} {r : Except Nat Unit} {t9 : CS} (C : cx p s m args meth c cX4_want RX4 2 none) (hxt : ∀ x ∈ c.exceptionTable.toList, False) (hkl : k.1 ≠ a ∧ l.stackTraces = false) : ∀ (t : CS) (y0 : Nat) (H : Heap) (locs : List Loc) (hT : cW D dA a k t H) (hS : cS a s.heap H locs t0.2.2.2 2 t) (hK : kC D dA a k t.2.2.2 s) (hm : mo t0 t) (ls : Array Slot), C_X4_want_p13 t y0 = some (r, t9) → lv_has ls 2 [] → W p l e (rmX4_want t0 t9) s m args below meth c H locs (t.2.2.2 0 - t0.2.2.2 0) (t.2.2.2 1 - t0.2.2.2 1) (vx_MQ below (xQ D dA a k t0 t9 fU r) (xX D dA a k t0 t9 r) args s (t9.2.2.2 0 - t0.2.2.2 0) (t9.2.2.2 1 - t0.2.2.2 1) (ca a)) (F0 m 13 ls [.ref y0]) := by
  obtain ⟨hx, hb, hr, hml, hown, hts, hlocks⟩ := id C
  intro t y0 H locs hT hS hK hm ls h hl
  have m9 : mo t t9 := mo_C_X4_want_p13 h
  unfold C_X4_want_p13 at h
  obtain ⟨hw1, h⟩ := ckW_some h
  cases h
  exact ex_thr C hxt hK hT hS hw1 dX4_want_13
theorem bX4_want {p : Program} {l : Launch} {e : Env} {s : State} {m : MethodId} {args : Array Value} {below : List Frame} {meth : Method} {c : Code} {D : va_G} {dA : Nat → ClassId} {a : Nat} {k : KP a} {t0 : CS} {r : Except Nat Unit} {t9 : CS} (C : cx p s m args meth c cX4_want RX4 2 none) (hxt : ∀ x ∈ c.exceptionTable.toList, False) (hkl : k.1 ≠ a ∧ l.stackTraces = false) : ∀ (t : CS) (x1 : Int32) (H : Heap) (locs : List Loc) (hT : cW D dA a k t H) (hS : cS a s.heap H locs t0.2.2.2 2 t) (hK : kC D dA a k t.2.2.2 s) (hm : mo t0 t) (ls : Array Slot), C_X4_want t x1 = some (r, t9) → lv_has ls 2 [(0, .ref k.1), (1, .int x1)] → W p l e (rmX4_want t0 t9) s m args below meth c H locs (t.2.2.2 0 - t0.2.2.2 0) (t.2.2.2 1 - t0.2.2.2 1) (vx_MQ below (xQ D dA a k t0 t9 fU r) (xX D dA a k t0 t9 r) args s (t9.2.2.2 0 - t0.2.2.2 0) (t9.2.2.2 1 - t0.2.2.2 1) (ca a)) (F0 m 0 ls []) := by
  obtain ⟨hx, hb, hr, hml, hown, hts, hlocks⟩ := id C
  intro t x1 H locs hT hS hK hm ls h hl
  have m9 : mo t t9 := mo_C_X4_want h
  unfold C_X4_want at h
  refine lv_aload_n hx hb dX4_want_0 rfl (lv_at hl 0 rfl) ?_
  refine c_getT C hK hT hkl.1 4 (by decide) q521 rfl (v := .int (t.1 200 4)) rfl dX4_want_1 ?_
  refine lv_iload_n hx hb dX4_want_4 rfl (lv_at hl 1 rfl) ?_
  refine lv_icmp_eq (tgt := 14) hx hb dX4_want_5 (by decide) (fun c => ?_) (fun c => ?_)
  · replace h := if_t c h
    refine lv_aload_n hx hb dX4_want_14 rfl (lv_at hl 0 rfl) ?_
    obtain ⟨t1, ht1, h⟩ := bd1_some h
    refine wc_void hS hK (run_c (As := []) (rest := []) C hK hT hS.2.1 (rv_T hK hT hkl.1) (mX4_next hkl ht1) q603 q605 qs3 q171 q606 ⟨rfl, rfl⟩ hdX4_next ⟨Nat.le_of_ble_eq_true rfl, Nat.le_of_ble_eq_true rfl⟩ (mo_z m9) rfl hl.1 rfl (Nat.le_of_ble_eq_true rfl) dX4_want_15) (fun H locs hT hS hK hNt1 => ?_)
    have mm : mo t t1 := mo.ni hNt1
    replace hm := hm.tr mm
    replace m9 : mo t1 t9 := mo.bk (funext fun i => hNt1 i (Nat.zero_le _)) m9
    refine W.widen (mo_s mm).1 (mo_s mm).2 ?_
    cases h
    exact toX (ec_v C hT hS rfl dX4_want_18)
  · replace h := if_f c h
    refine lv_aload_n hx hb dX4_want_8 rfl (lv_at hl 0 rfl) ?_
    refine lv_iconst (v := 1) hx hb dX4_want_9 (by decide) ?_
    obtain ⟨v3, t2, ht2, h⟩ := bd2_some h
    have mm : mo t t2 := mo_C_wrong ht2
    have m9 : mo t2 t9 := mo_C_X4_want_p13 h
    refine wa_ref hS hK (run_c (As := [.int (1 : Int32)]) (rest := []) C hK hT hS.2.1 (rv_T hK hT hkl.1) (mX4_wrong hkl ht2) q672 q674 qs5 q171 q675 ⟨rfl, rfl⟩ hdX4_wrong ⟨Nat.le_of_ble_eq_true rfl, Nat.le_of_ble_eq_true rfl⟩ (mo_c hm mm m9) rfl hl.1 rfl (Nat.le_of_ble_eq_true rfl) dX4_want_10) (fun H locs hT hS hK => ?_)
    refine W.widen (mo_c hm mm mo.rf).1 (mo_c hm mm mo.rf).2 ?_
    replace hm := hm.tr mm
    exact bX4_want_p13 C hxt hkl t2 v3 H locs hT hS hK hm ls h (lv_sub hl [] rfl)
theorem mX4_want {l : Launch} {D : va_G} {dA : Nat → ClassId} {a : Nat} {k : KP a} {t : CS} {x1 : Int32} {r : Except Nat Unit} {t9 : CS} (hkl : k.1 ≠ a ∧ l.stackTraces = false) (h : C_X4_want t x1 = some (r, t9)) : vx_Met l yX4_want (ws_ yX4_want cX4_want 2 none) (rmX4_want t t9) (cPc D dA a k t [.ref k.1, .int x1]) (xQ D dA a k t t9 fU r) (xX D dA a k t t9 r) (t9.2.2.2 0 - t.2.2.2 0) (t9.2.2.2 1 - t.2.2.2 1) (ca a) := en_X (by decide +kernel) rfl (Nat.le_of_ble_eq_true rfl) (fun p e s m below meth c ls C hxt hK hT hl => sub0 (bX4_want C hxt hkl t x1 _ [] hT cS.rf hK mo.rf ls h hl))
set_option maxRecDepth 20000 in
abbrev rmX11_init : Room := { frames := 2, cells := 0, slots := 0, locals := 50 }
theorem hdX11_init : yX11_init.name = "<init>" ∧ yX11_init.cls ≠ "java/lang/invoke/MethodHandle" ∧ yX11_init.cls ≠ "java/lang/invoke/VarHandle" ∧ (parseMethodDescriptor yX11_init.desc).map (fun d => d.parameters.length) = some 1 := by decide +kernel
theorem bX11_init {p : Program} {l : Launch} {e : Env} {s : State} {m : MethodId} {args : Array Value} {below : List Frame} {meth : Method} {c : Code} {D : va_G} {dA : Nat → ClassId} {a : Nat} {k : KP a} {t0 : CS} {t9 : CS} (C : cx p s m args meth c cX11_init RX11 2 none) (hin : meth.name = "<init>") : ∀ (t : CS) (x0 : Nat) (x1 : Nat) (H : Heap) (locs : List Loc) (hT : cW D dA a k t H) (hS : cS a s.heap H locs t0.2.2.2 0 t) (hK : kC D dA a k t.2.2.2 s) (ls : Array Slot), C_X11_init t x0 x1 = some t9 → lv_has ls 2 [(0, .ref x0), (1, .ref x1)] → W p l e rmX11_init s m args below meth c H locs 0 0 (MQ below (cQ D dA a k 0 t0 t9 none) args s 0 0 (ca a)) (F0 m 0 ls []) := by
  obtain ⟨hx, hb, hr, hml, hown, hts, hlocks⟩ := id C
  intro t x0 x1 H locs hT hS hK ls h hl
  unfold C_X11_init at h
  refine lv_aload_n hx hb dX11_init_0 rfl (lv_at hl 0 rfl) ?_
  obtain ⟨v1, hv1, h⟩ := bd1_some h
  refine r_void (run_i (As := []) (rest := []) C hK hT hS.2.1 (mJ6_init hv1) q823 q473 q169 q474 ⟨rfl, rfl⟩ hdJ6_init ⟨Nat.le_of_ble_eq_true rfl, Nat.le_of_ble_eq_true rfl⟩ ⟨Nat.zero_le _, Nat.zero_le _⟩ rfl hl.1 rfl (Nat.le_of_ble_eq_true rfl) dX11_init_1) ?_
  refine lv_aload_n hx hb dX11_init_4 rfl (lv_at hl 0 rfl) ?_
  refine lv_aload_n hx hb dX11_init_5 rfl (lv_at hl 1 rfl) ?_
  obtain ⟨t2, ht2, h⟩ := bd1_some h
  refine d_put (ci := 11) in_X11 tyX11 tyX11_ok nmX11 rfl C hK hT hS 0 (by decide) q824 rfl (Or.inr ⟨rfl, hin, rfl⟩) ht2 (tyX11_ok 0 (by decide)) rfl rfl dX11_init_6 (fun H locs hT hS hK => ?_)
  exact ec_v C hT hS h dX11_init_9
theorem mX11_init {l : Launch} {D : va_G} {dA : Nat → ClassId} {a : Nat} {k : KP a} {t : CS} {x0 : Nat} {x1 : Nat} {t9 : CS} (h : C_X11_init t x0 x1 = some t9) : Met l yX11_init (ws_ yX11_init cX11_init 2 none) rmX11_init (cPc D dA a k t [.ref x0, .ref x1]) (cQ D dA a k 0 t t9 none) 0 0 (ca a) := en_Ci (by decide +kernel) rfl (Nat.le_of_ble_eq_true rfl) (fun p e s m below meth c ls C hin hK hT hl => bX11_init C hin t x0 x1 _ [] hT cS.rf hK ls h hl)
set_option maxRecDepth 20000 in
theorem bX4_one_p22 {p : Program} {l : Launch} {e : Env} {s : State} {m : MethodId} {args : Array Value} {below : List Frame} {meth : Method} {c : Code} {D : va_G} {dA : Nat → ClassId} {a : Nat} {k : KP a} {t0 : CS} {r : Except Nat Nat} {t9 : CS} (C : cx p s m args meth c cX4_one RX4 2 (some (.object "LettersOnStrike$Sum"))) (hxt : ∀ x ∈ c.exceptionTable.toList, False) (hkl : k.1 ≠ a ∧ l.stackTraces = false) {N : Nat} {rec : CS → Option (Except Nat Nat × CS)} (hrec : ∀ (t : CS) (r : Except Nat Nat) (t9 : CS), rec t = some (r, t9) → vx_Met l yX4_one (ws_ yX4_one cX4_one 2 (some (.object "LettersOnStrike$Sum"))) (rmX4_one N t t9) (cPc D dA a k t [.ref k.1]) (xQ D dA a k t t9 fR r) (xX D dA a k t t9 r) (t9.2.2.2 0 - t.2.2.2 0) (t9.2.2.2 1 - t.2.2.2 1) (ca a)) (mrec : ∀ (t : CS)  (r : Except Nat Nat) (t9 : CS), rec t  = some (r, t9) → mo t t9) : ∀ (t : CS) (y0 : Nat) (y1 : Nat) (y2 : Int32) (H : Heap) (locs : List Loc) (hT : cW D dA a k t H) (hS : cS a s.heap H locs t0.2.2.2 2 t) (hK : kC D dA a k t.2.2.2 s) (hm : mo t0 t) (ls : Array Slot), C_X4_one_p22 rec t y0 y1 y2 = some (r, t9) → lv_has ls 2 [] → W p l e (rmX4_one (N + 1) t0 t9) s m args below meth c H locs (t.2.2.2 0 - t0.2.2.2 0) (t.2.2.2 1 - t0.2.2.2 1) (vx_MQ below (xQ D dA a k t0 t9 fR r) (xX D dA a k t0 t9 r) args s (t9.2.2.2 0 - t0.2.2.2 0) (t9.2.2.2 1 - t0.2.2.2 1) (ca a)) (F0 m 22 ls [.int y2, .ref y1, .ref y0]) := by
  obtain ⟨hx, hb, hr, hml, hown, hts, hlocks⟩ := id C
  intro t y0 y1 y2 H locs hT hS hK hm ls h hl
  have m9 : mo t t9 := mo_C_X4_one_p22 mrec h
  unfold C_X4_one_p22 at h
  obtain ⟨t1, ht1, h⟩ := bd1_some h
  refine wc_void hS hK (run_iN (As := [.int y2]) (rest := [.ref y0]) C hK hT hS.2.1 (mX9_init ht1) (nm792 hK.2.1) q793 q186 q794 ⟨rfl, rfl⟩ hdX9_init ⟨show 2 + 1 ≤ 22 + 3 * (N + 1) from by omega, show 8 + (2 + 11) + (50) ≤ 244 + 66 * (N + 1) from by omega⟩ (mo_z m9) rfl hl.1 rfl (Nat.le_of_ble_eq_true rfl) dX4_one_22) (fun H locs hT hS hK hNt1 => ?_)
  have mm : mo t t1 := mo.ni hNt1
  replace hm := hm.tr mm
  replace m9 : mo t1 t9 := mo.bk (funext fun i => hNt1 i (Nat.zero_le _)) m9
  refine W.widen (mo_s mm).1 (mo_s mm).2 ?_
  cases h
  exact toX (ec_r C (Or.inl ⟨_, rfl⟩) hT hS rfl dX4_one_25)
theorem bX4_one_p13 {p : Program} {l : Launch} {e : Env} {s : State} {m : MethodId} {args : Array Value} {below : List Frame} {meth : Method} {c : Code} {D : va_G} {dA : Nat → ClassId} {a : Nat} {k : KP a} {t0 : CS} {r : Except Nat Nat} {t9 : CS} (C : cx p s m args meth c cX4_one RX4 2 (some (.object "LettersOnStrike$Sum"))) (hxt : ∀ x ∈ c.exceptionTable.toList, False) (hkl : k.1 ≠ a ∧ l.stackTraces = false) {N : Nat} {rec : CS → Option (Except Nat Nat × CS)} (hrec : ∀ (t : CS) (r : Except Nat Nat) (t9 : CS), rec t = some (r, t9) → vx_Met l yX4_one (ws_ yX4_one cX4_one 2 (some (.object "LettersOnStrike$Sum"))) (rmX4_one N t t9) (cPc D dA a k t [.ref k.1]) (xQ D dA a k t t9 fR r) (xX D dA a k t t9 r) (t9.2.2.2 0 - t.2.2.2 0) (t9.2.2.2 1 - t.2.2.2 1) (ca a)) (mrec : ∀ (t : CS)  (r : Except Nat Nat) (t9 : CS), rec t  = some (r, t9) → mo t t9) : ∀ (t : CS) (y0 : Nat) (H : Heap) (locs : List Loc) (hT : cW D dA a k t H) (hS : cS a s.heap H locs t0.2.2.2 2 t) (hK : kC D dA a k t.2.2.2 s) (hm : mo t0 t) (ls : Array Slot), C_X4_one_p13 rec t y0 = some (r, t9) → lv_has ls 2 [(0, .ref k.1)] → W p l e (rmX4_one (N + 1) t0 t9) s m args below meth c H locs (t.2.2.2 0 - t0.2.2.2 0) (t.2.2.2 1 - t0.2.2.2 1) (vx_MQ below (xQ D dA a k t0 t9 fR r) (xX D dA a k t0 t9 r) args s (t9.2.2.2 0 - t0.2.2.2 0) (t9.2.2.2 1 - t0.2.2.2 1) (ca a)) (F0 m 13 ls [.ref y0]) := by
  obtain ⟨hx, hb, hr, hml, hown, hts, hlocks⟩ := id C
  intro t y0 H locs hT hS hK hm ls h hl
  have m9 : mo t t9 := mo_C_X4_one_p13 mrec h
  unfold C_X4_one_p13 at h
  refine lv_dup hx hb dX4_one_13 rfl ?_
  refine lv_aload_n hx hb dX4_one_14 rfl (lv_at hl 0 rfl) ?_
  refine lv_iconst (v := 0) hx hb dX4_one_15 (by decide) ?_
  refine lv_sipush (v := 9999) hx hb dX4_one_16 (by decide) ?_
  rcases bdx_some h with ⟨q3, ht1, hr_⟩ | ⟨v2, t1, ht1, h⟩
  · subst hr_
    have mm : mo t t9 := mo_C_X4_number ht1
    exact ex_err C hxt hS (run_x (As := [.int (0 : Int32), .int (9999 : Int32)]) (rest := [.ref y0, .ref y0]) C hK hT hS.2.1 (rv_T hK hT hkl.1) (mX4_number hkl ht1) q788 q790 qs15 q171 q791 ⟨rfl, rfl⟩ hdX4_number ⟨show 21 + 1 ≤ 22 + 3 * (N + 1) from by omega, show 8 + (4 + 11) + (221) ≤ 244 + 66 * (N + 1) from by omega⟩ (mo_c hm mm mo.rf) rfl hl.1 rfl (Nat.le_of_ble_eq_true rfl) dX4_one_19) (mo_c hm mm mo.rf)
  · have mm : mo t t1 := mo_C_X4_number ht1
    have m9 : mo t1 t9 := mo_C_X4_one_p22 mrec h
    refine ex_okI hS hK (run_x (As := [.int (0 : Int32), .int (9999 : Int32)]) (rest := [.ref y0, .ref y0]) C hK hT hS.2.1 (rv_T hK hT hkl.1) (mX4_number hkl ht1) q788 q790 qs15 q171 q791 ⟨rfl, rfl⟩ hdX4_number ⟨show 21 + 1 ≤ 22 + 3 * (N + 1) from by omega, show 8 + (4 + 11) + (221) ≤ 244 + 66 * (N + 1) from by omega⟩ (mo_c hm mm m9) rfl hl.1 rfl (Nat.le_of_ble_eq_true rfl) dX4_one_19) (fun H locs hT hS hK => ?_)
    refine W.widen (mo_c hm mm mo.rf).1 (mo_c hm mm mo.rf).2 ?_
    replace hm := hm.tr mm
    exact bX4_one_p22 C hxt hkl hrec mrec t1 y0 y0 v2 H locs hT hS hK hm ls h (lv_sub hl [] rfl)
theorem bX4_one_p68 {p : Program} {l : Launch} {e : Env} {s : State} {m : MethodId} {args : Array Value} {below : List Frame} {meth : Method} {c : Code} {D : va_G} {dA : Nat → ClassId} {a : Nat} {k : KP a} {t0 : CS} {r : Except Nat Nat} {t9 : CS} (C : cx p s m args meth c cX4_one RX4 2 (some (.object "LettersOnStrike$Sum"))) (hxt : ∀ x ∈ c.exceptionTable.toList, False) (hkl : k.1 ≠ a ∧ l.stackTraces = false) {N : Nat} {rec : CS → Option (Except Nat Nat × CS)} (hrec : ∀ (t : CS) (r : Except Nat Nat) (t9 : CS), rec t = some (r, t9) → vx_Met l yX4_one (ws_ yX4_one cX4_one 2 (some (.object "LettersOnStrike$Sum"))) (rmX4_one N t t9) (cPc D dA a k t [.ref k.1]) (xQ D dA a k t t9 fR r) (xX D dA a k t t9 r) (t9.2.2.2 0 - t.2.2.2 0) (t9.2.2.2 1 - t.2.2.2 1) (ca a)) (mrec : ∀ (t : CS)  (r : Except Nat Nat) (t9 : CS), rec t  = some (r, t9) → mo t t9) : ∀ (t : CS) (y0 : Nat) (H : Heap) (locs : List Loc) (hT : cW D dA a k t H) (hS : cS a s.heap H locs t0.2.2.2 2 t) (hK : kC D dA a k t.2.2.2 s) (hm : mo t0 t) (ls : Array Slot), C_X4_one_p68 rec t y0 = some (r, t9) → lv_has ls 2 [] → W p l e (rmX4_one (N + 1) t0 t9) s m args below meth c H locs (t.2.2.2 0 - t0.2.2.2 0) (t.2.2.2 1 - t0.2.2.2 1) (vx_MQ below (xQ D dA a k t0 t9 fR r) (xX D dA a k t0 t9 r) args s (t9.2.2.2 0 - t0.2.2.2 0) (t9.2.2.2 1 - t0.2.2.2 1) (ca a)) (F0 m 68 ls [.ref y0]) := by
  obtain ⟨hx, hb, hr, hml, hown, hts, hlocks⟩ := id C
  intro t y0 H locs hT hS hK hm ls h hl
  have m9 : mo t t9 := mo_C_X4_one_p68 mrec h
  unfold C_X4_one_p68 at h
  obtain ⟨hw1, h⟩ := ckW_some h
  cases h
  exact ex_thr C hxt hK hT hS hw1 dX4_one_68
theorem bX4_one_p76 {p : Program} {l : Launch} {e : Env} {s : State} {m : MethodId} {args : Array Value} {below : List Frame} {meth : Method} {c : Code} {D : va_G} {dA : Nat → ClassId} {a : Nat} {k : KP a} {t0 : CS} {r : Except Nat Nat} {t9 : CS} (C : cx p s m args meth c cX4_one RX4 2 (some (.object "LettersOnStrike$Sum"))) (hxt : ∀ x ∈ c.exceptionTable.toList, False) (hkl : k.1 ≠ a ∧ l.stackTraces = false) {N : Nat} {rec : CS → Option (Except Nat Nat × CS)} (hrec : ∀ (t : CS) (r : Except Nat Nat) (t9 : CS), rec t = some (r, t9) → vx_Met l yX4_one (ws_ yX4_one cX4_one 2 (some (.object "LettersOnStrike$Sum"))) (rmX4_one N t t9) (cPc D dA a k t [.ref k.1]) (xQ D dA a k t t9 fR r) (xX D dA a k t t9 r) (t9.2.2.2 0 - t.2.2.2 0) (t9.2.2.2 1 - t.2.2.2 1) (ca a)) (mrec : ∀ (t : CS)  (r : Except Nat Nat) (t9 : CS), rec t  = some (r, t9) → mo t t9) : ∀ (t : CS) (x1 : Int32) (y0 : Nat) (H : Heap) (locs : List Loc) (hT : cW D dA a k t H) (hS : cS a s.heap H locs t0.2.2.2 2 t) (hK : kC D dA a k t.2.2.2 s) (hm : mo t0 t) (ls : Array Slot), C_X4_one_p76 rec t x1 y0 = some (r, t9) → lv_has ls 2 [(1, .int x1)] → W p l e (rmX4_one (N + 1) t0 t9) s m args below meth c H locs (t.2.2.2 0 - t0.2.2.2 0) (t.2.2.2 1 - t0.2.2.2 1) (vx_MQ below (xQ D dA a k t0 t9 fR r) (xX D dA a k t0 t9 r) args s (t9.2.2.2 0 - t0.2.2.2 0) (t9.2.2.2 1 - t0.2.2.2 1) (ca a)) (F0 m 76 ls [.ref y0]) := by
  obtain ⟨hx, hb, hr, hml, hown, hts, hlocks⟩ := id C
  intro t x1 y0 H locs hT hS hK hm ls h hl
  have m9 : mo t t9 := mo_C_X4_one_p76 mrec h
  unfold C_X4_one_p76 at h
  refine lv_dup hx hb dX4_one_76 rfl ?_
  refine lv_iload_n hx hb dX4_one_77 rfl (lv_at hl 0 rfl) ?_
  obtain ⟨t1, ht1, h⟩ := bd1_some h
  refine wc_void hS hK (run_iN (As := [.int x1]) (rest := [.ref y0]) C hK hT hS.2.1 (mX10_init ht1) (nm806 hK.2.1) q807 q187 q808 ⟨rfl, rfl⟩ hdX10_init ⟨show 2 + 1 ≤ 22 + 3 * (N + 1) from by omega, show 8 + (2 + 11) + (50) ≤ 244 + 66 * (N + 1) from by omega⟩ (mo_z m9) rfl hl.1 rfl (Nat.le_of_ble_eq_true rfl) dX4_one_78) (fun H locs hT hS hK hNt1 => ?_)
  have mm : mo t t1 := mo.ni hNt1
  replace hm := hm.tr mm
  replace m9 : mo t1 t9 := mo.bk (funext fun i => hNt1 i (Nat.zero_le _)) m9
  refine W.widen (mo_s mm).1 (mo_s mm).2 ?_
  cases h
  exact toX (ec_r C (Or.inl ⟨_, rfl⟩) hT hS rfl dX4_one_81)
theorem bX4_one_p143 {p : Program} {l : Launch} {e : Env} {s : State} {m : MethodId} {args : Array Value} {below : List Frame} {meth : Method} {c : Code} {D : va_G} {dA : Nat → ClassId} {a : Nat} {k : KP a} {t0 : CS} {r : Except Nat Nat} {t9 : CS} (C : cx p s m args meth c cX4_one RX4 2 (some (.object "LettersOnStrike$Sum"))) (hxt : ∀ x ∈ c.exceptionTable.toList, False) (hkl : k.1 ≠ a ∧ l.stackTraces = false) {N : Nat} {rec : CS → Option (Except Nat Nat × CS)} (hrec : ∀ (t : CS) (r : Except Nat Nat) (t9 : CS), rec t = some (r, t9) → vx_Met l yX4_one (ws_ yX4_one cX4_one 2 (some (.object "LettersOnStrike$Sum"))) (rmX4_one N t t9) (cPc D dA a k t [.ref k.1]) (xQ D dA a k t t9 fR r) (xX D dA a k t t9 r) (t9.2.2.2 0 - t.2.2.2 0) (t9.2.2.2 1 - t.2.2.2 1) (ca a)) (mrec : ∀ (t : CS)  (r : Except Nat Nat) (t9 : CS), rec t  = some (r, t9) → mo t t9) : ∀ (t : CS) (x1 : Nat) (H : Heap) (locs : List Loc) (hT : cW D dA a k t H) (hS : cS a s.heap H locs t0.2.2.2 2 t) (hK : kC D dA a k t.2.2.2 s) (hm : mo t0 t) (ls : Array Slot), C_X4_one_p143 rec t x1 = some (r, t9) → lv_has ls 2 [(0, .ref k.1), (1, .ref x1)] → W p l e (rmX4_one (N + 1) t0 t9) s m args below meth c H locs (t.2.2.2 0 - t0.2.2.2 0) (t.2.2.2 1 - t0.2.2.2 1) (vx_MQ below (xQ D dA a k t0 t9 fR r) (xX D dA a k t0 t9 r) args s (t9.2.2.2 0 - t0.2.2.2 0) (t9.2.2.2 1 - t0.2.2.2 1) (ca a)) (F0 m 143 ls []) := by
  obtain ⟨hx, hb, hr, hml, hown, hts, hlocks⟩ := id C
  intro t x1 H locs hT hS hK hm ls h hl
  have m9 : mo t t9 := mo_C_X4_one_p143 mrec h
  unfold C_X4_one_p143 at h
  refine lv_aload_n hx hb dX4_one_143 rfl (lv_at hl 0 rfl) ?_
  refine lv_dup hx hb dX4_one_144 rfl ?_
  refine c_getT C hK hT hkl.1 6 (by decide) q523 rfl (v := .int (t.1 200 6)) rfl dX4_one_145 ?_
  refine lv_iconst (v := 1) hx hb dX4_one_148 (by decide) ?_
  refine lv_isub hx hb dX4_one_149 ?_
  refine c_putT C hK hT hkl.1 hS 6 (by decide) q523 rfl rfl (tyX4_ok 6 (by decide)) dX4_one_150 (fun t1 H locs et1 hT hS hK => ?_)
  replace h := lt1_sub et1 h
  have mm : mo t t1 := mo.nn (by rw [et1]; rfl)
  replace hm := hm.tr mm
  replace m9 : mo t1 t9 := mo.bk (by rw [et1]; rfl) m9
  refine W.widen (mo_s mm).1 (mo_s mm).2 ?_
  refine lv_aload_n hx hb dX4_one_153 rfl (lv_at hl 1 rfl) ?_
  cases h
  exact toX (ec_r C (Or.inl ⟨_, rfl⟩) hT hS rfl dX4_one_154)
theorem bX4_one_p106 {p : Program} {l : Launch} {e : Env} {s : State} {m : MethodId} {args : Array Value} {below : List Frame} {meth : Method} {c : Code} {D : va_G} {dA : Nat → ClassId} {a : Nat} {k : KP a} {t0 : CS} {r : Except Nat Nat} {t9 : CS} (C : cx p s m args meth c cX4_one RX4 2 (some (.object "LettersOnStrike$Sum"))) (hxt : ∀ x ∈ c.exceptionTable.toList, False) (hkl : k.1 ≠ a ∧ l.stackTraces = false) {N : Nat} {rec : CS → Option (Except Nat Nat × CS)} (hrec : ∀ (t : CS) (r : Except Nat Nat) (t9 : CS), rec t = some (r, t9) → vx_Met l yX4_one (ws_ yX4_one cX4_one 2 (some (.object "LettersOnStrike$Sum"))) (rmX4_one N t t9) (cPc D dA a k t [.ref k.1]) (xQ D dA a k t t9 fR r) (xX D dA a k t t9 r) (t9.2.2.2 0 - t.2.2.2 0) (t9.2.2.2 1 - t.2.2.2 1) (ca a)) (mrec : ∀ (t : CS)  (r : Except Nat Nat) (t9 : CS), rec t  = some (r, t9) → mo t t9) : ∀ (t : CS) (x1 : Nat) (H : Heap) (locs : List Loc) (hT : cW D dA a k t H) (hS : cS a s.heap H locs t0.2.2.2 2 t) (hK : kC D dA a k t.2.2.2 s) (hm : mo t0 t) (ls : Array Slot), C_X4_one_p106 rec t x1 = some (r, t9) → lv_has ls 2 [(0, .ref k.1), (1, .ref x1)] → W p l e (rmX4_one (N + 1) t0 t9) s m args below meth c H locs (t.2.2.2 0 - t0.2.2.2 0) (t.2.2.2 1 - t0.2.2.2 1) (vx_MQ below (xQ D dA a k t0 t9 fR r) (xX D dA a k t0 t9 r) args s (t9.2.2.2 0 - t0.2.2.2 0) (t9.2.2.2 1 - t0.2.2.2 1) (ca a)) (F0 m 106 ls []) := by
  obtain ⟨hx, hb, hr, hml, hown, hts, hlocks⟩ := id C
  intro t x1 H locs hT hS hK hm ls h hl
  have m9 : mo t t9 := mo_C_X4_one_p106 mrec h
  unfold C_X4_one_p106 at h
  refine lv_goto (tgt := 143) hx hb dX4_one_106 (by decide) ?_
  exact bX4_one_p143 C hxt hkl hrec mrec t x1 H locs hT hS hK hm ls h (lv_sub hl [0, 1] rfl)
theorem bX4_one_p99 {p : Program} {l : Launch} {e : Env} {s : State} {m : MethodId} {args : Array Value} {below : List Frame} {meth : Method} {c : Code} {D : va_G} {dA : Nat → ClassId} {a : Nat} {k : KP a} {t0 : CS} {r : Except Nat Nat} {t9 : CS} (C : cx p s m args meth c cX4_one RX4 2 (some (.object "LettersOnStrike$Sum"))) (hxt : ∀ x ∈ c.exceptionTable.toList, False) (hkl : k.1 ≠ a ∧ l.stackTraces = false) {N : Nat} {rec : CS → Option (Except Nat Nat × CS)} (hrec : ∀ (t : CS) (r : Except Nat Nat) (t9 : CS), rec t = some (r, t9) → vx_Met l yX4_one (ws_ yX4_one cX4_one 2 (some (.object "LettersOnStrike$Sum"))) (rmX4_one N t t9) (cPc D dA a k t [.ref k.1]) (xQ D dA a k t t9 fR r) (xX D dA a k t t9 r) (t9.2.2.2 0 - t.2.2.2 0) (t9.2.2.2 1 - t.2.2.2 1) (ca a)) (mrec : ∀ (t : CS)  (r : Except Nat Nat) (t9 : CS), rec t  = some (r, t9) → mo t t9) : ∀ (t : CS) (y0 : Nat) (H : Heap) (locs : List Loc) (hT : cW D dA a k t H) (hS : cS a s.heap H locs t0.2.2.2 2 t) (hK : kC D dA a k t.2.2.2 s) (hm : mo t0 t) (ls : Array Slot), C_X4_one_p99 rec t y0 = some (r, t9) → lv_has ls 2 [(0, .ref k.1)] → W p l e (rmX4_one (N + 1) t0 t9) s m args below meth c H locs (t.2.2.2 0 - t0.2.2.2 0) (t.2.2.2 1 - t0.2.2.2 1) (vx_MQ below (xQ D dA a k t0 t9 fR r) (xX D dA a k t0 t9 r) args s (t9.2.2.2 0 - t0.2.2.2 0) (t9.2.2.2 1 - t0.2.2.2 1) (ca a)) (F0 m 99 ls [.ref y0]) := by
  obtain ⟨hx, hb, hr, hml, hown, hts, hlocks⟩ := id C
  intro t y0 H locs hT hS hK hm ls h hl
  have m9 : mo t t9 := mo_C_X4_one_p99 mrec h
  unfold C_X4_one_p99 at h
  refine lv_astore_n (lv' := [(1, .ref y0), (0, .ref k.1)]) hx hb dX4_one_99 rfl hl (by decide) rfl (fun ls hl => ?_)
  refine lv_aload_n hx hb dX4_one_100 rfl (lv_at hl 1 rfl) ?_
  refine lv_bipush (v := 41) hx hb dX4_one_101 (by decide) ?_
  rcases bdx_some h with ⟨q3, ht1, hr_⟩ | ⟨v2, t1, ht1, h⟩
  · subst hr_
    have mm : mo t t9 := mo_C_X4_want ht1
    exact ex_err C hxt hS (run_x (As := [.int (41 : Int32)]) (rest := []) C hK hT hS.2.1 (rv_T hK hT hkl.1) (mX4_want hkl ht1) q814 q816 qs17 q171 q817 ⟨rfl, rfl⟩ hdX4_want ⟨show 21 + 1 ≤ 22 + 3 * (N + 1) from by omega, show 8 + (2 + 11) + (221) ≤ 244 + 66 * (N + 1) from by omega⟩ (mo_c hm mm mo.rf) rfl hl.1 rfl (Nat.le_of_ble_eq_true rfl) dX4_one_103) (mo_c hm mm mo.rf)
  · have mm : mo t t1 := mo_C_X4_want ht1
    have m9 : mo t1 t9 := mo_C_X4_one_p106 mrec h
    refine ex_okU hS hK (run_x (As := [.int (41 : Int32)]) (rest := []) C hK hT hS.2.1 (rv_T hK hT hkl.1) (mX4_want hkl ht1) q814 q816 qs17 q171 q817 ⟨rfl, rfl⟩ hdX4_want ⟨show 21 + 1 ≤ 22 + 3 * (N + 1) from by omega, show 8 + (2 + 11) + (221) ≤ 244 + 66 * (N + 1) from by omega⟩ (mo_c hm mm m9) rfl hl.1 rfl (Nat.le_of_ble_eq_true rfl) dX4_one_103) (fun H locs hT hS hK => ?_)
    refine W.widen (mo_c hm mm mo.rf).1 (mo_c hm mm mo.rf).2 ?_
    replace hm := hm.tr mm
    exact bX4_one_p106 C hxt hkl hrec mrec t1 y0 H locs hT hS hK hm ls h (lv_sub hl [1, 0] rfl)
theorem bX4_one_p95 {p : Program} {l : Launch} {e : Env} {s : State} {m : MethodId} {args : Array Value} {below : List Frame} {meth : Method} {c : Code} {D : va_G} {dA : Nat → ClassId} {a : Nat} {k : KP a} {t0 : CS} {r : Except Nat Nat} {t9 : CS} (C : cx p s m args meth c cX4_one RX4 2 (some (.object "LettersOnStrike$Sum"))) (hxt : ∀ x ∈ c.exceptionTable.toList, False) (hkl : k.1 ≠ a ∧ l.stackTraces = false) {N : Nat} {rec : CS → Option (Except Nat Nat × CS)} (hrec : ∀ (t : CS) (r : Except Nat Nat) (t9 : CS), rec t = some (r, t9) → vx_Met l yX4_one (ws_ yX4_one cX4_one 2 (some (.object "LettersOnStrike$Sum"))) (rmX4_one N t t9) (cPc D dA a k t [.ref k.1]) (xQ D dA a k t t9 fR r) (xX D dA a k t t9 r) (t9.2.2.2 0 - t.2.2.2 0) (t9.2.2.2 1 - t.2.2.2 1) (ca a)) (mrec : ∀ (t : CS)  (r : Except Nat Nat) (t9 : CS), rec t  = some (r, t9) → mo t t9) : ∀ (t : CS) (H : Heap) (locs : List Loc) (hT : cW D dA a k t H) (hS : cS a s.heap H locs t0.2.2.2 2 t) (hK : kC D dA a k t.2.2.2 s) (hm : mo t0 t) (ls : Array Slot), C_X4_one_p95 rec t = some (r, t9) → lv_has ls 2 [(0, .ref k.1)] → W p l e (rmX4_one (N + 1) t0 t9) s m args below meth c H locs (t.2.2.2 0 - t0.2.2.2 0) (t.2.2.2 1 - t0.2.2.2 1) (vx_MQ below (xQ D dA a k t0 t9 fR r) (xX D dA a k t0 t9 r) args s (t9.2.2.2 0 - t0.2.2.2 0) (t9.2.2.2 1 - t0.2.2.2 1) (ca a)) (F0 m 95 ls []) := by
  obtain ⟨hx, hb, hr, hml, hown, hts, hlocks⟩ := id C
  intro t H locs hT hS hK hm ls h hl
  have m9 : mo t t9 := mo_C_X4_one_p95 mrec h
  unfold C_X4_one_p95 at h
  refine lv_aload_n hx hb dX4_one_95 rfl (lv_at hl 0 rfl) ?_
  rcases bdx_some h with ⟨q3, ht1, hr_⟩ | ⟨v2, t1, ht1, h⟩
  · subst hr_
    have mm : mo t t9 := mo_C_X4_sum mrec ht1
    exact ex_err C hxt hS (run_x (As := []) (rest := []) C hK hT hS.2.1 (rv_T hK hT hkl.1) (mX4_sum hrec mrec hkl ht1) q772 q774 qs12 q171 q775 ⟨rfl, rfl⟩ hdX4_sum ⟨show 24 + 3 * N + 1 ≤ 22 + 3 * (N + 1) from by omega, show 8 + (3 + 11) + (288 + 66 * N) ≤ 244 + 66 * (N + 1) from by omega⟩ (mo_c hm mm mo.rf) rfl hl.1 rfl (Nat.le_of_ble_eq_true rfl) dX4_one_96) (mo_c hm mm mo.rf)
  · have mm : mo t t1 := mo_C_X4_sum mrec ht1
    have m9 : mo t1 t9 := mo_C_X4_one_p99 mrec h
    refine ex_okR hS hK (run_x (As := []) (rest := []) C hK hT hS.2.1 (rv_T hK hT hkl.1) (mX4_sum hrec mrec hkl ht1) q772 q774 qs12 q171 q775 ⟨rfl, rfl⟩ hdX4_sum ⟨show 24 + 3 * N + 1 ≤ 22 + 3 * (N + 1) from by omega, show 8 + (3 + 11) + (288 + 66 * N) ≤ 244 + 66 * (N + 1) from by omega⟩ (mo_c hm mm m9) rfl hl.1 rfl (Nat.le_of_ble_eq_true rfl) dX4_one_96) (fun H locs hT hS hK => ?_)
    refine W.widen (mo_c hm mm mo.rf).1 (mo_c hm mm mo.rf).2 ?_
    replace hm := hm.tr mm
    exact bX4_one_p99 C hxt hkl hrec mrec t1 v2 H locs hT hS hK hm ls h (lv_sub hl [0] rfl)
theorem bX4_one_p130 {p : Program} {l : Launch} {e : Env} {s : State} {m : MethodId} {args : Array Value} {below : List Frame} {meth : Method} {c : Code} {D : va_G} {dA : Nat → ClassId} {a : Nat} {k : KP a} {t0 : CS} {r : Except Nat Nat} {t9 : CS} (C : cx p s m args meth c cX4_one RX4 2 (some (.object "LettersOnStrike$Sum"))) (hxt : ∀ x ∈ c.exceptionTable.toList, False) (hkl : k.1 ≠ a ∧ l.stackTraces = false) {N : Nat} {rec : CS → Option (Except Nat Nat × CS)} (hrec : ∀ (t : CS) (r : Except Nat Nat) (t9 : CS), rec t = some (r, t9) → vx_Met l yX4_one (ws_ yX4_one cX4_one 2 (some (.object "LettersOnStrike$Sum"))) (rmX4_one N t t9) (cPc D dA a k t [.ref k.1]) (xQ D dA a k t t9 fR r) (xX D dA a k t t9 r) (t9.2.2.2 0 - t.2.2.2 0) (t9.2.2.2 1 - t.2.2.2 1) (ca a)) (mrec : ∀ (t : CS)  (r : Except Nat Nat) (t9 : CS), rec t  = some (r, t9) → mo t t9) : ∀ (t : CS) (y0 : Nat) (y1 : Nat) (y2 : Nat) (H : Heap) (locs : List Loc) (hT : cW D dA a k t H) (hS : cS a s.heap H locs t0.2.2.2 2 t) (hK : kC D dA a k t.2.2.2 s) (hm : mo t0 t) (ls : Array Slot), C_X4_one_p130 rec t y0 y1 y2 = some (r, t9) → lv_has ls 2 [(0, .ref k.1)] → W p l e (rmX4_one (N + 1) t0 t9) s m args below meth c H locs (t.2.2.2 0 - t0.2.2.2 0) (t.2.2.2 1 - t0.2.2.2 1) (vx_MQ below (xQ D dA a k t0 t9 fR r) (xX D dA a k t0 t9 r) args s (t9.2.2.2 0 - t0.2.2.2 0) (t9.2.2.2 1 - t0.2.2.2 1) (ca a)) (F0 m 130 ls [.ref y2, .ref y1, .ref y0]) := by
  obtain ⟨hx, hb, hr, hml, hown, hts, hlocks⟩ := id C
  intro t y0 y1 y2 H locs hT hS hK hm ls h hl
  have m9 : mo t t9 := mo_C_X4_one_p130 mrec h
  unfold C_X4_one_p130 at h
  obtain ⟨t1, ht1, h⟩ := bd1_some h
  refine wc_void hS hK (run_iN (As := [.ref y2]) (rest := [.ref y0]) C hK hT hS.2.1 (mX11_init ht1) (nm820 hK.2.1) q821 q188 q822 ⟨rfl, rfl⟩ hdX11_init ⟨show 2 + 1 ≤ 22 + 3 * (N + 1) from by omega, show 8 + (2 + 11) + (50) ≤ 244 + 66 * (N + 1) from by omega⟩ (mo_z m9) rfl hl.1 rfl (Nat.le_of_ble_eq_true rfl) dX4_one_130) (fun H locs hT hS hK hNt1 => ?_)
  have mm : mo t t1 := mo.ni hNt1
  replace hm := hm.tr mm
  replace m9 : mo t1 t9 := mo.bk (funext fun i => hNt1 i (Nat.zero_le _)) m9
  refine W.widen (mo_s mm).1 (mo_s mm).2 ?_
  refine lv_astore_n (lv' := [(1, .ref y0), (0, .ref k.1)]) hx hb dX4_one_133 rfl hl (by decide) rfl (fun ls hl => ?_)
  refine lv_goto (tgt := 143) hx hb dX4_one_134 (by decide) ?_
  exact bX4_one_p143 C hxt hkl hrec mrec t1 y0 H locs hT hS hK hm ls h (lv_sub hl [1, 0] rfl)
theorem bX4_one_p125 {p : Program} {l : Launch} {e : Env} {s : State} {m : MethodId} {args : Array Value} {below : List Frame} {meth : Method} {c : Code} {D : va_G} {dA : Nat → ClassId} {a : Nat} {k : KP a} {t0 : CS} {r : Except Nat Nat} {t9 : CS} (C : cx p s m args meth c cX4_one RX4 2 (some (.object "LettersOnStrike$Sum"))) (hxt : ∀ x ∈ c.exceptionTable.toList, False) (hkl : k.1 ≠ a ∧ l.stackTraces = false) {N : Nat} {rec : CS → Option (Except Nat Nat × CS)} (hrec : ∀ (t : CS) (r : Except Nat Nat) (t9 : CS), rec t = some (r, t9) → vx_Met l yX4_one (ws_ yX4_one cX4_one 2 (some (.object "LettersOnStrike$Sum"))) (rmX4_one N t t9) (cPc D dA a k t [.ref k.1]) (xQ D dA a k t t9 fR r) (xX D dA a k t t9 r) (t9.2.2.2 0 - t.2.2.2 0) (t9.2.2.2 1 - t.2.2.2 1) (ca a)) (mrec : ∀ (t : CS)  (r : Except Nat Nat) (t9 : CS), rec t  = some (r, t9) → mo t t9) : ∀ (t : CS) (y0 : Nat) (H : Heap) (locs : List Loc) (hT : cW D dA a k t H) (hS : cS a s.heap H locs t0.2.2.2 2 t) (hK : kC D dA a k t.2.2.2 s) (hm : mo t0 t) (ls : Array Slot), C_X4_one_p125 rec t y0 = some (r, t9) → lv_has ls 2 [(0, .ref k.1)] → W p l e (rmX4_one (N + 1) t0 t9) s m args below meth c H locs (t.2.2.2 0 - t0.2.2.2 0) (t.2.2.2 1 - t0.2.2.2 1) (vx_MQ below (xQ D dA a k t0 t9 fR r) (xX D dA a k t0 t9 r) args s (t9.2.2.2 0 - t0.2.2.2 0) (t9.2.2.2 1 - t0.2.2.2 1) (ca a)) (F0 m 125 ls [.ref y0]) := by
  obtain ⟨hx, hb, hr, hml, hown, hts, hlocks⟩ := id C
  intro t y0 H locs hT hS hK hm ls h hl
  have m9 : mo t t9 := mo_C_X4_one_p125 mrec h
  unfold C_X4_one_p125 at h
  refine lv_dup hx hb dX4_one_125 rfl ?_
  refine lv_aload_n hx hb dX4_one_126 rfl (lv_at hl 0 rfl) ?_
  rcases bdx_some h with ⟨q3, ht1, hr_⟩ | ⟨v2, t1, ht1, h⟩
  · subst hr_
    have mm : mo t t9 := mrec _ _ _ ht1
    exact ex_err C hxt hS (run_x (As := []) (rest := [.ref y0, .ref y0]) C hK hT hS.2.1 (rv_T hK hT hkl.1) (hrec _ _ _ ht1) q782 q784 qs14 q171 q785 ⟨rfl, rfl⟩ hdX4_one ⟨show 22 + 3 * N + 1 ≤ 22 + 3 * (N + 1) from by omega, show 8 + (2 + 11) + (244 + 66 * N) ≤ 244 + 66 * (N + 1) from by omega⟩ (mo_c hm mm mo.rf) rfl hl.1 rfl (Nat.le_of_ble_eq_true rfl) dX4_one_127) (mo_c hm mm mo.rf)
  · have mm : mo t t1 := mrec _ _ _ ht1
    have m9 : mo t1 t9 := mo_C_X4_one_p130 mrec h
    refine ex_okR hS hK (run_x (As := []) (rest := [.ref y0, .ref y0]) C hK hT hS.2.1 (rv_T hK hT hkl.1) (hrec _ _ _ ht1) q782 q784 qs14 q171 q785 ⟨rfl, rfl⟩ hdX4_one ⟨show 22 + 3 * N + 1 ≤ 22 + 3 * (N + 1) from by omega, show 8 + (2 + 11) + (244 + 66 * N) ≤ 244 + 66 * (N + 1) from by omega⟩ (mo_c hm mm m9) rfl hl.1 rfl (Nat.le_of_ble_eq_true rfl) dX4_one_127) (fun H locs hT hS hK => ?_)
    refine W.widen (mo_c hm mm mo.rf).1 (mo_c hm mm mo.rf).2 ?_
    replace hm := hm.tr mm
    exact bX4_one_p130 C hxt hkl hrec mrec t1 y0 y0 v2 H locs hT hS hK hm ls h (lv_sub hl [0] rfl)
theorem bX4_one_p122 {p : Program} {l : Launch} {e : Env} {s : State} {m : MethodId} {args : Array Value} {below : List Frame} {meth : Method} {c : Code} {D : va_G} {dA : Nat → ClassId} {a : Nat} {k : KP a} {t0 : CS} {r : Except Nat Nat} {t9 : CS} (C : cx p s m args meth c cX4_one RX4 2 (some (.object "LettersOnStrike$Sum"))) (hxt : ∀ x ∈ c.exceptionTable.toList, False) (hkl : k.1 ≠ a ∧ l.stackTraces = false) {N : Nat} {rec : CS → Option (Except Nat Nat × CS)} (hrec : ∀ (t : CS) (r : Except Nat Nat) (t9 : CS), rec t = some (r, t9) → vx_Met l yX4_one (ws_ yX4_one cX4_one 2 (some (.object "LettersOnStrike$Sum"))) (rmX4_one N t t9) (cPc D dA a k t [.ref k.1]) (xQ D dA a k t t9 fR r) (xX D dA a k t t9 r) (t9.2.2.2 0 - t.2.2.2 0) (t9.2.2.2 1 - t.2.2.2 1) (ca a)) (mrec : ∀ (t : CS)  (r : Except Nat Nat) (t9 : CS), rec t  = some (r, t9) → mo t t9) : ∀ (t : CS) (H : Heap) (locs : List Loc) (hT : cW D dA a k t H) (hS : cS a s.heap H locs t0.2.2.2 2 t) (hK : kC D dA a k t.2.2.2 s) (hm : mo t0 t) (ls : Array Slot), C_X4_one_p122 rec t = some (r, t9) → lv_has ls 2 [(0, .ref k.1)] → W p l e (rmX4_one (N + 1) t0 t9) s m args below meth c H locs (t.2.2.2 0 - t0.2.2.2 0) (t.2.2.2 1 - t0.2.2.2 1) (vx_MQ below (xQ D dA a k t0 t9 fR r) (xX D dA a k t0 t9 r) args s (t9.2.2.2 0 - t0.2.2.2 0) (t9.2.2.2 1 - t0.2.2.2 1) (ca a)) (F0 m 122 ls []) := by
  obtain ⟨hx, hb, hr, hml, hown, hts, hlocks⟩ := id C
  intro t H locs hT hS hK hm ls h hl
  have m9 : mo t t9 := mo_C_X4_one_p122 mrec h
  unfold C_X4_one_p122 at h
  obtain ⟨t1, et1, h⟩ := lt1_ex h
  have m9 : mo t1 t9 := mo_C_X4_one_p125 mrec h
  refine n_new (ci := 11) (fs := [.null]) in_X11 tyX11 tyX11_ok rfl C hK hT hS q818 q819 q188 (fun j hj => by rcases (show j = 0 by omega) with rfl; rfl) (mo_n hm et1 m9) dX4_one_122 (fun t_ H et_ hT hS hK => ?_)
  obtain rfl := et1.trans et_.symm
  refine W.widen (mo_n1 hm et1).1 (mo_n1 hm et1).2 ?_
  replace hm := hm.tr (mo.new et1)
  exact bX4_one_p125 C hxt hkl hrec mrec t1 (t.2.2.2 0) H locs hT hS hK hm ls h (lv_sub hl [0] rfl)
theorem bX4_one_p142 {p : Program} {l : Launch} {e : Env} {s : State} {m : MethodId} {args : Array Value} {below : List Frame} {meth : Method} {c : Code} {D : va_G} {dA : Nat → ClassId} {a : Nat} {k : KP a} {t0 : CS} {r : Except Nat Nat} {t9 : CS} (C : cx p s m args meth c cX4_one RX4 2 (some (.object "LettersOnStrike$Sum"))) (hxt : ∀ x ∈ c.exceptionTable.toList, False) (hkl : k.1 ≠ a ∧ l.stackTraces = false) {N : Nat} {rec : CS → Option (Except Nat Nat × CS)} (hrec : ∀ (t : CS) (r : Except Nat Nat) (t9 : CS), rec t = some (r, t9) → vx_Met l yX4_one (ws_ yX4_one cX4_one 2 (some (.object "LettersOnStrike$Sum"))) (rmX4_one N t t9) (cPc D dA a k t [.ref k.1]) (xQ D dA a k t t9 fR r) (xX D dA a k t t9 r) (t9.2.2.2 0 - t.2.2.2 0) (t9.2.2.2 1 - t.2.2.2 1) (ca a)) (mrec : ∀ (t : CS)  (r : Except Nat Nat) (t9 : CS), rec t  = some (r, t9) → mo t t9) : ∀ (t : CS) (y0 : Nat) (H : Heap) (locs : List Loc) (hT : cW D dA a k t H) (hS : cS a s.heap H locs t0.2.2.2 2 t) (hK : kC D dA a k t.2.2.2 s) (hm : mo t0 t) (ls : Array Slot), C_X4_one_p142 rec t y0 = some (r, t9) → lv_has ls 2 [] → W p l e (rmX4_one (N + 1) t0 t9) s m args below meth c H locs (t.2.2.2 0 - t0.2.2.2 0) (t.2.2.2 1 - t0.2.2.2 1) (vx_MQ below (xQ D dA a k t0 t9 fR r) (xX D dA a k t0 t9 r) args s (t9.2.2.2 0 - t0.2.2.2 0) (t9.2.2.2 1 - t0.2.2.2 1) (ca a)) (F0 m 142 ls [.ref y0]) := by
  obtain ⟨hx, hb, hr, hml, hown, hts, hlocks⟩ := id C
  intro t y0 H locs hT hS hK hm ls h hl
  have m9 : mo t t9 := mo_C_X4_one_p142 mrec h
  unfold C_X4_one_p142 at h
  obtain ⟨hw1, h⟩ := ckW_some h
  cases h
  exact ex_thr C hxt hK hT hS hw1 dX4_one_142
theorem bX4_one_p82 {p : Program} {l : Launch} {e : Env} {s : State} {m : MethodId} {args : Array Value} {below : List Frame} {meth : Method} {c : Code} {D : va_G} {dA : Nat → ClassId} {a : Nat} {k : KP a} {t0 : CS} {r : Except Nat Nat} {t9 : CS} (C : cx p s m args meth c cX4_one RX4 2 (some (.object "LettersOnStrike$Sum"))) (hxt : ∀ x ∈ c.exceptionTable.toList, False) (hkl : k.1 ≠ a ∧ l.stackTraces = false) {N : Nat} {rec : CS → Option (Except Nat Nat × CS)} (hrec : ∀ (t : CS) (r : Except Nat Nat) (t9 : CS), rec t = some (r, t9) → vx_Met l yX4_one (ws_ yX4_one cX4_one 2 (some (.object "LettersOnStrike$Sum"))) (rmX4_one N t t9) (cPc D dA a k t [.ref k.1]) (xQ D dA a k t t9 fR r) (xX D dA a k t t9 r) (t9.2.2.2 0 - t.2.2.2 0) (t9.2.2.2 1 - t.2.2.2 1) (ca a)) (mrec : ∀ (t : CS)  (r : Except Nat Nat) (t9 : CS), rec t  = some (r, t9) → mo t t9) : ∀ (t : CS) (H : Heap) (locs : List Loc) (hT : cW D dA a k t H) (hS : cS a s.heap H locs t0.2.2.2 2 t) (hK : kC D dA a k t.2.2.2 s) (hm : mo t0 t) (ls : Array Slot), C_X4_one_p82 rec t = some (r, t9) → lv_has ls 2 [(0, .ref k.1)] → W p l e (rmX4_one (N + 1) t0 t9) s m args below meth c H locs (t.2.2.2 0 - t0.2.2.2 0) (t.2.2.2 1 - t0.2.2.2 1) (vx_MQ below (xQ D dA a k t0 t9 fR r) (xX D dA a k t0 t9 r) args s (t9.2.2.2 0 - t0.2.2.2 0) (t9.2.2.2 1 - t0.2.2.2 1) (ca a)) (F0 m 82 ls []) := by
  obtain ⟨hx, hb, hr, hml, hown, hts, hlocks⟩ := id C
  intro t H locs hT hS hK hm ls h hl
  have m9 : mo t t9 := mo_C_X4_one_p82 mrec h
  unfold C_X4_one_p82 at h
  refine lv_aload_n hx hb dX4_one_82 rfl (lv_at hl 0 rfl) ?_
  refine c_getT C hK hT hkl.1 4 (by decide) q521 rfl (v := .int (t.1 200 4)) rfl dX4_one_83 ?_
  refine lv_bipush (v := 40) hx hb dX4_one_86 (by decide) ?_
  refine lv_icmp_ne (tgt := 109) hx hb dX4_one_88 (by decide) (fun c => ?_) (fun c => ?_)
  · replace h := if_f c h
    refine lv_aload_n hx hb dX4_one_109 rfl (lv_at hl 0 rfl) ?_
    refine c_getT C hK hT hkl.1 4 (by decide) q521 rfl (v := .int (t.1 200 4)) rfl dX4_one_110 ?_
    refine lv_bipush (v := 45) hx hb dX4_one_113 (by decide) ?_
    refine lv_icmp_ne (tgt := 137) hx hb dX4_one_115 (by decide) (fun c => ?_) (fun c => ?_)
    · replace h := if_f c h
      refine lv_aload_n hx hb dX4_one_137 rfl (lv_at hl 0 rfl) ?_
      refine lv_iconst (v := 1) hx hb dX4_one_138 (by decide) ?_
      obtain ⟨v2, t1, ht1, h⟩ := bd2_some h
      have mm : mo t t1 := mo_C_wrong ht1
      have m9 : mo t1 t9 := mo_C_X4_one_p142 mrec h
      refine wa_ref hS hK (run_c (As := [.int (1 : Int32)]) (rest := []) C hK hT hS.2.1 (rv_T hK hT hkl.1) (mX4_wrong hkl ht1) q672 q674 qs5 q171 q675 ⟨rfl, rfl⟩ hdX4_wrong ⟨show 20 + 1 ≤ 22 + 3 * (N + 1) from by omega, show 8 + (2 + 11) + (200) ≤ 244 + 66 * (N + 1) from by omega⟩ (mo_c hm mm m9) rfl hl.1 rfl (Nat.le_of_ble_eq_true rfl) dX4_one_139) (fun H locs hT hS hK => ?_)
      refine W.widen (mo_c hm mm mo.rf).1 (mo_c hm mm mo.rf).2 ?_
      replace hm := hm.tr mm
      exact bX4_one_p142 C hxt hkl hrec mrec t1 v2 H locs hT hS hK hm ls h (lv_sub hl [] rfl)
    · replace h := if_t c h
      refine lv_aload_n hx hb dX4_one_118 rfl (lv_at hl 0 rfl) ?_
      rcases bdx_some h with ⟨q5, ht3, hr_⟩ | ⟨v4, t3, ht3, h⟩
      · subst hr_
        have mm : mo t t9 := mo_C_X4_opens ht3
        exact ex_err C hxt hS (run_x (As := []) (rest := []) C hK hT hS.2.1 (rv_T hK hT hkl.1) (mX4_opens hkl ht3) q758 q760 qs11 q171 q761 ⟨rfl, rfl⟩ hdX4_opens ⟨show 21 + 1 ≤ 22 + 3 * (N + 1) from by omega, show 8 + (1 + 11) + (221) ≤ 244 + 66 * (N + 1) from by omega⟩ (mo_c hm mm mo.rf) rfl hl.1 rfl (Nat.le_of_ble_eq_true rfl) dX4_one_119) (mo_c hm mm mo.rf)
      · have mm : mo t t3 := mo_C_X4_opens ht3
        have m9 : mo t3 t9 := mo_C_X4_one_p122 mrec h
        refine ex_okU hS hK (run_x (As := []) (rest := []) C hK hT hS.2.1 (rv_T hK hT hkl.1) (mX4_opens hkl ht3) q758 q760 qs11 q171 q761 ⟨rfl, rfl⟩ hdX4_opens ⟨show 21 + 1 ≤ 22 + 3 * (N + 1) from by omega, show 8 + (1 + 11) + (221) ≤ 244 + 66 * (N + 1) from by omega⟩ (mo_c hm mm m9) rfl hl.1 rfl (Nat.le_of_ble_eq_true rfl) dX4_one_119) (fun H locs hT hS hK => ?_)
        refine W.widen (mo_c hm mm mo.rf).1 (mo_c hm mm mo.rf).2 ?_
        replace hm := hm.tr mm
        exact bX4_one_p122 C hxt hkl hrec mrec t3 H locs hT hS hK hm ls h (lv_sub hl [0] rfl)
  · replace h := if_t c h
    refine lv_aload_n hx hb dX4_one_91 rfl (lv_at hl 0 rfl) ?_
    rcases bdx_some h with ⟨q8, ht6, hr_⟩ | ⟨v7, t6, ht6, h⟩
    · subst hr_
      have mm : mo t t9 := mo_C_X4_opens ht6
      exact ex_err C hxt hS (run_x (As := []) (rest := []) C hK hT hS.2.1 (rv_T hK hT hkl.1) (mX4_opens hkl ht6) q758 q760 qs11 q171 q761 ⟨rfl, rfl⟩ hdX4_opens ⟨show 21 + 1 ≤ 22 + 3 * (N + 1) from by omega, show 8 + (1 + 11) + (221) ≤ 244 + 66 * (N + 1) from by omega⟩ (mo_c hm mm mo.rf) rfl hl.1 rfl (Nat.le_of_ble_eq_true rfl) dX4_one_92) (mo_c hm mm mo.rf)
    · have mm : mo t t6 := mo_C_X4_opens ht6
      have m9 : mo t6 t9 := mo_C_X4_one_p95 mrec h
      refine ex_okU hS hK (run_x (As := []) (rest := []) C hK hT hS.2.1 (rv_T hK hT hkl.1) (mX4_opens hkl ht6) q758 q760 qs11 q171 q761 ⟨rfl, rfl⟩ hdX4_opens ⟨show 21 + 1 ≤ 22 + 3 * (N + 1) from by omega, show 8 + (1 + 11) + (221) ≤ 244 + 66 * (N + 1) from by omega⟩ (mo_c hm mm m9) rfl hl.1 rfl (Nat.le_of_ble_eq_true rfl) dX4_one_92) (fun H locs hT hS hK => ?_)
      refine W.widen (mo_c hm mm mo.rf).1 (mo_c hm mm mo.rf).2 ?_
      replace hm := hm.tr mm
      exact bX4_one_p95 C hxt hkl hrec mrec t6 H locs hT hS hK hm ls h (lv_sub hl [0] rfl)
theorem bX4_one {p : Program} {l : Launch} {e : Env} {s : State} {m : MethodId} {args : Array Value} {below : List Frame} {meth : Method} {c : Code} {D : va_G} {dA : Nat → ClassId} {a : Nat} {k : KP a} {t0 : CS} {r : Except Nat Nat} {t9 : CS} (C : cx p s m args meth c cX4_one RX4 2 (some (.object "LettersOnStrike$Sum"))) (hxt : ∀ x ∈ c.exceptionTable.toList, False) (hkl : k.1 ≠ a ∧ l.stackTraces = false) {N : Nat} {rec : CS → Option (Except Nat Nat × CS)} (hrec : ∀ (t : CS) (r : Except Nat Nat) (t9 : CS), rec t = some (r, t9) → vx_Met l yX4_one (ws_ yX4_one cX4_one 2 (some (.object "LettersOnStrike$Sum"))) (rmX4_one N t t9) (cPc D dA a k t [.ref k.1]) (xQ D dA a k t t9 fR r) (xX D dA a k t t9 r) (t9.2.2.2 0 - t.2.2.2 0) (t9.2.2.2 1 - t.2.2.2 1) (ca a)) (mrec : ∀ (t : CS)  (r : Except Nat Nat) (t9 : CS), rec t  = some (r, t9) → mo t t9) : ∀ (t : CS) (H : Heap) (locs : List Loc) (hT : cW D dA a k t H) (hS : cS a s.heap H locs t0.2.2.2 2 t) (hK : kC D dA a k t.2.2.2 s) (hm : mo t0 t) (ls : Array Slot), C_X4_one_b rec t = some (r, t9) → lv_has ls 2 [(0, .ref k.1)] → W p l e (rmX4_one (N + 1) t0 t9) s m args below meth c H locs (t.2.2.2 0 - t0.2.2.2 0) (t.2.2.2 1 - t0.2.2.2 1) (vx_MQ below (xQ D dA a k t0 t9 fR r) (xX D dA a k t0 t9 r) args s (t9.2.2.2 0 - t0.2.2.2 0) (t9.2.2.2 1 - t0.2.2.2 1) (ca a)) (F0 m 0 ls []) := by
  obtain ⟨hx, hb, hr, hml, hown, hts, hlocks⟩ := id C
  intro t H locs hT hS hK hm ls h hl
  have m9 : mo t t9 := mo_C_X4_one_b mrec h
  unfold C_X4_one_b at h
  refine lv_aload_n hx hb dX4_one_0 rfl (lv_at hl 0 rfl) ?_
  refine c_getT C hK hT hkl.1 4 (by decide) q521 rfl (v := .int (t.1 200 4)) rfl dX4_one_1 ?_
  refine lv_sipush (v := 300) hx hb dX4_one_4 (by decide) ?_
  refine lv_icmp_ne (tgt := 26) hx hb dX4_one_7 (by decide) (fun c => ?_) (fun c => ?_)
  · replace h := if_f c h
    refine lv_aload_n hx hb dX4_one_26 rfl (lv_at hl 0 rfl) ?_
    refine c_getT C hK hT hkl.1 4 (by decide) q521 rfl (v := .int (t.1 200 4)) rfl dX4_one_27 ?_
    refine lv_sipush (v := 221) hx hb dX4_one_30 (by decide) ?_
    refine lv_icmp_lt (tgt := 82) hx hb dX4_one_33 (by decide) (fun c => ?_) (fun c => ?_)
    · replace h := if_t c h
      exact bX4_one_p82 C hxt hkl hrec mrec t H locs hT hS hK hm ls h (lv_sub hl [0] rfl)
    · replace h := if_f c h
      refine lv_aload_n hx hb dX4_one_36 rfl (lv_at hl 0 rfl) ?_
      refine c_getT C hK hT hkl.1 4 (by decide) q521 rfl (v := .int (t.1 200 4)) rfl dX4_one_37 ?_
      refine lv_sipush (v := 234) hx hb dX4_one_40 (by decide) ?_
      refine lv_icmp_gt (tgt := 82) hx hb dX4_one_43 (by decide) (fun c => ?_) (fun c => ?_)
      · replace h := if_t c h
        exact bX4_one_p82 C hxt hkl hrec mrec t H locs hT hS hK hm ls h (lv_sub hl [0] rfl)
      · replace h := if_f c h
        refine lv_aload_n hx hb dX4_one_46 rfl (lv_at hl 0 rfl) ?_
        refine c_getT C hK hT hkl.1 4 (by decide) q521 rfl (v := .int (t.1 200 4)) rfl dX4_one_47 ?_
        refine lv_sipush (v := 221) hx hb dX4_one_50 (by decide) ?_
        refine lv_isub hx hb dX4_one_53 ?_
        refine lv_topi (fun v1 ev1 => ?_)
        replace h := lt1_sub ev1 h
        refine lv_istore_n (lv' := [(1, .int v1), (0, .ref k.1)]) hx hb dX4_one_54 rfl hl (by decide) rfl (fun ls hl => ?_)
        refine lv_aload_n hx hb dX4_one_55 rfl (lv_at hl 1 rfl) ?_
        refine lv_iload_n hx hb dX4_one_56 rfl (lv_at hl 0 rfl) ?_
        obtain ⟨v2, hv2, h⟩ := bd1_some h
        refine r_int (run_c (As := [.int v1]) (rest := []) C hK hT hS.2.1 (rv_T hK hT hkl.1) (mX4_mayName hkl hv2) q800 q802 qs16 q171 q803 ⟨rfl, rfl⟩ hdX4_mayName ⟨show 0 + 1 ≤ 22 + 3 * (N + 1) from by omega, show 8 + (2 + 11) + (0) ≤ 244 + 66 * (N + 1) from by omega⟩ (mo_z m9) rfl hl.1 rfl (Nat.le_of_ble_eq_true rfl) dX4_one_57) ?_
        refine lv_if_ne (tgt := 69) hx hb dX4_one_60 (by decide) (fun c => ?_) (fun c => ?_)
        · replace h := if_f c h
          refine lv_aload_n hx hb dX4_one_69 rfl (lv_at hl 1 rfl) ?_
          obtain ⟨t3, ht3, h⟩ := bd1_some h
          refine wc_void hS hK (run_c (As := []) (rest := []) C hK hT hS.2.1 (rv_T hK hT hkl.1) (mX4_next hkl ht3) q603 q605 qs3 q171 q606 ⟨rfl, rfl⟩ hdX4_next ⟨show 5 + 1 ≤ 22 + 3 * (N + 1) from by omega, show 8 + (3 + 11) + (107) ≤ 244 + 66 * (N + 1) from by omega⟩ (mo_z m9) rfl hl.1 rfl (Nat.le_of_ble_eq_true rfl) dX4_one_70) (fun H locs hT hS hK hNt3 => ?_)
          have mm : mo t t3 := mo.ni hNt3
          replace hm := hm.tr mm
          replace m9 : mo t3 t9 := mo.bk (funext fun i => hNt3 i (Nat.zero_le _)) m9
          refine W.widen (mo_s mm).1 (mo_s mm).2 ?_
          obtain ⟨t4, et4, h⟩ := lt1_ex h
          have m9 : mo t4 t9 := mo_C_X4_one_p76 mrec h
          refine n_new (ci := 10) (fs := [.int 0]) in_X10 tyX10 tyX10_ok rfl C hK hT hS q804 q805 q187 (fun j hj => by rcases (show j = 0 by omega) with rfl; rfl) (mo_n hm et4 m9) dX4_one_73 (fun t_ H et_ hT hS hK => ?_)
          obtain rfl := et4.trans et_.symm
          refine W.widen (mo_n1 hm et4).1 (mo_n1 hm et4).2 ?_
          replace hm := hm.tr (mo.new et4)
          exact bX4_one_p76 C hxt hkl hrec mrec t4 v1 (t3.2.2.2 0) H locs hT hS hK hm ls h (lv_sub hl [0] rfl)
        · replace h := if_t c h
          refine lv_aload_n hx hb dX4_one_63 rfl (lv_at hl 1 rfl) ?_
          refine lv_iconst (v := 5) hx hb dX4_one_64 (by decide) ?_
          obtain ⟨v6, t5, ht5, h⟩ := bd2_some h
          have mm : mo t t5 := mo_C_wrong ht5
          have m9 : mo t5 t9 := mo_C_X4_one_p68 mrec h
          refine wa_ref hS hK (run_c (As := [.int (5 : Int32)]) (rest := []) C hK hT hS.2.1 (rv_T hK hT hkl.1) (mX4_wrong hkl ht5) q672 q674 qs5 q171 q675 ⟨rfl, rfl⟩ hdX4_wrong ⟨show 20 + 1 ≤ 22 + 3 * (N + 1) from by omega, show 8 + (2 + 11) + (200) ≤ 244 + 66 * (N + 1) from by omega⟩ (mo_c hm mm m9) rfl hl.1 rfl (Nat.le_of_ble_eq_true rfl) dX4_one_65) (fun H locs hT hS hK => ?_)
          refine W.widen (mo_c hm mm mo.rf).1 (mo_c hm mm mo.rf).2 ?_
          replace hm := hm.tr mm
          exact bX4_one_p68 C hxt hkl hrec mrec t5 v6 H locs hT hS hK hm ls h (lv_sub hl [] rfl)
  · replace h := if_t c h
    obtain ⟨t7, et7, h⟩ := lt1_ex h
    have m9 : mo t7 t9 := mo_C_X4_one_p13 mrec h
    refine n_new (ci := 9) (fs := [.int 0]) in_X9 tyX9 tyX9_ok rfl C hK hT hS q786 q787 q186 (fun j hj => by rcases (show j = 0 by omega) with rfl; rfl) (mo_n hm et7 m9) dX4_one_10 (fun t_ H et_ hT hS hK => ?_)
    obtain rfl := et7.trans et_.symm
    refine W.widen (mo_n1 hm et7).1 (mo_n1 hm et7).2 ?_
    replace hm := hm.tr (mo.new et7)
    exact bX4_one_p13 C hxt hkl hrec mrec t7 (t.2.2.2 0) H locs hT hS hK hm ls h (lv_sub hl [0] rfl)
theorem mX4_one {l : Launch} {D : va_G} {dA : Nat → ClassId} {a : Nat} {k : KP a} (hkl : k.1 ≠ a ∧ l.stackTraces = false) : ∀ (n : Nat), ∀ (t : CS) (r : Except Nat Nat) (t9 : CS), C_X4_one n t = some (r, t9) → vx_Met l yX4_one (ws_ yX4_one cX4_one 2 (some (.object "LettersOnStrike$Sum"))) (rmX4_one n t t9) (cPc D dA a k t [.ref k.1]) (xQ D dA a k t t9 fR r) (xX D dA a k t t9 r) (t9.2.2.2 0 - t.2.2.2 0) (t9.2.2.2 1 - t.2.2.2 1) (ca a) := by
  intro n
  induction n with
  | zero =>
    intro t r t9 h
    have h : none = some _ := h
    cases h
  | succ n ih =>
    intro t r t9 h
    rw [C_X4_one] at h
    exact en_X (by decide +kernel) rfl (Nat.le_of_ble_eq_true rfl) (fun p e s m below meth c ls C hxt hK hT hl => sub0 (bX4_one C hxt hkl ih (mo_C_X4_one n) t _ [] hT cS.rf hK mo.rf ls h hl))
set_option maxRecDepth 20000 in
abbrev rmX7_init : Room := { frames := 2, cells := 0, slots := 0, locals := 50 }
theorem hdX7_init : yX7_init.name = "<init>" ∧ yX7_init.cls ≠ "java/lang/invoke/MethodHandle" ∧ yX7_init.cls ≠ "java/lang/invoke/VarHandle" ∧ (parseMethodDescriptor yX7_init.desc).map (fun d => d.parameters.length) = some 1 := by decide +kernel
theorem bX7_init {p : Program} {l : Launch} {e : Env} {s : State} {m : MethodId} {args : Array Value} {below : List Frame} {meth : Method} {c : Code} {D : va_G} {dA : Nat → ClassId} {a : Nat} {k : KP a} {t0 : CS} {t9 : CS} (C : cx p s m args meth c cX7_init RX7 2 none) (hin : meth.name = "<init>") : ∀ (t : CS) (x0 : Nat) (x1 : Nat) (H : Heap) (locs : List Loc) (hT : cW D dA a k t H) (hS : cS a s.heap H locs t0.2.2.2 0 t) (hK : kC D dA a k t.2.2.2 s) (ls : Array Slot), C_X7_init t x0 x1 = some t9 → lv_has ls 2 [(0, .ref x0), (1, .ref x1)] → W p l e rmX7_init s m args below meth c H locs 0 0 (MQ below (cQ D dA a k 0 t0 t9 none) args s 0 0 (ca a)) (F0 m 0 ls []) := by
  obtain ⟨hx, hb, hr, hml, hown, hts, hlocks⟩ := id C
  intro t x0 x1 H locs hT hS hK ls h hl
  unfold C_X7_init at h
  refine lv_aload_n hx hb dX7_init_0 rfl (lv_at hl 0 rfl) ?_
  obtain ⟨v1, hv1, h⟩ := bd1_some h
  refine r_void (run_i (As := []) (rest := []) C hK hT hS.2.1 (mJ6_init hv1) q767 q473 q169 q474 ⟨rfl, rfl⟩ hdJ6_init ⟨Nat.le_of_ble_eq_true rfl, Nat.le_of_ble_eq_true rfl⟩ ⟨Nat.zero_le _, Nat.zero_le _⟩ rfl hl.1 rfl (Nat.le_of_ble_eq_true rfl) dX7_init_1) ?_
  refine lv_aload_n hx hb dX7_init_4 rfl (lv_at hl 0 rfl) ?_
  refine lv_aload_n hx hb dX7_init_5 rfl (lv_at hl 1 rfl) ?_
  obtain ⟨t2, ht2, h⟩ := bd1_some h
  refine d_put (ci := 7) in_X7 tyX7 tyX7_ok nmX7 rfl C hK hT hS 0 (by decide) q768 rfl (Or.inr ⟨rfl, hin, rfl⟩) ht2 (tyX7_ok 0 (by decide)) rfl rfl dX7_init_6 (fun H locs hT hS hK => ?_)
  exact ec_v C hT hS h dX7_init_9
theorem mX7_init {l : Launch} {D : va_G} {dA : Nat → ClassId} {a : Nat} {k : KP a} {t : CS} {x0 : Nat} {x1 : Nat} {t9 : CS} (h : C_X7_init t x0 x1 = some t9) : Met l yX7_init (ws_ yX7_init cX7_init 2 none) rmX7_init (cPc D dA a k t [.ref x0, .ref x1]) (cQ D dA a k 0 t t9 none) 0 0 (ca a) := en_Ci (by decide +kernel) rfl (Nat.le_of_ble_eq_true rfl) (fun p e s m below meth c ls C hin hK hT hl => bX7_init C hin t x0 x1 _ [] hT cS.rf hK ls h hl)
set_option maxRecDepth 20000 in
abbrev rmX12_init : Room := { frames := 2, cells := 0, slots := 0, locals := 50 }
theorem hdX12_init : yX12_init.name = "<init>" ∧ yX12_init.cls ≠ "java/lang/invoke/MethodHandle" ∧ yX12_init.cls ≠ "java/lang/invoke/VarHandle" ∧ (parseMethodDescriptor yX12_init.desc).map (fun d => d.parameters.length) = some 3 := by decide +kernel
theorem bX12_init {p : Program} {l : Launch} {e : Env} {s : State} {m : MethodId} {args : Array Value} {below : List Frame} {meth : Method} {c : Code} {D : va_G} {dA : Nat → ClassId} {a : Nat} {k : KP a} {t0 : CS} {t9 : CS} (C : cx p s m args meth c cX12_init RX12 4 none) (hin : meth.name = "<init>") : ∀ (t : CS) (x0 : Nat) (x1 : Int32) (x2 : Nat) (x3 : Nat) (H : Heap) (locs : List Loc) (hT : cW D dA a k t H) (hS : cS a s.heap H locs t0.2.2.2 0 t) (hK : kC D dA a k t.2.2.2 s) (ls : Array Slot), C_X12_init t x0 x1 x2 x3 = some t9 → lv_has ls 4 [(0, .ref x0), (1, .int x1), (2, .ref x2), (3, .ref x3)] → W p l e rmX12_init s m args below meth c H locs 0 0 (MQ below (cQ D dA a k 0 t0 t9 none) args s 0 0 (ca a)) (F0 m 0 ls []) := by
  obtain ⟨hx, hb, hr, hml, hown, hts, hlocks⟩ := id C
  intro t x0 x1 x2 x3 H locs hT hS hK ls h hl
  unfold C_X12_init at h
  refine lv_aload_n hx hb dX12_init_0 rfl (lv_at hl 0 rfl) ?_
  obtain ⟨v1, hv1, h⟩ := bd1_some h
  refine r_void (run_i (As := []) (rest := []) C hK hT hS.2.1 (mJ6_init hv1) q942 q473 q169 q474 ⟨rfl, rfl⟩ hdJ6_init ⟨Nat.le_of_ble_eq_true rfl, Nat.le_of_ble_eq_true rfl⟩ ⟨Nat.zero_le _, Nat.zero_le _⟩ rfl hl.1 rfl (Nat.le_of_ble_eq_true rfl) dX12_init_1) ?_
  refine lv_aload_n hx hb dX12_init_4 rfl (lv_at hl 0 rfl) ?_
  refine lv_iload_n hx hb dX12_init_5 rfl (lv_at hl 1 rfl) ?_
  obtain ⟨t2, ht2, h⟩ := bd1_some h
  refine d_put (ci := 12) in_X12 tyX12 tyX12_ok nmX12 rfl C hK hT hS 0 (by decide) q943 rfl (Or.inr ⟨rfl, hin, rfl⟩) ht2 (tyX12_ok 0 (by decide)) rfl rfl dX12_init_6 (fun H locs hT hS hK => ?_)
  refine lv_aload_n hx hb dX12_init_9 rfl (lv_at hl 0 rfl) ?_
  refine lv_aload_n hx hb dX12_init_10 rfl (lv_at hl 2 rfl) ?_
  obtain ⟨t3, ht3, h⟩ := bd1_some h
  refine d_put (ci := 12) in_X12 tyX12 tyX12_ok nmX12 rfl C hK hT hS 1 (by decide) q944 rfl (Or.inr ⟨rfl, hin, rfl⟩) ht3 (tyX12_ok 1 (by decide)) rfl rfl dX12_init_11 (fun H locs hT hS hK => ?_)
  refine lv_aload_n hx hb dX12_init_14 rfl (lv_at hl 0 rfl) ?_
  refine lv_aload_n hx hb dX12_init_15 rfl (lv_at hl 3 rfl) ?_
  obtain ⟨t4, ht4, h⟩ := bd1_some h
  refine d_put (ci := 12) in_X12 tyX12 tyX12_ok nmX12 rfl C hK hT hS 2 (by decide) q945 rfl (Or.inr ⟨rfl, hin, rfl⟩) ht4 (tyX12_ok 2 (by decide)) rfl rfl dX12_init_16 (fun H locs hT hS hK => ?_)
  exact ec_v C hT hS h dX12_init_19
theorem mX12_init {l : Launch} {D : va_G} {dA : Nat → ClassId} {a : Nat} {k : KP a} {t : CS} {x0 : Nat} {x1 : Int32} {x2 : Nat} {x3 : Nat} {t9 : CS} (h : C_X12_init t x0 x1 x2 x3 = some t9) : Met l yX12_init (ws_ yX12_init cX12_init 4 none) rmX12_init (cPc D dA a k t [.ref x0, .int x1, .ref x2, .ref x3]) (cQ D dA a k 0 t t9 none) 0 0 (ca a) := en_Ci (by decide +kernel) rfl (Nat.le_of_ble_eq_true rfl) (fun p e s m below meth c ls C hin hK hT hl => bX12_init C hin t x0 x1 x2 x3 _ [] hT cS.rf hK ls h hl)
set_option maxRecDepth 20000 in
abbrev rmX4_ask (N : Nat) (t t9 : CS) : Room := { frames := 217 + 1 * N, cells := t9.2.2.2 0 - t.2.2.2 0, slots := t9.2.2.2 1 - t.2.2.2 1, locals := 4534 + 22 * N }
theorem hdX4_ask : yX4_ask.cls = RX4 ∧ yX4_ask.cls ≠ "java/lang/invoke/MethodHandle" ∧ yX4_ask.cls ≠ "java/lang/invoke/VarHandle" ∧ (parseMethodDescriptor yX4_ask.desc).map (fun d => d.parameters.length) = some 0 := by decide +kernel
theorem bX4_ask_p22 {p : Program} {l : Launch} {e : Env} {s : State} {m : MethodId} {args : Array Value} {below : List Frame} {meth : Method} {c : Code} {D : va_G} {dA : Nat → ClassId} {a : Nat} {k : KP a} {t0 : CS} {r : Except Nat Nat} {t9 : CS} (C : cx p s m args meth c cX4_ask RX4 3 (some (.object "LettersOnStrike$Asked"))) (hxt : ∀ x ∈ c.exceptionTable.toList, False) (hkl : k.1 ≠ a ∧ l.stackTraces = false) {N : Nat} {rec : CS → Option (Except Nat Nat × CS)} (hrec : ∀ (t : CS) (r : Except Nat Nat) (t9 : CS), rec t = some (r, t9) → vx_Met l yX4_ask (ws_ yX4_ask cX4_ask 3 (some (.object "LettersOnStrike$Asked"))) (rmX4_ask N t t9) (cPc D dA a k t [.ref k.1]) (xQ D dA a k t t9 fR r) (xX D dA a k t t9 r) (t9.2.2.2 0 - t.2.2.2 0) (t9.2.2.2 1 - t.2.2.2 1) (ca a)) (mrec : ∀ (t : CS)  (r : Except Nat Nat) (t9 : CS), rec t  = some (r, t9) → mo t t9) : ∀ (t : CS) (y0 : Nat) (y1 : Nat) (y2 : Nat) (H : Heap) (locs : List Loc) (hT : cW D dA a k t H) (hS : cS a s.heap H locs t0.2.2.2 2 t) (hK : kC D dA a k t.2.2.2 s) (hm : mo t0 t) (ls : Array Slot), C_X4_ask_p22 rec t y0 y1 y2 = some (r, t9) → lv_has ls 3 [(0, .ref k.1)] → W p l e (rmX4_ask (N + 1) t0 t9) s m args below meth c H locs (t.2.2.2 0 - t0.2.2.2 0) (t.2.2.2 1 - t0.2.2.2 1) (vx_MQ below (xQ D dA a k t0 t9 fR r) (xX D dA a k t0 t9 r) args s (t9.2.2.2 0 - t0.2.2.2 0) (t9.2.2.2 1 - t0.2.2.2 1) (ca a)) (F0 m 22 ls [.ref y2, .ref y1, .ref y0]) := by
  obtain ⟨hx, hb, hr, hml, hown, hts, hlocks⟩ := id C
  intro t y0 y1 y2 H locs hT hS hK hm ls h hl
  have m9 : mo t t9 := mo_C_X4_ask_p22 mrec h
  unfold C_X4_ask_p22 at h
  obtain ⟨t1, ht1, h⟩ := bd1_some h
  refine wc_void hS hK (run_iN (As := [.ref y2]) (rest := [.ref y0]) C hK hT hS.2.1 (mX7_init ht1) (nm764 hK.2.1) q765 q184 q766 ⟨rfl, rfl⟩ hdX7_init ⟨show 2 + 1 ≤ 217 + 1 * (N + 1) from by omega, show 8 + (2 + 11) + (50) ≤ 4534 + 22 * (N + 1) from by omega⟩ (mo_z m9) rfl hl.1 rfl (Nat.le_of_ble_eq_true rfl) dX4_ask_22) (fun H locs hT hS hK hNt1 => ?_)
  have mm : mo t t1 := mo.ni hNt1
  replace hm := hm.tr mm
  replace m9 : mo t1 t9 := mo.bk (funext fun i => hNt1 i (Nat.zero_le _)) m9
  refine W.widen (mo_s mm).1 (mo_s mm).2 ?_
  refine lv_astore_n (lv' := [(1, .ref y0), (0, .ref k.1)]) hx hb dX4_ask_25 rfl hl (by decide) rfl (fun ls hl => ?_)
  refine lv_aload_n hx hb dX4_ask_26 rfl (lv_at hl 1 rfl) ?_
  refine lv_dup hx hb dX4_ask_27 rfl ?_
  refine c_getT C hK hT hkl.1 6 (by decide) q523 rfl (v := .int (t1.1 200 6)) rfl dX4_ask_28 ?_
  refine lv_iconst (v := 1) hx hb dX4_ask_31 (by decide) ?_
  refine lv_isub hx hb dX4_ask_32 ?_
  refine c_putT C hK hT hkl.1 hS 6 (by decide) q523 rfl rfl (tyX4_ok 6 (by decide)) dX4_ask_33 (fun t2 H locs et2 hT hS hK => ?_)
  replace h := lt1_sub et2 h
  have mm : mo t1 t2 := mo.nn (by rw [et2]; rfl)
  replace hm := hm.tr mm
  replace m9 : mo t2 t9 := mo.bk (by rw [et2]; rfl) m9
  refine W.widen (mo_s mm).1 (mo_s mm).2 ?_
  refine lv_aload_n hx hb dX4_ask_36 rfl (lv_at hl 0 rfl) ?_
  cases h
  exact toX (ec_r C (Or.inl ⟨_, rfl⟩) hT hS rfl dX4_ask_37)
theorem bX4_ask_p17 {p : Program} {l : Launch} {e : Env} {s : State} {m : MethodId} {args : Array Value} {below : List Frame} {meth : Method} {c : Code} {D : va_G} {dA : Nat → ClassId} {a : Nat} {k : KP a} {t0 : CS} {r : Except Nat Nat} {t9 : CS} (C : cx p s m args meth c cX4_ask RX4 3 (some (.object "LettersOnStrike$Asked"))) (hxt : ∀ x ∈ c.exceptionTable.toList, False) (hkl : k.1 ≠ a ∧ l.stackTraces = false) {N : Nat} {rec : CS → Option (Except Nat Nat × CS)} (hrec : ∀ (t : CS) (r : Except Nat Nat) (t9 : CS), rec t = some (r, t9) → vx_Met l yX4_ask (ws_ yX4_ask cX4_ask 3 (some (.object "LettersOnStrike$Asked"))) (rmX4_ask N t t9) (cPc D dA a k t [.ref k.1]) (xQ D dA a k t t9 fR r) (xX D dA a k t t9 r) (t9.2.2.2 0 - t.2.2.2 0) (t9.2.2.2 1 - t.2.2.2 1) (ca a)) (mrec : ∀ (t : CS)  (r : Except Nat Nat) (t9 : CS), rec t  = some (r, t9) → mo t t9) : ∀ (t : CS) (y0 : Nat) (H : Heap) (locs : List Loc) (hT : cW D dA a k t H) (hS : cS a s.heap H locs t0.2.2.2 2 t) (hK : kC D dA a k t.2.2.2 s) (hm : mo t0 t) (ls : Array Slot), C_X4_ask_p17 rec t y0 = some (r, t9) → lv_has ls 3 [(0, .ref k.1)] → W p l e (rmX4_ask (N + 1) t0 t9) s m args below meth c H locs (t.2.2.2 0 - t0.2.2.2 0) (t.2.2.2 1 - t0.2.2.2 1) (vx_MQ below (xQ D dA a k t0 t9 fR r) (xX D dA a k t0 t9 r) args s (t9.2.2.2 0 - t0.2.2.2 0) (t9.2.2.2 1 - t0.2.2.2 1) (ca a)) (F0 m 17 ls [.ref y0]) := by
  obtain ⟨hx, hb, hr, hml, hown, hts, hlocks⟩ := id C
  intro t y0 H locs hT hS hK hm ls h hl
  have m9 : mo t t9 := mo_C_X4_ask_p17 mrec h
  unfold C_X4_ask_p17 at h
  refine lv_dup hx hb dX4_ask_17 rfl ?_
  refine lv_aload_n hx hb dX4_ask_18 rfl (lv_at hl 0 rfl) ?_
  rcases bdx_some h with ⟨q3, ht1, hr_⟩ | ⟨v2, t1, ht1, h⟩
  · subst hr_
    have mm : mo t t9 := mrec _ _ _ ht1
    exact ex_err C hxt hS (run_x (As := []) (rest := [.ref y0, .ref y0]) C hK hT hS.2.1 (rv_T hK hT hkl.1) (hrec _ _ _ ht1) q754 q756 qs10 q171 q757 ⟨rfl, rfl⟩ hdX4_ask ⟨show 217 + 1 * N + 1 ≤ 217 + 1 * (N + 1) from by omega, show 8 + (3 + 11) + (4534 + 22 * N) ≤ 4534 + 22 * (N + 1) from by omega⟩ (mo_c hm mm mo.rf) rfl hl.1 rfl (Nat.le_of_ble_eq_true rfl) dX4_ask_19) (mo_c hm mm mo.rf)
  · have mm : mo t t1 := mrec _ _ _ ht1
    have m9 : mo t1 t9 := mo_C_X4_ask_p22 mrec h
    refine ex_okR hS hK (run_x (As := []) (rest := [.ref y0, .ref y0]) C hK hT hS.2.1 (rv_T hK hT hkl.1) (hrec _ _ _ ht1) q754 q756 qs10 q171 q757 ⟨rfl, rfl⟩ hdX4_ask ⟨show 217 + 1 * N + 1 ≤ 217 + 1 * (N + 1) from by omega, show 8 + (3 + 11) + (4534 + 22 * N) ≤ 4534 + 22 * (N + 1) from by omega⟩ (mo_c hm mm m9) rfl hl.1 rfl (Nat.le_of_ble_eq_true rfl) dX4_ask_19) (fun H locs hT hS hK => ?_)
    refine W.widen (mo_c hm mm mo.rf).1 (mo_c hm mm mo.rf).2 ?_
    replace hm := hm.tr mm
    exact bX4_ask_p22 C hxt hkl hrec mrec t1 y0 y0 v2 H locs hT hS hK hm ls h (lv_sub hl [0] rfl)
theorem bX4_ask_p14 {p : Program} {l : Launch} {e : Env} {s : State} {m : MethodId} {args : Array Value} {below : List Frame} {meth : Method} {c : Code} {D : va_G} {dA : Nat → ClassId} {a : Nat} {k : KP a} {t0 : CS} {r : Except Nat Nat} {t9 : CS} (C : cx p s m args meth c cX4_ask RX4 3 (some (.object "LettersOnStrike$Asked"))) (hxt : ∀ x ∈ c.exceptionTable.toList, False) (hkl : k.1 ≠ a ∧ l.stackTraces = false) {N : Nat} {rec : CS → Option (Except Nat Nat × CS)} (hrec : ∀ (t : CS) (r : Except Nat Nat) (t9 : CS), rec t = some (r, t9) → vx_Met l yX4_ask (ws_ yX4_ask cX4_ask 3 (some (.object "LettersOnStrike$Asked"))) (rmX4_ask N t t9) (cPc D dA a k t [.ref k.1]) (xQ D dA a k t t9 fR r) (xX D dA a k t t9 r) (t9.2.2.2 0 - t.2.2.2 0) (t9.2.2.2 1 - t.2.2.2 1) (ca a)) (mrec : ∀ (t : CS)  (r : Except Nat Nat) (t9 : CS), rec t  = some (r, t9) → mo t t9) : ∀ (t : CS) (H : Heap) (locs : List Loc) (hT : cW D dA a k t H) (hS : cS a s.heap H locs t0.2.2.2 2 t) (hK : kC D dA a k t.2.2.2 s) (hm : mo t0 t) (ls : Array Slot), C_X4_ask_p14 rec t = some (r, t9) → lv_has ls 3 [(0, .ref k.1)] → W p l e (rmX4_ask (N + 1) t0 t9) s m args below meth c H locs (t.2.2.2 0 - t0.2.2.2 0) (t.2.2.2 1 - t0.2.2.2 1) (vx_MQ below (xQ D dA a k t0 t9 fR r) (xX D dA a k t0 t9 r) args s (t9.2.2.2 0 - t0.2.2.2 0) (t9.2.2.2 1 - t0.2.2.2 1) (ca a)) (F0 m 14 ls []) := by
  obtain ⟨hx, hb, hr, hml, hown, hts, hlocks⟩ := id C
  intro t H locs hT hS hK hm ls h hl
  have m9 : mo t t9 := mo_C_X4_ask_p14 mrec h
  unfold C_X4_ask_p14 at h
  obtain ⟨t1, et1, h⟩ := lt1_ex h
  have m9 : mo t1 t9 := mo_C_X4_ask_p17 mrec h
  refine n_new (ci := 7) (fs := [.null]) in_X7 tyX7 tyX7_ok rfl C hK hT hS q762 q763 q184 (fun j hj => by rcases (show j = 0 by omega) with rfl; rfl) (mo_n hm et1 m9) dX4_ask_14 (fun t_ H et_ hT hS hK => ?_)
  obtain rfl := et1.trans et_.symm
  refine W.widen (mo_n1 hm et1).1 (mo_n1 hm et1).2 ?_
  replace hm := hm.tr (mo.new et1)
  exact bX4_ask_p17 C hxt hkl hrec mrec t1 (t.2.2.2 0) H locs hT hS hK hm ls h (lv_sub hl [0] rfl)
theorem bX4_ask_p91 {p : Program} {l : Launch} {e : Env} {s : State} {m : MethodId} {args : Array Value} {below : List Frame} {meth : Method} {c : Code} {D : va_G} {dA : Nat → ClassId} {a : Nat} {k : KP a} {t0 : CS} {r : Except Nat Nat} {t9 : CS} (C : cx p s m args meth c cX4_ask RX4 3 (some (.object "LettersOnStrike$Asked"))) (hxt : ∀ x ∈ c.exceptionTable.toList, False) (hkl : k.1 ≠ a ∧ l.stackTraces = false) {N : Nat} {rec : CS → Option (Except Nat Nat × CS)} (hrec : ∀ (t : CS) (r : Except Nat Nat) (t9 : CS), rec t = some (r, t9) → vx_Met l yX4_ask (ws_ yX4_ask cX4_ask 3 (some (.object "LettersOnStrike$Asked"))) (rmX4_ask N t t9) (cPc D dA a k t [.ref k.1]) (xQ D dA a k t t9 fR r) (xX D dA a k t t9 r) (t9.2.2.2 0 - t.2.2.2 0) (t9.2.2.2 1 - t.2.2.2 1) (ca a)) (mrec : ∀ (t : CS)  (r : Except Nat Nat) (t9 : CS), rec t  = some (r, t9) → mo t t9) : ∀ (t : CS) (y0 : Nat) (H : Heap) (locs : List Loc) (hT : cW D dA a k t H) (hS : cS a s.heap H locs t0.2.2.2 2 t) (hK : kC D dA a k t.2.2.2 s) (hm : mo t0 t) (ls : Array Slot), C_X4_ask_p91 rec t y0 = some (r, t9) → lv_has ls 3 [] → W p l e (rmX4_ask (N + 1) t0 t9) s m args below meth c H locs (t.2.2.2 0 - t0.2.2.2 0) (t.2.2.2 1 - t0.2.2.2 1) (vx_MQ below (xQ D dA a k t0 t9 fR r) (xX D dA a k t0 t9 r) args s (t9.2.2.2 0 - t0.2.2.2 0) (t9.2.2.2 1 - t0.2.2.2 1) (ca a)) (F0 m 91 ls [.ref y0]) := by
  obtain ⟨hx, hb, hr, hml, hown, hts, hlocks⟩ := id C
  intro t y0 H locs hT hS hK hm ls h hl
  have m9 : mo t t9 := mo_C_X4_ask_p91 mrec h
  unfold C_X4_ask_p91 at h
  obtain ⟨hw1, h⟩ := ckW_some h
  cases h
  exact ex_thr C hxt hK hT hS hw1 dX4_ask_91
theorem bX4_ask_p106 {p : Program} {l : Launch} {e : Env} {s : State} {m : MethodId} {args : Array Value} {below : List Frame} {meth : Method} {c : Code} {D : va_G} {dA : Nat → ClassId} {a : Nat} {k : KP a} {t0 : CS} {r : Except Nat Nat} {t9 : CS} (C : cx p s m args meth c cX4_ask RX4 3 (some (.object "LettersOnStrike$Asked"))) (hxt : ∀ x ∈ c.exceptionTable.toList, False) (hkl : k.1 ≠ a ∧ l.stackTraces = false) {N : Nat} {rec : CS → Option (Except Nat Nat × CS)} (hrec : ∀ (t : CS) (r : Except Nat Nat) (t9 : CS), rec t = some (r, t9) → vx_Met l yX4_ask (ws_ yX4_ask cX4_ask 3 (some (.object "LettersOnStrike$Asked"))) (rmX4_ask N t t9) (cPc D dA a k t [.ref k.1]) (xQ D dA a k t t9 fR r) (xX D dA a k t t9 r) (t9.2.2.2 0 - t.2.2.2 0) (t9.2.2.2 1 - t.2.2.2 1) (ca a)) (mrec : ∀ (t : CS)  (r : Except Nat Nat) (t9 : CS), rec t  = some (r, t9) → mo t t9) : ∀ (t : CS) (y0 : Nat) (y1 : Nat) (y2 : Int32) (y3 : Nat) (y4 : Nat) (H : Heap) (locs : List Loc) (hT : cW D dA a k t H) (hS : cS a s.heap H locs t0.2.2.2 2 t) (hK : kC D dA a k t.2.2.2 s) (hm : mo t0 t) (ls : Array Slot), C_X4_ask_p106 rec t y0 y1 y2 y3 y4 = some (r, t9) → lv_has ls 3 [] → W p l e (rmX4_ask (N + 1) t0 t9) s m args below meth c H locs (t.2.2.2 0 - t0.2.2.2 0) (t.2.2.2 1 - t0.2.2.2 1) (vx_MQ below (xQ D dA a k t0 t9 fR r) (xX D dA a k t0 t9 r) args s (t9.2.2.2 0 - t0.2.2.2 0) (t9.2.2.2 1 - t0.2.2.2 1) (ca a)) (F0 m 106 ls [.ref y4, .ref y3, .int y2, .ref y1, .ref y0]) := by
  obtain ⟨hx, hb, hr, hml, hown, hts, hlocks⟩ := id C
  intro t y0 y1 y2 y3 y4 H locs hT hS hK hm ls h hl
  have m9 : mo t t9 := mo_C_X4_ask_p106 mrec h
  unfold C_X4_ask_p106 at h
  obtain ⟨t1, ht1, h⟩ := bd1_some h
  refine wc_void hS hK (run_iN (As := [.int y2, .ref y3, .ref y4]) (rest := [.ref y0]) C hK hT hS.2.1 (mX12_init ht1) (nm939 hK.2.1) q940 q190 q941 ⟨rfl, rfl⟩ hdX12_init ⟨show 2 + 1 ≤ 217 + 1 * (N + 1) from by omega, show 8 + (4 + 11) + (50) ≤ 4534 + 22 * (N + 1) from by omega⟩ (mo_z m9) rfl hl.1 rfl (Nat.le_of_ble_eq_true rfl) dX4_ask_106) (fun H locs hT hS hK hNt1 => ?_)
  have mm : mo t t1 := mo.ni hNt1
  replace hm := hm.tr mm
  replace m9 : mo t1 t9 := mo.bk (funext fun i => hNt1 i (Nat.zero_le _)) m9
  refine W.widen (mo_s mm).1 (mo_s mm).2 ?_
  cases h
  exact toX (ec_r C (Or.inl ⟨_, rfl⟩) hT hS rfl dX4_ask_109)
theorem bX4_ask_p99 {p : Program} {l : Launch} {e : Env} {s : State} {m : MethodId} {args : Array Value} {below : List Frame} {meth : Method} {c : Code} {D : va_G} {dA : Nat → ClassId} {a : Nat} {k : KP a} {t0 : CS} {r : Except Nat Nat} {t9 : CS} (C : cx p s m args meth c cX4_ask RX4 3 (some (.object "LettersOnStrike$Asked"))) (hxt : ∀ x ∈ c.exceptionTable.toList, False) (hkl : k.1 ≠ a ∧ l.stackTraces = false) {N : Nat} {rec : CS → Option (Except Nat Nat × CS)} (hrec : ∀ (t : CS) (r : Except Nat Nat) (t9 : CS), rec t = some (r, t9) → vx_Met l yX4_ask (ws_ yX4_ask cX4_ask 3 (some (.object "LettersOnStrike$Asked"))) (rmX4_ask N t t9) (cPc D dA a k t [.ref k.1]) (xQ D dA a k t t9 fR r) (xX D dA a k t t9 r) (t9.2.2.2 0 - t.2.2.2 0) (t9.2.2.2 1 - t.2.2.2 1) (ca a)) (mrec : ∀ (t : CS)  (r : Except Nat Nat) (t9 : CS), rec t  = some (r, t9) → mo t t9) : ∀ (t : CS) (x1 : Nat) (x2 : Int32) (y0 : Nat) (H : Heap) (locs : List Loc) (hT : cW D dA a k t H) (hS : cS a s.heap H locs t0.2.2.2 2 t) (hK : kC D dA a k t.2.2.2 s) (hm : mo t0 t) (ls : Array Slot), C_X4_ask_p99 rec t x1 x2 y0 = some (r, t9) → lv_has ls 3 [(0, .ref k.1), (1, .ref x1), (2, .int x2)] → W p l e (rmX4_ask (N + 1) t0 t9) s m args below meth c H locs (t.2.2.2 0 - t0.2.2.2 0) (t.2.2.2 1 - t0.2.2.2 1) (vx_MQ below (xQ D dA a k t0 t9 fR r) (xX D dA a k t0 t9 r) args s (t9.2.2.2 0 - t0.2.2.2 0) (t9.2.2.2 1 - t0.2.2.2 1) (ca a)) (F0 m 99 ls [.ref y0]) := by
  obtain ⟨hx, hb, hr, hml, hown, hts, hlocks⟩ := id C
  intro t x1 x2 y0 H locs hT hS hK hm ls h hl
  have m9 : mo t t9 := mo_C_X4_ask_p99 mrec h
  unfold C_X4_ask_p99 at h
  refine lv_dup hx hb dX4_ask_99 rfl ?_
  refine lv_iload_n hx hb dX4_ask_100 rfl (lv_at hl 2 rfl) ?_
  refine lv_aload_n hx hb dX4_ask_101 rfl (lv_at hl 1 rfl) ?_
  refine lv_aload_n hx hb dX4_ask_102 rfl (lv_at hl 0 rfl) ?_
  rcases bdx_some h with ⟨q3, ht1, hr_⟩ | ⟨v2, t1, ht1, h⟩
  · subst hr_
    have mm : mo t t9 := mo_C_X4_sum (mo_C_X4_one 64) ht1
    exact ex_err C hxt hS (run_x (As := []) (rest := [.ref x1, .int x2, .ref y0, .ref y0]) C hK hT hS.2.1 (rv_T hK hT hkl.1) (mX4_sum (mX4_one hkl 64) (mo_C_X4_one 64) hkl ht1) q772 q774 qs12 q171 q775 ⟨rfl, rfl⟩ hdX4_sum ⟨show 24 + 3 * 64 + 1 ≤ 217 + 1 * (N + 1) from by omega, show 8 + (3 + 11) + (288 + 66 * 64) ≤ 4534 + 22 * (N + 1) from by omega⟩ (mo_c hm mm mo.rf) rfl hl.1 rfl (Nat.le_of_ble_eq_true rfl) dX4_ask_103) (mo_c hm mm mo.rf)
  · have mm : mo t t1 := mo_C_X4_sum (mo_C_X4_one 64) ht1
    have m9 : mo t1 t9 := mo_C_X4_ask_p106 mrec h
    refine ex_okR hS hK (run_x (As := []) (rest := [.ref x1, .int x2, .ref y0, .ref y0]) C hK hT hS.2.1 (rv_T hK hT hkl.1) (mX4_sum (mX4_one hkl 64) (mo_C_X4_one 64) hkl ht1) q772 q774 qs12 q171 q775 ⟨rfl, rfl⟩ hdX4_sum ⟨show 24 + 3 * 64 + 1 ≤ 217 + 1 * (N + 1) from by omega, show 8 + (3 + 11) + (288 + 66 * 64) ≤ 4534 + 22 * (N + 1) from by omega⟩ (mo_c hm mm m9) rfl hl.1 rfl (Nat.le_of_ble_eq_true rfl) dX4_ask_103) (fun H locs hT hS hK => ?_)
    refine W.widen (mo_c hm mm mo.rf).1 (mo_c hm mm mo.rf).2 ?_
    replace hm := hm.tr mm
    exact bX4_ask_p106 C hxt hkl hrec mrec t1 y0 y0 x2 x1 v2 H locs hT hS hK hm ls h (lv_sub hl [] rfl)
theorem bX4_ask_p92 {p : Program} {l : Launch} {e : Env} {s : State} {m : MethodId} {args : Array Value} {below : List Frame} {meth : Method} {c : Code} {D : va_G} {dA : Nat → ClassId} {a : Nat} {k : KP a} {t0 : CS} {r : Except Nat Nat} {t9 : CS} (C : cx p s m args meth c cX4_ask RX4 3 (some (.object "LettersOnStrike$Asked"))) (hxt : ∀ x ∈ c.exceptionTable.toList, False) (hkl : k.1 ≠ a ∧ l.stackTraces = false) {N : Nat} {rec : CS → Option (Except Nat Nat × CS)} (hrec : ∀ (t : CS) (r : Except Nat Nat) (t9 : CS), rec t = some (r, t9) → vx_Met l yX4_ask (ws_ yX4_ask cX4_ask 3 (some (.object "LettersOnStrike$Asked"))) (rmX4_ask N t t9) (cPc D dA a k t [.ref k.1]) (xQ D dA a k t t9 fR r) (xX D dA a k t t9 r) (t9.2.2.2 0 - t.2.2.2 0) (t9.2.2.2 1 - t.2.2.2 1) (ca a)) (mrec : ∀ (t : CS)  (r : Except Nat Nat) (t9 : CS), rec t  = some (r, t9) → mo t t9) : ∀ (t : CS) (x1 : Nat) (x2 : Int32) (H : Heap) (locs : List Loc) (hT : cW D dA a k t H) (hS : cS a s.heap H locs t0.2.2.2 2 t) (hK : kC D dA a k t.2.2.2 s) (hm : mo t0 t) (ls : Array Slot), C_X4_ask_p92 rec t x1 x2 = some (r, t9) → lv_has ls 3 [(0, .ref k.1), (1, .ref x1), (2, .int x2)] → W p l e (rmX4_ask (N + 1) t0 t9) s m args below meth c H locs (t.2.2.2 0 - t0.2.2.2 0) (t.2.2.2 1 - t0.2.2.2 1) (vx_MQ below (xQ D dA a k t0 t9 fR r) (xX D dA a k t0 t9 r) args s (t9.2.2.2 0 - t0.2.2.2 0) (t9.2.2.2 1 - t0.2.2.2 1) (ca a)) (F0 m 92 ls []) := by
  obtain ⟨hx, hb, hr, hml, hown, hts, hlocks⟩ := id C
  intro t x1 x2 H locs hT hS hK hm ls h hl
  have m9 : mo t t9 := mo_C_X4_ask_p92 mrec h
  unfold C_X4_ask_p92 at h
  refine lv_aload_n hx hb dX4_ask_92 rfl (lv_at hl 0 rfl) ?_
  obtain ⟨t1, ht1, h⟩ := bd1_some h
  refine wc_void hS hK (run_c (As := []) (rest := []) C hK hT hS.2.1 (rv_T hK hT hkl.1) (mX4_next hkl ht1) q603 q605 qs3 q171 q606 ⟨rfl, rfl⟩ hdX4_next ⟨show 5 + 1 ≤ 217 + 1 * (N + 1) from by omega, show 8 + (3 + 11) + (107) ≤ 4534 + 22 * (N + 1) from by omega⟩ (mo_z m9) rfl hl.1 rfl (Nat.le_of_ble_eq_true rfl) dX4_ask_93) (fun H locs hT hS hK hNt1 => ?_)
  have mm : mo t t1 := mo.ni hNt1
  replace hm := hm.tr mm
  replace m9 : mo t1 t9 := mo.bk (funext fun i => hNt1 i (Nat.zero_le _)) m9
  refine W.widen (mo_s mm).1 (mo_s mm).2 ?_
  obtain ⟨t2, et2, h⟩ := lt1_ex h
  have m9 : mo t2 t9 := mo_C_X4_ask_p99 mrec h
  refine n_new (ci := 12) (fs := [.int 0, .null, .null]) in_X12 tyX12 tyX12_ok rfl C hK hT hS q937 q938 q190 (fun j hj => by rcases (show j = 0 ∨ j = 1 ∨ j = 2 by omega) with rfl | rfl | rfl <;> rfl) (mo_n hm et2 m9) dX4_ask_96 (fun t_ H et_ hT hS hK => ?_)
  obtain rfl := et2.trans et_.symm
  refine W.widen (mo_n1 hm et2).1 (mo_n1 hm et2).2 ?_
  replace hm := hm.tr (mo.new et2)
  exact bX4_ask_p99 C hxt hkl hrec mrec t2 x1 x2 (t1.2.2.2 0) H locs hT hS hK hm ls h (lv_sub hl [0, 1, 2] rfl)
theorem bX4_ask_p42 {p : Program} {l : Launch} {e : Env} {s : State} {m : MethodId} {args : Array Value} {below : List Frame} {meth : Method} {c : Code} {D : va_G} {dA : Nat → ClassId} {a : Nat} {k : KP a} {t0 : CS} {r : Except Nat Nat} {t9 : CS} (C : cx p s m args meth c cX4_ask RX4 3 (some (.object "LettersOnStrike$Asked"))) (hxt : ∀ x ∈ c.exceptionTable.toList, False) (hkl : k.1 ≠ a ∧ l.stackTraces = false) {N : Nat} {rec : CS → Option (Except Nat Nat × CS)} (hrec : ∀ (t : CS) (r : Except Nat Nat) (t9 : CS), rec t = some (r, t9) → vx_Met l yX4_ask (ws_ yX4_ask cX4_ask 3 (some (.object "LettersOnStrike$Asked"))) (rmX4_ask N t t9) (cPc D dA a k t [.ref k.1]) (xQ D dA a k t t9 fR r) (xX D dA a k t t9 r) (t9.2.2.2 0 - t.2.2.2 0) (t9.2.2.2 1 - t.2.2.2 1) (ca a)) (mrec : ∀ (t : CS)  (r : Except Nat Nat) (t9 : CS), rec t  = some (r, t9) → mo t t9) : ∀ (t : CS) (y0 : Nat) (H : Heap) (locs : List Loc) (hT : cW D dA a k t H) (hS : cS a s.heap H locs t0.2.2.2 2 t) (hK : kC D dA a k t.2.2.2 s) (hm : mo t0 t) (ls : Array Slot), C_X4_ask_p42 rec t y0 = some (r, t9) → lv_has ls 3 [(0, .ref k.1)] → W p l e (rmX4_ask (N + 1) t0 t9) s m args below meth c H locs (t.2.2.2 0 - t0.2.2.2 0) (t.2.2.2 1 - t0.2.2.2 1) (vx_MQ below (xQ D dA a k t0 t9 fR r) (xX D dA a k t0 t9 r) args s (t9.2.2.2 0 - t0.2.2.2 0) (t9.2.2.2 1 - t0.2.2.2 1) (ca a)) (F0 m 42 ls [.ref y0]) := by
  obtain ⟨hx, hb, hr, hml, hown, hts, hlocks⟩ := id C
  intro t y0 H locs hT hS hK hm ls h hl
  have m9 : mo t t9 := mo_C_X4_ask_p42 mrec h
  unfold C_X4_ask_p42 at h
  refine lv_astore_n (lv' := [(1, .ref y0), (0, .ref k.1)]) hx hb dX4_ask_42 rfl hl (by decide) rfl (fun ls hl => ?_)
  refine lv_aload_n hx hb dX4_ask_43 rfl (lv_at hl 1 rfl) ?_
  refine c_getT C hK hT hkl.1 4 (by decide) q521 rfl (v := .int (t.1 200 4)) rfl dX4_ask_44 ?_
  refine lv_topi (fun v1 ev1 => ?_)
  replace h := lt1_sub ev1 h
  refine lv_istore_n (lv' := [(2, .int v1), (1, .ref y0), (0, .ref k.1)]) hx hb dX4_ask_47 rfl hl (by decide) rfl (fun ls hl => ?_)
  refine lv_iload_n hx hb dX4_ask_48 rfl (lv_at hl 0 rfl) ?_
  refine lv_bipush (v := 60) hx hb dX4_ask_49 (by decide) ?_
  refine lv_icmp_eq (tgt := 92) hx hb dX4_ask_51 (by decide) (fun c => ?_) (fun c => ?_)
  · replace h := if_t c h
    exact bX4_ask_p92 C hxt hkl hrec mrec t y0 v1 H locs hT hS hK hm ls h (lv_sub hl [2, 1, 0] rfl)
  · replace h := if_f c h
    refine lv_iload_n hx hb dX4_ask_54 rfl (lv_at hl 0 rfl) ?_
    refine lv_bipush (v := 62) hx hb dX4_ask_55 (by decide) ?_
    refine lv_icmp_eq (tgt := 92) hx hb dX4_ask_57 (by decide) (fun c => ?_) (fun c => ?_)
    · replace h := if_t c h
      exact bX4_ask_p92 C hxt hkl hrec mrec t y0 v1 H locs hT hS hK hm ls h (lv_sub hl [2, 1, 0] rfl)
    · replace h := if_f c h
      refine lv_iload_n hx hb dX4_ask_60 rfl (lv_at hl 0 rfl) ?_
      refine lv_bipush (v := 61) hx hb dX4_ask_61 (by decide) ?_
      refine lv_icmp_eq (tgt := 92) hx hb dX4_ask_63 (by decide) (fun c => ?_) (fun c => ?_)
      · replace h := if_t c h
        exact bX4_ask_p92 C hxt hkl hrec mrec t y0 v1 H locs hT hS hK hm ls h (lv_sub hl [2, 1, 0] rfl)
      · replace h := if_f c h
        refine lv_iload_n hx hb dX4_ask_66 rfl (lv_at hl 0 rfl) ?_
        refine lv_bipush (v := 35) hx hb dX4_ask_67 (by decide) ?_
        refine lv_icmp_eq (tgt := 92) hx hb dX4_ask_69 (by decide) (fun c => ?_) (fun c => ?_)
        · replace h := if_t c h
          exact bX4_ask_p92 C hxt hkl hrec mrec t y0 v1 H locs hT hS hK hm ls h (lv_sub hl [2, 1, 0] rfl)
        · replace h := if_f c h
          refine lv_iload_n hx hb dX4_ask_72 rfl (lv_at hl 0 rfl) ?_
          refine lv_sipush (v := 303) hx hb dX4_ask_73 (by decide) ?_
          refine lv_icmp_eq (tgt := 92) hx hb dX4_ask_76 (by decide) (fun c => ?_) (fun c => ?_)
          · replace h := if_t c h
            exact bX4_ask_p92 C hxt hkl hrec mrec t y0 v1 H locs hT hS hK hm ls h (lv_sub hl [2, 1, 0] rfl)
          · replace h := if_f c h
            refine lv_iload_n hx hb dX4_ask_79 rfl (lv_at hl 0 rfl) ?_
            refine lv_sipush (v := 304) hx hb dX4_ask_80 (by decide) ?_
            refine lv_icmp_eq (tgt := 92) hx hb dX4_ask_83 (by decide) (fun c => ?_) (fun c => ?_)
            · replace h := if_t c h
              exact bX4_ask_p92 C hxt hkl hrec mrec t y0 v1 H locs hT hS hK hm ls h (lv_sub hl [2, 1, 0] rfl)
            · replace h := if_f c h
              refine lv_aload_n hx hb dX4_ask_86 rfl (lv_at hl 2 rfl) ?_
              refine lv_iconst (v := 1) hx hb dX4_ask_87 (by decide) ?_
              obtain ⟨v3, t2, ht2, h⟩ := bd2_some h
              have mm : mo t t2 := mo_C_wrong ht2
              have m9 : mo t2 t9 := mo_C_X4_ask_p91 mrec h
              refine wa_ref hS hK (run_c (As := [.int (1 : Int32)]) (rest := []) C hK hT hS.2.1 (rv_T hK hT hkl.1) (mX4_wrong hkl ht2) q672 q674 qs5 q171 q675 ⟨rfl, rfl⟩ hdX4_wrong ⟨show 20 + 1 ≤ 217 + 1 * (N + 1) from by omega, show 8 + (2 + 11) + (200) ≤ 4534 + 22 * (N + 1) from by omega⟩ (mo_c hm mm m9) rfl hl.1 rfl (Nat.le_of_ble_eq_true rfl) dX4_ask_88) (fun H locs hT hS hK => ?_)
              refine W.widen (mo_c hm mm mo.rf).1 (mo_c hm mm mo.rf).2 ?_
              replace hm := hm.tr mm
              exact bX4_ask_p91 C hxt hkl hrec mrec t2 v3 H locs hT hS hK hm ls h (lv_sub hl [] rfl)
theorem bX4_ask {p : Program} {l : Launch} {e : Env} {s : State} {m : MethodId} {args : Array Value} {below : List Frame} {meth : Method} {c : Code} {D : va_G} {dA : Nat → ClassId} {a : Nat} {k : KP a} {t0 : CS} {r : Except Nat Nat} {t9 : CS} (C : cx p s m args meth c cX4_ask RX4 3 (some (.object "LettersOnStrike$Asked"))) (hxt : ∀ x ∈ c.exceptionTable.toList, False) (hkl : k.1 ≠ a ∧ l.stackTraces = false) {N : Nat} {rec : CS → Option (Except Nat Nat × CS)} (hrec : ∀ (t : CS) (r : Except Nat Nat) (t9 : CS), rec t = some (r, t9) → vx_Met l yX4_ask (ws_ yX4_ask cX4_ask 3 (some (.object "LettersOnStrike$Asked"))) (rmX4_ask N t t9) (cPc D dA a k t [.ref k.1]) (xQ D dA a k t t9 fR r) (xX D dA a k t t9 r) (t9.2.2.2 0 - t.2.2.2 0) (t9.2.2.2 1 - t.2.2.2 1) (ca a)) (mrec : ∀ (t : CS)  (r : Except Nat Nat) (t9 : CS), rec t  = some (r, t9) → mo t t9) : ∀ (t : CS) (H : Heap) (locs : List Loc) (hT : cW D dA a k t H) (hS : cS a s.heap H locs t0.2.2.2 2 t) (hK : kC D dA a k t.2.2.2 s) (hm : mo t0 t) (ls : Array Slot), C_X4_ask_b rec t = some (r, t9) → lv_has ls 3 [(0, .ref k.1)] → W p l e (rmX4_ask (N + 1) t0 t9) s m args below meth c H locs (t.2.2.2 0 - t0.2.2.2 0) (t.2.2.2 1 - t0.2.2.2 1) (vx_MQ below (xQ D dA a k t0 t9 fR r) (xX D dA a k t0 t9 r) args s (t9.2.2.2 0 - t0.2.2.2 0) (t9.2.2.2 1 - t0.2.2.2 1) (ca a)) (F0 m 0 ls []) := by
  obtain ⟨hx, hb, hr, hml, hown, hts, hlocks⟩ := id C
  intro t H locs hT hS hK hm ls h hl
  have m9 : mo t t9 := mo_C_X4_ask_b mrec h
  unfold C_X4_ask_b at h
  refine lv_aload_n hx hb dX4_ask_0 rfl (lv_at hl 0 rfl) ?_
  refine c_getT C hK hT hkl.1 4 (by decide) q521 rfl (v := .int (t.1 200 4)) rfl dX4_ask_1 ?_
  refine lv_sipush (v := 220) hx hb dX4_ask_4 (by decide) ?_
  refine lv_icmp_ne (tgt := 38) hx hb dX4_ask_7 (by decide) (fun c => ?_) (fun c => ?_)
  · replace h := if_f c h
    refine lv_aload_n hx hb dX4_ask_38 rfl (lv_at hl 0 rfl) ?_
    rcases bdx_some h with ⟨q3, ht1, hr_⟩ | ⟨v2, t1, ht1, h⟩
    · subst hr_
      have mm : mo t t9 := mo_C_X4_sum (mo_C_X4_one 64) ht1
      exact ex_err C hxt hS (run_x (As := []) (rest := []) C hK hT hS.2.1 (rv_T hK hT hkl.1) (mX4_sum (mX4_one hkl 64) (mo_C_X4_one 64) hkl ht1) q772 q774 qs12 q171 q775 ⟨rfl, rfl⟩ hdX4_sum ⟨show 24 + 3 * 64 + 1 ≤ 217 + 1 * (N + 1) from by omega, show 8 + (3 + 11) + (288 + 66 * 64) ≤ 4534 + 22 * (N + 1) from by omega⟩ (mo_c hm mm mo.rf) rfl hl.1 rfl (Nat.le_of_ble_eq_true rfl) dX4_ask_39) (mo_c hm mm mo.rf)
    · have mm : mo t t1 := mo_C_X4_sum (mo_C_X4_one 64) ht1
      have m9 : mo t1 t9 := mo_C_X4_ask_p42 mrec h
      refine ex_okR hS hK (run_x (As := []) (rest := []) C hK hT hS.2.1 (rv_T hK hT hkl.1) (mX4_sum (mX4_one hkl 64) (mo_C_X4_one 64) hkl ht1) q772 q774 qs12 q171 q775 ⟨rfl, rfl⟩ hdX4_sum ⟨show 24 + 3 * 64 + 1 ≤ 217 + 1 * (N + 1) from by omega, show 8 + (3 + 11) + (288 + 66 * 64) ≤ 4534 + 22 * (N + 1) from by omega⟩ (mo_c hm mm m9) rfl hl.1 rfl (Nat.le_of_ble_eq_true rfl) dX4_ask_39) (fun H locs hT hS hK => ?_)
      refine W.widen (mo_c hm mm mo.rf).1 (mo_c hm mm mo.rf).2 ?_
      replace hm := hm.tr mm
      exact bX4_ask_p42 C hxt hkl hrec mrec t1 v2 H locs hT hS hK hm ls h (lv_sub hl [0] rfl)
  · replace h := if_t c h
    refine lv_aload_n hx hb dX4_ask_10 rfl (lv_at hl 0 rfl) ?_
    rcases bdx_some h with ⟨q6, ht4, hr_⟩ | ⟨v5, t4, ht4, h⟩
    · subst hr_
      have mm : mo t t9 := mo_C_X4_opens ht4
      exact ex_err C hxt hS (run_x (As := []) (rest := []) C hK hT hS.2.1 (rv_T hK hT hkl.1) (mX4_opens hkl ht4) q758 q760 qs11 q171 q761 ⟨rfl, rfl⟩ hdX4_opens ⟨show 21 + 1 ≤ 217 + 1 * (N + 1) from by omega, show 8 + (1 + 11) + (221) ≤ 4534 + 22 * (N + 1) from by omega⟩ (mo_c hm mm mo.rf) rfl hl.1 rfl (Nat.le_of_ble_eq_true rfl) dX4_ask_11) (mo_c hm mm mo.rf)
    · have mm : mo t t4 := mo_C_X4_opens ht4
      have m9 : mo t4 t9 := mo_C_X4_ask_p14 mrec h
      refine ex_okU hS hK (run_x (As := []) (rest := []) C hK hT hS.2.1 (rv_T hK hT hkl.1) (mX4_opens hkl ht4) q758 q760 qs11 q171 q761 ⟨rfl, rfl⟩ hdX4_opens ⟨show 21 + 1 ≤ 217 + 1 * (N + 1) from by omega, show 8 + (1 + 11) + (221) ≤ 4534 + 22 * (N + 1) from by omega⟩ (mo_c hm mm m9) rfl hl.1 rfl (Nat.le_of_ble_eq_true rfl) dX4_ask_11) (fun H locs hT hS hK => ?_)
      refine W.widen (mo_c hm mm mo.rf).1 (mo_c hm mm mo.rf).2 ?_
      replace hm := hm.tr mm
      exact bX4_ask_p14 C hxt hkl hrec mrec t4 H locs hT hS hK hm ls h (lv_sub hl [0] rfl)
theorem mX4_ask {l : Launch} {D : va_G} {dA : Nat → ClassId} {a : Nat} {k : KP a} (hkl : k.1 ≠ a ∧ l.stackTraces = false) : ∀ (n : Nat), ∀ (t : CS) (r : Except Nat Nat) (t9 : CS), C_X4_ask n t = some (r, t9) → vx_Met l yX4_ask (ws_ yX4_ask cX4_ask 3 (some (.object "LettersOnStrike$Asked"))) (rmX4_ask n t t9) (cPc D dA a k t [.ref k.1]) (xQ D dA a k t t9 fR r) (xX D dA a k t t9 r) (t9.2.2.2 0 - t.2.2.2 0) (t9.2.2.2 1 - t.2.2.2 1) (ca a) := by
  intro n
  induction n with
  | zero =>
    intro t r t9 h
    have h : none = some _ := h
    cases h
  | succ n ih =>
    intro t r t9 h
    rw [C_X4_ask] at h
    exact en_X (by decide +kernel) rfl (Nat.le_of_ble_eq_true rfl) (fun p e s m below meth c ls C hxt hK hT hl => sub0 (bX4_ask C hxt hkl ih (mo_C_X4_ask n) t _ [] hT cS.rf hK mo.rf ls h hl))
set_option maxRecDepth 20000 in
abbrev rmX13_init : Room := { frames := 2, cells := 0, slots := 0, locals := 50 }
theorem hdX13_init : yX13_init.name = "<init>" ∧ yX13_init.cls ≠ "java/lang/invoke/MethodHandle" ∧ yX13_init.cls ≠ "java/lang/invoke/VarHandle" ∧ (parseMethodDescriptor yX13_init.desc).map (fun d => d.parameters.length) = some 2 := by decide +kernel
theorem bX13_init {p : Program} {l : Launch} {e : Env} {s : State} {m : MethodId} {args : Array Value} {below : List Frame} {meth : Method} {c : Code} {D : va_G} {dA : Nat → ClassId} {a : Nat} {k : KP a} {t0 : CS} {t9 : CS} (C : cx p s m args meth c cX13_init RX13 3 none) (hin : meth.name = "<init>") : ∀ (t : CS) (x0 : Nat) (x1 : Int32) (x2 : Nat) (H : Heap) (locs : List Loc) (hT : cW D dA a k t H) (hS : cS a s.heap H locs t0.2.2.2 0 t) (hK : kC D dA a k t.2.2.2 s) (ls : Array Slot), C_X13_init t x0 x1 x2 = some t9 → lv_has ls 3 [(0, .ref x0), (1, .int x1), (2, .ref x2)] → W p l e rmX13_init s m args below meth c H locs 0 0 (MQ below (cQ D dA a k 0 t0 t9 none) args s 0 0 (ca a)) (F0 m 0 ls []) := by
  obtain ⟨hx, hb, hr, hml, hown, hts, hlocks⟩ := id C
  intro t x0 x1 x2 H locs hT hS hK ls h hl
  unfold C_X13_init at h
  refine lv_aload_n hx hb dX13_init_0 rfl (lv_at hl 0 rfl) ?_
  obtain ⟨v1, hv1, h⟩ := bd1_some h
  refine r_void (run_i (As := []) (rest := []) C hK hT hS.2.1 (mJ6_init hv1) q976 q473 q169 q474 ⟨rfl, rfl⟩ hdJ6_init ⟨Nat.le_of_ble_eq_true rfl, Nat.le_of_ble_eq_true rfl⟩ ⟨Nat.zero_le _, Nat.zero_le _⟩ rfl hl.1 rfl (Nat.le_of_ble_eq_true rfl) dX13_init_1) ?_
  refine lv_aload_n hx hb dX13_init_4 rfl (lv_at hl 0 rfl) ?_
  refine lv_iload_n hx hb dX13_init_5 rfl (lv_at hl 1 rfl) ?_
  obtain ⟨hz, h⟩ := zr_some h
  obtain ⟨t2, ht2, h⟩ := bd1_some h
  refine d_put (ci := 13) in_X13 tyX13 tyX13_ok nmX13 rfl C hK hT hS 0 (by decide) q977 rfl (Or.inr ⟨rfl, hin, rfl⟩) ht2 (tyX13_ok 0 (by decide)) (zr_nar hz) (by rcases hz with e | e <;> rw [e] <;> rfl) dX13_init_6 (fun H locs hT hS hK => ?_)
  refine lv_aload_n hx hb dX13_init_9 rfl (lv_at hl 0 rfl) ?_
  refine lv_aload_n hx hb dX13_init_10 rfl (lv_at hl 2 rfl) ?_
  obtain ⟨t3, ht3, h⟩ := bd1_some h
  refine d_put (ci := 13) in_X13 tyX13 tyX13_ok nmX13 rfl C hK hT hS 1 (by decide) q978 rfl (Or.inr ⟨rfl, hin, rfl⟩) ht3 (tyX13_ok 1 (by decide)) rfl rfl dX13_init_11 (fun H locs hT hS hK => ?_)
  exact ec_v C hT hS h dX13_init_14
theorem mX13_init {l : Launch} {D : va_G} {dA : Nat → ClassId} {a : Nat} {k : KP a} {t : CS} {x0 : Nat} {x1 : Int32} {x2 : Nat} {t9 : CS} (h : C_X13_init t x0 x1 x2 = some t9) : Met l yX13_init (ws_ yX13_init cX13_init 3 none) rmX13_init (cPc D dA a k t [.ref x0, .int x1, .ref x2]) (cQ D dA a k 0 t t9 none) 0 0 (ca a) := en_Ci (by decide +kernel) rfl (Nat.le_of_ble_eq_true rfl) (fun p e s m below meth c ls C hin hK hT hl => bX13_init C hin t x0 x1 x2 _ [] hT cS.rf hK ls h hl)
set_option maxRecDepth 20000 in
abbrev rmX4_both (t t9 : CS) : Room := { frames := 282, cells := t9.2.2.2 0 - t.2.2.2 0, slots := t9.2.2.2 1 - t.2.2.2 1, locals := 5964 }
theorem hdX4_both : yX4_both.cls = RX4 ∧ yX4_both.cls ≠ "java/lang/invoke/MethodHandle" ∧ yX4_both.cls ≠ "java/lang/invoke/VarHandle" ∧ (parseMethodDescriptor yX4_both.desc).map (fun d => d.parameters.length) = some 0 := by decide +kernel
theorem bX4_both_p39 {p : Program} {l : Launch} {e : Env} {s : State} {m : MethodId} {args : Array Value} {below : List Frame} {meth : Method} {c : Code} {D : va_G} {dA : Nat → ClassId} {a : Nat} {k : KP a} {t0 : CS} {r : Except Nat Nat} {t9 : CS} (C : cx p s m args meth c cX4_both RX4 2 (some (.object "LettersOnStrike$Asked"))) (hxt : ∀ x ∈ c.exceptionTable.toList, False) (hkl : k.1 ≠ a ∧ l.stackTraces = false) {k17 : CS → Nat → Option (Except Nat Nat × CS)} (hk17 : ∀ (t : CS) (x1 : Nat) (H : Heap) (locs : List Loc) (hT : cW D dA a k t H) (hS : cS a s.heap H locs t0.2.2.2 2 t) (hK : kC D dA a k t.2.2.2 s) (hm : mo t0 t) (ls : Array Slot), k17 t x1 = some (r, t9) → lv_has ls 2 [(0, .ref k.1), (1, .ref x1)] → W p l e (rmX4_both t0 t9) s m args below meth c H locs (t.2.2.2 0 - t0.2.2.2 0) (t.2.2.2 1 - t0.2.2.2 1) (vx_MQ below (xQ D dA a k t0 t9 fR r) (xX D dA a k t0 t9 r) args s (t9.2.2.2 0 - t0.2.2.2 0) (t9.2.2.2 1 - t0.2.2.2 1) (ca a)) (F0 m 17 ls [])) (mk17 : ∀ (t : CS) (x1 : Nat) (r : Except Nat Nat) (t9 : CS), k17 t x1 = some (r, t9) → mo t t9) : ∀ (t : CS) (x1 : Nat) (y0 : Int32) (H : Heap) (locs : List Loc) (hT : cW D dA a k t H) (hS : cS a s.heap H locs t0.2.2.2 2 t) (hK : kC D dA a k t.2.2.2 s) (hm : mo t0 t) (ls : Array Slot), C_X4_both_p39 k17 t x1 y0 = some (r, t9) → lv_has ls 2 [(0, .ref k.1), (1, .ref x1)] → W p l e (rmX4_both t0 t9) s m args below meth c H locs (t.2.2.2 0 - t0.2.2.2 0) (t.2.2.2 1 - t0.2.2.2 1) (vx_MQ below (xQ D dA a k t0 t9 fR r) (xX D dA a k t0 t9 r) args s (t9.2.2.2 0 - t0.2.2.2 0) (t9.2.2.2 1 - t0.2.2.2 1) (ca a)) (F0 m 39 ls [.int y0]) := by
  obtain ⟨hx, hb, hr, hml, hown, hts, hlocks⟩ := id C
  intro t x1 y0 H locs hT hS hK hm ls h hl
  have m9 : mo t t9 := mo_C_X4_both_p39 mk17 h
  unfold C_X4_both_p39 at h
  refine lv_pop hx hb dX4_both_39 rfl ?_
  refine lv_goto (tgt := 17) hx hb dX4_both_40 (by decide) ?_
  exact hk17 t x1 H locs hT hS hK hm ls h (lv_sub hl [0, 1] rfl)
theorem bX4_both_p36 {p : Program} {l : Launch} {e : Env} {s : State} {m : MethodId} {args : Array Value} {below : List Frame} {meth : Method} {c : Code} {D : va_G} {dA : Nat → ClassId} {a : Nat} {k : KP a} {t0 : CS} {r : Except Nat Nat} {t9 : CS} (C : cx p s m args meth c cX4_both RX4 2 (some (.object "LettersOnStrike$Asked"))) (hxt : ∀ x ∈ c.exceptionTable.toList, False) (hkl : k.1 ≠ a ∧ l.stackTraces = false) {k17 : CS → Nat → Option (Except Nat Nat × CS)} (hk17 : ∀ (t : CS) (x1 : Nat) (H : Heap) (locs : List Loc) (hT : cW D dA a k t H) (hS : cS a s.heap H locs t0.2.2.2 2 t) (hK : kC D dA a k t.2.2.2 s) (hm : mo t0 t) (ls : Array Slot), k17 t x1 = some (r, t9) → lv_has ls 2 [(0, .ref k.1), (1, .ref x1)] → W p l e (rmX4_both t0 t9) s m args below meth c H locs (t.2.2.2 0 - t0.2.2.2 0) (t.2.2.2 1 - t0.2.2.2 1) (vx_MQ below (xQ D dA a k t0 t9 fR r) (xX D dA a k t0 t9 r) args s (t9.2.2.2 0 - t0.2.2.2 0) (t9.2.2.2 1 - t0.2.2.2 1) (ca a)) (F0 m 17 ls [])) (mk17 : ∀ (t : CS) (x1 : Nat) (r : Except Nat Nat) (t9 : CS), k17 t x1 = some (r, t9) → mo t t9) : ∀ (t : CS) (x1 : Nat) (y0 : Nat) (y1 : Nat) (H : Heap) (locs : List Loc) (hT : cW D dA a k t H) (hS : cS a s.heap H locs t0.2.2.2 2 t) (hK : kC D dA a k t.2.2.2 s) (hm : mo t0 t) (ls : Array Slot), C_X4_both_p36 k17 t x1 y0 y1 = some (r, t9) → lv_has ls 2 [(0, .ref k.1), (1, .ref x1)] → W p l e (rmX4_both t0 t9) s m args below meth c H locs (t.2.2.2 0 - t0.2.2.2 0) (t.2.2.2 1 - t0.2.2.2 1) (vx_MQ below (xQ D dA a k t0 t9 fR r) (xX D dA a k t0 t9 r) args s (t9.2.2.2 0 - t0.2.2.2 0) (t9.2.2.2 1 - t0.2.2.2 1) (ca a)) (F0 m 36 ls [.ref y1, .ref y0]) := by
  obtain ⟨hx, hb, hr, hml, hown, hts, hlocks⟩ := id C
  intro t x1 y0 y1 H locs hT hS hK hm ls h hl
  have m9 : mo t t9 := mo_C_X4_both_p36 mk17 h
  unfold C_X4_both_p36 at h
  obtain ⟨hc1, h⟩ := ckC_some h
  obtain ⟨v3, t2, ht2, h⟩ := bd2_some h
  have mm : mo t t2 := mo_J_J9_add ht2
  have m9 : mo t2 t9 := mo_C_X4_both_p39 mk17 h
  refine wa_int hS hK (run_c (As := [.ref y1]) (rest := []) C hK hT hS.2.1 (rv_D (ci := 15) rfl hK hT hc1) (mJ9_add ht2) q953 q869 q870 q175 q871 ⟨rfl, rfl⟩ hdJ9_add ⟨Nat.le_of_ble_eq_true rfl, Nat.le_of_ble_eq_true rfl⟩ (mo_c hm mm m9) rfl hl.1 rfl (Nat.le_of_ble_eq_true rfl) dX4_both_36) (fun H locs hT hS hK => ?_)
  refine W.widen (mo_c hm mm mo.rf).1 (mo_c hm mm mo.rf).2 ?_
  replace hm := hm.tr mm
  exact bX4_both_p39 C hxt hkl hk17 mk17 t2 x1 v3 H locs hT hS hK hm ls h (lv_sub hl [0, 1] rfl)
theorem bX4_both_p65 {p : Program} {l : Launch} {e : Env} {s : State} {m : MethodId} {args : Array Value} {below : List Frame} {meth : Method} {c : Code} {D : va_G} {dA : Nat → ClassId} {a : Nat} {k : KP a} {t0 : CS} {r : Except Nat Nat} {t9 : CS} (C : cx p s m args meth c cX4_both RX4 2 (some (.object "LettersOnStrike$Asked"))) (hxt : ∀ x ∈ c.exceptionTable.toList, False) (hkl : k.1 ≠ a ∧ l.stackTraces = false) : ∀ (t : CS) (x1 : Nat) (y0 : Nat) (H : Heap) (locs : List Loc) (hT : cW D dA a k t H) (hS : cS a s.heap H locs t0.2.2.2 2 t) (hK : kC D dA a k t.2.2.2 s) (hm : mo t0 t) (ls : Array Slot), C_X4_both_p65 t x1 y0 = some (r, t9) → lv_has ls 2 [(1, .ref x1)] → W p l e (rmX4_both t0 t9) s m args below meth c H locs (t.2.2.2 0 - t0.2.2.2 0) (t.2.2.2 1 - t0.2.2.2 1) (vx_MQ below (xQ D dA a k t0 t9 fR r) (xX D dA a k t0 t9 r) args s (t9.2.2.2 0 - t0.2.2.2 0) (t9.2.2.2 1 - t0.2.2.2 1) (ca a)) (F0 m 65 ls [.ref y0]) := by
  obtain ⟨hx, hb, hr, hml, hown, hts, hlocks⟩ := id C
  intro t x1 y0 H locs hT hS hK hm ls h hl
  have m9 : mo t t9 := mo_C_X4_both_p65 h
  unfold C_X4_both_p65 at h
  refine lv_dup hx hb dX4_both_65 rfl ?_
  refine lv_iconst (v := 1) hx hb dX4_both_66 (by decide) ?_
  refine lv_aload_n hx hb dX4_both_67 rfl (lv_at hl 0 rfl) ?_
  obtain ⟨t1, ht1, h⟩ := bd1_some h
  refine wc_void hS hK (run_iN (As := [.int (1 : Int32), .ref x1]) (rest := [.ref y0]) C hK hT hS.2.1 (mX13_init ht1) (nm973 hK.2.1) q974 q192 q975 ⟨rfl, rfl⟩ hdX13_init ⟨Nat.le_of_ble_eq_true rfl, Nat.le_of_ble_eq_true rfl⟩ (mo_z m9) rfl hl.1 rfl (Nat.le_of_ble_eq_true rfl) dX4_both_68) (fun H locs hT hS hK hNt1 => ?_)
  have mm : mo t t1 := mo.ni hNt1
  replace hm := hm.tr mm
  replace m9 : mo t1 t9 := mo.bk (funext fun i => hNt1 i (Nat.zero_le _)) m9
  refine W.widen (mo_s mm).1 (mo_s mm).2 ?_
  cases h
  exact toX (ec_r C (Or.inl ⟨_, rfl⟩) hT hS rfl dX4_both_71)
theorem bX4_both_p17 {p : Program} {l : Launch} {e : Env} {s : State} {m : MethodId} {args : Array Value} {below : List Frame} {meth : Method} {c : Code} {D : va_G} {dA : Nat → ClassId} {a : Nat} {k : KP a} {t0 : CS} {r : Except Nat Nat} {t9 : CS} (C : cx p s m args meth c cX4_both RX4 2 (some (.object "LettersOnStrike$Asked"))) (hxt : ∀ x ∈ c.exceptionTable.toList, False) (hkl : k.1 ≠ a ∧ l.stackTraces = false) : ∀ (n : Nat), ∀ (t : CS) (x1 : Nat) (H : Heap) (locs : List Loc) (hT : cW D dA a k t H) (hS : cS a s.heap H locs t0.2.2.2 2 t) (hK : kC D dA a k t.2.2.2 s) (hm : mo t0 t) (ls : Array Slot), C_X4_both_p17 n t x1 = some (r, t9) → lv_has ls 2 [(0, .ref k.1), (1, .ref x1)] → W p l e (rmX4_both t0 t9) s m args below meth c H locs (t.2.2.2 0 - t0.2.2.2 0) (t.2.2.2 1 - t0.2.2.2 1) (vx_MQ below (xQ D dA a k t0 t9 fR r) (xX D dA a k t0 t9 r) args s (t9.2.2.2 0 - t0.2.2.2 0) (t9.2.2.2 1 - t0.2.2.2 1) (ca a)) (F0 m 17 ls []) := by
  obtain ⟨hx, hb, hr, hml, hown, hts, hlocks⟩ := id C
  intro n
  induction n with
  | zero =>
    intro t x1 H locs hT hS hK hm ls h hl
    have h : none = some _ := h
    cases h
  | succ n ih =>
    intro t x1 H locs hT hS hK hm ls h hl
    have m9 : mo t t9 := mo_C_X4_both_p17 (n + 1) _ _ _ _ h
    rw [C_X4_both_p17] at h
    refine lv_aload_n hx hb dX4_both_17 rfl (lv_at hl 0 rfl) ?_
    refine c_getT C hK hT hkl.1 4 (by decide) q521 rfl (v := .int (t.1 200 4)) rfl dX4_both_18 ?_
    refine lv_sipush (v := 219) hx hb dX4_both_21 (by decide) ?_
    refine lv_icmp_ne (tgt := 43) hx hb dX4_both_24 (by decide) (fun c => ?_) (fun c => ?_)
    · replace h := if_f c h
      refine lv_aload_n hx hb dX4_both_43 rfl (lv_at hl 1 rfl) ?_
      obtain ⟨hc1, h⟩ := ckC_some h
      obtain ⟨v2, hv2, h⟩ := bd1_some h
      refine r_int (run_c (As := []) (rest := []) C hK hT hS.2.1 (rv_D (ci := 15) rfl hK hT hc1) (mJ9_size hv2) q954 q955 q956 q175 q957 ⟨rfl, rfl⟩ hdJ9_size ⟨Nat.le_of_ble_eq_true rfl, Nat.le_of_ble_eq_true rfl⟩ (mo_z m9) rfl hl.1 rfl (Nat.le_of_ble_eq_true rfl) dX4_both_44) ?_
      refine lv_iconst (v := 1) hx hb dX4_both_47 (by decide) ?_
      refine lv_icmp_ne (tgt := 62) hx hb dX4_both_48 (by decide) (fun c => ?_) (fun c => ?_)
      · replace h := if_f c h
        obtain ⟨t3, et3, h⟩ := lt1_ex h
        have m9 : mo t3 t9 := mo_C_X4_both_p65 h
        refine n_new (ci := 13) (fs := [.int 0, .null]) in_X13 tyX13 tyX13_ok rfl C hK hT hS q971 q972 q192 (fun j hj => by rcases (show j = 0 ∨ j = 1 by omega) with rfl | rfl <;> rfl) (mo_n hm et3 m9) dX4_both_62 (fun t_ H et_ hT hS hK => ?_)
        obtain rfl := et3.trans et_.symm
        refine W.widen (mo_n1 hm et3).1 (mo_n1 hm et3).2 ?_
        replace hm := hm.tr (mo.new et3)
        exact bX4_both_p65 C hxt hkl t3 x1 (t.2.2.2 0) H locs hT hS hK hm ls h (lv_sub hl [1] rfl)
      · replace h := if_t c h
        refine lv_aload_n hx hb dX4_both_51 rfl (lv_at hl 1 rfl) ?_
        refine lv_iconst (v := 0) hx hb dX4_both_52 (by decide) ?_
        obtain ⟨hc4, h⟩ := ckC_some h
        obtain ⟨v5, hv5, h⟩ := bd1_some h
        refine r_ref1 (run_c (As := [.int (0 : Int32)]) (rest := []) C hK hT hS.2.1 (rv_D (ci := 15) rfl hK hT hc4) (mJ9_get hv5) q958 q959 q960 q175 q961 ⟨rfl, rfl⟩ hdJ9_get ⟨Nat.le_of_ble_eq_true rfl, Nat.le_of_ble_eq_true rfl⟩ (mo_z m9) rfl hl.1 rfl (Nat.le_of_ble_eq_true rfl) dX4_both_53) ?_
        obtain ⟨hc6, h⟩ := ckK_some h
        refine c_castAsk C hK hT hc6 q970 dX4_both_56 ?_
        refine lv_goto (tgt := 71) hx hb dX4_both_59 (by decide) ?_
        cases h
        exact toX (ec_r C (Or.inl ⟨_, rfl⟩) hT hS rfl dX4_both_71)
    · replace h := if_t c h
      refine lv_aload_n hx hb dX4_both_27 rfl (lv_at hl 0 rfl) ?_
      obtain ⟨t7, ht7, h⟩ := bd1_some h
      refine wc_void hS hK (run_c (As := []) (rest := []) C hK hT hS.2.1 (rv_T hK hT hkl.1) (mX4_next hkl ht7) q603 q605 qs3 q171 q606 ⟨rfl, rfl⟩ hdX4_next ⟨Nat.le_of_ble_eq_true rfl, Nat.le_of_ble_eq_true rfl⟩ (mo_z m9) rfl hl.1 rfl (Nat.le_of_ble_eq_true rfl) dX4_both_28) (fun H locs hT hS hK hNt7 => ?_)
      have mm : mo t t7 := mo.ni hNt7
      replace hm := hm.tr mm
      replace m9 : mo t7 t9 := mo.bk (funext fun i => hNt7 i (Nat.zero_le _)) m9
      refine W.widen (mo_s mm).1 (mo_s mm).2 ?_
      refine lv_aload_n hx hb dX4_both_31 rfl (lv_at hl 1 rfl) ?_
      refine lv_aload_n hx hb dX4_both_32 rfl (lv_at hl 0 rfl) ?_
      rcases bdx_some h with ⟨q10, ht8, hr_⟩ | ⟨v9, t8, ht8, h⟩
      · subst hr_
        have mm : mo t7 t9 := mo_C_X4_ask 64 _ _ _ ht8
        exact ex_err C hxt hS (run_x (As := []) (rest := [.ref x1]) C hK hT hS.2.1 (rv_T hK hT hkl.1) (mX4_ask hkl 64 _ _ _ ht8) q754 q756 qs10 q171 q757 ⟨rfl, rfl⟩ hdX4_ask ⟨Nat.le_of_ble_eq_true rfl, Nat.le_of_ble_eq_true rfl⟩ (mo_c hm mm mo.rf) rfl hl.1 rfl (Nat.le_of_ble_eq_true rfl) dX4_both_33) (mo_c hm mm mo.rf)
      · have mm : mo t7 t8 := mo_C_X4_ask 64 _ _ _ ht8
        have m9 : mo t8 t9 := mo_C_X4_both_p36 (mo_C_X4_both_p17 n) h
        refine ex_okR hS hK (run_x (As := []) (rest := [.ref x1]) C hK hT hS.2.1 (rv_T hK hT hkl.1) (mX4_ask hkl 64 _ _ _ ht8) q754 q756 qs10 q171 q757 ⟨rfl, rfl⟩ hdX4_ask ⟨Nat.le_of_ble_eq_true rfl, Nat.le_of_ble_eq_true rfl⟩ (mo_c hm mm m9) rfl hl.1 rfl (Nat.le_of_ble_eq_true rfl) dX4_both_33) (fun H locs hT hS hK => ?_)
        refine W.widen (mo_c hm mm mo.rf).1 (mo_c hm mm mo.rf).2 ?_
        replace hm := hm.tr mm
        exact bX4_both_p36 C hxt hkl ih (mo_C_X4_both_p17 n) t8 x1 x1 v9 H locs hT hS hK hm ls h (lv_sub hl [0, 1] rfl)
theorem bX4_both_p16 {p : Program} {l : Launch} {e : Env} {s : State} {m : MethodId} {args : Array Value} {below : List Frame} {meth : Method} {c : Code} {D : va_G} {dA : Nat → ClassId} {a : Nat} {k : KP a} {t0 : CS} {r : Except Nat Nat} {t9 : CS} (C : cx p s m args meth c cX4_both RX4 2 (some (.object "LettersOnStrike$Asked"))) (hxt : ∀ x ∈ c.exceptionTable.toList, False) (hkl : k.1 ≠ a ∧ l.stackTraces = false) : ∀ (t : CS) (x1 : Nat) (y0 : Int32) (H : Heap) (locs : List Loc) (hT : cW D dA a k t H) (hS : cS a s.heap H locs t0.2.2.2 2 t) (hK : kC D dA a k t.2.2.2 s) (hm : mo t0 t) (ls : Array Slot), C_X4_both_p16 t x1 y0 = some (r, t9) → lv_has ls 2 [(0, .ref k.1), (1, .ref x1)] → W p l e (rmX4_both t0 t9) s m args below meth c H locs (t.2.2.2 0 - t0.2.2.2 0) (t.2.2.2 1 - t0.2.2.2 1) (vx_MQ below (xQ D dA a k t0 t9 fR r) (xX D dA a k t0 t9 r) args s (t9.2.2.2 0 - t0.2.2.2 0) (t9.2.2.2 1 - t0.2.2.2 1) (ca a)) (F0 m 16 ls [.int y0]) := by
  obtain ⟨hx, hb, hr, hml, hown, hts, hlocks⟩ := id C
  intro t x1 y0 H locs hT hS hK hm ls h hl
  have m9 : mo t t9 := mo_C_X4_both_p16 h
  unfold C_X4_both_p16 at h
  refine lv_pop hx hb dX4_both_16 rfl ?_
  exact bX4_both_p17 C hxt hkl fu t x1 H locs hT hS hK hm ls h (lv_sub hl [0, 1] rfl)
theorem bX4_both_p13 {p : Program} {l : Launch} {e : Env} {s : State} {m : MethodId} {args : Array Value} {below : List Frame} {meth : Method} {c : Code} {D : va_G} {dA : Nat → ClassId} {a : Nat} {k : KP a} {t0 : CS} {r : Except Nat Nat} {t9 : CS} (C : cx p s m args meth c cX4_both RX4 2 (some (.object "LettersOnStrike$Asked"))) (hxt : ∀ x ∈ c.exceptionTable.toList, False) (hkl : k.1 ≠ a ∧ l.stackTraces = false) : ∀ (t : CS) (x1 : Nat) (y0 : Nat) (y1 : Nat) (H : Heap) (locs : List Loc) (hT : cW D dA a k t H) (hS : cS a s.heap H locs t0.2.2.2 2 t) (hK : kC D dA a k t.2.2.2 s) (hm : mo t0 t) (ls : Array Slot), C_X4_both_p13 t x1 y0 y1 = some (r, t9) → lv_has ls 2 [(0, .ref k.1), (1, .ref x1)] → W p l e (rmX4_both t0 t9) s m args below meth c H locs (t.2.2.2 0 - t0.2.2.2 0) (t.2.2.2 1 - t0.2.2.2 1) (vx_MQ below (xQ D dA a k t0 t9 fR r) (xX D dA a k t0 t9 r) args s (t9.2.2.2 0 - t0.2.2.2 0) (t9.2.2.2 1 - t0.2.2.2 1) (ca a)) (F0 m 13 ls [.ref y1, .ref y0]) := by
  obtain ⟨hx, hb, hr, hml, hown, hts, hlocks⟩ := id C
  intro t x1 y0 y1 H locs hT hS hK hm ls h hl
  have m9 : mo t t9 := mo_C_X4_both_p13 h
  unfold C_X4_both_p13 at h
  obtain ⟨hc1, h⟩ := ckC_some h
  obtain ⟨v3, t2, ht2, h⟩ := bd2_some h
  have mm : mo t t2 := mo_J_J9_add ht2
  have m9 : mo t2 t9 := mo_C_X4_both_p16 h
  refine wa_int hS hK (run_c (As := [.ref y1]) (rest := []) C hK hT hS.2.1 (rv_D (ci := 15) rfl hK hT hc1) (mJ9_add ht2) q953 q869 q870 q175 q871 ⟨rfl, rfl⟩ hdJ9_add ⟨Nat.le_of_ble_eq_true rfl, Nat.le_of_ble_eq_true rfl⟩ (mo_c hm mm m9) rfl hl.1 rfl (Nat.le_of_ble_eq_true rfl) dX4_both_13) (fun H locs hT hS hK => ?_)
  refine W.widen (mo_c hm mm mo.rf).1 (mo_c hm mm mo.rf).2 ?_
  replace hm := hm.tr mm
  exact bX4_both_p16 C hxt hkl t2 x1 v3 H locs hT hS hK hm ls h (lv_sub hl [0, 1] rfl)
theorem bX4_both_p3 {p : Program} {l : Launch} {e : Env} {s : State} {m : MethodId} {args : Array Value} {below : List Frame} {meth : Method} {c : Code} {D : va_G} {dA : Nat → ClassId} {a : Nat} {k : KP a} {t0 : CS} {r : Except Nat Nat} {t9 : CS} (C : cx p s m args meth c cX4_both RX4 2 (some (.object "LettersOnStrike$Asked"))) (hxt : ∀ x ∈ c.exceptionTable.toList, False) (hkl : k.1 ≠ a ∧ l.stackTraces = false) : ∀ (t : CS) (y0 : Nat) (H : Heap) (locs : List Loc) (hT : cW D dA a k t H) (hS : cS a s.heap H locs t0.2.2.2 2 t) (hK : kC D dA a k t.2.2.2 s) (hm : mo t0 t) (ls : Array Slot), C_X4_both_p3 t y0 = some (r, t9) → lv_has ls 2 [(0, .ref k.1)] → W p l e (rmX4_both t0 t9) s m args below meth c H locs (t.2.2.2 0 - t0.2.2.2 0) (t.2.2.2 1 - t0.2.2.2 1) (vx_MQ below (xQ D dA a k t0 t9 fR r) (xX D dA a k t0 t9 r) args s (t9.2.2.2 0 - t0.2.2.2 0) (t9.2.2.2 1 - t0.2.2.2 1) (ca a)) (F0 m 3 ls [.ref y0]) := by
  obtain ⟨hx, hb, hr, hml, hown, hts, hlocks⟩ := id C
  intro t y0 H locs hT hS hK hm ls h hl
  have m9 : mo t t9 := mo_C_X4_both_p3 h
  unfold C_X4_both_p3 at h
  refine lv_dup hx hb dX4_both_3 rfl ?_
  obtain ⟨t1, ht1, h⟩ := bd1_some h
  refine wc_void hS hK (run_i (As := []) (rest := [.ref y0]) C hK hT hS.2.1 (mJ9_init ht1) q749 q555 q175 q556 ⟨rfl, rfl⟩ hdJ9_init ⟨Nat.le_of_ble_eq_true rfl, Nat.le_of_ble_eq_true rfl⟩ (mo_z m9) rfl hl.1 rfl (Nat.le_of_ble_eq_true rfl) dX4_both_4) (fun H locs hT hS hK hNt1 => ?_)
  have mm : mo t t1 := mo.ni hNt1
  replace hm := hm.tr mm
  replace m9 : mo t1 t9 := mo.bk (funext fun i => hNt1 i (Nat.zero_le _)) m9
  refine W.widen (mo_s mm).1 (mo_s mm).2 ?_
  refine lv_astore_n (lv' := [(1, .ref y0), (0, .ref k.1)]) hx hb dX4_both_7 rfl hl (by decide) rfl (fun ls hl => ?_)
  refine lv_aload_n hx hb dX4_both_8 rfl (lv_at hl 0 rfl) ?_
  refine lv_aload_n hx hb dX4_both_9 rfl (lv_at hl 1 rfl) ?_
  rcases bdx_some h with ⟨q4, ht2, hr_⟩ | ⟨v3, t2, ht2, h⟩
  · subst hr_
    have mm : mo t1 t9 := mo_C_X4_ask 64 _ _ _ ht2
    exact ex_err C hxt hS (run_x (As := []) (rest := [.ref y0]) C hK hT hS.2.1 (rv_T hK hT hkl.1) (mX4_ask hkl 64 _ _ _ ht2) q754 q756 qs10 q171 q757 ⟨rfl, rfl⟩ hdX4_ask ⟨Nat.le_of_ble_eq_true rfl, Nat.le_of_ble_eq_true rfl⟩ (mo_c hm mm mo.rf) rfl hl.1 rfl (Nat.le_of_ble_eq_true rfl) dX4_both_10) (mo_c hm mm mo.rf)
  · have mm : mo t1 t2 := mo_C_X4_ask 64 _ _ _ ht2
    have m9 : mo t2 t9 := mo_C_X4_both_p13 h
    refine ex_okR hS hK (run_x (As := []) (rest := [.ref y0]) C hK hT hS.2.1 (rv_T hK hT hkl.1) (mX4_ask hkl 64 _ _ _ ht2) q754 q756 qs10 q171 q757 ⟨rfl, rfl⟩ hdX4_ask ⟨Nat.le_of_ble_eq_true rfl, Nat.le_of_ble_eq_true rfl⟩ (mo_c hm mm m9) rfl hl.1 rfl (Nat.le_of_ble_eq_true rfl) dX4_both_10) (fun H locs hT hS hK => ?_)
    refine W.widen (mo_c hm mm mo.rf).1 (mo_c hm mm mo.rf).2 ?_
    replace hm := hm.tr mm
    exact bX4_both_p13 C hxt hkl t2 y0 y0 v3 H locs hT hS hK hm ls h (lv_sub hl [1, 0] rfl)
theorem bX4_both {p : Program} {l : Launch} {e : Env} {s : State} {m : MethodId} {args : Array Value} {below : List Frame} {meth : Method} {c : Code} {D : va_G} {dA : Nat → ClassId} {a : Nat} {k : KP a} {t0 : CS} {r : Except Nat Nat} {t9 : CS} (C : cx p s m args meth c cX4_both RX4 2 (some (.object "LettersOnStrike$Asked"))) (hxt : ∀ x ∈ c.exceptionTable.toList, False) (hkl : k.1 ≠ a ∧ l.stackTraces = false) : ∀ (t : CS) (H : Heap) (locs : List Loc) (hT : cW D dA a k t H) (hS : cS a s.heap H locs t0.2.2.2 2 t) (hK : kC D dA a k t.2.2.2 s) (hm : mo t0 t) (ls : Array Slot), C_X4_both t = some (r, t9) → lv_has ls 2 [(0, .ref k.1)] → W p l e (rmX4_both t0 t9) s m args below meth c H locs (t.2.2.2 0 - t0.2.2.2 0) (t.2.2.2 1 - t0.2.2.2 1) (vx_MQ below (xQ D dA a k t0 t9 fR r) (xX D dA a k t0 t9 r) args s (t9.2.2.2 0 - t0.2.2.2 0) (t9.2.2.2 1 - t0.2.2.2 1) (ca a)) (F0 m 0 ls []) := by
  obtain ⟨hx, hb, hr, hml, hown, hts, hlocks⟩ := id C
  intro t H locs hT hS hK hm ls h hl
  have m9 : mo t t9 := mo_C_X4_both h
  unfold C_X4_both at h
  obtain ⟨t1, et1, h⟩ := lt1_ex h
  have m9 : mo t1 t9 := mo_C_X4_both_p3 h
  refine n_new (ci := 15) (fs := [.int 0, .null, .int 0]) in_J9 tyJ9 tyJ9_ok rfl C hK hT hS q748 q553 q175 (fun j hj => by rcases (show j = 0 ∨ j = 1 ∨ j = 2 by omega) with rfl | rfl | rfl <;> rfl) (mo_n hm et1 m9) dX4_both_0 (fun t_ H et_ hT hS hK => ?_)
  obtain rfl := et1.trans et_.symm
  refine W.widen (mo_n1 hm et1).1 (mo_n1 hm et1).2 ?_
  replace hm := hm.tr (mo.new et1)
  exact bX4_both_p3 C hxt hkl t1 (t.2.2.2 0) H locs hT hS hK hm ls h (lv_sub hl [0] rfl)
theorem mX4_both {l : Launch} {D : va_G} {dA : Nat → ClassId} {a : Nat} {k : KP a} {t : CS} {r : Except Nat Nat} {t9 : CS} (hkl : k.1 ≠ a ∧ l.stackTraces = false) (h : C_X4_both t = some (r, t9)) : vx_Met l yX4_both (ws_ yX4_both cX4_both 2 (some (.object "LettersOnStrike$Asked"))) (rmX4_both t t9) (cPc D dA a k t [.ref k.1]) (xQ D dA a k t t9 fR r) (xX D dA a k t t9 r) (t9.2.2.2 0 - t.2.2.2 0) (t9.2.2.2 1 - t.2.2.2 1) (ca a) := en_X (by decide +kernel) rfl (Nat.le_of_ble_eq_true rfl) (fun p e s m below meth c ls C hxt hK hT hl => sub0 (bX4_both C hxt hkl t _ [] hT cS.rf hK mo.rf ls h hl))
set_option maxRecDepth 20000 in
abbrev rmX4_either (t t9 : CS) : Room := { frames := 283, cells := t9.2.2.2 0 - t.2.2.2 0, slots := t9.2.2.2 1 - t.2.2.2 1, locals := 5985 }
theorem hdX4_either : yX4_either.cls = RX4 ∧ yX4_either.cls ≠ "java/lang/invoke/MethodHandle" ∧ yX4_either.cls ≠ "java/lang/invoke/VarHandle" ∧ (parseMethodDescriptor yX4_either.desc).map (fun d => d.parameters.length) = some 0 := by decide +kernel
theorem bX4_either_p39 {p : Program} {l : Launch} {e : Env} {s : State} {m : MethodId} {args : Array Value} {below : List Frame} {meth : Method} {c : Code} {D : va_G} {dA : Nat → ClassId} {a : Nat} {k : KP a} {t0 : CS} {r : Except Nat Nat} {t9 : CS} (C : cx p s m args meth c cX4_either RX4 2 (some (.object "LettersOnStrike$Asked"))) (hxt : ∀ x ∈ c.exceptionTable.toList, False) (hkl : k.1 ≠ a ∧ l.stackTraces = false) {k17 : CS → Nat → Option (Except Nat Nat × CS)} (hk17 : ∀ (t : CS) (x1 : Nat) (H : Heap) (locs : List Loc) (hT : cW D dA a k t H) (hS : cS a s.heap H locs t0.2.2.2 2 t) (hK : kC D dA a k t.2.2.2 s) (hm : mo t0 t) (ls : Array Slot), k17 t x1 = some (r, t9) → lv_has ls 2 [(0, .ref k.1), (1, .ref x1)] → W p l e (rmX4_either t0 t9) s m args below meth c H locs (t.2.2.2 0 - t0.2.2.2 0) (t.2.2.2 1 - t0.2.2.2 1) (vx_MQ below (xQ D dA a k t0 t9 fR r) (xX D dA a k t0 t9 r) args s (t9.2.2.2 0 - t0.2.2.2 0) (t9.2.2.2 1 - t0.2.2.2 1) (ca a)) (F0 m 17 ls [])) (mk17 : ∀ (t : CS) (x1 : Nat) (r : Except Nat Nat) (t9 : CS), k17 t x1 = some (r, t9) → mo t t9) : ∀ (t : CS) (x1 : Nat) (y0 : Int32) (H : Heap) (locs : List Loc) (hT : cW D dA a k t H) (hS : cS a s.heap H locs t0.2.2.2 2 t) (hK : kC D dA a k t.2.2.2 s) (hm : mo t0 t) (ls : Array Slot), C_X4_either_p39 k17 t x1 y0 = some (r, t9) → lv_has ls 2 [(0, .ref k.1), (1, .ref x1)] → W p l e (rmX4_either t0 t9) s m args below meth c H locs (t.2.2.2 0 - t0.2.2.2 0) (t.2.2.2 1 - t0.2.2.2 1) (vx_MQ below (xQ D dA a k t0 t9 fR r) (xX D dA a k t0 t9 r) args s (t9.2.2.2 0 - t0.2.2.2 0) (t9.2.2.2 1 - t0.2.2.2 1) (ca a)) (F0 m 39 ls [.int y0]) := by
  obtain ⟨hx, hb, hr, hml, hown, hts, hlocks⟩ := id C
  intro t x1 y0 H locs hT hS hK hm ls h hl
  have m9 : mo t t9 := mo_C_X4_either_p39 mk17 h
  unfold C_X4_either_p39 at h
  refine lv_pop hx hb dX4_either_39 rfl ?_
  refine lv_goto (tgt := 17) hx hb dX4_either_40 (by decide) ?_
  exact hk17 t x1 H locs hT hS hK hm ls h (lv_sub hl [0, 1] rfl)
theorem bX4_either_p36 {p : Program} {l : Launch} {e : Env} {s : State} {m : MethodId} {args : Array Value} {below : List Frame} {meth : Method} {c : Code} {D : va_G} {dA : Nat → ClassId} {a : Nat} {k : KP a} {t0 : CS} {r : Except Nat Nat} {t9 : CS} (C : cx p s m args meth c cX4_either RX4 2 (some (.object "LettersOnStrike$Asked"))) (hxt : ∀ x ∈ c.exceptionTable.toList, False) (hkl : k.1 ≠ a ∧ l.stackTraces = false) {k17 : CS → Nat → Option (Except Nat Nat × CS)} (hk17 : ∀ (t : CS) (x1 : Nat) (H : Heap) (locs : List Loc) (hT : cW D dA a k t H) (hS : cS a s.heap H locs t0.2.2.2 2 t) (hK : kC D dA a k t.2.2.2 s) (hm : mo t0 t) (ls : Array Slot), k17 t x1 = some (r, t9) → lv_has ls 2 [(0, .ref k.1), (1, .ref x1)] → W p l e (rmX4_either t0 t9) s m args below meth c H locs (t.2.2.2 0 - t0.2.2.2 0) (t.2.2.2 1 - t0.2.2.2 1) (vx_MQ below (xQ D dA a k t0 t9 fR r) (xX D dA a k t0 t9 r) args s (t9.2.2.2 0 - t0.2.2.2 0) (t9.2.2.2 1 - t0.2.2.2 1) (ca a)) (F0 m 17 ls [])) (mk17 : ∀ (t : CS) (x1 : Nat) (r : Except Nat Nat) (t9 : CS), k17 t x1 = some (r, t9) → mo t t9) : ∀ (t : CS) (x1 : Nat) (y0 : Nat) (y1 : Nat) (H : Heap) (locs : List Loc) (hT : cW D dA a k t H) (hS : cS a s.heap H locs t0.2.2.2 2 t) (hK : kC D dA a k t.2.2.2 s) (hm : mo t0 t) (ls : Array Slot), C_X4_either_p36 k17 t x1 y0 y1 = some (r, t9) → lv_has ls 2 [(0, .ref k.1), (1, .ref x1)] → W p l e (rmX4_either t0 t9) s m args below meth c H locs (t.2.2.2 0 - t0.2.2.2 0) (t.2.2.2 1 - t0.2.2.2 1) (vx_MQ below (xQ D dA a k t0 t9 fR r) (xX D dA a k t0 t9 r) args s (t9.2.2.2 0 - t0.2.2.2 0) (t9.2.2.2 1 - t0.2.2.2 1) (ca a)) (F0 m 36 ls [.ref y1, .ref y0]) := by
  obtain ⟨hx, hb, hr, hml, hown, hts, hlocks⟩ := id C
  intro t x1 y0 y1 H locs hT hS hK hm ls h hl
  have m9 : mo t t9 := mo_C_X4_either_p36 mk17 h
  unfold C_X4_either_p36 at h
  obtain ⟨hc1, h⟩ := ckC_some h
  obtain ⟨v3, t2, ht2, h⟩ := bd2_some h
  have mm : mo t t2 := mo_J_J9_add ht2
  have m9 : mo t2 t9 := mo_C_X4_either_p39 mk17 h
  refine wa_int hS hK (run_c (As := [.ref y1]) (rest := []) C hK hT hS.2.1 (rv_D (ci := 15) rfl hK hT hc1) (mJ9_add ht2) q953 q869 q870 q175 q871 ⟨rfl, rfl⟩ hdJ9_add ⟨Nat.le_of_ble_eq_true rfl, Nat.le_of_ble_eq_true rfl⟩ (mo_c hm mm m9) rfl hl.1 rfl (Nat.le_of_ble_eq_true rfl) dX4_either_36) (fun H locs hT hS hK => ?_)
  refine W.widen (mo_c hm mm mo.rf).1 (mo_c hm mm mo.rf).2 ?_
  replace hm := hm.tr mm
  exact bX4_either_p39 C hxt hkl hk17 mk17 t2 x1 v3 H locs hT hS hK hm ls h (lv_sub hl [0, 1] rfl)
theorem bX4_either_p65 {p : Program} {l : Launch} {e : Env} {s : State} {m : MethodId} {args : Array Value} {below : List Frame} {meth : Method} {c : Code} {D : va_G} {dA : Nat → ClassId} {a : Nat} {k : KP a} {t0 : CS} {r : Except Nat Nat} {t9 : CS} (C : cx p s m args meth c cX4_either RX4 2 (some (.object "LettersOnStrike$Asked"))) (hxt : ∀ x ∈ c.exceptionTable.toList, False) (hkl : k.1 ≠ a ∧ l.stackTraces = false) : ∀ (t : CS) (x1 : Nat) (y0 : Nat) (H : Heap) (locs : List Loc) (hT : cW D dA a k t H) (hS : cS a s.heap H locs t0.2.2.2 2 t) (hK : kC D dA a k t.2.2.2 s) (hm : mo t0 t) (ls : Array Slot), C_X4_either_p65 t x1 y0 = some (r, t9) → lv_has ls 2 [(1, .ref x1)] → W p l e (rmX4_either t0 t9) s m args below meth c H locs (t.2.2.2 0 - t0.2.2.2 0) (t.2.2.2 1 - t0.2.2.2 1) (vx_MQ below (xQ D dA a k t0 t9 fR r) (xX D dA a k t0 t9 r) args s (t9.2.2.2 0 - t0.2.2.2 0) (t9.2.2.2 1 - t0.2.2.2 1) (ca a)) (F0 m 65 ls [.ref y0]) := by
  obtain ⟨hx, hb, hr, hml, hown, hts, hlocks⟩ := id C
  intro t x1 y0 H locs hT hS hK hm ls h hl
  have m9 : mo t t9 := mo_C_X4_either_p65 h
  unfold C_X4_either_p65 at h
  refine lv_dup hx hb dX4_either_65 rfl ?_
  refine lv_iconst (v := 0) hx hb dX4_either_66 (by decide) ?_
  refine lv_aload_n hx hb dX4_either_67 rfl (lv_at hl 0 rfl) ?_
  obtain ⟨t1, ht1, h⟩ := bd1_some h
  refine wc_void hS hK (run_iN (As := [.int (0 : Int32), .ref x1]) (rest := [.ref y0]) C hK hT hS.2.1 (mX13_init ht1) (nm973 hK.2.1) q974 q192 q975 ⟨rfl, rfl⟩ hdX13_init ⟨Nat.le_of_ble_eq_true rfl, Nat.le_of_ble_eq_true rfl⟩ (mo_z m9) rfl hl.1 rfl (Nat.le_of_ble_eq_true rfl) dX4_either_68) (fun H locs hT hS hK hNt1 => ?_)
  have mm : mo t t1 := mo.ni hNt1
  replace hm := hm.tr mm
  replace m9 : mo t1 t9 := mo.bk (funext fun i => hNt1 i (Nat.zero_le _)) m9
  refine W.widen (mo_s mm).1 (mo_s mm).2 ?_
  cases h
  exact toX (ec_r C (Or.inl ⟨_, rfl⟩) hT hS rfl dX4_either_71)
theorem bX4_either_p17 {p : Program} {l : Launch} {e : Env} {s : State} {m : MethodId} {args : Array Value} {below : List Frame} {meth : Method} {c : Code} {D : va_G} {dA : Nat → ClassId} {a : Nat} {k : KP a} {t0 : CS} {r : Except Nat Nat} {t9 : CS} (C : cx p s m args meth c cX4_either RX4 2 (some (.object "LettersOnStrike$Asked"))) (hxt : ∀ x ∈ c.exceptionTable.toList, False) (hkl : k.1 ≠ a ∧ l.stackTraces = false) : ∀ (n : Nat), ∀ (t : CS) (x1 : Nat) (H : Heap) (locs : List Loc) (hT : cW D dA a k t H) (hS : cS a s.heap H locs t0.2.2.2 2 t) (hK : kC D dA a k t.2.2.2 s) (hm : mo t0 t) (ls : Array Slot), C_X4_either_p17 n t x1 = some (r, t9) → lv_has ls 2 [(0, .ref k.1), (1, .ref x1)] → W p l e (rmX4_either t0 t9) s m args below meth c H locs (t.2.2.2 0 - t0.2.2.2 0) (t.2.2.2 1 - t0.2.2.2 1) (vx_MQ below (xQ D dA a k t0 t9 fR r) (xX D dA a k t0 t9 r) args s (t9.2.2.2 0 - t0.2.2.2 0) (t9.2.2.2 1 - t0.2.2.2 1) (ca a)) (F0 m 17 ls []) := by
  obtain ⟨hx, hb, hr, hml, hown, hts, hlocks⟩ := id C
  intro n
  induction n with
  | zero =>
    intro t x1 H locs hT hS hK hm ls h hl
    have h : none = some _ := h
    cases h
  | succ n ih =>
    intro t x1 H locs hT hS hK hm ls h hl
    have m9 : mo t t9 := mo_C_X4_either_p17 (n + 1) _ _ _ _ h
    rw [C_X4_either_p17] at h
    refine lv_aload_n hx hb dX4_either_17 rfl (lv_at hl 0 rfl) ?_
    refine c_getT C hK hT hkl.1 4 (by decide) q521 rfl (v := .int (t.1 200 4)) rfl dX4_either_18 ?_
    refine lv_sipush (v := 218) hx hb dX4_either_21 (by decide) ?_
    refine lv_icmp_ne (tgt := 43) hx hb dX4_either_24 (by decide) (fun c => ?_) (fun c => ?_)
    · replace h := if_f c h
      refine lv_aload_n hx hb dX4_either_43 rfl (lv_at hl 1 rfl) ?_
      obtain ⟨hc1, h⟩ := ckC_some h
      obtain ⟨v2, hv2, h⟩ := bd1_some h
      refine r_int (run_c (As := []) (rest := []) C hK hT hS.2.1 (rv_D (ci := 15) rfl hK hT hc1) (mJ9_size hv2) q954 q955 q956 q175 q957 ⟨rfl, rfl⟩ hdJ9_size ⟨Nat.le_of_ble_eq_true rfl, Nat.le_of_ble_eq_true rfl⟩ (mo_z m9) rfl hl.1 rfl (Nat.le_of_ble_eq_true rfl) dX4_either_44) ?_
      refine lv_iconst (v := 1) hx hb dX4_either_47 (by decide) ?_
      refine lv_icmp_ne (tgt := 62) hx hb dX4_either_48 (by decide) (fun c => ?_) (fun c => ?_)
      · replace h := if_f c h
        obtain ⟨t3, et3, h⟩ := lt1_ex h
        have m9 : mo t3 t9 := mo_C_X4_either_p65 h
        refine n_new (ci := 13) (fs := [.int 0, .null]) in_X13 tyX13 tyX13_ok rfl C hK hT hS q971 q972 q192 (fun j hj => by rcases (show j = 0 ∨ j = 1 by omega) with rfl | rfl <;> rfl) (mo_n hm et3 m9) dX4_either_62 (fun t_ H et_ hT hS hK => ?_)
        obtain rfl := et3.trans et_.symm
        refine W.widen (mo_n1 hm et3).1 (mo_n1 hm et3).2 ?_
        replace hm := hm.tr (mo.new et3)
        exact bX4_either_p65 C hxt hkl t3 x1 (t.2.2.2 0) H locs hT hS hK hm ls h (lv_sub hl [1] rfl)
      · replace h := if_t c h
        refine lv_aload_n hx hb dX4_either_51 rfl (lv_at hl 1 rfl) ?_
        refine lv_iconst (v := 0) hx hb dX4_either_52 (by decide) ?_
        obtain ⟨hc4, h⟩ := ckC_some h
        obtain ⟨v5, hv5, h⟩ := bd1_some h
        refine r_ref1 (run_c (As := [.int (0 : Int32)]) (rest := []) C hK hT hS.2.1 (rv_D (ci := 15) rfl hK hT hc4) (mJ9_get hv5) q958 q959 q960 q175 q961 ⟨rfl, rfl⟩ hdJ9_get ⟨Nat.le_of_ble_eq_true rfl, Nat.le_of_ble_eq_true rfl⟩ (mo_z m9) rfl hl.1 rfl (Nat.le_of_ble_eq_true rfl) dX4_either_53) ?_
        obtain ⟨hc6, h⟩ := ckK_some h
        refine c_castAsk C hK hT hc6 q970 dX4_either_56 ?_
        refine lv_goto (tgt := 71) hx hb dX4_either_59 (by decide) ?_
        cases h
        exact toX (ec_r C (Or.inl ⟨_, rfl⟩) hT hS rfl dX4_either_71)
    · replace h := if_t c h
      refine lv_aload_n hx hb dX4_either_27 rfl (lv_at hl 0 rfl) ?_
      obtain ⟨t7, ht7, h⟩ := bd1_some h
      refine wc_void hS hK (run_c (As := []) (rest := []) C hK hT hS.2.1 (rv_T hK hT hkl.1) (mX4_next hkl ht7) q603 q605 qs3 q171 q606 ⟨rfl, rfl⟩ hdX4_next ⟨Nat.le_of_ble_eq_true rfl, Nat.le_of_ble_eq_true rfl⟩ (mo_z m9) rfl hl.1 rfl (Nat.le_of_ble_eq_true rfl) dX4_either_28) (fun H locs hT hS hK hNt7 => ?_)
      have mm : mo t t7 := mo.ni hNt7
      replace hm := hm.tr mm
      replace m9 : mo t7 t9 := mo.bk (funext fun i => hNt7 i (Nat.zero_le _)) m9
      refine W.widen (mo_s mm).1 (mo_s mm).2 ?_
      refine lv_aload_n hx hb dX4_either_31 rfl (lv_at hl 1 rfl) ?_
      refine lv_aload_n hx hb dX4_either_32 rfl (lv_at hl 0 rfl) ?_
      rcases bdx_some h with ⟨q10, ht8, hr_⟩ | ⟨v9, t8, ht8, h⟩
      · subst hr_
        have mm : mo t7 t9 := mo_C_X4_both ht8
        exact ex_err C hxt hS (run_x (As := []) (rest := [.ref x1]) C hK hT hS.2.1 (rv_T hK hT hkl.1) (mX4_both hkl ht8) q750 q752 qs9 q171 q753 ⟨rfl, rfl⟩ hdX4_both ⟨Nat.le_of_ble_eq_true rfl, Nat.le_of_ble_eq_true rfl⟩ (mo_c hm mm mo.rf) rfl hl.1 rfl (Nat.le_of_ble_eq_true rfl) dX4_either_33) (mo_c hm mm mo.rf)
      · have mm : mo t7 t8 := mo_C_X4_both ht8
        have m9 : mo t8 t9 := mo_C_X4_either_p36 (mo_C_X4_either_p17 n) h
        refine ex_okR hS hK (run_x (As := []) (rest := [.ref x1]) C hK hT hS.2.1 (rv_T hK hT hkl.1) (mX4_both hkl ht8) q750 q752 qs9 q171 q753 ⟨rfl, rfl⟩ hdX4_both ⟨Nat.le_of_ble_eq_true rfl, Nat.le_of_ble_eq_true rfl⟩ (mo_c hm mm m9) rfl hl.1 rfl (Nat.le_of_ble_eq_true rfl) dX4_either_33) (fun H locs hT hS hK => ?_)
        refine W.widen (mo_c hm mm mo.rf).1 (mo_c hm mm mo.rf).2 ?_
        replace hm := hm.tr mm
        exact bX4_either_p36 C hxt hkl ih (mo_C_X4_either_p17 n) t8 x1 x1 v9 H locs hT hS hK hm ls h (lv_sub hl [0, 1] rfl)
theorem bX4_either_p16 {p : Program} {l : Launch} {e : Env} {s : State} {m : MethodId} {args : Array Value} {below : List Frame} {meth : Method} {c : Code} {D : va_G} {dA : Nat → ClassId} {a : Nat} {k : KP a} {t0 : CS} {r : Except Nat Nat} {t9 : CS} (C : cx p s m args meth c cX4_either RX4 2 (some (.object "LettersOnStrike$Asked"))) (hxt : ∀ x ∈ c.exceptionTable.toList, False) (hkl : k.1 ≠ a ∧ l.stackTraces = false) : ∀ (t : CS) (x1 : Nat) (y0 : Int32) (H : Heap) (locs : List Loc) (hT : cW D dA a k t H) (hS : cS a s.heap H locs t0.2.2.2 2 t) (hK : kC D dA a k t.2.2.2 s) (hm : mo t0 t) (ls : Array Slot), C_X4_either_p16 t x1 y0 = some (r, t9) → lv_has ls 2 [(0, .ref k.1), (1, .ref x1)] → W p l e (rmX4_either t0 t9) s m args below meth c H locs (t.2.2.2 0 - t0.2.2.2 0) (t.2.2.2 1 - t0.2.2.2 1) (vx_MQ below (xQ D dA a k t0 t9 fR r) (xX D dA a k t0 t9 r) args s (t9.2.2.2 0 - t0.2.2.2 0) (t9.2.2.2 1 - t0.2.2.2 1) (ca a)) (F0 m 16 ls [.int y0]) := by
  obtain ⟨hx, hb, hr, hml, hown, hts, hlocks⟩ := id C
  intro t x1 y0 H locs hT hS hK hm ls h hl
  have m9 : mo t t9 := mo_C_X4_either_p16 h
  unfold C_X4_either_p16 at h
  refine lv_pop hx hb dX4_either_16 rfl ?_
  exact bX4_either_p17 C hxt hkl fu t x1 H locs hT hS hK hm ls h (lv_sub hl [0, 1] rfl)
theorem bX4_either_p13 {p : Program} {l : Launch} {e : Env} {s : State} {m : MethodId} {args : Array Value} {below : List Frame} {meth : Method} {c : Code} {D : va_G} {dA : Nat → ClassId} {a : Nat} {k : KP a} {t0 : CS} {r : Except Nat Nat} {t9 : CS} (C : cx p s m args meth c cX4_either RX4 2 (some (.object "LettersOnStrike$Asked"))) (hxt : ∀ x ∈ c.exceptionTable.toList, False) (hkl : k.1 ≠ a ∧ l.stackTraces = false) : ∀ (t : CS) (x1 : Nat) (y0 : Nat) (y1 : Nat) (H : Heap) (locs : List Loc) (hT : cW D dA a k t H) (hS : cS a s.heap H locs t0.2.2.2 2 t) (hK : kC D dA a k t.2.2.2 s) (hm : mo t0 t) (ls : Array Slot), C_X4_either_p13 t x1 y0 y1 = some (r, t9) → lv_has ls 2 [(0, .ref k.1), (1, .ref x1)] → W p l e (rmX4_either t0 t9) s m args below meth c H locs (t.2.2.2 0 - t0.2.2.2 0) (t.2.2.2 1 - t0.2.2.2 1) (vx_MQ below (xQ D dA a k t0 t9 fR r) (xX D dA a k t0 t9 r) args s (t9.2.2.2 0 - t0.2.2.2 0) (t9.2.2.2 1 - t0.2.2.2 1) (ca a)) (F0 m 13 ls [.ref y1, .ref y0]) := by
  obtain ⟨hx, hb, hr, hml, hown, hts, hlocks⟩ := id C
  intro t x1 y0 y1 H locs hT hS hK hm ls h hl
  have m9 : mo t t9 := mo_C_X4_either_p13 h
  unfold C_X4_either_p13 at h
  obtain ⟨hc1, h⟩ := ckC_some h
  obtain ⟨v3, t2, ht2, h⟩ := bd2_some h
  have mm : mo t t2 := mo_J_J9_add ht2
  have m9 : mo t2 t9 := mo_C_X4_either_p16 h
  refine wa_int hS hK (run_c (As := [.ref y1]) (rest := []) C hK hT hS.2.1 (rv_D (ci := 15) rfl hK hT hc1) (mJ9_add ht2) q953 q869 q870 q175 q871 ⟨rfl, rfl⟩ hdJ9_add ⟨Nat.le_of_ble_eq_true rfl, Nat.le_of_ble_eq_true rfl⟩ (mo_c hm mm m9) rfl hl.1 rfl (Nat.le_of_ble_eq_true rfl) dX4_either_13) (fun H locs hT hS hK => ?_)
  refine W.widen (mo_c hm mm mo.rf).1 (mo_c hm mm mo.rf).2 ?_
  replace hm := hm.tr mm
  exact bX4_either_p16 C hxt hkl t2 x1 v3 H locs hT hS hK hm ls h (lv_sub hl [0, 1] rfl)
theorem bX4_either_p3 {p : Program} {l : Launch} {e : Env} {s : State} {m : MethodId} {args : Array Value} {below : List Frame} {meth : Method} {c : Code} {D : va_G} {dA : Nat → ClassId} {a : Nat} {k : KP a} {t0 : CS} {r : Except Nat Nat} {t9 : CS} (C : cx p s m args meth c cX4_either RX4 2 (some (.object "LettersOnStrike$Asked"))) (hxt : ∀ x ∈ c.exceptionTable.toList, False) (hkl : k.1 ≠ a ∧ l.stackTraces = false) : ∀ (t : CS) (y0 : Nat) (H : Heap) (locs : List Loc) (hT : cW D dA a k t H) (hS : cS a s.heap H locs t0.2.2.2 2 t) (hK : kC D dA a k t.2.2.2 s) (hm : mo t0 t) (ls : Array Slot), C_X4_either_p3 t y0 = some (r, t9) → lv_has ls 2 [(0, .ref k.1)] → W p l e (rmX4_either t0 t9) s m args below meth c H locs (t.2.2.2 0 - t0.2.2.2 0) (t.2.2.2 1 - t0.2.2.2 1) (vx_MQ below (xQ D dA a k t0 t9 fR r) (xX D dA a k t0 t9 r) args s (t9.2.2.2 0 - t0.2.2.2 0) (t9.2.2.2 1 - t0.2.2.2 1) (ca a)) (F0 m 3 ls [.ref y0]) := by
  obtain ⟨hx, hb, hr, hml, hown, hts, hlocks⟩ := id C
  intro t y0 H locs hT hS hK hm ls h hl
  have m9 : mo t t9 := mo_C_X4_either_p3 h
  unfold C_X4_either_p3 at h
  refine lv_dup hx hb dX4_either_3 rfl ?_
  obtain ⟨t1, ht1, h⟩ := bd1_some h
  refine wc_void hS hK (run_i (As := []) (rest := [.ref y0]) C hK hT hS.2.1 (mJ9_init ht1) q749 q555 q175 q556 ⟨rfl, rfl⟩ hdJ9_init ⟨Nat.le_of_ble_eq_true rfl, Nat.le_of_ble_eq_true rfl⟩ (mo_z m9) rfl hl.1 rfl (Nat.le_of_ble_eq_true rfl) dX4_either_4) (fun H locs hT hS hK hNt1 => ?_)
  have mm : mo t t1 := mo.ni hNt1
  replace hm := hm.tr mm
  replace m9 : mo t1 t9 := mo.bk (funext fun i => hNt1 i (Nat.zero_le _)) m9
  refine W.widen (mo_s mm).1 (mo_s mm).2 ?_
  refine lv_astore_n (lv' := [(1, .ref y0), (0, .ref k.1)]) hx hb dX4_either_7 rfl hl (by decide) rfl (fun ls hl => ?_)
  refine lv_aload_n hx hb dX4_either_8 rfl (lv_at hl 0 rfl) ?_
  refine lv_aload_n hx hb dX4_either_9 rfl (lv_at hl 1 rfl) ?_
  rcases bdx_some h with ⟨q4, ht2, hr_⟩ | ⟨v3, t2, ht2, h⟩
  · subst hr_
    have mm : mo t1 t9 := mo_C_X4_both ht2
    exact ex_err C hxt hS (run_x (As := []) (rest := [.ref y0]) C hK hT hS.2.1 (rv_T hK hT hkl.1) (mX4_both hkl ht2) q750 q752 qs9 q171 q753 ⟨rfl, rfl⟩ hdX4_both ⟨Nat.le_of_ble_eq_true rfl, Nat.le_of_ble_eq_true rfl⟩ (mo_c hm mm mo.rf) rfl hl.1 rfl (Nat.le_of_ble_eq_true rfl) dX4_either_10) (mo_c hm mm mo.rf)
  · have mm : mo t1 t2 := mo_C_X4_both ht2
    have m9 : mo t2 t9 := mo_C_X4_either_p13 h
    refine ex_okR hS hK (run_x (As := []) (rest := [.ref y0]) C hK hT hS.2.1 (rv_T hK hT hkl.1) (mX4_both hkl ht2) q750 q752 qs9 q171 q753 ⟨rfl, rfl⟩ hdX4_both ⟨Nat.le_of_ble_eq_true rfl, Nat.le_of_ble_eq_true rfl⟩ (mo_c hm mm m9) rfl hl.1 rfl (Nat.le_of_ble_eq_true rfl) dX4_either_10) (fun H locs hT hS hK => ?_)
    refine W.widen (mo_c hm mm mo.rf).1 (mo_c hm mm mo.rf).2 ?_
    replace hm := hm.tr mm
    exact bX4_either_p13 C hxt hkl t2 y0 y0 v3 H locs hT hS hK hm ls h (lv_sub hl [1, 0] rfl)
theorem bX4_either {p : Program} {l : Launch} {e : Env} {s : State} {m : MethodId} {args : Array Value} {below : List Frame} {meth : Method} {c : Code} {D : va_G} {dA : Nat → ClassId} {a : Nat} {k : KP a} {t0 : CS} {r : Except Nat Nat} {t9 : CS} (C : cx p s m args meth c cX4_either RX4 2 (some (.object "LettersOnStrike$Asked"))) (hxt : ∀ x ∈ c.exceptionTable.toList, False) (hkl : k.1 ≠ a ∧ l.stackTraces = false) : ∀ (t : CS) (H : Heap) (locs : List Loc) (hT : cW D dA a k t H) (hS : cS a s.heap H locs t0.2.2.2 2 t) (hK : kC D dA a k t.2.2.2 s) (hm : mo t0 t) (ls : Array Slot), C_X4_either t = some (r, t9) → lv_has ls 2 [(0, .ref k.1)] → W p l e (rmX4_either t0 t9) s m args below meth c H locs (t.2.2.2 0 - t0.2.2.2 0) (t.2.2.2 1 - t0.2.2.2 1) (vx_MQ below (xQ D dA a k t0 t9 fR r) (xX D dA a k t0 t9 r) args s (t9.2.2.2 0 - t0.2.2.2 0) (t9.2.2.2 1 - t0.2.2.2 1) (ca a)) (F0 m 0 ls []) := by
  obtain ⟨hx, hb, hr, hml, hown, hts, hlocks⟩ := id C
  intro t H locs hT hS hK hm ls h hl
  have m9 : mo t t9 := mo_C_X4_either h
  unfold C_X4_either at h
  obtain ⟨t1, et1, h⟩ := lt1_ex h
  have m9 : mo t1 t9 := mo_C_X4_either_p3 h
  refine n_new (ci := 15) (fs := [.int 0, .null, .int 0]) in_J9 tyJ9 tyJ9_ok rfl C hK hT hS q748 q553 q175 (fun j hj => by rcases (show j = 0 ∨ j = 1 ∨ j = 2 by omega) with rfl | rfl | rfl <;> rfl) (mo_n hm et1 m9) dX4_either_0 (fun t_ H et_ hT hS hK => ?_)
  obtain rfl := et1.trans et_.symm
  refine W.widen (mo_n1 hm et1).1 (mo_n1 hm et1).2 ?_
  replace hm := hm.tr (mo.new et1)
  exact bX4_either_p3 C hxt hkl t1 (t.2.2.2 0) H locs hT hS hK hm ls h (lv_sub hl [0] rfl)
theorem mX4_either {l : Launch} {D : va_G} {dA : Nat → ClassId} {a : Nat} {k : KP a} {t : CS} {r : Except Nat Nat} {t9 : CS} (hkl : k.1 ≠ a ∧ l.stackTraces = false) (h : C_X4_either t = some (r, t9)) : vx_Met l yX4_either (ws_ yX4_either cX4_either 2 (some (.object "LettersOnStrike$Asked"))) (rmX4_either t t9) (cPc D dA a k t [.ref k.1]) (xQ D dA a k t t9 fR r) (xX D dA a k t t9 r) (t9.2.2.2 0 - t.2.2.2 0) (t9.2.2.2 1 - t.2.2.2 1) (ca a) := en_X (by decide +kernel) rfl (Nat.le_of_ble_eq_true rfl) (fun p e s m below meth c ls C hxt hK hT hl => sub0 (bX4_either C hxt hkl t _ [] hT cS.rf hK mo.rf ls h hl))
set_option maxRecDepth 20000 in
abbrev rmX4_letters (t t9 : CS) : Room := { frames := 21, cells := t9.2.2.2 0 - t.2.2.2 0, slots := t9.2.2.2 1 - t.2.2.2 1, locals := 221 }
theorem hdX4_letters : yX4_letters.cls = RX4 ∧ yX4_letters.cls ≠ "java/lang/invoke/MethodHandle" ∧ yX4_letters.cls ≠ "java/lang/invoke/VarHandle" ∧ (parseMethodDescriptor yX4_letters.desc).map (fun d => d.parameters.length) = some 0 := by decide +kernel
theorem bX4_letters_p31 {p : Program} {l : Launch} {e : Env} {s : State} {m : MethodId} {args : Array Value} {below : List Frame} {meth : Method} {c : Code} {D : va_G} {dA : Nat → ClassId} {a : Nat} {k : KP a} {t0 : CS} {r : Except Nat Nat} {t9 : CS} (C : cx p s m args meth c cX4_letters RX4 4 (some (.array (.int)))) (hxt : ∀ x ∈ c.exceptionTable.toList, False) (hkl : k.1 ≠ a ∧ l.stackTraces = false) : ∀ (t : CS) (y0 : Nat) (H : Heap) (locs : List Loc) (hT : cW D dA a k t H) (hS : cS a s.heap H locs t0.2.2.2 2 t) (hK : kC D dA a k t.2.2.2 s) (hm : mo t0 t) (ls : Array Slot), C_X4_letters_p31 t y0 = some (r, t9) → lv_has ls 4 [] → W p l e (rmX4_letters t0 t9) s m args below meth c H locs (t.2.2.2 0 - t0.2.2.2 0) (t.2.2.2 1 - t0.2.2.2 1) (vx_MQ below (xQ D dA a k t0 t9 fR r) (xX D dA a k t0 t9 r) args s (t9.2.2.2 0 - t0.2.2.2 0) (t9.2.2.2 1 - t0.2.2.2 1) (ca a)) (F0 m 31 ls [.ref y0]) := by
  obtain ⟨hx, hb, hr, hml, hown, hts, hlocks⟩ := id C
  intro t y0 H locs hT hS hK hm ls h hl
  have m9 : mo t t9 := mo_C_X4_letters_p31 h
  unfold C_X4_letters_p31 at h
  obtain ⟨hw1, h⟩ := ckW_some h
  cases h
  exact ex_thr C hxt hK hT hS hw1 dX4_letters_31
theorem bX4_letters_p26 {p : Program} {l : Launch} {e : Env} {s : State} {m : MethodId} {args : Array Value} {below : List Frame} {meth : Method} {c : Code} {D : va_G} {dA : Nat → ClassId} {a : Nat} {k : KP a} {t0 : CS} {r : Except Nat Nat} {t9 : CS} (C : cx p s m args meth c cX4_letters RX4 4 (some (.array (.int)))) (hxt : ∀ x ∈ c.exceptionTable.toList, False) (hkl : k.1 ≠ a ∧ l.stackTraces = false) : ∀ (t : CS) (H : Heap) (locs : List Loc) (hT : cW D dA a k t H) (hS : cS a s.heap H locs t0.2.2.2 2 t) (hK : kC D dA a k t.2.2.2 s) (hm : mo t0 t) (ls : Array Slot), C_X4_letters_p26 t = some (r, t9) → lv_has ls 4 [(0, .ref k.1)] → W p l e (rmX4_letters t0 t9) s m args below meth c H locs (t.2.2.2 0 - t0.2.2.2 0) (t.2.2.2 1 - t0.2.2.2 1) (vx_MQ below (xQ D dA a k t0 t9 fR r) (xX D dA a k t0 t9 r) args s (t9.2.2.2 0 - t0.2.2.2 0) (t9.2.2.2 1 - t0.2.2.2 1) (ca a)) (F0 m 26 ls []) := by
  obtain ⟨hx, hb, hr, hml, hown, hts, hlocks⟩ := id C
  intro t H locs hT hS hK hm ls h hl
  have m9 : mo t t9 := mo_C_X4_letters_p26 h
  unfold C_X4_letters_p26 at h
  refine lv_aload_n hx hb dX4_letters_26 rfl (lv_at hl 0 rfl) ?_
  refine lv_iconst (v := 1) hx hb dX4_letters_27 (by decide) ?_
  obtain ⟨v2, t1, ht1, h⟩ := bd2_some h
  have mm : mo t t1 := mo_C_wrong ht1
  have m9 : mo t1 t9 := mo_C_X4_letters_p31 h
  refine wa_ref hS hK (run_c (As := [.int (1 : Int32)]) (rest := []) C hK hT hS.2.1 (rv_T hK hT hkl.1) (mX4_wrong hkl ht1) q672 q674 qs5 q171 q675 ⟨rfl, rfl⟩ hdX4_wrong ⟨Nat.le_of_ble_eq_true rfl, Nat.le_of_ble_eq_true rfl⟩ (mo_c hm mm m9) rfl hl.1 rfl (Nat.le_of_ble_eq_true rfl) dX4_letters_28) (fun H locs hT hS hK => ?_)
  refine W.widen (mo_c hm mm mo.rf).1 (mo_c hm mm mo.rf).2 ?_
  replace hm := hm.tr mm
  exact bX4_letters_p31 C hxt hkl t1 v2 H locs hT hS hK hm ls h (lv_sub hl [] rfl)
theorem bX4_letters_p78 {p : Program} {l : Launch} {e : Env} {s : State} {m : MethodId} {args : Array Value} {below : List Frame} {meth : Method} {c : Code} {D : va_G} {dA : Nat → ClassId} {a : Nat} {k : KP a} {t0 : CS} {r : Except Nat Nat} {t9 : CS} (C : cx p s m args meth c cX4_letters RX4 4 (some (.array (.int)))) (hxt : ∀ x ∈ c.exceptionTable.toList, False) (hkl : k.1 ≠ a ∧ l.stackTraces = false) : ∀ (t : CS) (y0 : Nat) (H : Heap) (locs : List Loc) (hT : cW D dA a k t H) (hS : cS a s.heap H locs t0.2.2.2 2 t) (hK : kC D dA a k t.2.2.2 s) (hm : mo t0 t) (ls : Array Slot), C_X4_letters_p78 t y0 = some (r, t9) → lv_has ls 4 [] → W p l e (rmX4_letters t0 t9) s m args below meth c H locs (t.2.2.2 0 - t0.2.2.2 0) (t.2.2.2 1 - t0.2.2.2 1) (vx_MQ below (xQ D dA a k t0 t9 fR r) (xX D dA a k t0 t9 r) args s (t9.2.2.2 0 - t0.2.2.2 0) (t9.2.2.2 1 - t0.2.2.2 1) (ca a)) (F0 m 78 ls [.ref y0]) := by
  obtain ⟨hx, hb, hr, hml, hown, hts, hlocks⟩ := id C
  intro t y0 H locs hT hS hK hm ls h hl
  have m9 : mo t t9 := mo_C_X4_letters_p78 h
  unfold C_X4_letters_p78 at h
  obtain ⟨hw1, h⟩ := ckW_some h
  cases h
  exact ex_thr C hxt hK hT hS hw1 dX4_letters_78
theorem bX4_letters_p72 {p : Program} {l : Launch} {e : Env} {s : State} {m : MethodId} {args : Array Value} {below : List Frame} {meth : Method} {c : Code} {D : va_G} {dA : Nat → ClassId} {a : Nat} {k : KP a} {t0 : CS} {r : Except Nat Nat} {t9 : CS} (C : cx p s m args meth c cX4_letters RX4 4 (some (.array (.int)))) (hxt : ∀ x ∈ c.exceptionTable.toList, False) (hkl : k.1 ≠ a ∧ l.stackTraces = false) : ∀ (t : CS) (H : Heap) (locs : List Loc) (hT : cW D dA a k t H) (hS : cS a s.heap H locs t0.2.2.2 2 t) (hK : kC D dA a k t.2.2.2 s) (hm : mo t0 t) (ls : Array Slot), C_X4_letters_p72 t = some (r, t9) → lv_has ls 4 [(0, .ref k.1)] → W p l e (rmX4_letters t0 t9) s m args below meth c H locs (t.2.2.2 0 - t0.2.2.2 0) (t.2.2.2 1 - t0.2.2.2 1) (vx_MQ below (xQ D dA a k t0 t9 fR r) (xX D dA a k t0 t9 r) args s (t9.2.2.2 0 - t0.2.2.2 0) (t9.2.2.2 1 - t0.2.2.2 1) (ca a)) (F0 m 72 ls []) := by
  obtain ⟨hx, hb, hr, hml, hown, hts, hlocks⟩ := id C
  intro t H locs hT hS hK hm ls h hl
  have m9 : mo t t9 := mo_C_X4_letters_p72 h
  unfold C_X4_letters_p72 at h
  refine lv_aload_n hx hb dX4_letters_72 rfl (lv_at hl 0 rfl) ?_
  refine lv_bipush (v := 7) hx hb dX4_letters_73 (by decide) ?_
  obtain ⟨v2, t1, ht1, h⟩ := bd2_some h
  have mm : mo t t1 := mo_C_wrong ht1
  have m9 : mo t1 t9 := mo_C_X4_letters_p78 h
  refine wa_ref hS hK (run_c (As := [.int (7 : Int32)]) (rest := []) C hK hT hS.2.1 (rv_T hK hT hkl.1) (mX4_wrong hkl ht1) q672 q674 qs5 q171 q675 ⟨rfl, rfl⟩ hdX4_wrong ⟨Nat.le_of_ble_eq_true rfl, Nat.le_of_ble_eq_true rfl⟩ (mo_c hm mm m9) rfl hl.1 rfl (Nat.le_of_ble_eq_true rfl) dX4_letters_75) (fun H locs hT hS hK => ?_)
  refine W.widen (mo_c hm mm mo.rf).1 (mo_c hm mm mo.rf).2 ?_
  replace hm := hm.tr mm
  exact bX4_letters_p78 C hxt hkl t1 v2 H locs hT hS hK hm ls h (lv_sub hl [] rfl)
theorem bX4_letters_p91 {p : Program} {l : Launch} {e : Env} {s : State} {m : MethodId} {args : Array Value} {below : List Frame} {meth : Method} {c : Code} {D : va_G} {dA : Nat → ClassId} {a : Nat} {k : KP a} {t0 : CS} {r : Except Nat Nat} {t9 : CS} (C : cx p s m args meth c cX4_letters RX4 4 (some (.array (.int)))) (hxt : ∀ x ∈ c.exceptionTable.toList, False) (hkl : k.1 ≠ a ∧ l.stackTraces = false) : ∀ (n : Nat), ∀ (t : CS) (x1 : Int32) (x2 : Nat) (x3 : Int32) (H : Heap) (locs : List Loc) (hT : cW D dA a k t H) (hS : cS a s.heap H locs t0.2.2.2 2 t) (hK : kC D dA a k t.2.2.2 s) (hm : mo t0 t) (ls : Array Slot), C_X4_letters_p91 n t x1 x2 x3 = some (r, t9) → lv_has ls 4 [(0, .ref k.1), (1, .int x1), (2, .ref x2), (3, .int x3)] → W p l e (rmX4_letters t0 t9) s m args below meth c H locs (t.2.2.2 0 - t0.2.2.2 0) (t.2.2.2 1 - t0.2.2.2 1) (vx_MQ below (xQ D dA a k t0 t9 fR r) (xX D dA a k t0 t9 r) args s (t9.2.2.2 0 - t0.2.2.2 0) (t9.2.2.2 1 - t0.2.2.2 1) (ca a)) (F0 m 91 ls []) := by
  obtain ⟨hx, hb, hr, hml, hown, hts, hlocks⟩ := id C
  intro n
  induction n with
  | zero =>
    intro t x1 x2 x3 H locs hT hS hK hm ls h hl
    have h : none = some _ := h
    cases h
  | succ n ih =>
    intro t x1 x2 x3 H locs hT hS hK hm ls h hl
    have m9 : mo t t9 := mo_C_X4_letters_p91 (n + 1) _ _ _ _ _ _ h
    rw [C_X4_letters_p91] at h
    refine lv_iload_n hx hb dX4_letters_91 rfl (lv_at hl 3 rfl) ?_
    refine lv_iload_n hx hb dX4_letters_92 rfl (lv_at hl 1 rfl) ?_
    refine lv_icmp_ge (tgt := 116) hx hb dX4_letters_93 (by decide) (fun c => ?_) (fun c => ?_)
    · replace h := if_t c h
      refine lv_aload_n hx hb dX4_letters_116 rfl (lv_at hl 0 rfl) ?_
      obtain ⟨t1, ht1, h⟩ := bd1_some h
      refine wc_void hS hK (run_c (As := []) (rest := []) C hK hT hS.2.1 (rv_T hK hT hkl.1) (mX4_next hkl ht1) q603 q605 qs3 q171 q606 ⟨rfl, rfl⟩ hdX4_next ⟨Nat.le_of_ble_eq_true rfl, Nat.le_of_ble_eq_true rfl⟩ (mo_z m9) rfl hl.1 rfl (Nat.le_of_ble_eq_true rfl) dX4_letters_117) (fun H locs hT hS hK hNt1 => ?_)
      have mm : mo t t1 := mo.ni hNt1
      replace hm := hm.tr mm
      replace m9 : mo t1 t9 := mo.bk (funext fun i => hNt1 i (Nat.zero_le _)) m9
      refine W.widen (mo_s mm).1 (mo_s mm).2 ?_
      refine lv_aload_n hx hb dX4_letters_120 rfl (lv_at hl 2 rfl) ?_
      cases h
      exact toX (ec_r C (Or.inr ⟨_, rfl⟩) hT hS rfl dX4_letters_121)
    · replace h := if_f c h
      refine lv_aload_n hx hb dX4_letters_96 rfl (lv_at hl 2 rfl) ?_
      refine lv_iload_n hx hb dX4_letters_97 rfl (lv_at hl 3 rfl) ?_
      refine lv_aload_n hx hb dX4_letters_98 rfl (lv_at hl 0 rfl) ?_
      refine c_getT C hK hT hkl.1 0 (by decide) q517 rfl (v := .ref (a + 105)) rfl dX4_letters_99 ?_
      refine lv_aload_n hx hb dX4_letters_102 rfl (lv_at hl 0 rfl) ?_
      refine c_getT C hK hT hkl.1 3 (by decide) q520 rfl (v := .int (t.1 200 3)) rfl dX4_letters_103 ?_
      refine lv_iload_n hx hb dX4_letters_106 rfl (lv_at hl 3 rfl) ?_
      refine lv_iadd hx hb dX4_letters_107 ?_
      obtain ⟨hi2, h⟩ := ck_some h
      refine c_bld C hK hT 105 300 (by decide) (fun _ _ => rfl) hi2 dX4_letters_108 ?_
      obtain ⟨t3, ht3, h⟩ := bd1_some h
      refine d_ist C hK hT hS ht3 dX4_letters_109 (fun H locs hT hS hK => ?_)
      have mm : mo t t3 := mo.nn (das_N ht3)
      replace hm := hm.tr mm
      replace m9 : mo t3 t9 := mo.bk (das_N ht3) m9
      refine W.widen (mo_s mm).1 (mo_s mm).2 ?_
      obtain ⟨v4, ev4⟩ : ∃ y : Int32, y = x3 + (1 : Int32) := ⟨_, rfl⟩
      replace h := lt1_sub ev4 h
      refine lv_iinc (v := v4) (lv' := [(3, .int v4), (0, .ref k.1), (1, .int x1), (2, .ref x2)]) hx hb dX4_letters_110 hl (k := 3) rfl (by rw [ev4]; rfl) (by decide) rfl (fun ls hl => ?_)
      refine lv_goto (tgt := 91) hx hb dX4_letters_113 (by decide) ?_
      exact ih t3 x1 x2 v4 H locs hT hS hK hm ls h (lv_sub hl [1, 2, 3, 0] rfl)
theorem bX4_letters_p88 {p : Program} {l : Launch} {e : Env} {s : State} {m : MethodId} {args : Array Value} {below : List Frame} {meth : Method} {c : Code} {D : va_G} {dA : Nat → ClassId} {a : Nat} {k : KP a} {t0 : CS} {r : Except Nat Nat} {t9 : CS} (C : cx p s m args meth c cX4_letters RX4 4 (some (.array (.int)))) (hxt : ∀ x ∈ c.exceptionTable.toList, False) (hkl : k.1 ≠ a ∧ l.stackTraces = false) : ∀ (t : CS) (x1 : Int32) (y0 : Nat) (H : Heap) (locs : List Loc) (hT : cW D dA a k t H) (hS : cS a s.heap H locs t0.2.2.2 2 t) (hK : kC D dA a k t.2.2.2 s) (hm : mo t0 t) (ls : Array Slot), C_X4_letters_p88 t x1 y0 = some (r, t9) → lv_has ls 4 [(0, .ref k.1), (1, .int x1)] → W p l e (rmX4_letters t0 t9) s m args below meth c H locs (t.2.2.2 0 - t0.2.2.2 0) (t.2.2.2 1 - t0.2.2.2 1) (vx_MQ below (xQ D dA a k t0 t9 fR r) (xX D dA a k t0 t9 r) args s (t9.2.2.2 0 - t0.2.2.2 0) (t9.2.2.2 1 - t0.2.2.2 1) (ca a)) (F0 m 88 ls [.ref y0]) := by
  obtain ⟨hx, hb, hr, hml, hown, hts, hlocks⟩ := id C
  intro t x1 y0 H locs hT hS hK hm ls h hl
  have m9 : mo t t9 := mo_C_X4_letters_p88 h
  unfold C_X4_letters_p88 at h
  refine lv_astore_n (lv' := [(2, .ref y0), (0, .ref k.1), (1, .int x1)]) hx hb dX4_letters_88 rfl hl (by decide) rfl (fun ls hl => ?_)
  refine lv_iconst (v := 0) hx hb dX4_letters_89 (by decide) ?_
  refine lv_istore_n (lv' := [(3, .int (0 : Int32)), (2, .ref y0), (0, .ref k.1), (1, .int x1)]) hx hb dX4_letters_90 rfl hl (by decide) rfl (fun ls hl => ?_)
  exact bX4_letters_p91 C hxt hkl fu t x1 y0 (0 : Int32) H locs hT hS hK hm ls h (lv_sub hl [2, 3, 1, 0] rfl)
theorem bX4_letters_p47 {p : Program} {l : Launch} {e : Env} {s : State} {m : MethodId} {args : Array Value} {below : List Frame} {meth : Method} {c : Code} {D : va_G} {dA : Nat → ClassId} {a : Nat} {k : KP a} {t0 : CS} {r : Except Nat Nat} {t9 : CS} (C : cx p s m args meth c cX4_letters RX4 4 (some (.array (.int)))) (hxt : ∀ x ∈ c.exceptionTable.toList, False) (hkl : k.1 ≠ a ∧ l.stackTraces = false) : ∀ (n : Nat), ∀ (t : CS) (x1 : Int32) (x2 : Int32) (H : Heap) (locs : List Loc) (hT : cW D dA a k t H) (hS : cS a s.heap H locs t0.2.2.2 2 t) (hK : kC D dA a k t.2.2.2 s) (hm : mo t0 t) (ls : Array Slot), C_X4_letters_p47 n t x1 x2 = some (r, t9) → lv_has ls 4 [(0, .ref k.1), (1, .int x1), (2, .int x2)] → W p l e (rmX4_letters t0 t9) s m args below meth c H locs (t.2.2.2 0 - t0.2.2.2 0) (t.2.2.2 1 - t0.2.2.2 1) (vx_MQ below (xQ D dA a k t0 t9 fR r) (xX D dA a k t0 t9 r) args s (t9.2.2.2 0 - t0.2.2.2 0) (t9.2.2.2 1 - t0.2.2.2 1) (ca a)) (F0 m 47 ls []) := by
  obtain ⟨hx, hb, hr, hml, hown, hts, hlocks⟩ := id C
  intro n
  induction n with
  | zero =>
    intro t x1 x2 H locs hT hS hK hm ls h hl
    have h : none = some _ := h
    cases h
  | succ n ih =>
    intro t x1 x2 H locs hT hS hK hm ls h hl
    have m9 : mo t t9 := mo_C_X4_letters_p47 (n + 1) _ _ _ _ _ h
    rw [C_X4_letters_p47] at h
    refine lv_iload_n hx hb dX4_letters_47 rfl (lv_at hl 2 rfl) ?_
    refine lv_aload_n hx hb dX4_letters_48 rfl (lv_at hl 0 rfl) ?_
    refine c_getT C hK hT hkl.1 2 (by decide) q519 rfl (v := .int (t.1 200 2)) rfl dX4_letters_49 ?_
    refine lv_icmp_ge (tgt := 85) hx hb dX4_letters_52 (by decide) (fun c => ?_) (fun c => ?_)
    · replace h := if_t c h
      refine lv_iload_n hx hb dX4_letters_85 rfl (lv_at hl 1 rfl) ?_
      obtain ⟨⟨hg2a, hg2b⟩, h⟩ := ngt_some h
      obtain ⟨t1, et1, h⟩ := lt1_ex h
      have m9 : mo t1 t9 := mo_C_X4_letters_p88 h
      refine n_newi C hK hT hS hg2a hg2b (mo_n hm et1 m9) dX4_letters_86 (fun t_ H et_ hT hS hK => ?_)
      obtain rfl := et1.trans et_.symm
      refine W.widen (mo_n1 hm et1).1 (mo_n1 hm et1).2 ?_
      replace hm := hm.tr (mo.new et1)
      exact bX4_letters_p88 C hxt hkl t1 x1 (t.2.2.2 0) H locs hT hS hK hm ls h (lv_sub hl [0, 1] rfl)
    · replace h := if_f c h
      refine lv_iload_n hx hb dX4_letters_55 rfl (lv_at hl 1 rfl) ?_
      refine lv_bipush (v := 8) hx hb dX4_letters_56 (by decide) ?_
      refine lv_icmp_gt (tgt := 72) hx hb dX4_letters_58 (by decide) (fun c => ?_) (fun c => ?_)
      · replace h := if_t c h
        exact bX4_letters_p72 C hxt hkl t H locs hT hS hK hm ls h (lv_sub hl [0] rfl)
      · replace h := if_f c h
        refine lv_aload_n hx hb dX4_letters_61 rfl (lv_at hl 0 rfl) ?_
        refine c_getT C hK hT hkl.1 0 (by decide) q517 rfl (v := .ref (a + 105)) rfl dX4_letters_62 ?_
        refine lv_iload_n hx hb dX4_letters_65 rfl (lv_at hl 2 rfl) ?_
        obtain ⟨hi3, h⟩ := ck_some h
        refine c_bld C hK hT 105 300 (by decide) (fun _ _ => rfl) hi3 dX4_letters_66 ?_
        refine lv_bipush (v := 97) hx hb dX4_letters_67 (by decide) ?_
        refine lv_icmp_ge (tgt := 79) hx hb dX4_letters_69 (by decide) (fun c => ?_) (fun c => ?_)
        · replace h := if_t c h
          obtain ⟨v4, ev4⟩ : ∃ y : Int32, y = x2 + (1 : Int32) := ⟨_, rfl⟩
          replace h := lt1_sub ev4 h
          refine lv_iinc (v := v4) (lv' := [(2, .int v4), (0, .ref k.1), (1, .int x1)]) hx hb dX4_letters_79 hl (k := 2) rfl (by rw [ev4]; rfl) (by decide) rfl (fun ls hl => ?_)
          refine lv_goto (tgt := 47) hx hb dX4_letters_82 (by decide) ?_
          exact ih t x1 v4 H locs hT hS hK hm ls h (lv_sub hl [1, 2, 0] rfl)
        · replace h := if_f c h
          exact bX4_letters_p72 C hxt hkl t H locs hT hS hK hm ls h (lv_sub hl [0] rfl)
theorem bX4_letters {p : Program} {l : Launch} {e : Env} {s : State} {m : MethodId} {args : Array Value} {below : List Frame} {meth : Method} {c : Code} {D : va_G} {dA : Nat → ClassId} {a : Nat} {k : KP a} {t0 : CS} {r : Except Nat Nat} {t9 : CS} (C : cx p s m args meth c cX4_letters RX4 4 (some (.array (.int)))) (hxt : ∀ x ∈ c.exceptionTable.toList, False) (hkl : k.1 ≠ a ∧ l.stackTraces = false) : ∀ (t : CS) (H : Heap) (locs : List Loc) (hT : cW D dA a k t H) (hS : cS a s.heap H locs t0.2.2.2 2 t) (hK : kC D dA a k t.2.2.2 s) (hm : mo t0 t) (ls : Array Slot), C_X4_letters t = some (r, t9) → lv_has ls 4 [(0, .ref k.1)] → W p l e (rmX4_letters t0 t9) s m args below meth c H locs (t.2.2.2 0 - t0.2.2.2 0) (t.2.2.2 1 - t0.2.2.2 1) (vx_MQ below (xQ D dA a k t0 t9 fR r) (xX D dA a k t0 t9 r) args s (t9.2.2.2 0 - t0.2.2.2 0) (t9.2.2.2 1 - t0.2.2.2 1) (ca a)) (F0 m 0 ls []) := by
  obtain ⟨hx, hb, hr, hml, hown, hts, hlocks⟩ := id C
  intro t H locs hT hS hK hm ls h hl
  have m9 : mo t t9 := mo_C_X4_letters h
  unfold C_X4_letters at h
  refine lv_aload_n hx hb dX4_letters_0 rfl (lv_at hl 0 rfl) ?_
  refine c_getT C hK hT hkl.1 3 (by decide) q520 rfl (v := .int (t.1 200 3)) rfl dX4_letters_1 ?_
  refine lv_aload_n hx hb dX4_letters_4 rfl (lv_at hl 0 rfl) ?_
  refine c_getT C hK hT hkl.1 1 (by decide) q518 rfl (v := .int (t.1 200 1)) rfl dX4_letters_5 ?_
  refine lv_icmp_eq (tgt := 26) hx hb dX4_letters_8 (by decide) (fun c => ?_) (fun c => ?_)
  · replace h := if_t c h
    exact bX4_letters_p26 C hxt hkl t H locs hT hS hK hm ls h (lv_sub hl [0] rfl)
  · replace h := if_f c h
    refine lv_aload_n hx hb dX4_letters_11 rfl (lv_at hl 0 rfl) ?_
    refine c_getT C hK hT hkl.1 0 (by decide) q517 rfl (v := .ref (a + 105)) rfl dX4_letters_12 ?_
    refine lv_aload_n hx hb dX4_letters_15 rfl (lv_at hl 0 rfl) ?_
    refine c_getT C hK hT hkl.1 3 (by decide) q520 rfl (v := .int (t.1 200 3)) rfl dX4_letters_16 ?_
    obtain ⟨hi1, h⟩ := ck_some h
    refine c_bld C hK hT 105 300 (by decide) (fun _ _ => rfl) hi1 dX4_letters_19 ?_
    obtain ⟨v2, hv2, h⟩ := bd1_some h
    refine r_int (run_s (As := [.int (t.1 105 (t.1 200 3).toNatClampNeg)]) (rest := []) C (mX4_isLetter hv2) q607 q608 q171 q609 ⟨rfl, rfl⟩ hdX4_isLetter ⟨Nat.le_of_ble_eq_true rfl, Nat.le_of_ble_eq_true rfl⟩ (mo_z m9) rfl hl.1 rfl (Nat.le_of_ble_eq_true rfl) dX4_letters_20) ?_
    refine lv_if_ne (tgt := 32) hx hb dX4_letters_23 (by decide) (fun c => ?_) (fun c => ?_)
    · replace h := if_f c h
      refine lv_aload_n hx hb dX4_letters_32 rfl (lv_at hl 0 rfl) ?_
      refine c_getT C hK hT hkl.1 2 (by decide) q519 rfl (v := .int (t.1 200 2)) rfl dX4_letters_33 ?_
      refine lv_aload_n hx hb dX4_letters_36 rfl (lv_at hl 0 rfl) ?_
      refine c_getT C hK hT hkl.1 3 (by decide) q520 rfl (v := .int (t.1 200 3)) rfl dX4_letters_37 ?_
      refine lv_isub hx hb dX4_letters_40 ?_
      refine lv_topi (fun v3 ev3 => ?_)
      replace h := lt1_sub ev3 h
      refine lv_istore_n (lv' := [(1, .int v3), (0, .ref k.1)]) hx hb dX4_letters_41 rfl hl (by decide) rfl (fun ls hl => ?_)
      refine lv_aload_n hx hb dX4_letters_42 rfl (lv_at hl 1 rfl) ?_
      refine c_getT C hK hT hkl.1 3 (by decide) q520 rfl (v := .int (t.1 200 3)) rfl dX4_letters_43 ?_
      refine lv_topi (fun v4 ev4 => ?_)
      replace h := lt1_sub ev4 h
      refine lv_istore_n (lv' := [(2, .int v4), (1, .int v3), (0, .ref k.1)]) hx hb dX4_letters_46 rfl hl (by decide) rfl (fun ls hl => ?_)
      exact bX4_letters_p47 C hxt hkl fu t v3 v4 H locs hT hS hK hm ls h (lv_sub hl [2, 1, 0] rfl)
    · replace h := if_t c h
      exact bX4_letters_p26 C hxt hkl t H locs hT hS hK hm ls h (lv_sub hl [0] rfl)
theorem mX4_letters {l : Launch} {D : va_G} {dA : Nat → ClassId} {a : Nat} {k : KP a} {t : CS} {r : Except Nat Nat} {t9 : CS} (hkl : k.1 ≠ a ∧ l.stackTraces = false) (h : C_X4_letters t = some (r, t9)) : vx_Met l yX4_letters (ws_ yX4_letters cX4_letters 4 (some (.array (.int)))) (rmX4_letters t t9) (cPc D dA a k t [.ref k.1]) (xQ D dA a k t t9 fR r) (xX D dA a k t t9 r) (t9.2.2.2 0 - t.2.2.2 0) (t9.2.2.2 1 - t.2.2.2 1) (ca a) := en_X (by decide +kernel) rfl (Nat.le_of_ble_eq_true rfl) (fun p e s m below meth c ls C hxt hK hT hl => sub0 (bX4_letters C hxt hkl t _ [] hT cS.rf hK mo.rf ls h hl))
set_option maxRecDepth 20000 in
abbrev rmX14_init_n : Room := { frames := 2, cells := 0, slots := 0, locals := 50 }
theorem hdX14_init_n : yX14_init.name = "<init>" ∧ yX14_init.cls ≠ "java/lang/invoke/MethodHandle" ∧ yX14_init.cls ≠ "java/lang/invoke/VarHandle" ∧ (parseMethodDescriptor yX14_init.desc).map (fun d => d.parameters.length) = some 5 := by decide +kernel
theorem bX14_init_n {p : Program} {l : Launch} {e : Env} {s : State} {m : MethodId} {args : Array Value} {below : List Frame} {meth : Method} {c : Code} {D : va_G} {dA : Nat → ClassId} {a : Nat} {k : KP a} {t0 : CS} {t9 : CS} (C : cx p s m args meth c cX14_init RX14 6 none) (hin : meth.name = "<init>") : ∀ (t : CS) (x0 : Nat) (x1 : Int32) (x2 : Nat) (x4 : Int32) (x5 : Int32) (H : Heap) (locs : List Loc) (hT : cW D dA a k t H) (hS : cS a s.heap H locs t0.2.2.2 0 t) (hK : kC D dA a k t.2.2.2 s) (ls : Array Slot), C_X14_init_n t x0 x1 x2 x4 x5 = some t9 → lv_has ls 6 [(0, .ref x0), (1, .int x1), (2, .ref x2), (3, .null), (4, .int x4), (5, .int x5)] → W p l e rmX14_init_n s m args below meth c H locs 0 0 (MQ below (cQ D dA a k 0 t0 t9 none) args s 0 0 (ca a)) (F0 m 0 ls []) := by
  obtain ⟨hx, hb, hr, hml, hown, hts, hlocks⟩ := id C
  intro t x0 x1 x2 x4 x5 H locs hT hS hK ls h hl
  unfold C_X14_init_n at h
  refine lv_aload_n hx hb dX14_init_0 rfl (lv_at hl 0 rfl) ?_
  obtain ⟨v1, hv1, h⟩ := bd1_some h
  refine r_void (run_i (As := []) (rest := []) C hK hT hS.2.1 (mJ6_init hv1) q1001 q473 q169 q474 ⟨rfl, rfl⟩ hdJ6_init ⟨Nat.le_of_ble_eq_true rfl, Nat.le_of_ble_eq_true rfl⟩ ⟨Nat.zero_le _, Nat.zero_le _⟩ rfl hl.1 rfl (Nat.le_of_ble_eq_true rfl) dX14_init_1) ?_
  refine lv_aload_n hx hb dX14_init_4 rfl (lv_at hl 0 rfl) ?_
  refine lv_iload_n hx hb dX14_init_5 rfl (lv_at hl 1 rfl) ?_
  obtain ⟨t2, ht2, h⟩ := bd1_some h
  refine d_put (ci := 14) in_X14 tyX14 tyX14_ok nmX14 rfl C hK hT hS 0 (by decide) q1002 rfl (Or.inr ⟨rfl, hin, rfl⟩) ht2 (tyX14_ok 0 (by decide)) rfl rfl dX14_init_6 (fun H locs hT hS hK => ?_)
  refine lv_aload_n hx hb dX14_init_9 rfl (lv_at hl 0 rfl) ?_
  refine lv_aload_n hx hb dX14_init_10 rfl (lv_at hl 2 rfl) ?_
  obtain ⟨t3, ht3, h⟩ := bd1_some h
  refine d_put (ci := 14) in_X14 tyX14 tyX14_ok nmX14 rfl C hK hT hS 1 (by decide) q1003 rfl (Or.inr ⟨rfl, hin, rfl⟩) ht3 (tyX14_ok 1 (by decide)) rfl rfl dX14_init_11 (fun H locs hT hS hK => ?_)
  refine lv_aload_n hx hb dX14_init_14 rfl (lv_at hl 0 rfl) ?_
  refine lv_aload_nN hx hb dX14_init_15 rfl (lv_at hl 3 rfl) ?_
  obtain ⟨t4, ht4, h⟩ := bd1_some h
  refine d_put (ci := 14) in_X14 tyX14 tyX14_ok nmX14 rfl C hK hT hS 2 (by decide) q1004 rfl (Or.inr ⟨rfl, hin, rfl⟩) ht4 (tyX14_ok 2 (by decide)) rfl rfl dX14_init_16 (fun H locs hT hS hK => ?_)
  refine lv_aload_n hx hb dX14_init_19 rfl (lv_at hl 0 rfl) ?_
  refine lv_iload hx hb dX14_init_20 (lv_at hl 4 rfl) ?_
  obtain ⟨t5, ht5, h⟩ := bd1_some h
  refine d_put (ci := 14) in_X14 tyX14 tyX14_ok nmX14 rfl C hK hT hS 3 (by decide) q1005 rfl (Or.inr ⟨rfl, hin, rfl⟩) ht5 (tyX14_ok 3 (by decide)) rfl rfl dX14_init_22 (fun H locs hT hS hK => ?_)
  refine lv_aload_n hx hb dX14_init_25 rfl (lv_at hl 0 rfl) ?_
  refine lv_iload hx hb dX14_init_26 (lv_at hl 5 rfl) ?_
  obtain ⟨t6, ht6, h⟩ := bd1_some h
  refine d_put (ci := 14) in_X14 tyX14 tyX14_ok nmX14 rfl C hK hT hS 4 (by decide) q1006 rfl (Or.inr ⟨rfl, hin, rfl⟩) ht6 (tyX14_ok 4 (by decide)) rfl rfl dX14_init_28 (fun H locs hT hS hK => ?_)
  exact ec_v C hT hS h dX14_init_31
theorem mX14_init_n {l : Launch} {D : va_G} {dA : Nat → ClassId} {a : Nat} {k : KP a} {t : CS} {x0 : Nat} {x1 : Int32} {x2 : Nat} {x4 : Int32} {x5 : Int32} {t9 : CS} (h : C_X14_init_n t x0 x1 x2 x4 x5 = some t9) : Met l yX14_init (ws_ yX14_init cX14_init 6 none) rmX14_init_n (cPc D dA a k t [.ref x0, .int x1, .ref x2, .null, .int x4, .int x5]) (cQ D dA a k 0 t t9 none) 0 0 (ca a) := en_Ci (by decide +kernel) rfl (Nat.le_of_ble_eq_true rfl) (fun p e s m below meth c ls C hin hK hT hl => bX14_init_n C hin t x0 x1 x2 x4 x5 _ [] hT cS.rf hK ls h hl)
