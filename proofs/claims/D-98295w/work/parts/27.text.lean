/-! text(): the Tokens object is made, the text is read, what is wrong is caught (written by gen/mk_text.py) -/
set_option maxRecDepth 20000
abbrev hhT : List (Nat × Nat × Nat × Nat) := [(30, 62, 70, 136), (30, 62, 96, 0), (70, 89, 96, 0), (96, 98, 96, 0)]
/-- the world behind the making of a Tokens object -/
def tokS (t : CS) (n : Int32) : CS := (fun k' j' => if k' = 200 then (if j' = 1 then n else 0) else t.1 k' j', t.2.1, fun q => if q = t.2.2.2 0 then none else t.2.2.1 q, fun i => if i = 0 then t.2.2.2 0 + 1 else if i = 1 then t.2.2.2 1 + 8 else t.2.2.2 i)
theorem mo_tokS {t : CS} {n : Int32} : mo t (tokS t n) := ⟨by show t.2.2.2 0 ≤ t.2.2.2 0 + 1; omega, by show t.2.2.2 1 ≤ t.2.2.2 1 + 8; omega⟩
def C_text_p62 (t : CS) : Option (Int32 × CS) := lt1 (ci_ t 0 3 (0 : Int32)) fun t1 => (ck (2 : Int32) 7 (ck (2 : Int32) 7 (lt1 (ci_ t1 2 (2 : Int32).toNatClampNeg ((t1.1 2 (2 : Int32).toNatClampNeg) + (1 : Int32))) fun t4 => (ck (2 : Int32) 7 (some ((t4.1 2 (2 : Int32).toNatClampNeg) - (1 : Int32), t4))))))
def C_text_p61 (t : CS) (i : Int32) (v : Nat) : Option (Int32 × CS) := ck i 4 (ckC t v 5 (lt1 (cr_ t 52 i.toNatClampNeg (some v)) fun t1 => C_text_p62 t1))
def C_text_p70 (t : CS) (q : Nat) : Option (Int32 × CS) := bd1 (gI t q 6 0) fun v1 => (lt1 (ci_ t 0 4 v1) fun t2 => (bd1 (gI t2 q 6 1) fun v3 => (lt1 (ci_ t2 0 5 v3) fun t4 => (lt1 (ci_ t4 0 3 (0 : Int32)) fun t5 => (some ((-1 : Int32), t5))))))
def C_text_e (i : Int32) (t : CS) (r : Except Nat Nat) : Option (Int32 × CS) := match r with
  | .ok v => C_text_p61 t i v
  | .error q => C_text_p70 t q
def C_text (t : CS) : Option (Int32 × CS) := ck (2 : Int32) 7 (if (t.1 2 (2 : Int32).toNatClampNeg) = (4 : Int32) then some ((-1 : Int32), t) else lt1 (t.1 0 3) fun v2 => (lt1 (ci_ t 0 4 (0 : Int32)) fun t3 => (lt1 (ci_ t3 0 5 (-1 : Int32)) fun t4 => (ck (2 : Int32) 7 (bd2 (C_X4_read (tokS t4 v2)) fun r5 t5 => C_text_e (t4.1 2 (2 : Int32).toNatClampNeg) t5 r5)))))

theorem mo_C_text_p62 {t : CS} {r : Int32} {t9 : CS} (h : C_text_p62 t = some (r, t9)) : mo t t9 := by
  unfold C_text_p62 at h
  obtain ⟨t1, et1, h⟩ := lt1_ex h
  refine mo.tr (t1 := t1) (mo.nn (by rw [et1]; rfl)) ?_
  obtain ⟨-, h⟩ := ck_some h
  obtain ⟨-, h⟩ := ck_some h
  obtain ⟨t4, et4, h⟩ := lt1_ex h
  refine mo.tr (t1 := t4) (mo.nn (by rw [et4]; rfl)) ?_
  obtain ⟨-, h⟩ := ck_some h
  cases h; exact mo.rf
theorem mo_C_text_p61 {t : CS} {i : Int32} {v : Nat} {r : Int32} {t9 : CS} (h : C_text_p61 t i v = some (r, t9)) : mo t t9 := by
  unfold C_text_p61 at h
  obtain ⟨-, h⟩ := ck_some h
  obtain ⟨-, h⟩ := ckC_some h
  obtain ⟨t1, et1, h⟩ := lt1_ex h
  exact mo.tr (t1 := t1) (mo.nn (by rw [et1]; rfl)) (mo_C_text_p62 h)
theorem mo_C_text_p70 {t : CS} {q : Nat} {r : Int32} {t9 : CS} (h : C_text_p70 t q = some (r, t9)) : mo t t9 := by
  unfold C_text_p70 at h
  obtain ⟨v1, hv1, h⟩ := bd1_some h
  obtain ⟨t2, et2, h⟩ := lt1_ex h
  refine mo.tr (t1 := t2) (mo.nn (by rw [et2]; rfl)) ?_
  obtain ⟨v3, hv3, h⟩ := bd1_some h
  obtain ⟨t4, et4, h⟩ := lt1_ex h
  refine mo.tr (t1 := t4) (mo.nn (by rw [et4]; rfl)) ?_
  obtain ⟨t5, et5, h⟩ := lt1_ex h
  refine mo.tr (t1 := t5) (mo.nn (by rw [et5]; rfl)) ?_
  cases h; exact mo.rf
theorem mo_C_text_e {t : CS} {i : Int32} {q : Except Nat Nat} {r : Int32} {t9 : CS} (h : C_text_e i t q = some (r, t9)) : mo t t9 := by
  cases q with
  | ok v => exact mo_C_text_p61 h
  | error q => exact mo_C_text_p70 h
theorem mo_C_text {t : CS} {r : Int32} {t9 : CS} (h : C_text t = some (r, t9)) : mo t t9 := by
  unfold C_text at h
  obtain ⟨-, h⟩ := ck_some h
  rcases ite_or h with ⟨c, h⟩ | ⟨c, h⟩
  · cases h; exact mo.rf
  · obtain ⟨v2, ev2, h⟩ := lt1_ex h
    obtain ⟨t3, et3, h⟩ := lt1_ex h
    refine mo.tr (t1 := t3) (mo.nn (by rw [et3]; rfl)) ?_
    obtain ⟨t4, et4, h⟩ := lt1_ex h
    refine mo.tr (t1 := t4) (mo.nn (by rw [et4]; rfl)) ?_
    obtain ⟨-, h⟩ := ck_some h
    obtain ⟨r5, t5, h5, h⟩ := bd2_some h
    exact mo.tr (mo.tr mo_tokS (mo_C_X4_read h5)) (mo_C_text_e h)
abbrev rmX0_text (t t9 : CS) : Room := { frames := 500, cells := t9.2.2.2 0 - t.2.2.2 0, slots := t9.2.2.2 1 - t.2.2.2 1, locals := 11000 }
theorem hdX0_text : yX0_text.cls = RX0 ∧ yX0_text.cls ≠ "java/lang/invoke/MethodHandle" ∧ yX0_text.cls ≠ "java/lang/invoke/VarHandle" ∧ (parseMethodDescriptor yX0_text.desc).map (fun d => d.parameters.length) = some 0 := by decide +kernel
abbrev rmX4_init : Room := { frames := 4, cells := 0, slots := 0, locals := 60 }
theorem hdX4_init : yX4_init.name = "<init>" ∧ yX4_init.cls ≠ "java/lang/invoke/MethodHandle" ∧ yX4_init.cls ≠ "java/lang/invoke/VarHandle" ∧ (parseMethodDescriptor yX4_init.desc).map (fun d => d.parameters.length) = some 2 := by decide +kernel
theorem dset2 (t : CS) (r : Nat) (x y : va_E) : dset (dset t r x) r y = dset t r y := by
  unfold dset
  congr 3
  funext q
  by_cases hq : q = r
  · simp [hq]
  · simp [hq]
theorem mX4_init {l : Launch} {D : va_G} {dA : Nat → ClassId} {a : Nat} {k : KP a} {t : CS} {r : Nat} {n : Int32} (hr : t.2.2.1 r = some (.inr (4, [.null, .int 0, .int 0, .int 0, .int 0, .int 0, .int 0, .int 0]))) (h2 : t.2.2.2 2 ≤ r) : Met l yX4_init (ws_ yX4_init cX4_init 3 none) rmX4_init (cPc D dA a k t [.ref r, .ref (a + 105), .int n]) (cQ D dA a k 0 t (dset t r (.inr (4, [.ref (a + 105), .int n, .int 0, .int 0, .int 0, .int 0, .int 0, .int 0]))) none) 0 0 (ca a) := by
  refine en_Ci (by decide +kernel) rfl (Nat.le_of_ble_eq_true rfl) (fun p e s m below meth c ls C hin hK hT hl => ?_)
  obtain ⟨hx, hb, hr0, hml, hown, hts, hlocks⟩ := id C
  refine lv_aload_n hx hb dX4_init_0 rfl (lv_at hl 0 rfl) ?_
  refine W.objInit hx hb hown (hts _ q516) (hts _ q200) (hts _ q201) rfl (by rw [hml]; exact hl.1) rfl dX4_init_1 (Nat.le_of_ble_eq_true rfl) (Nat.le_of_ble_eq_true rfl) ?_
  refine W.eq (g2 := F0 m 4 ls []) rfl ?_
  refine lv_aload_n hx hb dX4_init_4 rfl (lv_at hl 0 rfl) ?_
  refine lv_aload_n hx hb dX4_init_5 rfl (lv_at hl 1 rfl) ?_
  have g1 : dpf t r 4 0 (.ref (a + 105)) = some (dset t r (.inr (4, [.ref (a + 105), .int 0, .int 0, .int 0, .int 0, .int 0, .int 0, .int 0]))) := by
    unfold dpf
    rw [hr]
    exact if_pos ⟨rfl, by decide, h2⟩
  refine d_put (ci := 4) in_X4 tyX4 tyX4_ok nmX4 rfl C hK hT (cS.rf (lo := 0)) 0 (by decide) q517 rfl (Or.inr ⟨rfl, hin, rfl⟩) g1 (tyX4_ok 0 (by decide)) rfl rfl dX4_init_6 (fun H locs hT hS hK => ?_)
  refine lv_aload_n hx hb dX4_init_9 rfl (lv_at hl 0 rfl) ?_
  refine lv_iload_n hx hb dX4_init_10 rfl (lv_at hl 2 rfl) ?_
  have g2 : dpf (dset t r (.inr (4, [.ref (a + 105), .int 0, .int 0, .int 0, .int 0, .int 0, .int 0, .int 0]))) r 4 1 (.int n) = some (dset t r (.inr (4, [.ref (a + 105), .int n, .int 0, .int 0, .int 0, .int 0, .int 0, .int 0]))) := by
    rw [← dset2 t r (.inr (4, [.ref (a + 105), .int 0, .int 0, .int 0, .int 0, .int 0, .int 0, .int 0])) (.inr (4, [.ref (a + 105), .int n, .int 0, .int 0, .int 0, .int 0, .int 0, .int 0]))]
    have e1 : (dset t r (.inr (4, [.ref (a + 105), .int 0, .int 0, .int 0, .int 0, .int 0, .int 0, .int 0]))).2.2.1 r = some (.inr (4, [.ref (a + 105), .int 0, .int 0, .int 0, .int 0, .int 0, .int 0, .int 0])) := if_pos rfl
    unfold dpf
    rw [e1]
    exact if_pos ⟨rfl, (by show 1 < 8; omega), h2⟩
  refine d_put (ci := 4) in_X4 tyX4 tyX4_ok nmX4 rfl C hK hT hS 1 (by decide) q518 rfl (Or.inr ⟨rfl, hin, rfl⟩) g2 (tyX4_ok 1 (by decide)) rfl rfl dX4_init_11 (fun H locs hT hS hK => ?_)
  exact ec_v C hT hS rfl dX4_init_14
/-- a Tokens object, told as such; told as such no longer -/
theorem cW.tok {D : va_G} {dA : Nat → ClassId} {a : Nat} {k : KP a} {t : CS} {r : Nat} {n : Int32} {H : Heap} (h : cW D dA a k (dset t r (.inr (4, [.ref (a + 105), .int n, .int 0, .int 0, .int 0, .int 0, .int 0, .int 0]))) H) (hk : k.1 = a) (ha : a + 134 ≤ r) : cW D dA a (r, k.2) (fun k' j' => if k' = 200 then (if j' = 1 then n else 0) else t.1 k' j', t.2.1, fun q => if q = r then none else t.2.2.1 q, t.2.2.2) H := by
  have hr : (dset t r (.inr (4, [.ref (a + 105), .int n, .int 0, .int 0, .int 0, .int 0, .int 0, .int 0]))).2.2.1 r = some (.inr (4, [.ref (a + 105), .int n, .int 0, .int 0, .int 0, .int 0, .int 0, .int 0])) := if_pos rfl
  obtain ⟨b1, b2, b3, b4⟩ := h.2.2.2.2.2 r _ hr
  refine ⟨fun q x hx => ?_, h.2.1, h.2.2.1, h.2.2.2.1, ⟨Or.inr ha, b3⟩, fun q x hx => ?_⟩
  · unfold cw at hx
    split at hx
    · rename_i hq
      refine h.1 q x ?_
      unfold cw
      rw [if_pos hq, ← hx]
      have e : ∀ j, (if q - a = 200 then (if j = 1 then n else 0) else t.1 (q - a) j) = t.1 (q - a) j := fun j => if_neg (by omega)
      simp only [e]
      rfl
    · rename_i hq
      split at hx
      · rename_i hq2
        have hq2' : q = r := hq2
        subst hq2'
        cases hx
        have h9 := h.1 q _ (cw_dyn h hr (by omega))
        exact h9
      · rename_i hq2
        have hq2' : ¬ q = r := hq2
        refine h.1 q x ?_
        unfold cw
        rw [if_neg hq, if_neg (by rw [hk]; omega)]
        by_cases hqa : q < a
        · rw [if_pos hqa] at hx; cases hx
        · rw [if_neg hqa] at hx ⊢
          have e1 : (if q = r then none else t.2.2.1 q) = t.2.2.1 q := if_neg hq2'
          have e2 : (dset t r (.inr (4, [.ref (a + 105), .int n, .int 0, .int 0, .int 0, .int 0, .int 0, .int 0]))).2.2.1 q = t.2.2.1 q := if_neg hq2'
          rw [e2]
          simp only [e1] at hx
          exact hx
  · have hx' : (if q = r then none else t.2.2.1 q) = some x := hx
    by_cases hq : q = r
    · rw [if_pos hq] at hx'; cases hx'
    · rw [if_neg hq] at hx'
      obtain ⟨c1, c2, c3, c4⟩ := h.2.2.2.2.2 q x (by show (if q = r then _ else t.2.2.1 q) = _; rw [if_neg hq]; exact hx')
      exact ⟨c1, hq, c3, c4⟩
theorem cW.untok {D : va_G} {dA : Nat → ClassId} {a : Nat} {k : KP a} {t : CS} {r : Nat} {H : Heap} (h : cW D dA a (r, k.2) t H) (hk : k.1 = a) (ha : a + 134 ≤ r) : cW D dA a k t H := by
  refine ⟨fun q x hx => ?_, h.2.1, h.2.2.1, h.2.2.2.1, ⟨Or.inl hk, by have := h.2.2.2.1; omega⟩, fun q x hx => ?_⟩
  · refine h.1 q x ?_
    unfold cw at hx ⊢
    split at hx
    · rename_i hq
      rw [if_pos hq]; exact hx
    · rename_i hq
      rw [if_neg hq]
      rw [if_neg (by rw [hk]; omega)] at hx
      by_cases hqr : q = r
      · exfalso
        subst hqr
        rw [if_neg (by omega)] at hx
        cases hg : t.2.2.1 q with
        | none => rw [hg] at hx; cases hx
        | some y => exact (h.2.2.2.2.2 q y hg).2.1 rfl
      · rw [if_neg (show ¬ q = r from hqr)]
        exact hx
  · obtain ⟨c1, c2, c3, c4⟩ := h.2.2.2.2.2 q x hx
    refine ⟨c1, ?_, c3, c4⟩
    rcases c1 with c1 | c1 <;> omega
theorem bX0_text_p62 {p : Program} {l : Launch} {e : Env} {s : State} {m : MethodId} {args : Array Value} {below : List Frame} {meth : Method} {c : Code} {D : va_G} {dA : Nat → ClassId} {a : Nat} {k : KP a} {t0 : CS} {r : Int32} {t9 : CS} (C : cx p s m args meth c cX0_text RX0 5 (some .int)) : ∀ (t : CS) (n : Int32) (H : Heap) (locs : List Loc) (hT : cW D dA a k t H) (hS : cS a s.heap H locs t0.2.2.2 2 t) (hK : kC D dA a k t.2.2.2 s) (hm : mo t0 t) (ls : Array Slot), C_text_p62 t = some (r, t9) → lv_has ls 5 [(0, .ref a), (1, .int n)] → W p l e (rmX0_text t0 t9) s m args below meth c H locs (t.2.2.2 0 - t0.2.2.2 0) (t.2.2.2 1 - t0.2.2.2 1) (MQ below (cQ D dA a k 2 t0 t9 (some (.int r))) args s (t9.2.2.2 0 - t0.2.2.2 0) (t9.2.2.2 1 - t0.2.2.2 1) (ca a)) (F0 m 62 ls []) := by
  obtain ⟨hx, hb, hr, hml, hown, hts, hlocks⟩ := id C
  intro t n H locs hT hS hK hm ls h hl
  have m9 : mo t t9 := mo_C_text_p62 h
  unfold C_text_p62 at h
  refine lv_aload_n hx hb dX0_text_62 rfl (lv_at hl 0 rfl) ?_
  refine lv_iconst (v := 0) hx hb dX0_text_63 (by decide) ?_
  refine cp3 C hK hT hS dX0_text_64 (fun t1 H locs et1 hT hS hK => ?_)
  replace h := lt1_sub et1 h
  have mm : mo t t1 := mo.nn (by rw [et1]; rfl)
  replace hm := hm.tr mm
  replace m9 : mo t1 t9 := mo.bk (by rw [et1]; rfl) m9
  refine W.widen (mo_s mm).1 (mo_s mm).2 ?_
  refine lv_goto (tgt := 106) hx hb dX0_text_67 (by decide) ?_
  refine lv_aload_n hx hb dX0_text_106 rfl (lv_at hl 0 rfl) ?_
  refine cg0 C hK hT dX0_text_107 ?_
  refine c_getSN C hK hT (Or.inl rfl) 0 (by decide) (nf222 hK.2.1) rfl (v := .ref (a + 2)) rfl dX0_text_110 ?_
  refine lv_iconst (v := 2) hx hb dX0_text_113 (by decide) ?_
  refine lv_dup2_11 hx hb dX0_text_114 rfl rfl ?_
  obtain ⟨hi2, h⟩ := ck_some h
  refine c_ild C hK hT 2 7 (by decide) (fun _ _ => rfl) hi2 dX0_text_115 ?_
  refine lv_iconst (v := 1) hx hb dX0_text_116 (by decide) ?_
  refine lv_iadd hx hb dX0_text_117 ?_
  obtain ⟨hi3, h⟩ := ck_some h
  refine c_ist C hK hT hS 2 7 (by decide) (fun _ _ => rfl) hi3 dX0_text_118 (fun t4 H locs et4 hT hS hK => ?_)
  replace h := lt1_sub et4 h
  have mm : mo t1 t4 := mo.nn (by rw [et4]; rfl)
  replace hm := hm.tr mm
  replace m9 : mo t4 t9 := mo.bk (by rw [et4]; rfl) m9
  refine W.widen (mo_s mm).1 (mo_s mm).2 ?_
  refine lv_aload_n hx hb dX0_text_119 rfl (lv_at hl 0 rfl) ?_
  refine cg0 C hK hT dX0_text_120 ?_
  refine c_getSN C hK hT (Or.inl rfl) 0 (by decide) (nf222 hK.2.1) rfl (v := .ref (a + 2)) rfl dX0_text_123 ?_
  refine lv_iconst (v := 2) hx hb dX0_text_126 (by decide) ?_
  obtain ⟨hi5, h⟩ := ck_some h
  refine c_ild C hK hT 2 7 (by decide) (fun _ _ => rfl) hi5 dX0_text_127 ?_
  refine lv_iconst (v := 1) hx hb dX0_text_128 (by decide) ?_
  refine lv_isub hx hb dX0_text_129 ?_
  cases h
  exact ec_i C hT hS rfl dX0_text_130
theorem bX0_text_p61 {p : Program} {l : Launch} {e : Env} {s : State} {m : MethodId} {args : Array Value} {below : List Frame} {meth : Method} {c : Code} {D : va_G} {dA : Nat → ClassId} {a : Nat} {k : KP a} {t0 : CS} {r : Int32} {t9 : CS} (C : cx p s m args meth c cX0_text RX0 5 (some .int)) : ∀ (t : CS) (n i : Int32) (v : Nat) (H : Heap) (locs : List Loc) (hT : cW D dA a k t H) (hS : cS a s.heap H locs t0.2.2.2 2 t) (hK : kC D dA a k t.2.2.2 s) (hm : mo t0 t) (ls : Array Slot), C_text_p61 t i v = some (r, t9) → lv_has ls 5 [(0, .ref a), (1, .int n)] → W p l e (rmX0_text t0 t9) s m args below meth c H locs (t.2.2.2 0 - t0.2.2.2 0) (t.2.2.2 1 - t0.2.2.2 1) (MQ below (cQ D dA a k 2 t0 t9 (some (.int r))) args s (t9.2.2.2 0 - t0.2.2.2 0) (t9.2.2.2 1 - t0.2.2.2 1) (ca a)) (F0 m 61 ls [.ref v, .int i, .ref (a + 52)]) := by
  obtain ⟨hx, hb, hr, hml, hown, hts, hlocks⟩ := id C
  intro t n i v H locs hT hS hK hm ls h hl
  have m9 : mo t t9 := mo_C_text_p61 h
  unfold C_text_p61 at h
  obtain ⟨hi, h⟩ := ck_some h
  obtain ⟨hc, h⟩ := ckC_some h
  refine c_astC (ci := 5) rfl C hK hT hS 52 4 5 (by decide) (fun _ _ => rfl) rfl hi hc dX0_text_61 (fun t1 H locs et1 hT hS hK => ?_)
  replace h := lt1_sub et1 h
  have mm : mo t t1 := mo.nn (by rw [et1]; rfl)
  replace hm := hm.tr mm
  refine W.widen (mo_s mm).1 (mo_s mm).2 ?_
  exact bX0_text_p62 C t1 n H locs hT hS hK hm ls h hl
theorem bX0_text_p70 {p : Program} {l : Launch} {e : Env} {s : State} {m : MethodId} {args : Array Value} {below : List Frame} {meth : Method} {c : Code} {D : va_G} {dA : Nat → ClassId} {a : Nat} {k : KP a} {t0 : CS} {r : Int32} {t9 : CS} (C : cx p s m args meth c cX0_text RX0 5 (some .int)) : ∀ (t : CS) (q : Nat) (n : Int32) (H : Heap) (locs : List Loc) (hT : cW D dA a k t H) (hS : cS a s.heap H locs t0.2.2.2 2 t) (hK : kC D dA a k t.2.2.2 s) (hm : mo t0 t) (ls : Array Slot), C_text_p70 t q = some (r, t9) → lv_has ls 5 [(0, .ref a), (1, .int n)] → W p l e (rmX0_text t0 t9) s m args below meth c H locs (t.2.2.2 0 - t0.2.2.2 0) (t.2.2.2 1 - t0.2.2.2 1) (MQ below (cQ D dA a k 2 t0 t9 (some (.int r))) args s (t9.2.2.2 0 - t0.2.2.2 0) (t9.2.2.2 1 - t0.2.2.2 1) (ca a)) (F0 m 70 ls [.ref q]) := by
  obtain ⟨hx, hb, hr, hml, hown, hts, hlocks⟩ := id C
  intro t q n H locs hT hS hK hm ls h hl0
  have m9 : mo t t9 := mo_C_text_p70 h
  unfold C_text_p70 at h
  have hl : lv_has ls 5 [(0, .ref a)] := lv_sub hl0 [0] rfl
  refine lv_astore_n (lv' := [(2, .ref q), (0, .ref a)]) hx hb dX0_text_70 rfl hl (by decide) rfl (fun ls hl => ?_)
  refine lv_aload_n hx hb dX0_text_71 rfl (lv_at hl 1 rfl) ?_
  refine lv_aload_n hx hb dX0_text_72 rfl (lv_at hl 0 rfl) ?_
  obtain ⟨v1, hv1, h⟩ := bd1_some h
  refine d_getN (ci := 6) in_X6w rfl C hK hT 0 (by decide) (nf721 hK.2.1) rfl (gI_some hv1) dX0_text_73 ?_
  refine cp4 C hK hT hS dX0_text_76 (fun t2 H locs et2 hT hS hK => ?_)
  replace h := lt1_sub et2 h
  have mm : mo t t2 := mo.nn (by rw [et2]; rfl)
  replace hm := hm.tr mm
  replace m9 : mo t2 t9 := mo.bk (by rw [et2]; rfl) m9
  refine W.widen (mo_s mm).1 (mo_s mm).2 ?_
  refine lv_aload_n hx hb dX0_text_79 rfl (lv_at hl 1 rfl) ?_
  refine lv_aload_n hx hb dX0_text_80 rfl (lv_at hl 0 rfl) ?_
  obtain ⟨v3, hv3, h⟩ := bd1_some h
  refine d_getN (ci := 6) in_X6w rfl C hK hT 1 (by decide) (nf723 hK.2.1) rfl (gI_some hv3) dX0_text_81 ?_
  refine cp5 C hK hT hS dX0_text_84 (fun t4 H locs et4 hT hS hK => ?_)
  replace h := lt1_sub et4 h
  have mm : mo t2 t4 := mo.nn (by rw [et4]; rfl)
  replace hm := hm.tr mm
  replace m9 : mo t4 t9 := mo.bk (by rw [et4]; rfl) m9
  refine W.widen (mo_s mm).1 (mo_s mm).2 ?_
  refine lv_iconst (v := -1) hx hb dX0_text_87 (by decide) ?_
  refine lv_istore_n (lv' := [(3, .int (-1 : Int32)), (2, .ref q), (0, .ref a)]) hx hb dX0_text_88 rfl hl (by decide) rfl (fun ls hl => ?_)
  refine lv_aload_n hx hb dX0_text_89 rfl (lv_at hl 2 rfl) ?_
  refine lv_iconst (v := 0) hx hb dX0_text_90 (by decide) ?_
  refine cp3 C hK hT hS dX0_text_91 (fun t5 H locs et5 hT hS hK => ?_)
  replace h := lt1_sub et5 h
  have mm : mo t4 t5 := mo.nn (by rw [et5]; rfl)
  replace hm := hm.tr mm
  replace m9 : mo t5 t9 := mo.bk (by rw [et5]; rfl) m9
  refine W.widen (mo_s mm).1 (mo_s mm).2 ?_
  refine lv_iload_n hx hb dX0_text_94 rfl (lv_at hl 0 rfl) ?_
  cases h
  exact ec_i C hT hS rfl dX0_text_95
section CX12
variable {p : Program} {l : Launch} {e : Env} {R : Room} {s : State} {m : MethodId} {args : Array Value} {below : List Frame} {meth : Method} {c : Code} {H : Heap} {locs : List Loc} {cells slots : Nat} {Q : State → Prop}
variable {cc : ByteArray} {pc nL : Nat} {ls : Array Slot} {rest st0 : List Value} {own : String} {ret : Option FieldType} {D : va_G} {dA : Nat → ClassId} {a : Nat} {k : KP a} {t : CS}
theorem ex_cat {β : Type} {g : β → Option Value} {N0 : Nat → Nat} {t1 : CS} {q : Nat} {a0 : Array Value} {mc ms : Nat} (hS : cS a s.heap H locs N0 2 t) (hK : kC D dA a k t.2.2.2 s) (hr : vx_Run p l e R s m args below meth c H locs cells slots mc ms (F0 m pc ls st0) rest (xQ D dA a k t t1 g (.error q) a0) (xX D dA a k t t1 (.error q : Except Nat β)) (ca a))
    (kx : ∀ (H1 : Heap) (locs1 : List Loc) (ce : Cell), cW D dA a k t1 H1 → cS a s.heap H1 locs1 N0 2 t1 → kC D dA a k t1.2.2.2 s → H1[q]? = some ce → ce.vm = .none → s.vm.findClass "LettersOnStrike$Wrong" = some ce.cls → vx_W p l e R s m args below meth c H1 locs1 (cells + mc) (slots + ms) Q (F0 m pc ls rest) q) : W p l e R s m args below meth c H locs cells slots Q (F0 m pc ls st0) := by
  intro T hTh X
  rcases hr T hTh X with ⟨v, st₀, u, T', L, h0, X', hL, e1, e2, hq, st⟩ | ⟨q', st₀, u, T', L, E, ce, h0, X', hL, e1, e2, ⟨hq1, hq2, hw, hz, hq, hN⟩, hce, hcv, hcl, st⟩
  · exact hq.elim
  · subst hq1; subst hq2
    rw [h0] at hz hq
    obtain ⟨t2, a1, b1⟩ := kx T'.heap (locs ++ L) ce (by rw [e1]; exact hw) ⟨by rw [e1]; exact Nat.le_trans hS.1 hz, fun z hz2 => by rw [e1, hq z hz2]; exact hS.2.1 z hz2, fun z hz2 => by
      rcases List.mem_append.mp hz2 with h | h
      · exact hS.2.2.1 z h
      · exact hL z h, fun i hi => (hN i hi).trans (hS.2.2.2 i hi)⟩ ⟨hK.1, hK.2.1, hK.2.2.1.go (Or.inr rfl) (fun _ _ => rfl) (fun i hi => hN i (by omega)), hK.2.2.2⟩ (by rw [e1]; exact hce) hcv hcl T' rfl X'
    exact ⟨t2, st.trans a1, b1⟩
theorem en_XW {y : MethodName} {hh : List (Nat × Nat × Nat × Nat)} {maxL mc ms : Nat} {rm : Room} {av : List Value} {Qc : Array Value → State → Outcome → State → Prop} {XC : Addr → String → State → State → Prop} {free : Addr → Prop} (hy : plainName y.cls = true) (hc : y.cls = own) (hlen : (lg_sl av).length ≤ maxL)
    (body : ∀ (p : Program) (e : Env) (s : State) (m : MethodId) (below : List Frame) (meth : Method) (c : Code) (ls : Array Slot), cx p s m av.toArray meth c cc own maxL ret → c.exceptionTable.toList = tableOf hh → kC D dA a k t.2.2.2 s → cW D dA a k t s.heap → lv_has ls maxL (lv_args 0 av) → W p l e rm s m av.toArray below meth c s.heap [] 0 0 (vx_MQ below Qc XC av.toArray s mc ms free) (F0 m 0 ls [])) : vx_Met l y (wsW_ y cc maxL ret hh) rm (cPc D dA a k t av) Qc XC mc ms free := by
  refine vx_ofWH (hh := hh) hy rfl ?_
  intro p e s m args below meth c s₁ B hml hv
  obtain ⟨rfl, hK, hT⟩ := hv
  have hts := atoms_spec (ws := wsW_ y cc maxL ret hh) B.pre
  have htab : c.exceptionTable.toList = tableOf hh := vx_table (x := y) B (hts _ List.mem_cons_self)
  have hl := lv_entry av (n := maxL) hlen
  rw [lg_entry_eq]
  exact body p e s m below meth c _ ⟨B.exec, B.bytes, B.returns, hml, by rw [← hc]; exact findClass_of_methodNamed B.named, fun w h => hts w (List.mem_cons_of_mem _ h), B.notSynchronized⟩ htab hK hT hl
end CX12
theorem mX0_text {l : Launch} {D : va_G} {dA : Nat → ClassId} {a : Nat} {k : KP a} {t : CS} {r : Int32} {t9 : CS} (hst : l.stackTraces = false) (hk : k.1 = a) (h : C_text t = some (r, t9)) : vx_Met l yX0_text (wsW_ yX0_text cX0_text 5 (some .int) hhT) (rmX0_text t t9) (cPc D dA a k t [.ref a]) (cQ D dA a k 2 t t9 (some (.int r))) (fun _ _ _ _ => False) (t9.2.2.2 0 - t.2.2.2 0) (t9.2.2.2 1 - t.2.2.2 1) (ca a) := by
  refine en_XW (own := RX0) (by decide +kernel) rfl (Nat.le_of_ble_eq_true rfl) (fun p e s m below meth c ls C htab hK hT hl => ?_)
  obtain ⟨hx, hb, hr0, hml, hown, hts, hlocks⟩ := id C
  refine toX ?_
  refine sub0 (x := t.2.2.2 0) (y := t.2.2.2 1) ?_
  have hS : cS a s.heap s.heap [] t.2.2.2 2 t := cS.rf
  have hm : mo t t := mo.rf
  have m9 : mo t t9 := mo_C_text h
  unfold C_text at h
  refine lv_aload_n hx hb dX0_text_0 rfl (lv_at hl 0 rfl) ?_
  refine cg0 C hK hT dX0_text_1 ?_
  refine c_getSN C hK hT (Or.inl rfl) 0 (by decide) (nf222 hK.2.1) rfl (v := .ref (a + 2)) rfl dX0_text_4 ?_
  refine lv_iconst (v := 2) hx hb dX0_text_7 (by decide) ?_
  obtain ⟨hi1, h⟩ := ck_some h
  refine c_ild C hK hT 2 7 (by decide) (fun _ _ => rfl) hi1 dX0_text_8 ?_
  refine lv_iconst (v := 4) hx hb dX0_text_9 (by decide) ?_
  refine lv_icmp_ne (tgt := 15) hx hb dX0_text_10 (by decide) (fun c => ?_) (fun c => ?_)
  · replace h := if_f c h
    refine lv_aload_n hx hb dX0_text_15 rfl (lv_at hl 0 rfl) ?_
    refine cg3 C hK hT dX0_text_16 ?_
    refine lv_topi (fun v2 ev2 => ?_)
    replace h := lt1_sub ev2 h
    refine lv_istore_n (lv' := [(1, .int v2), (0, .ref a)]) hx hb dX0_text_19 rfl hl (by decide) rfl (fun ls hl => ?_)
    refine lv_aload_n hx hb dX0_text_20 rfl (lv_at hl 1 rfl) ?_
    refine lv_iconst (v := 0) hx hb dX0_text_21 (by decide) ?_
    refine cp4 C hK hT hS dX0_text_22 (fun t3 H locs et3 hT hS hK => ?_)
    replace h := lt1_sub et3 h
    have mm : mo t t3 := mo.nn (by rw [et3]; rfl)
    replace hm := hm.tr mm
    replace m9 : mo t3 t9 := mo.bk (by rw [et3]; rfl) m9
    refine W.widen (mo_s mm).1 (mo_s mm).2 ?_
    refine lv_aload_n hx hb dX0_text_25 rfl (lv_at hl 1 rfl) ?_
    refine lv_iconst (v := -1) hx hb dX0_text_26 (by decide) ?_
    refine cp5 C hK hT hS dX0_text_27 (fun t4 H locs et4 hT hS hK => ?_)
    replace h := lt1_sub et4 h
    have mm : mo t3 t4 := mo.nn (by rw [et4]; rfl)
    replace hm := hm.tr mm
    replace m9 : mo t4 t9 := mo.bk (by rw [et4]; rfl) m9
    refine W.widen (mo_s mm).1 (mo_s mm).2 ?_
    refine lv_aload_n hx hb dX0_text_30 rfl (lv_at hl 1 rfl) ?_
    refine cg0 C hK hT dX0_text_31 ?_
    refine c_getSN C hK hT (Or.inl rfl) 8 (by decide) (nf238 hK.2.1) rfl (v := .ref (a + 52)) rfl dX0_text_34 ?_
    refine lv_aload_n hx hb dX0_text_37 rfl (lv_at hl 1 rfl) ?_
    refine cg0 C hK hT dX0_text_38 ?_
    refine c_getSN C hK hT (Or.inl rfl) 0 (by decide) (nf222 hK.2.1) rfl (v := .ref (a + 2)) rfl dX0_text_41 ?_
    refine lv_iconst (v := 2) hx hb dX0_text_44 (by decide) ?_
    obtain ⟨hi5, h⟩ := ck_some h
    refine c_ild C hK hT 2 7 (by decide) (fun _ _ => rfl) hi5 dX0_text_45 ?_
    have ha4 : a + 134 ≤ t4.2.2.2 0 := hT.2.2.2.1
    have h2 : t4.2.2.2 2 ≤ t4.2.2.2 0 := by rw [hT.2.2.1]; exact ha4
    obtain ⟨r5, t5, h5, h⟩ := bd2_some h
    have m5 : mo t5 t9 := mo_C_text_e h
    have m45 : mo (tokS t4 v2) t5 := mo_C_X4_read h5
    have mn : mo (dnew t4 (.inr (4, [.null, .int 0, .int 0, .int 0, .int 0, .int 0, .int 0, .int 0])) 8) t9 := mo.tr (t1 := t5) m45 m5
    refine n_new (ci := 4) (fs := [.null, .int 0, .int 0, .int 0, .int 0, .int 0, .int 0, .int 0]) in_X4 tyX4 tyX4_ok rfl C hK hT hS q511 q512 q171 (fun j hj => by rcases (show j = 0 ∨ j = 1 ∨ j = 2 ∨ j = 3 ∨ j = 4 ∨ j = 5 ∨ j = 6 ∨ j = 7 by omega) with rfl | rfl | rfl | rfl | rfl | rfl | rfl | rfl <;> rfl) (mo_n hm rfl mn) dX0_text_46 (fun t6 H et6 hT hS hK => ?_)
    refine W.widen (mo_n1 hm et6).1 (mo_n1 hm et6).2 ?_
    replace hm := hm.tr (mo.new et6)
    rw [← et6] at mn
    have hr6 : t6.2.2.1 (t4.2.2.2 0) = some (.inr (4, [.null, .int 0, .int 0, .int 0, .int 0, .int 0, .int 0, .int 0])) := by rw [et6]; exact if_pos rfl
    have h26 : t6.2.2.2 2 ≤ t4.2.2.2 0 := by rw [et6]; exact h2
    refine lv_dup hx hb dX0_text_49 rfl ?_
    refine lv_aload_n hx hb dX0_text_50 rfl (lv_at hl 1 rfl) ?_
    refine cg2 C hK hT dX0_text_51 ?_
    refine lv_iload_n hx hb dX0_text_54 rfl (lv_at hl 0 rfl) ?_
    refine wc_void hS hK (run_i (As := [.ref (a + 105), .int v2]) (rest := [.ref (t4.2.2.2 0), .int (t4.1 2 (2 : Int32).toNatClampNeg), .ref (a + 52)]) C hK hT hS.2.1 (mX4_init hr6 h26) q513 q514 q171 q515 ⟨rfl, rfl⟩ hdX4_init ⟨Nat.le_of_ble_eq_true rfl, Nat.le_of_ble_eq_true rfl⟩ (mo_z mn) rfl hl.1 rfl (Nat.le_of_ble_eq_true rfl) dX0_text_55) (fun H locs hT hS hK hN6 => ?_)
    have e6 : ((fun k' j' => if k' = 200 then (if j' = 1 then v2 else 0) else t6.1 k' j', t6.2.1, fun q => if q = t4.2.2.2 0 then none else t6.2.2.1 q, t6.2.2.2) : CS) = tokS t4 v2 := by
      subst et6
      refine Prod.ext rfl (Prod.ext rfl (Prod.ext (funext fun q => ?_) rfl))
      show (if q = t4.2.2.2 0 then none else if q = t4.2.2.2 0 then _ else t4.2.2.1 q) = if q = t4.2.2.2 0 then none else t4.2.2.1 q
      by_cases hq : q = t4.2.2.2 0
      · rw [if_pos hq, if_pos hq]
      · rw [if_neg hq, if_neg hq, if_neg hq]
    have hTk := hT.tok hk ha4
    rw [e6] at hTk
    have eN : t6.2.2.2 = (tokS t4 v2).2.2.2 := by rw [← e6]
    have hSk : cS a s.heap H locs t.2.2.2 2 (tokS t4 v2) := ⟨hS.1, hS.2.1, hS.2.2.1, fun i hi => by rw [← eN]; exact hS.2.2.2 i hi⟩
    have hKk : kC D dA a (t4.2.2.2 0, k.2) (tokS t4 v2).2.2.2 s := by rw [← eN]; exact hK
    have hkl : ((t4.2.2.2 0, k.2) : KP a).1 ≠ a ∧ l.stackTraces = false := ⟨by show t4.2.2.2 0 ≠ a; omega, hst⟩
    have hm7 : mo t (tokS t4 v2) := by
      have : mo t6 (tokS t4 v2) := mo.nn eN.symm
      exact hm.tr this
    rw [show (t6.2.2.2 0 : Nat) = (tokS t4 v2).2.2.2 0 from congrFun eN 0, show (t6.2.2.2 1 : Nat) = (tokS t4 v2).2.2.2 1 from congrFun eN 1]
    cases r5 with
    | ok v =>
      refine ex_okR hSk hKk (run_x (As := []) (rest := [.int (t4.1 2 (2 : Int32).toNatClampNeg), .ref (a + 52)]) C hKk hTk hSk.2.1 (rv_T hKk hTk hkl.1) (mX4_read hkl h5) q542 q543 q544 q171 q545 ⟨rfl, rfl⟩ hdX4_read ⟨Nat.le_of_ble_eq_true rfl, Nat.le_of_ble_eq_true rfl⟩ (mo_c hm7 m45 m5) rfl hl.1 rfl (Nat.le_of_ble_eq_true rfl) dX0_text_58) (fun H locs hT hS hK => ?_)
      refine W.widen (mo_c hm7 m45 mo.rf).1 (mo_c hm7 m45 mo.rf).2 ?_
      exact bX0_text_p61 C t5 v2 _ v H locs (hT.untok hk ha4) hS hK (hm7.tr m45) ls h (lv_sub hl [1, 0] rfl)
    | error q =>
      refine ex_cat hSk hKk (run_x (As := []) (rest := [.int (t4.1 2 (2 : Int32).toNatClampNeg), .ref (a + 52)]) C hKk hTk hSk.2.1 (rv_T hKk hTk hkl.1) (mX4_read hkl h5) q542 q543 q544 q171 q545 ⟨rfl, rfl⟩ hdX4_read ⟨Nat.le_of_ble_eq_true rfl, Nat.le_of_ble_eq_true rfl⟩ (mo_c hm7 m45 m5) rfl hl.1 rfl (Nat.le_of_ble_eq_true rfl) dX0_text_58) (fun H locs ce hT hS hK hq hv hcl => ?_)
      refine vx_catch (E := "LettersOnStrike$Wrong") (name := "LettersOnStrike$Wrong") hown [] ⟨30, 62, 70, 136⟩ _ (by rw [htab]; rfl) (fun z hz => by cases hz) (by decide) (by decide) (hts _ q510) (va_Nw.use (A := [Value.ref a].toArray) rfl (hK.2.1.2.2.1 ("LettersOnStrike$Wrong", "LettersOnStrike$Wrong") (by decide +kernel))) hq hv hcl ?_
      refine W.widen (mo_c hm7 m45 mo.rf).1 (mo_c hm7 m45 mo.rf).2 ?_
      exact bX0_text_p70 C t5 q v2 H locs (hT.untok hk ha4) hS hK (hm7.tr m45) ls h (lv_sub hl [1, 0] rfl)
  · replace h := if_t c h
    refine lv_iconst (v := -1) hx hb dX0_text_13 (by decide) ?_
    cases h
    exact ec_i C hT hS rfl dX0_text_14
