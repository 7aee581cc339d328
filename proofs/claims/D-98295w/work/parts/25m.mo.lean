/-! the numbers of cells only grow (texts) (written by gen/gen_comp.py) -/
set_option maxRecDepth 20000
theorem mo_C_X4_next_p39 {k0 : CS → Option CS} (mk0 : ∀ (t : CS)  (t9 : CS), k0 t = some t9 → mo t t9) {t : CS} {t9 : CS} (h : C_X4_next_p39 k0 t = some t9) : mo t t9 := by
  unfold C_X4_next_p39 at h
  obtain ⟨t1, et1, h⟩ := lt1_ex h
  refine mo.tr (t1 := t1) (mo.nn (by rw [et1]; rfl)) ?_
  exact mk0 _ _ h
theorem mo_C_X4_next_p173 {k144 : CS → Int32 → Option CS} (mk144 : ∀ (t : CS) (x1 : Int32) (t9 : CS), k144 t x1 = some t9 → mo t t9) {t : CS} {x1 : Int32} {t9 : CS} (h : C_X4_next_p173 k144 t x1 = some t9) : mo t t9 := by
  unfold C_X4_next_p173 at h
  obtain ⟨v1, ev1, h⟩ := lt1_ex h
  exact mk144 _ _ _ h
theorem mo_C_X4_next_p144 : ∀ (n : Nat) (t : CS) (x1 : Int32) (t9 : CS), C_X4_next_p144 n t x1 = some t9 → mo t t9 := by
  intro n
  induction n with
  | zero =>
    intro t x1 t9 h
    have h : none = some _ := h
    cases h
  | succ n ih =>
    intro t x1 t9 h
    rw [C_X4_next_p144] at h
    rcases ite_or h with ⟨c, h⟩ | ⟨c, h⟩
    · cases h; exact mo.rf
    · obtain ⟨hi1, h⟩ := ck_some h
      obtain ⟨v2, hv2, h⟩ := bd1_some h
      rcases ite_or h with ⟨c, h⟩ | ⟨c, h⟩
      · exact mo_C_X4_next_p173 ih h
      · obtain ⟨t3, et3, h⟩ := lt1_ex h
        refine mo.tr (t1 := t3) (mo.nn (by rw [et3]; rfl)) ?_
        exact mo_C_X4_next_p173 ih h
theorem mo_C_X4_next_p135 {t : CS} {t9 : CS} (h : C_X4_next_p135 t = some t9) : mo t t9 := by
  unfold C_X4_next_p135 at h
  obtain ⟨t1, et1, h⟩ := lt1_ex h
  refine mo.tr (t1 := t1) (mo.nn (by rw [et1]; rfl)) ?_
  exact mo_C_X4_next_p144 fu _ _ _ h
theorem mo_C_X4_next_p96 : ∀ (n : Nat) (t : CS) (t9 : CS), C_X4_next_p96 n t = some t9 → mo t t9 := by
  intro n
  induction n with
  | zero =>
    intro t t9 h
    have h : none = some _ := h
    cases h
  | succ n ih =>
    intro t t9 h
    rw [C_X4_next_p96] at h
    rcases ite_or h with ⟨c, h⟩ | ⟨c, h⟩
    · exact mo_C_X4_next_p135 h
    · obtain ⟨hi1, h⟩ := ck_some h
      obtain ⟨v2, hv2, h⟩ := bd1_some h
      rcases ite_or h with ⟨c, h⟩ | ⟨c, h⟩
      · exact mo_C_X4_next_p135 h
      · obtain ⟨t3, et3, h⟩ := lt1_ex h
        refine mo.tr (t1 := t3) (mo.nn (by rw [et3]; rfl)) ?_
        exact ih _ _ h
theorem mo_C_X4_next_p209 : ∀ (n : Nat) (t : CS) (t9 : CS), C_X4_next_p209 n t = some t9 → mo t t9 := by
  intro n
  induction n with
  | zero =>
    intro t t9 h
    have h : none = some _ := h
    cases h
  | succ n ih =>
    intro t t9 h
    rw [C_X4_next_p209] at h
    rcases ite_or h with ⟨c, h⟩ | ⟨c, h⟩
    · cases h; exact mo.rf
    · obtain ⟨hi1, h⟩ := ck_some h
      obtain ⟨v2, hv2, h⟩ := bd1_some h
      rcases ite_or h with ⟨c, h⟩ | ⟨c, h⟩
      · cases h; exact mo.rf
      · obtain ⟨hi3, h⟩ := ck_some h
        obtain ⟨t4, et4, h⟩ := lt1_ex h
        refine mo.tr (t1 := t4) (mo.nn (by rw [et4]; rfl)) ?_
        obtain ⟨t5, et5, h⟩ := lt1_ex h
        refine mo.tr (t1 := t5) (mo.nn (by rw [et5]; rfl)) ?_
        exact ih _ _ h
theorem mo_C_X4_next_p330 {k306 : CS → Int32 → Int32 → Option CS} (mk306 : ∀ (t : CS) (x1 : Int32) (x2 : Int32) (t9 : CS), k306 t x1 x2 = some t9 → mo t t9) {t : CS} {x1 : Int32} {x2 : Int32} {t9 : CS} (h : C_X4_next_p330 k306 t x1 x2 = some t9) : mo t t9 := by
  unfold C_X4_next_p330 at h
  obtain ⟨v1, ev1, h⟩ := lt1_ex h
  exact mk306 _ _ _ _ h
theorem mo_C_X4_next_p389 {t : CS} {y1 : Int32} {t9 : CS} (h : C_X4_next_p389 t y1 = some t9) : mo t t9 := by
  unfold C_X4_next_p389 at h
  obtain ⟨t1, et1, h⟩ := lt1_ex h
  refine mo.tr (t1 := t1) (mo.nn (by rw [et1]; rfl)) ?_
  obtain ⟨t2, et2, h⟩ := lt1_ex h
  refine mo.tr (t1 := t2) (mo.nn (by rw [et2]; rfl)) ?_
  cases h; exact mo.rf
theorem mo_C_X4_next_p348 {t : CS} {x1 : Int32} {t9 : CS} (h : C_X4_next_p348 t x1 = some t9) : mo t t9 := by
  unfold C_X4_next_p348 at h
  rcases ite_or h with ⟨c, h⟩ | ⟨c, h⟩
  · cases h; exact mo.rf
  · obtain ⟨hi1, h⟩ := ck_some h
    rcases ite_or h with ⟨c, h⟩ | ⟨c, h⟩
    · rcases ite_or h with ⟨c, h⟩ | ⟨c, h⟩
      · exact mo_C_X4_next_p389 h
      · exact mo_C_X4_next_p389 h
    · cases h; exact mo.rf
theorem mo_C_X4_next_p306 : ∀ (n : Nat) (t : CS) (x1 : Int32) (x2 : Int32) (t9 : CS), C_X4_next_p306 n t x1 x2 = some t9 → mo t t9 := by
  intro n
  induction n with
  | zero =>
    intro t x1 x2 t9 h
    have h : none = some _ := h
    cases h
  | succ n ih =>
    intro t x1 x2 t9 h
    rw [C_X4_next_p306] at h
    obtain ⟨hq1, h⟩ := ckQ_some h
    obtain ⟨v2, hv2, h⟩ := bd1_some h
    rcases ite_or h with ⟨c, h⟩ | ⟨c, h⟩
    · rcases ite_or h with ⟨c, h⟩ | ⟨c, h⟩
      · exact mo_C_X4_next_p348 h
      · rcases ite_or h with ⟨c, h⟩ | ⟨c, h⟩
        · exact mo_C_X4_next_p348 h
        · cases h; exact mo.rf
    · obtain ⟨hq3, h⟩ := ckQ_some h
      obtain ⟨v4, hv4, h⟩ := bd1_some h
      rcases ite_or h with ⟨c, h⟩ | ⟨c, h⟩
      · obtain ⟨t5, et5, h⟩ := lt1_ex h
        refine mo.tr (t1 := t5) (mo.nn (by rw [et5]; rfl)) ?_
        exact mo_C_X4_next_p330 ih h
      · exact mo_C_X4_next_p330 ih h
theorem mo_C_X4_next_p52 {t : CS} {t9 : CS} (h : C_X4_next_p52 t = some t9) : mo t t9 := by
  unfold C_X4_next_p52 at h
  obtain ⟨t1, et1, h⟩ := lt1_ex h
  refine mo.tr (t1 := t1) (mo.nn (by rw [et1]; rfl)) ?_
  rcases ite_or h with ⟨c, h⟩ | ⟨c, h⟩
  · obtain ⟨t12, et12, h⟩ := lt1_ex h
    refine mo.tr (t1 := t12) (mo.nn (by rw [et12]; rfl)) ?_
    cases h; exact mo.rf
  · obtain ⟨hi2, h⟩ := ck_some h
    obtain ⟨v3, hv3, h⟩ := bd1_some h
    rcases ite_or h with ⟨c, h⟩ | ⟨c, h⟩
    · obtain ⟨hi4, h⟩ := ck_some h
      obtain ⟨v5, hv5, h⟩ := bd1_some h
      rcases ite_or h with ⟨c, h⟩ | ⟨c, h⟩
      · obtain ⟨hi6, h⟩ := ck_some h
        obtain ⟨v7, ev7, h⟩ := lt1_ex h
        obtain ⟨t8, et8, h⟩ := lt1_ex h
        refine mo.tr (t1 := t8) (mo.nn (by rw [et8]; rfl)) ?_
        obtain ⟨t9, et9, h⟩ := lt1_ex h
        refine mo.tr (t1 := t9) (mo.nn (by rw [et9]; rfl)) ?_
        exact mo_C_X4_next_p306 fu _ _ _ _ h
      · obtain ⟨t10, et10, h⟩ := lt1_ex h
        refine mo.tr (t1 := t10) (mo.nn (by rw [et10]; rfl)) ?_
        obtain ⟨t11, et11, h⟩ := lt1_ex h
        refine mo.tr (t1 := t11) (mo.nn (by rw [et11]; rfl)) ?_
        exact mo_C_X4_next_p209 fu _ _ h
    · exact mo_C_X4_next_p96 fu _ _ h
theorem mo_C_X4_next_p0 : ∀ (n : Nat) (t : CS) (t9 : CS), C_X4_next_p0 n t = some t9 → mo t t9 := by
  intro n
  induction n with
  | zero =>
    intro t t9 h
    have h : none = some _ := h
    cases h
  | succ n ih =>
    intro t t9 h
    rw [C_X4_next_p0] at h
    rcases ite_or h with ⟨c, h⟩ | ⟨c, h⟩
    · exact mo_C_X4_next_p52 h
    · obtain ⟨hi1, h⟩ := ck_some h
      rcases ite_or h with ⟨c, h⟩ | ⟨c, h⟩
      · exact mo_C_X4_next_p39 ih h
      · obtain ⟨hi2, h⟩ := ck_some h
        rcases ite_or h with ⟨c, h⟩ | ⟨c, h⟩
        · exact mo_C_X4_next_p39 ih h
        · exact mo_C_X4_next_p52 h
theorem mo_C_X4_next {t : CS} {t9 : CS} (h : C_X4_next t = some t9) : mo t t9 := by
  unfold C_X4_next at h
  exact mo_C_X4_next_p0 fu _ _ h
theorem mo_C_X4_opens_p14 {t : CS} {y0 : Nat} {r : Except Nat Unit} {t9 : CS} (h : C_X4_opens_p14 t y0 = some (r, t9)) : mo t t9 := by
  unfold C_X4_opens_p14 at h
  obtain ⟨hw1, h⟩ := ckW_some h
  cases h; exact mo.rf
theorem mo_C_X4_opens {t : CS} {r : Except Nat Unit} {t9 : CS} (h : C_X4_opens t = some (r, t9)) : mo t t9 := by
  unfold C_X4_opens at h
  rcases ite_or h with ⟨c, h⟩ | ⟨c, h⟩
  · obtain ⟨v4, t3, ht3, h⟩ := bd2_some h
    refine mo.tr (t1 := t3) (mo_C_wrong ht3) ?_
    exact mo_C_X4_opens_p14 h
  · obtain ⟨t1, et1, h⟩ := lt1_ex h
    refine mo.tr (t1 := t1) (mo.nn (by rw [et1]; rfl)) ?_
    obtain ⟨t2, ht2, h⟩ := bd1_some h
    refine mo.tr (t1 := t2) (mo_C_X4_next ht2) ?_
    cases h; exact mo.rf
theorem mo_C_X10_init {t : CS} {x0 : Nat} {x1 : Int32} {t9 : CS} (h : C_X10_init t x0 x1 = some t9) : mo t t9 := by
  unfold C_X10_init at h
  obtain ⟨v1, hv1, h⟩ := bd1_some h
  obtain ⟨t2, ht2, h⟩ := bd1_some h
  refine mo.tr (t1 := t2) (mo.nn (dpf_N ht2)) ?_
  cases h; exact mo.rf
theorem mo_C_X4_number_p15 {t : CS} {y0 : Nat} {r : Except Nat Int32} {t9 : CS} (h : C_X4_number_p15 t y0 = some (r, t9)) : mo t t9 := by
  unfold C_X4_number_p15 at h
  obtain ⟨hw1, h⟩ := ckW_some h
  cases h; exact mo.rf
theorem mo_C_X4_number_p37 {t : CS} {y0 : Nat} {r : Except Nat Int32} {t9 : CS} (h : C_X4_number_p37 t y0 = some (r, t9)) : mo t t9 := by
  unfold C_X4_number_p37 at h
  obtain ⟨hw1, h⟩ := ckW_some h
  cases h; exact mo.rf
theorem mo_C_X4_number_p32 {t : CS} {r : Except Nat Int32} {t9 : CS} (h : C_X4_number_p32 t = some (r, t9)) : mo t t9 := by
  unfold C_X4_number_p32 at h
  obtain ⟨v2, t1, ht1, h⟩ := bd2_some h
  refine mo.tr (t1 := t1) (mo_C_wrong ht1) ?_
  exact mo_C_X4_number_p37 h
theorem mo_C_X4_number {t : CS} {x1 : Int32} {x2 : Int32} {r : Except Nat Int32} {t9 : CS} (h : C_X4_number t x1 x2 = some (r, t9)) : mo t t9 := by
  unfold C_X4_number at h
  rcases ite_or h with ⟨c, h⟩ | ⟨c, h⟩
  · rcases ite_or h with ⟨c, h⟩ | ⟨c, h⟩
    · exact mo_C_X4_number_p32 h
    · rcases ite_or h with ⟨c, h⟩ | ⟨c, h⟩
      · obtain ⟨v1, ev1, h⟩ := lt1_ex h
        obtain ⟨t2, ht2, h⟩ := bd1_some h
        refine mo.tr (t1 := t2) (mo_C_X4_next ht2) ?_
        cases h; exact mo.rf
      · exact mo_C_X4_number_p32 h
  · obtain ⟨v4, t3, ht3, h⟩ := bd2_some h
    refine mo.tr (t1 := t3) (mo_C_wrong ht3) ?_
    exact mo_C_X4_number_p15 h
theorem mo_C_X8_init_p19 {t : CS} {x0 : Nat} {x1 : Nat} {y0 : Nat} {y1 : Nat} {t9 : CS} (h : C_X8_init_p19 t x0 x1 y0 y1 = some t9) : mo t t9 := by
  unfold C_X8_init_p19 at h
  obtain ⟨t1, ht1, h⟩ := bd1_some h
  refine mo.tr (t1 := t1) (mo_J_J9_init ht1) ?_
  obtain ⟨t2, ht2, h⟩ := bd1_some h
  refine mo.tr (t1 := t2) (mo.nn (dpf_N ht2)) ?_
  obtain ⟨t3, ht3, h⟩ := bd1_some h
  refine mo.tr (t1 := t3) (mo.nn (dpf_N ht3)) ?_
  cases h; exact mo.rf
theorem mo_C_X8_init_p8 {t : CS} {x0 : Nat} {x1 : Nat} {y0 : Nat} {y1 : Nat} {t9 : CS} (h : C_X8_init_p8 t x0 x1 y0 y1 = some t9) : mo t t9 := by
  unfold C_X8_init_p8 at h
  obtain ⟨t1, ht1, h⟩ := bd1_some h
  refine mo.tr (t1 := t1) (mo_J_J9_init ht1) ?_
  obtain ⟨t2, ht2, h⟩ := bd1_some h
  refine mo.tr (t1 := t2) (mo.nn (dpf_N ht2)) ?_
  obtain ⟨t3, et3, h⟩ := lt1_ex h
  refine mo.tr (t1 := t3) (mo.new et3) ?_
  exact mo_C_X8_init_p19 h
theorem mo_C_X8_init {t : CS} {x0 : Nat} {x1 : Nat} {t9 : CS} (h : C_X8_init t x0 x1 = some t9) : mo t t9 := by
  unfold C_X8_init at h
  obtain ⟨t1, et1, h⟩ := lt1_ex h
  refine mo.tr (t1 := t1) (mo.new et1) ?_
  exact mo_C_X8_init_p8 h
theorem mo_J_J0_copyOf_2_201_p24 {t : CS} {x0 : Nat} {x1 : Int32} {y0 : Nat} {r : Nat} {t9 : CS} (h : J_J0_copyOf_2_201_p24 t x0 x1 y0 = some (r, t9)) : mo t t9 := by
  unfold J_J0_copyOf_2_201_p24 at h
  obtain ⟨v1, hv1, h⟩ := bd1_some h
  obtain ⟨t2, ht2, h⟩ := bd1_some h
  refine mo.tr (t1 := t2) (mo.nn (dcO_N ht2)) ?_
  cases h; exact mo.rf
theorem mo_J_J0_copyOf_2_201_p10 {t : CS} {x0 : Nat} {x1 : Int32} {y0 : Nat} {r : Nat} {t9 : CS} (h : J_J0_copyOf_2_201_p10 t x0 x1 y0 = some (r, t9)) : mo t t9 := by
  unfold J_J0_copyOf_2_201_p10 at h
  exact mo_J_J0_copyOf_2_201_p24 h
theorem mo_J_J0_copyOf_2_201 {t : CS} {x0 : Nat} {x1 : Int32} {r : Nat} {t9 : CS} (h : J_J0_copyOf_2_201 t x0 x1 = some (r, t9)) : mo t t9 := by
  unfold J_J0_copyOf_2_201 at h
  obtain ⟨⟨hg2a, hg2b⟩, h⟩ := ngt_some h
  obtain ⟨t1, et1, h⟩ := lt1_ex h
  refine mo.tr (t1 := t1) (mo.new et1) ?_
  exact mo_J_J0_copyOf_2_201_p10 h
theorem mo_J_J0_copyOf_p9 {t : CS} {y0 : Nat} {r : Nat} {t9 : CS} (h : J_J0_copyOf_p9 t y0 = some (r, t9)) : mo t t9 := by
  unfold J_J0_copyOf_p9 at h
  cases h; exact mo.rf
theorem mo_J_J0_copyOf {t : CS} {x0 : Nat} {x1 : Int32} {r : Nat} {t9 : CS} (h : J_J0_copyOf t x0 x1 = some (r, t9)) : mo t t9 := by
  unfold J_J0_copyOf at h
  obtain ⟨v1, hv1, h⟩ := bd1_some h
  obtain ⟨v3, t2, ht2, h⟩ := bd2_some h
  refine mo.tr (t1 := t2) (mo_J_J0_copyOf_2_201 ht2) ?_
  exact mo_J_J0_copyOf_p9 h
theorem mo_J_J9_grow_2_p40 {t : CS} {y0 : Nat} {y1 : Nat} {r : Nat} {t9 : CS} (h : J_J9_grow_2_p40 t y0 y1 = some (r, t9)) : mo t t9 := by
  unfold J_J9_grow_2_p40 at h
  obtain ⟨t1, ht1, h⟩ := bd1_some h
  refine mo.tr (t1 := t1) (mo.nn (dpf_N ht1)) ?_
  cases h; exact mo.rf
theorem mo_J_J9_grow_2_p20 {t : CS} {x0 : Nat} {x1 : Int32} {x2 : Int32} {r : Nat} {t9 : CS} (h : J_J9_grow_2_p20 t x0 x1 x2 = some (r, t9)) : mo t t9 := by
  unfold J_J9_grow_2_p20 at h
  obtain ⟨v1, hv1, h⟩ := bd1_some h
  obtain ⟨v2, hv2, h⟩ := bd1_some h
  obtain ⟨v4, t3, ht3, h⟩ := bd2_some h
  refine mo.tr (t1 := t3) (mo_J_J0_copyOf ht3) ?_
  exact mo_J_J9_grow_2_p40 h
theorem mo_J_J9_grow_2_p55 {t : CS} {y0 : Nat} {y1 : Nat} {r : Nat} {t9 : CS} (h : J_J9_grow_2_p55 t y0 y1 = some (r, t9)) : mo t t9 := by
  unfold J_J9_grow_2_p55 at h
  obtain ⟨t1, ht1, h⟩ := bd1_some h
  refine mo.tr (t1 := t1) (mo.nn (dpf_N ht1)) ?_
  cases h; exact mo.rf
theorem mo_J_J9_grow_2 {t : CS} {x0 : Nat} {x1 : Int32} {r : Nat} {t9 : CS} (h : J_J9_grow_2 t x0 x1 = some (r, t9)) : mo t t9 := by
  unfold J_J9_grow_2 at h
  obtain ⟨v1, hv1, h⟩ := bd1_some h
  obtain ⟨v2, hv2, h⟩ := bd1_some h
  obtain ⟨v3, ev3, h⟩ := lt1_ex h
  rcases ite_or h with ⟨c, h⟩ | ⟨c, h⟩
  · exact mo_J_J9_grow_2_p20 h
  · obtain ⟨v4, hv4, h⟩ := bd1_some h
    rcases ite_or h with ⟨c, h⟩ | ⟨c, h⟩
    · obtain ⟨v5, ev5, h⟩ := lt1_ex h
      obtain ⟨⟨hg7a, hg7b⟩, h⟩ := ngt_some h
      obtain ⟨t6, et6, h⟩ := lt1_ex h
      refine mo.tr (t1 := t6) (mo.new et6) ?_
      exact mo_J_J9_grow_2_p55 h
    · exact mo_J_J9_grow_2_p20 h
theorem mo_J_J9_grow_p10 {t : CS} {y0 : Nat} {r : Nat} {t9 : CS} (h : J_J9_grow_p10 t y0 = some (r, t9)) : mo t t9 := by
  unfold J_J9_grow_p10 at h
  cases h; exact mo.rf
theorem mo_J_J9_grow {t : CS} {x0 : Nat} {r : Nat} {t9 : CS} (h : J_J9_grow t x0 = some (r, t9)) : mo t t9 := by
  unfold J_J9_grow at h
  obtain ⟨v1, hv1, h⟩ := bd1_some h
  obtain ⟨hc2, h⟩ := ckC_some h
  obtain ⟨v4, t3, ht3, h⟩ := bd2_some h
  refine mo.tr (t1 := t3) (mo_J_J9_grow_2 ht3) ?_
  exact mo_J_J9_grow_p10 h
theorem mo_J_J9_add_2_p11 {t : CS} {x0 : Nat} {x1 : Nat} {x2 : Nat} {x3 : Int32} {t9 : CS} (h : J_J9_add_2_p11 t x0 x1 x2 x3 = some t9) : mo t t9 := by
  unfold J_J9_add_2_p11 at h
  obtain ⟨t1, ht1, h⟩ := bd1_some h
  refine mo.tr (t1 := t1) (mo.nn (dao_N ht1)) ?_
  obtain ⟨t2, ht2, h⟩ := bd1_some h
  refine mo.tr (t1 := t2) (mo.nn (dpf_N ht2)) ?_
  cases h; exact mo.rf
theorem mo_J_J9_add_2_p10 {t : CS} {x0 : Nat} {x1 : Nat} {x3 : Int32} {y0 : Nat} {t9 : CS} (h : J_J9_add_2_p10 t x0 x1 x3 y0 = some t9) : mo t t9 := by
  unfold J_J9_add_2_p10 at h
  exact mo_J_J9_add_2_p11 h
theorem mo_J_J9_add_2 {t : CS} {x0 : Nat} {x1 : Nat} {x2 : Nat} {x3 : Int32} {t9 : CS} (h : J_J9_add_2 t x0 x1 x2 x3 = some t9) : mo t t9 := by
  unfold J_J9_add_2 at h
  obtain ⟨v1, hv1, h⟩ := bd1_some h
  rcases ite_or h with ⟨c, h⟩ | ⟨c, h⟩
  · obtain ⟨hc2, h⟩ := ckC_some h
    obtain ⟨v4, t3, ht3, h⟩ := bd2_some h
    refine mo.tr (t1 := t3) (mo_J_J9_grow ht3) ?_
    exact mo_J_J9_add_2_p10 h
  · exact mo_J_J9_add_2_p11 h
theorem mo_J_J9_add_p23 {t : CS} {r : Int32} {t9 : CS} (h : J_J9_add_p23 t = some (r, t9)) : mo t t9 := by
  unfold J_J9_add_p23 at h
  cases h; exact mo.rf
theorem mo_J_J9_add {t : CS} {x0 : Nat} {x1 : Nat} {r : Int32} {t9 : CS} (h : J_J9_add t x0 x1 = some (r, t9)) : mo t t9 := by
  unfold J_J9_add at h
  obtain ⟨v1, hv1, h⟩ := bd1_some h
  obtain ⟨t2, ht2, h⟩ := bd1_some h
  refine mo.tr (t1 := t2) (mo.nn (dpf_N ht2)) ?_
  obtain ⟨v3, hv3, h⟩ := bd1_some h
  obtain ⟨v4, hv4, h⟩ := bd1_some h
  obtain ⟨hc5, h⟩ := ckC_some h
  obtain ⟨t6, ht6, h⟩ := bd1_some h
  refine mo.tr (t1 := t6) (mo_J_J9_add_2 ht6) ?_
  exact mo_J_J9_add_p23 h
theorem mo_C_X8_add_p20 {t : CS} {y0 : Int32} {t9 : CS} (h : C_X8_add_p20 t y0 = some t9) : mo t t9 := by
  unfold C_X8_add_p20 at h
  cases h; exact mo.rf
theorem mo_C_X8_add_p11 {t : CS} {x0 : Nat} {x2 : Nat} {y0 : Int32} {t9 : CS} (h : C_X8_add_p11 t x0 x2 y0 = some t9) : mo t t9 := by
  unfold C_X8_add_p11 at h
  obtain ⟨v1, hv1, h⟩ := bd1_some h
  obtain ⟨hc2, h⟩ := ckC_some h
  obtain ⟨v4, t3, ht3, h⟩ := bd2_some h
  refine mo.tr (t1 := t3) (mo_J_J9_add ht3) ?_
  exact mo_C_X8_add_p20 h
theorem mo_C_X8_add {t : CS} {x0 : Nat} {x1 : Int32} {x2 : Nat} {t9 : CS} (h : C_X8_add t x0 x1 x2 = some t9) : mo t t9 := by
  unfold C_X8_add at h
  obtain ⟨v1, hv1, h⟩ := bd1_some h
  obtain ⟨v2, hv2, h⟩ := bd1_some h
  obtain ⟨hc3, h⟩ := ckC_some h
  obtain ⟨v5, t4, ht4, h⟩ := bd2_some h
  refine mo.tr (t1 := t4) (mo_J_J9_add ht4) ?_
  exact mo_C_X8_add_p11 h
theorem mo_C_X4_product_p48 {rec : CS → Option (Except Nat Nat × CS)} (mrec : ∀ (t : CS)  (r : Except Nat Nat) (t9 : CS), rec t  = some (r, t9) → mo t t9) {k12 : CS → Nat → Option (Except Nat Nat × CS)} (mk12 : ∀ (t : CS) (x1 : Nat) (r : Except Nat Nat) (t9 : CS), k12 t x1 = some (r, t9) → mo t t9) {t : CS} {x1 : Nat} {r : Except Nat Nat} {t9 : CS} (h : C_X4_product_p48 rec k12 t x1 = some (r, t9)) : mo t t9 := by
  unfold C_X4_product_p48 at h
  exact mk12 _ _ _ _ h
theorem mo_C_X4_product_p45 {rec : CS → Option (Except Nat Nat × CS)} (mrec : ∀ (t : CS)  (r : Except Nat Nat) (t9 : CS), rec t  = some (r, t9) → mo t t9) {k12 : CS → Nat → Option (Except Nat Nat × CS)} (mk12 : ∀ (t : CS) (x1 : Nat) (r : Except Nat Nat) (t9 : CS), k12 t x1 = some (r, t9) → mo t t9) {t : CS} {x1 : Nat} {y0 : Nat} {y1 : Int32} {y2 : Nat} {r : Except Nat Nat} {t9 : CS} (h : C_X4_product_p45 rec k12 t x1 y0 y1 y2 = some (r, t9)) : mo t t9 := by
  unfold C_X4_product_p45 at h
  obtain ⟨hc1, h⟩ := ckC_some h
  obtain ⟨t2, ht2, h⟩ := bd1_some h
  refine mo.tr (t1 := t2) (mo_C_X8_add ht2) ?_
  exact mo_C_X4_product_p48 mrec mk12 h
theorem mo_C_X4_product_p30 {rec : CS → Option (Except Nat Nat × CS)} (mrec : ∀ (t : CS)  (r : Except Nat Nat) (t9 : CS), rec t  = some (r, t9) → mo t t9) {k12 : CS → Nat → Option (Except Nat Nat × CS)} (mk12 : ∀ (t : CS) (x1 : Nat) (r : Except Nat Nat) (t9 : CS), k12 t x1 = some (r, t9) → mo t t9) {t : CS} {x1 : Nat} {r : Except Nat Nat} {t9 : CS} (h : C_X4_product_p30 rec k12 t x1 = some (r, t9)) : mo t t9 := by
  unfold C_X4_product_p30 at h
  obtain ⟨v1, ev1, h⟩ := lt1_ex h
  obtain ⟨t2, ht2, h⟩ := bd1_some h
  refine mo.tr (t1 := t2) (mo_C_X4_next ht2) ?_
  rcases bdx_some h with ⟨q5, ht3, hr_⟩ | ⟨v4, t3, ht3, h⟩
  · exact mrec _ _ _ ht3
  · refine mo.tr (t1 := t3) (mrec _ _ _ ht3) ?_
    exact mo_C_X4_product_p45 mrec mk12 h
theorem mo_C_X4_product_p12 {rec : CS → Option (Except Nat Nat × CS)} (mrec : ∀ (t : CS)  (r : Except Nat Nat) (t9 : CS), rec t  = some (r, t9) → mo t t9) : ∀ (n : Nat) (t : CS) (x1 : Nat) (r : Except Nat Nat) (t9 : CS), C_X4_product_p12 rec n t x1 = some (r, t9) → mo t t9 := by
  intro n
  induction n with
  | zero =>
    intro t x1 r t9 h
    have h : none = some _ := h
    cases h
  | succ n ih =>
    intro t x1 r t9 h
    rw [C_X4_product_p12] at h
    rcases ite_or h with ⟨c, h⟩ | ⟨c, h⟩
    · exact mo_C_X4_product_p30 mrec ih h
    · rcases ite_or h with ⟨c, h⟩ | ⟨c, h⟩
      · exact mo_C_X4_product_p30 mrec ih h
      · obtain ⟨hc1, h⟩ := ckC_some h
        obtain ⟨v2, hv2, h⟩ := bd1_some h
        cases h; exact mo.rf
theorem mo_C_X4_product_p11 {rec : CS → Option (Except Nat Nat × CS)} (mrec : ∀ (t : CS)  (r : Except Nat Nat) (t9 : CS), rec t  = some (r, t9) → mo t t9) {t : CS} {y0 : Nat} {r : Except Nat Nat} {t9 : CS} (h : C_X4_product_p11 rec t y0 = some (r, t9)) : mo t t9 := by
  unfold C_X4_product_p11 at h
  exact mo_C_X4_product_p12 mrec fu _ _ _ _ h
theorem mo_C_X4_product_p8 {rec : CS → Option (Except Nat Nat × CS)} (mrec : ∀ (t : CS)  (r : Except Nat Nat) (t9 : CS), rec t  = some (r, t9) → mo t t9) {t : CS} {y0 : Nat} {y1 : Nat} {y2 : Nat} {r : Except Nat Nat} {t9 : CS} (h : C_X4_product_p8 rec t y0 y1 y2 = some (r, t9)) : mo t t9 := by
  unfold C_X4_product_p8 at h
  obtain ⟨t1, ht1, h⟩ := bd1_some h
  refine mo.tr (t1 := t1) (mo_C_X8_init ht1) ?_
  exact mo_C_X4_product_p11 mrec h
theorem mo_C_X4_product_p3 {rec : CS → Option (Except Nat Nat × CS)} (mrec : ∀ (t : CS)  (r : Except Nat Nat) (t9 : CS), rec t  = some (r, t9) → mo t t9) {t : CS} {y0 : Nat} {r : Except Nat Nat} {t9 : CS} (h : C_X4_product_p3 rec t y0 = some (r, t9)) : mo t t9 := by
  unfold C_X4_product_p3 at h
  rcases bdx_some h with ⟨q3, ht1, hr_⟩ | ⟨v2, t1, ht1, h⟩
  · exact mrec _ _ _ ht1
  · refine mo.tr (t1 := t1) (mrec _ _ _ ht1) ?_
    exact mo_C_X4_product_p8 mrec h
theorem mo_C_X4_product {rec : CS → Option (Except Nat Nat × CS)} (mrec : ∀ (t : CS)  (r : Except Nat Nat) (t9 : CS), rec t  = some (r, t9) → mo t t9) {t : CS} {r : Except Nat Nat} {t9 : CS} (h : C_X4_product rec t = some (r, t9)) : mo t t9 := by
  unfold C_X4_product at h
  obtain ⟨t1, et1, h⟩ := lt1_ex h
  refine mo.tr (t1 := t1) (mo.new et1) ?_
  exact mo_C_X4_product_p3 mrec h
theorem mo_C_X4_sum_p48 {rec : CS → Option (Except Nat Nat × CS)} (mrec : ∀ (t : CS)  (r : Except Nat Nat) (t9 : CS), rec t  = some (r, t9) → mo t t9) {k12 : CS → Nat → Option (Except Nat Nat × CS)} (mk12 : ∀ (t : CS) (x1 : Nat) (r : Except Nat Nat) (t9 : CS), k12 t x1 = some (r, t9) → mo t t9) {t : CS} {x1 : Nat} {r : Except Nat Nat} {t9 : CS} (h : C_X4_sum_p48 rec k12 t x1 = some (r, t9)) : mo t t9 := by
  unfold C_X4_sum_p48 at h
  exact mk12 _ _ _ _ h
theorem mo_C_X4_sum_p45 {rec : CS → Option (Except Nat Nat × CS)} (mrec : ∀ (t : CS)  (r : Except Nat Nat) (t9 : CS), rec t  = some (r, t9) → mo t t9) {k12 : CS → Nat → Option (Except Nat Nat × CS)} (mk12 : ∀ (t : CS) (x1 : Nat) (r : Except Nat Nat) (t9 : CS), k12 t x1 = some (r, t9) → mo t t9) {t : CS} {x1 : Nat} {y0 : Nat} {y1 : Int32} {y2 : Nat} {r : Except Nat Nat} {t9 : CS} (h : C_X4_sum_p45 rec k12 t x1 y0 y1 y2 = some (r, t9)) : mo t t9 := by
  unfold C_X4_sum_p45 at h
  obtain ⟨hc1, h⟩ := ckC_some h
  obtain ⟨t2, ht2, h⟩ := bd1_some h
  refine mo.tr (t1 := t2) (mo_C_X8_add ht2) ?_
  exact mo_C_X4_sum_p48 mrec mk12 h
theorem mo_C_X4_sum_p30 {rec : CS → Option (Except Nat Nat × CS)} (mrec : ∀ (t : CS)  (r : Except Nat Nat) (t9 : CS), rec t  = some (r, t9) → mo t t9) {k12 : CS → Nat → Option (Except Nat Nat × CS)} (mk12 : ∀ (t : CS) (x1 : Nat) (r : Except Nat Nat) (t9 : CS), k12 t x1 = some (r, t9) → mo t t9) {t : CS} {x1 : Nat} {r : Except Nat Nat} {t9 : CS} (h : C_X4_sum_p30 rec k12 t x1 = some (r, t9)) : mo t t9 := by
  unfold C_X4_sum_p30 at h
  obtain ⟨v1, ev1, h⟩ := lt1_ex h
  obtain ⟨t2, ht2, h⟩ := bd1_some h
  refine mo.tr (t1 := t2) (mo_C_X4_next ht2) ?_
  rcases bdx_some h with ⟨q5, ht3, hr_⟩ | ⟨v4, t3, ht3, h⟩
  · exact mo_C_X4_product mrec ht3
  · refine mo.tr (t1 := t3) (mo_C_X4_product mrec ht3) ?_
    exact mo_C_X4_sum_p45 mrec mk12 h
theorem mo_C_X4_sum_p12 {rec : CS → Option (Except Nat Nat × CS)} (mrec : ∀ (t : CS)  (r : Except Nat Nat) (t9 : CS), rec t  = some (r, t9) → mo t t9) : ∀ (n : Nat) (t : CS) (x1 : Nat) (r : Except Nat Nat) (t9 : CS), C_X4_sum_p12 rec n t x1 = some (r, t9) → mo t t9 := by
  intro n
  induction n with
  | zero =>
    intro t x1 r t9 h
    have h : none = some _ := h
    cases h
  | succ n ih =>
    intro t x1 r t9 h
    rw [C_X4_sum_p12] at h
    rcases ite_or h with ⟨c, h⟩ | ⟨c, h⟩
    · exact mo_C_X4_sum_p30 mrec ih h
    · rcases ite_or h with ⟨c, h⟩ | ⟨c, h⟩
      · exact mo_C_X4_sum_p30 mrec ih h
      · obtain ⟨hc1, h⟩ := ckC_some h
        obtain ⟨v2, hv2, h⟩ := bd1_some h
        cases h; exact mo.rf
theorem mo_C_X4_sum_p11 {rec : CS → Option (Except Nat Nat × CS)} (mrec : ∀ (t : CS)  (r : Except Nat Nat) (t9 : CS), rec t  = some (r, t9) → mo t t9) {t : CS} {y0 : Nat} {r : Except Nat Nat} {t9 : CS} (h : C_X4_sum_p11 rec t y0 = some (r, t9)) : mo t t9 := by
  unfold C_X4_sum_p11 at h
  exact mo_C_X4_sum_p12 mrec fu _ _ _ _ h
theorem mo_C_X4_sum_p8 {rec : CS → Option (Except Nat Nat × CS)} (mrec : ∀ (t : CS)  (r : Except Nat Nat) (t9 : CS), rec t  = some (r, t9) → mo t t9) {t : CS} {y0 : Nat} {y1 : Nat} {y2 : Nat} {r : Except Nat Nat} {t9 : CS} (h : C_X4_sum_p8 rec t y0 y1 y2 = some (r, t9)) : mo t t9 := by
  unfold C_X4_sum_p8 at h
  obtain ⟨t1, ht1, h⟩ := bd1_some h
  refine mo.tr (t1 := t1) (mo_C_X8_init ht1) ?_
  exact mo_C_X4_sum_p11 mrec h
theorem mo_C_X4_sum_p3 {rec : CS → Option (Except Nat Nat × CS)} (mrec : ∀ (t : CS)  (r : Except Nat Nat) (t9 : CS), rec t  = some (r, t9) → mo t t9) {t : CS} {y0 : Nat} {r : Except Nat Nat} {t9 : CS} (h : C_X4_sum_p3 rec t y0 = some (r, t9)) : mo t t9 := by
  unfold C_X4_sum_p3 at h
  rcases bdx_some h with ⟨q3, ht1, hr_⟩ | ⟨v2, t1, ht1, h⟩
  · exact mo_C_X4_product mrec ht1
  · refine mo.tr (t1 := t1) (mo_C_X4_product mrec ht1) ?_
    exact mo_C_X4_sum_p8 mrec h
theorem mo_C_X4_sum {rec : CS → Option (Except Nat Nat × CS)} (mrec : ∀ (t : CS)  (r : Except Nat Nat) (t9 : CS), rec t  = some (r, t9) → mo t t9) {t : CS} {r : Except Nat Nat} {t9 : CS} (h : C_X4_sum rec t = some (r, t9)) : mo t t9 := by
  unfold C_X4_sum at h
  obtain ⟨t1, et1, h⟩ := lt1_ex h
  refine mo.tr (t1 := t1) (mo.new et1) ?_
  exact mo_C_X4_sum_p3 mrec h
theorem mo_C_X9_init {t : CS} {x0 : Nat} {x1 : Int32} {t9 : CS} (h : C_X9_init t x0 x1 = some t9) : mo t t9 := by
  unfold C_X9_init at h
  obtain ⟨v1, hv1, h⟩ := bd1_some h
  obtain ⟨t2, ht2, h⟩ := bd1_some h
  refine mo.tr (t1 := t2) (mo.nn (dpf_N ht2)) ?_
  cases h; exact mo.rf
theorem mo_C_X4_want_p13 {t : CS} {y0 : Nat} {r : Except Nat Unit} {t9 : CS} (h : C_X4_want_p13 t y0 = some (r, t9)) : mo t t9 := by
  unfold C_X4_want_p13 at h
  obtain ⟨hw1, h⟩ := ckW_some h
  cases h; exact mo.rf
theorem mo_C_X4_want {t : CS} {x1 : Int32} {r : Except Nat Unit} {t9 : CS} (h : C_X4_want t x1 = some (r, t9)) : mo t t9 := by
  unfold C_X4_want at h
  rcases ite_or h with ⟨c, h⟩ | ⟨c, h⟩
  · obtain ⟨t1, ht1, h⟩ := bd1_some h
    refine mo.tr (t1 := t1) (mo_C_X4_next ht1) ?_
    cases h; exact mo.rf
  · obtain ⟨v3, t2, ht2, h⟩ := bd2_some h
    refine mo.tr (t1 := t2) (mo_C_wrong ht2) ?_
    exact mo_C_X4_want_p13 h
theorem mo_C_X11_init {t : CS} {x0 : Nat} {x1 : Nat} {t9 : CS} (h : C_X11_init t x0 x1 = some t9) : mo t t9 := by
  unfold C_X11_init at h
  obtain ⟨v1, hv1, h⟩ := bd1_some h
  obtain ⟨t2, ht2, h⟩ := bd1_some h
  refine mo.tr (t1 := t2) (mo.nn (dpf_N ht2)) ?_
  cases h; exact mo.rf
theorem mo_C_X4_one_p22 {rec : CS → Option (Except Nat Nat × CS)} (mrec : ∀ (t : CS)  (r : Except Nat Nat) (t9 : CS), rec t  = some (r, t9) → mo t t9) {t : CS} {y0 : Nat} {y1 : Nat} {y2 : Int32} {r : Except Nat Nat} {t9 : CS} (h : C_X4_one_p22 rec t y0 y1 y2 = some (r, t9)) : mo t t9 := by
  unfold C_X4_one_p22 at h
  obtain ⟨t1, ht1, h⟩ := bd1_some h
  refine mo.tr (t1 := t1) (mo_C_X9_init ht1) ?_
  cases h; exact mo.rf
theorem mo_C_X4_one_p13 {rec : CS → Option (Except Nat Nat × CS)} (mrec : ∀ (t : CS)  (r : Except Nat Nat) (t9 : CS), rec t  = some (r, t9) → mo t t9) {t : CS} {y0 : Nat} {r : Except Nat Nat} {t9 : CS} (h : C_X4_one_p13 rec t y0 = some (r, t9)) : mo t t9 := by
  unfold C_X4_one_p13 at h
  rcases bdx_some h with ⟨q3, ht1, hr_⟩ | ⟨v2, t1, ht1, h⟩
  · exact mo_C_X4_number ht1
  · refine mo.tr (t1 := t1) (mo_C_X4_number ht1) ?_
    exact mo_C_X4_one_p22 mrec h
theorem mo_C_X4_one_p68 {rec : CS → Option (Except Nat Nat × CS)} (mrec : ∀ (t : CS)  (r : Except Nat Nat) (t9 : CS), rec t  = some (r, t9) → mo t t9) {t : CS} {y0 : Nat} {r : Except Nat Nat} {t9 : CS} (h : C_X4_one_p68 rec t y0 = some (r, t9)) : mo t t9 := by
  unfold C_X4_one_p68 at h
  obtain ⟨hw1, h⟩ := ckW_some h
  cases h; exact mo.rf
theorem mo_C_X4_one_p76 {rec : CS → Option (Except Nat Nat × CS)} (mrec : ∀ (t : CS)  (r : Except Nat Nat) (t9 : CS), rec t  = some (r, t9) → mo t t9) {t : CS} {x1 : Int32} {y0 : Nat} {r : Except Nat Nat} {t9 : CS} (h : C_X4_one_p76 rec t x1 y0 = some (r, t9)) : mo t t9 := by
  unfold C_X4_one_p76 at h
  obtain ⟨t1, ht1, h⟩ := bd1_some h
  refine mo.tr (t1 := t1) (mo_C_X10_init ht1) ?_
  cases h; exact mo.rf
theorem mo_C_X4_one_p143 {rec : CS → Option (Except Nat Nat × CS)} (mrec : ∀ (t : CS)  (r : Except Nat Nat) (t9 : CS), rec t  = some (r, t9) → mo t t9) {t : CS} {x1 : Nat} {r : Except Nat Nat} {t9 : CS} (h : C_X4_one_p143 rec t x1 = some (r, t9)) : mo t t9 := by
  unfold C_X4_one_p143 at h
  obtain ⟨t1, et1, h⟩ := lt1_ex h
  refine mo.tr (t1 := t1) (mo.nn (by rw [et1]; rfl)) ?_
  cases h; exact mo.rf
theorem mo_C_X4_one_p106 {rec : CS → Option (Except Nat Nat × CS)} (mrec : ∀ (t : CS)  (r : Except Nat Nat) (t9 : CS), rec t  = some (r, t9) → mo t t9) {t : CS} {x1 : Nat} {r : Except Nat Nat} {t9 : CS} (h : C_X4_one_p106 rec t x1 = some (r, t9)) : mo t t9 := by
  unfold C_X4_one_p106 at h
  exact mo_C_X4_one_p143 mrec h
theorem mo_C_X4_one_p99 {rec : CS → Option (Except Nat Nat × CS)} (mrec : ∀ (t : CS)  (r : Except Nat Nat) (t9 : CS), rec t  = some (r, t9) → mo t t9) {t : CS} {y0 : Nat} {r : Except Nat Nat} {t9 : CS} (h : C_X4_one_p99 rec t y0 = some (r, t9)) : mo t t9 := by
  unfold C_X4_one_p99 at h
  rcases bdx_some h with ⟨q3, ht1, hr_⟩ | ⟨v2, t1, ht1, h⟩
  · exact mo_C_X4_want ht1
  · refine mo.tr (t1 := t1) (mo_C_X4_want ht1) ?_
    exact mo_C_X4_one_p106 mrec h
theorem mo_C_X4_one_p95 {rec : CS → Option (Except Nat Nat × CS)} (mrec : ∀ (t : CS)  (r : Except Nat Nat) (t9 : CS), rec t  = some (r, t9) → mo t t9) {t : CS} {r : Except Nat Nat} {t9 : CS} (h : C_X4_one_p95 rec t = some (r, t9)) : mo t t9 := by
  unfold C_X4_one_p95 at h
  rcases bdx_some h with ⟨q3, ht1, hr_⟩ | ⟨v2, t1, ht1, h⟩
  · exact mo_C_X4_sum mrec ht1
  · refine mo.tr (t1 := t1) (mo_C_X4_sum mrec ht1) ?_
    exact mo_C_X4_one_p99 mrec h
theorem mo_C_X4_one_p130 {rec : CS → Option (Except Nat Nat × CS)} (mrec : ∀ (t : CS)  (r : Except Nat Nat) (t9 : CS), rec t  = some (r, t9) → mo t t9) {t : CS} {y0 : Nat} {y1 : Nat} {y2 : Nat} {r : Except Nat Nat} {t9 : CS} (h : C_X4_one_p130 rec t y0 y1 y2 = some (r, t9)) : mo t t9 := by
  unfold C_X4_one_p130 at h
  obtain ⟨t1, ht1, h⟩ := bd1_some h
  refine mo.tr (t1 := t1) (mo_C_X11_init ht1) ?_
  exact mo_C_X4_one_p143 mrec h
theorem mo_C_X4_one_p125 {rec : CS → Option (Except Nat Nat × CS)} (mrec : ∀ (t : CS)  (r : Except Nat Nat) (t9 : CS), rec t  = some (r, t9) → mo t t9) {t : CS} {y0 : Nat} {r : Except Nat Nat} {t9 : CS} (h : C_X4_one_p125 rec t y0 = some (r, t9)) : mo t t9 := by
  unfold C_X4_one_p125 at h
  rcases bdx_some h with ⟨q3, ht1, hr_⟩ | ⟨v2, t1, ht1, h⟩
  · exact mrec _ _ _ ht1
  · refine mo.tr (t1 := t1) (mrec _ _ _ ht1) ?_
    exact mo_C_X4_one_p130 mrec h
theorem mo_C_X4_one_p122 {rec : CS → Option (Except Nat Nat × CS)} (mrec : ∀ (t : CS)  (r : Except Nat Nat) (t9 : CS), rec t  = some (r, t9) → mo t t9) {t : CS} {r : Except Nat Nat} {t9 : CS} (h : C_X4_one_p122 rec t = some (r, t9)) : mo t t9 := by
  unfold C_X4_one_p122 at h
  obtain ⟨t1, et1, h⟩ := lt1_ex h
  refine mo.tr (t1 := t1) (mo.new et1) ?_
  exact mo_C_X4_one_p125 mrec h
theorem mo_C_X4_one_p142 {rec : CS → Option (Except Nat Nat × CS)} (mrec : ∀ (t : CS)  (r : Except Nat Nat) (t9 : CS), rec t  = some (r, t9) → mo t t9) {t : CS} {y0 : Nat} {r : Except Nat Nat} {t9 : CS} (h : C_X4_one_p142 rec t y0 = some (r, t9)) : mo t t9 := by
  unfold C_X4_one_p142 at h
  obtain ⟨hw1, h⟩ := ckW_some h
  cases h; exact mo.rf
theorem mo_C_X4_one_p82 {rec : CS → Option (Except Nat Nat × CS)} (mrec : ∀ (t : CS)  (r : Except Nat Nat) (t9 : CS), rec t  = some (r, t9) → mo t t9) {t : CS} {r : Except Nat Nat} {t9 : CS} (h : C_X4_one_p82 rec t = some (r, t9)) : mo t t9 := by
  unfold C_X4_one_p82 at h
  rcases ite_or h with ⟨c, h⟩ | ⟨c, h⟩
  · rcases bdx_some h with ⟨q8, ht6, hr_⟩ | ⟨v7, t6, ht6, h⟩
    · exact mo_C_X4_opens ht6
    · refine mo.tr (t1 := t6) (mo_C_X4_opens ht6) ?_
      exact mo_C_X4_one_p95 mrec h
  · rcases ite_or h with ⟨c, h⟩ | ⟨c, h⟩
    · rcases bdx_some h with ⟨q5, ht3, hr_⟩ | ⟨v4, t3, ht3, h⟩
      · exact mo_C_X4_opens ht3
      · refine mo.tr (t1 := t3) (mo_C_X4_opens ht3) ?_
        exact mo_C_X4_one_p122 mrec h
    · obtain ⟨v2, t1, ht1, h⟩ := bd2_some h
      refine mo.tr (t1 := t1) (mo_C_wrong ht1) ?_
      exact mo_C_X4_one_p142 mrec h
theorem mo_C_X4_one_b {rec : CS → Option (Except Nat Nat × CS)} (mrec : ∀ (t : CS)  (r : Except Nat Nat) (t9 : CS), rec t  = some (r, t9) → mo t t9) {t : CS} {r : Except Nat Nat} {t9 : CS} (h : C_X4_one_b rec t = some (r, t9)) : mo t t9 := by
  unfold C_X4_one_b at h
  rcases ite_or h with ⟨c, h⟩ | ⟨c, h⟩
  · obtain ⟨t7, et7, h⟩ := lt1_ex h
    refine mo.tr (t1 := t7) (mo.new et7) ?_
    exact mo_C_X4_one_p13 mrec h
  · rcases ite_or h with ⟨c, h⟩ | ⟨c, h⟩
    · exact mo_C_X4_one_p82 mrec h
    · rcases ite_or h with ⟨c, h⟩ | ⟨c, h⟩
      · exact mo_C_X4_one_p82 mrec h
      · obtain ⟨v1, ev1, h⟩ := lt1_ex h
        obtain ⟨v2, hv2, h⟩ := bd1_some h
        rcases ite_or h with ⟨c, h⟩ | ⟨c, h⟩
        · obtain ⟨v6, t5, ht5, h⟩ := bd2_some h
          refine mo.tr (t1 := t5) (mo_C_wrong ht5) ?_
          exact mo_C_X4_one_p68 mrec h
        · obtain ⟨t3, ht3, h⟩ := bd1_some h
          refine mo.tr (t1 := t3) (mo_C_X4_next ht3) ?_
          obtain ⟨t4, et4, h⟩ := lt1_ex h
          refine mo.tr (t1 := t4) (mo.new et4) ?_
          exact mo_C_X4_one_p76 mrec h
theorem mo_C_X4_one : ∀ (n : Nat) (t : CS) (r : Except Nat Nat) (t9 : CS), C_X4_one n t = some (r, t9) → mo t t9 := by
  intro n
  induction n with
  | zero =>
    intro t r t9 h
    have h : none = some _ := h
    cases h
  | succ n ih =>
    intro t r t9 h
    rw [C_X4_one] at h
    exact mo_C_X4_one_b ih h
theorem mo_C_X7_init {t : CS} {x0 : Nat} {x1 : Nat} {t9 : CS} (h : C_X7_init t x0 x1 = some t9) : mo t t9 := by
  unfold C_X7_init at h
  obtain ⟨v1, hv1, h⟩ := bd1_some h
  obtain ⟨t2, ht2, h⟩ := bd1_some h
  refine mo.tr (t1 := t2) (mo.nn (dpf_N ht2)) ?_
  cases h; exact mo.rf
theorem mo_C_X12_init {t : CS} {x0 : Nat} {x1 : Int32} {x2 : Nat} {x3 : Nat} {t9 : CS} (h : C_X12_init t x0 x1 x2 x3 = some t9) : mo t t9 := by
  unfold C_X12_init at h
  obtain ⟨v1, hv1, h⟩ := bd1_some h
  obtain ⟨t2, ht2, h⟩ := bd1_some h
  refine mo.tr (t1 := t2) (mo.nn (dpf_N ht2)) ?_
  obtain ⟨t3, ht3, h⟩ := bd1_some h
  refine mo.tr (t1 := t3) (mo.nn (dpf_N ht3)) ?_
  obtain ⟨t4, ht4, h⟩ := bd1_some h
  refine mo.tr (t1 := t4) (mo.nn (dpf_N ht4)) ?_
  cases h; exact mo.rf
theorem mo_C_X4_ask_p22 {rec : CS → Option (Except Nat Nat × CS)} (mrec : ∀ (t : CS)  (r : Except Nat Nat) (t9 : CS), rec t  = some (r, t9) → mo t t9) {t : CS} {y0 : Nat} {y1 : Nat} {y2 : Nat} {r : Except Nat Nat} {t9 : CS} (h : C_X4_ask_p22 rec t y0 y1 y2 = some (r, t9)) : mo t t9 := by
  unfold C_X4_ask_p22 at h
  obtain ⟨t1, ht1, h⟩ := bd1_some h
  refine mo.tr (t1 := t1) (mo_C_X7_init ht1) ?_
  obtain ⟨t2, et2, h⟩ := lt1_ex h
  refine mo.tr (t1 := t2) (mo.nn (by rw [et2]; rfl)) ?_
  cases h; exact mo.rf
theorem mo_C_X4_ask_p17 {rec : CS → Option (Except Nat Nat × CS)} (mrec : ∀ (t : CS)  (r : Except Nat Nat) (t9 : CS), rec t  = some (r, t9) → mo t t9) {t : CS} {y0 : Nat} {r : Except Nat Nat} {t9 : CS} (h : C_X4_ask_p17 rec t y0 = some (r, t9)) : mo t t9 := by
  unfold C_X4_ask_p17 at h
  rcases bdx_some h with ⟨q3, ht1, hr_⟩ | ⟨v2, t1, ht1, h⟩
  · exact mrec _ _ _ ht1
  · refine mo.tr (t1 := t1) (mrec _ _ _ ht1) ?_
    exact mo_C_X4_ask_p22 mrec h
theorem mo_C_X4_ask_p14 {rec : CS → Option (Except Nat Nat × CS)} (mrec : ∀ (t : CS)  (r : Except Nat Nat) (t9 : CS), rec t  = some (r, t9) → mo t t9) {t : CS} {r : Except Nat Nat} {t9 : CS} (h : C_X4_ask_p14 rec t = some (r, t9)) : mo t t9 := by
  unfold C_X4_ask_p14 at h
  obtain ⟨t1, et1, h⟩ := lt1_ex h
  refine mo.tr (t1 := t1) (mo.new et1) ?_
  exact mo_C_X4_ask_p17 mrec h
theorem mo_C_X4_ask_p91 {rec : CS → Option (Except Nat Nat × CS)} (mrec : ∀ (t : CS)  (r : Except Nat Nat) (t9 : CS), rec t  = some (r, t9) → mo t t9) {t : CS} {y0 : Nat} {r : Except Nat Nat} {t9 : CS} (h : C_X4_ask_p91 rec t y0 = some (r, t9)) : mo t t9 := by
  unfold C_X4_ask_p91 at h
  obtain ⟨hw1, h⟩ := ckW_some h
  cases h; exact mo.rf
theorem mo_C_X4_ask_p106 {rec : CS → Option (Except Nat Nat × CS)} (mrec : ∀ (t : CS)  (r : Except Nat Nat) (t9 : CS), rec t  = some (r, t9) → mo t t9) {t : CS} {y0 : Nat} {y1 : Nat} {y2 : Int32} {y3 : Nat} {y4 : Nat} {r : Except Nat Nat} {t9 : CS} (h : C_X4_ask_p106 rec t y0 y1 y2 y3 y4 = some (r, t9)) : mo t t9 := by
  unfold C_X4_ask_p106 at h
  obtain ⟨t1, ht1, h⟩ := bd1_some h
  refine mo.tr (t1 := t1) (mo_C_X12_init ht1) ?_
  cases h; exact mo.rf
theorem mo_C_X4_ask_p99 {rec : CS → Option (Except Nat Nat × CS)} (mrec : ∀ (t : CS)  (r : Except Nat Nat) (t9 : CS), rec t  = some (r, t9) → mo t t9) {t : CS} {x1 : Nat} {x2 : Int32} {y0 : Nat} {r : Except Nat Nat} {t9 : CS} (h : C_X4_ask_p99 rec t x1 x2 y0 = some (r, t9)) : mo t t9 := by
  unfold C_X4_ask_p99 at h
  rcases bdx_some h with ⟨q3, ht1, hr_⟩ | ⟨v2, t1, ht1, h⟩
  · exact mo_C_X4_sum (mo_C_X4_one 64) ht1
  · refine mo.tr (t1 := t1) (mo_C_X4_sum (mo_C_X4_one 64) ht1) ?_
    exact mo_C_X4_ask_p106 mrec h
theorem mo_C_X4_ask_p92 {rec : CS → Option (Except Nat Nat × CS)} (mrec : ∀ (t : CS)  (r : Except Nat Nat) (t9 : CS), rec t  = some (r, t9) → mo t t9) {t : CS} {x1 : Nat} {x2 : Int32} {r : Except Nat Nat} {t9 : CS} (h : C_X4_ask_p92 rec t x1 x2 = some (r, t9)) : mo t t9 := by
  unfold C_X4_ask_p92 at h
  obtain ⟨t1, ht1, h⟩ := bd1_some h
  refine mo.tr (t1 := t1) (mo_C_X4_next ht1) ?_
  obtain ⟨t2, et2, h⟩ := lt1_ex h
  refine mo.tr (t1 := t2) (mo.new et2) ?_
  exact mo_C_X4_ask_p99 mrec h
theorem mo_C_X4_ask_p42 {rec : CS → Option (Except Nat Nat × CS)} (mrec : ∀ (t : CS)  (r : Except Nat Nat) (t9 : CS), rec t  = some (r, t9) → mo t t9) {t : CS} {y0 : Nat} {r : Except Nat Nat} {t9 : CS} (h : C_X4_ask_p42 rec t y0 = some (r, t9)) : mo t t9 := by
  unfold C_X4_ask_p42 at h
  obtain ⟨v1, ev1, h⟩ := lt1_ex h
  rcases ite_or h with ⟨c, h⟩ | ⟨c, h⟩
  · exact mo_C_X4_ask_p92 mrec h
  · rcases ite_or h with ⟨c, h⟩ | ⟨c, h⟩
    · exact mo_C_X4_ask_p92 mrec h
    · rcases ite_or h with ⟨c, h⟩ | ⟨c, h⟩
      · exact mo_C_X4_ask_p92 mrec h
      · rcases ite_or h with ⟨c, h⟩ | ⟨c, h⟩
        · exact mo_C_X4_ask_p92 mrec h
        · rcases ite_or h with ⟨c, h⟩ | ⟨c, h⟩
          · exact mo_C_X4_ask_p92 mrec h
          · rcases ite_or h with ⟨c, h⟩ | ⟨c, h⟩
            · exact mo_C_X4_ask_p92 mrec h
            · obtain ⟨v3, t2, ht2, h⟩ := bd2_some h
              refine mo.tr (t1 := t2) (mo_C_wrong ht2) ?_
              exact mo_C_X4_ask_p91 mrec h
theorem mo_C_X4_ask_b {rec : CS → Option (Except Nat Nat × CS)} (mrec : ∀ (t : CS)  (r : Except Nat Nat) (t9 : CS), rec t  = some (r, t9) → mo t t9) {t : CS} {r : Except Nat Nat} {t9 : CS} (h : C_X4_ask_b rec t = some (r, t9)) : mo t t9 := by
  unfold C_X4_ask_b at h
  rcases ite_or h with ⟨c, h⟩ | ⟨c, h⟩
  · rcases bdx_some h with ⟨q6, ht4, hr_⟩ | ⟨v5, t4, ht4, h⟩
    · exact mo_C_X4_opens ht4
    · refine mo.tr (t1 := t4) (mo_C_X4_opens ht4) ?_
      exact mo_C_X4_ask_p14 mrec h
  · rcases bdx_some h with ⟨q3, ht1, hr_⟩ | ⟨v2, t1, ht1, h⟩
    · exact mo_C_X4_sum (mo_C_X4_one 64) ht1
    · refine mo.tr (t1 := t1) (mo_C_X4_sum (mo_C_X4_one 64) ht1) ?_
      exact mo_C_X4_ask_p42 mrec h
theorem mo_C_X4_ask : ∀ (n : Nat) (t : CS) (r : Except Nat Nat) (t9 : CS), C_X4_ask n t = some (r, t9) → mo t t9 := by
  intro n
  induction n with
  | zero =>
    intro t r t9 h
    have h : none = some _ := h
    cases h
  | succ n ih =>
    intro t r t9 h
    rw [C_X4_ask] at h
    exact mo_C_X4_ask_b ih h
theorem mo_C_X13_init {t : CS} {x0 : Nat} {x1 : Int32} {x2 : Nat} {t9 : CS} (h : C_X13_init t x0 x1 x2 = some t9) : mo t t9 := by
  unfold C_X13_init at h
  obtain ⟨v1, hv1, h⟩ := bd1_some h
  obtain ⟨hz, h⟩ := zr_some h
  obtain ⟨t2, ht2, h⟩ := bd1_some h
  refine mo.tr (t1 := t2) (mo.nn (dpf_N ht2)) ?_
  obtain ⟨t3, ht3, h⟩ := bd1_some h
  refine mo.tr (t1 := t3) (mo.nn (dpf_N ht3)) ?_
  cases h; exact mo.rf
theorem mo_C_X4_both_p39 {k17 : CS → Nat → Option (Except Nat Nat × CS)} (mk17 : ∀ (t : CS) (x1 : Nat) (r : Except Nat Nat) (t9 : CS), k17 t x1 = some (r, t9) → mo t t9) {t : CS} {x1 : Nat} {y0 : Int32} {r : Except Nat Nat} {t9 : CS} (h : C_X4_both_p39 k17 t x1 y0 = some (r, t9)) : mo t t9 := by
  unfold C_X4_both_p39 at h
  exact mk17 _ _ _ _ h
theorem mo_C_X4_both_p36 {k17 : CS → Nat → Option (Except Nat Nat × CS)} (mk17 : ∀ (t : CS) (x1 : Nat) (r : Except Nat Nat) (t9 : CS), k17 t x1 = some (r, t9) → mo t t9) {t : CS} {x1 : Nat} {y0 : Nat} {y1 : Nat} {r : Except Nat Nat} {t9 : CS} (h : C_X4_both_p36 k17 t x1 y0 y1 = some (r, t9)) : mo t t9 := by
  unfold C_X4_both_p36 at h
  obtain ⟨hc1, h⟩ := ckC_some h
  obtain ⟨v3, t2, ht2, h⟩ := bd2_some h
  refine mo.tr (t1 := t2) (mo_J_J9_add ht2) ?_
  exact mo_C_X4_both_p39 mk17 h
theorem mo_C_X4_both_p65 {t : CS} {x1 : Nat} {y0 : Nat} {r : Except Nat Nat} {t9 : CS} (h : C_X4_both_p65 t x1 y0 = some (r, t9)) : mo t t9 := by
  unfold C_X4_both_p65 at h
  obtain ⟨t1, ht1, h⟩ := bd1_some h
  refine mo.tr (t1 := t1) (mo_C_X13_init ht1) ?_
  cases h; exact mo.rf
theorem mo_C_X4_both_p17 : ∀ (n : Nat) (t : CS) (x1 : Nat) (r : Except Nat Nat) (t9 : CS), C_X4_both_p17 n t x1 = some (r, t9) → mo t t9 := by
  intro n
  induction n with
  | zero =>
    intro t x1 r t9 h
    have h : none = some _ := h
    cases h
  | succ n ih =>
    intro t x1 r t9 h
    rw [C_X4_both_p17] at h
    rcases ite_or h with ⟨c, h⟩ | ⟨c, h⟩
    · obtain ⟨t7, ht7, h⟩ := bd1_some h
      refine mo.tr (t1 := t7) (mo_C_X4_next ht7) ?_
      rcases bdx_some h with ⟨q10, ht8, hr_⟩ | ⟨v9, t8, ht8, h⟩
      · exact mo_C_X4_ask 64 _ _ _ ht8
      · refine mo.tr (t1 := t8) (mo_C_X4_ask 64 _ _ _ ht8) ?_
        exact mo_C_X4_both_p36 ih h
    · obtain ⟨hc1, h⟩ := ckC_some h
      obtain ⟨v2, hv2, h⟩ := bd1_some h
      rcases ite_or h with ⟨c, h⟩ | ⟨c, h⟩
      · obtain ⟨hc4, h⟩ := ckC_some h
        obtain ⟨v5, hv5, h⟩ := bd1_some h
        obtain ⟨hc6, h⟩ := ckK_some h
        cases h; exact mo.rf
      · obtain ⟨t3, et3, h⟩ := lt1_ex h
        refine mo.tr (t1 := t3) (mo.new et3) ?_
        exact mo_C_X4_both_p65 h
theorem mo_C_X4_both_p16 {t : CS} {x1 : Nat} {y0 : Int32} {r : Except Nat Nat} {t9 : CS} (h : C_X4_both_p16 t x1 y0 = some (r, t9)) : mo t t9 := by
  unfold C_X4_both_p16 at h
  exact mo_C_X4_both_p17 fu _ _ _ _ h
theorem mo_C_X4_both_p13 {t : CS} {x1 : Nat} {y0 : Nat} {y1 : Nat} {r : Except Nat Nat} {t9 : CS} (h : C_X4_both_p13 t x1 y0 y1 = some (r, t9)) : mo t t9 := by
  unfold C_X4_both_p13 at h
  obtain ⟨hc1, h⟩ := ckC_some h
  obtain ⟨v3, t2, ht2, h⟩ := bd2_some h
  refine mo.tr (t1 := t2) (mo_J_J9_add ht2) ?_
  exact mo_C_X4_both_p16 h
theorem mo_C_X4_both_p3 {t : CS} {y0 : Nat} {r : Except Nat Nat} {t9 : CS} (h : C_X4_both_p3 t y0 = some (r, t9)) : mo t t9 := by
  unfold C_X4_both_p3 at h
  obtain ⟨t1, ht1, h⟩ := bd1_some h
  refine mo.tr (t1 := t1) (mo_J_J9_init ht1) ?_
  rcases bdx_some h with ⟨q4, ht2, hr_⟩ | ⟨v3, t2, ht2, h⟩
  · exact mo_C_X4_ask 64 _ _ _ ht2
  · refine mo.tr (t1 := t2) (mo_C_X4_ask 64 _ _ _ ht2) ?_
    exact mo_C_X4_both_p13 h
theorem mo_C_X4_both {t : CS} {r : Except Nat Nat} {t9 : CS} (h : C_X4_both t = some (r, t9)) : mo t t9 := by
  unfold C_X4_both at h
  obtain ⟨t1, et1, h⟩ := lt1_ex h
  refine mo.tr (t1 := t1) (mo.new et1) ?_
  exact mo_C_X4_both_p3 h
theorem mo_C_X4_either_p39 {k17 : CS → Nat → Option (Except Nat Nat × CS)} (mk17 : ∀ (t : CS) (x1 : Nat) (r : Except Nat Nat) (t9 : CS), k17 t x1 = some (r, t9) → mo t t9) {t : CS} {x1 : Nat} {y0 : Int32} {r : Except Nat Nat} {t9 : CS} (h : C_X4_either_p39 k17 t x1 y0 = some (r, t9)) : mo t t9 := by
  unfold C_X4_either_p39 at h
  exact mk17 _ _ _ _ h
theorem mo_C_X4_either_p36 {k17 : CS → Nat → Option (Except Nat Nat × CS)} (mk17 : ∀ (t : CS) (x1 : Nat) (r : Except Nat Nat) (t9 : CS), k17 t x1 = some (r, t9) → mo t t9) {t : CS} {x1 : Nat} {y0 : Nat} {y1 : Nat} {r : Except Nat Nat} {t9 : CS} (h : C_X4_either_p36 k17 t x1 y0 y1 = some (r, t9)) : mo t t9 := by
  unfold C_X4_either_p36 at h
  obtain ⟨hc1, h⟩ := ckC_some h
  obtain ⟨v3, t2, ht2, h⟩ := bd2_some h
  refine mo.tr (t1 := t2) (mo_J_J9_add ht2) ?_
  exact mo_C_X4_either_p39 mk17 h
theorem mo_C_X4_either_p65 {t : CS} {x1 : Nat} {y0 : Nat} {r : Except Nat Nat} {t9 : CS} (h : C_X4_either_p65 t x1 y0 = some (r, t9)) : mo t t9 := by
  unfold C_X4_either_p65 at h
  obtain ⟨t1, ht1, h⟩ := bd1_some h
  refine mo.tr (t1 := t1) (mo_C_X13_init ht1) ?_
  cases h; exact mo.rf
theorem mo_C_X4_either_p17 : ∀ (n : Nat) (t : CS) (x1 : Nat) (r : Except Nat Nat) (t9 : CS), C_X4_either_p17 n t x1 = some (r, t9) → mo t t9 := by
  intro n
  induction n with
  | zero =>
    intro t x1 r t9 h
    have h : none = some _ := h
    cases h
  | succ n ih =>
    intro t x1 r t9 h
    rw [C_X4_either_p17] at h
    rcases ite_or h with ⟨c, h⟩ | ⟨c, h⟩
    · obtain ⟨t7, ht7, h⟩ := bd1_some h
      refine mo.tr (t1 := t7) (mo_C_X4_next ht7) ?_
      rcases bdx_some h with ⟨q10, ht8, hr_⟩ | ⟨v9, t8, ht8, h⟩
      · exact mo_C_X4_both ht8
      · refine mo.tr (t1 := t8) (mo_C_X4_both ht8) ?_
        exact mo_C_X4_either_p36 ih h
    · obtain ⟨hc1, h⟩ := ckC_some h
      obtain ⟨v2, hv2, h⟩ := bd1_some h
      rcases ite_or h with ⟨c, h⟩ | ⟨c, h⟩
      · obtain ⟨hc4, h⟩ := ckC_some h
        obtain ⟨v5, hv5, h⟩ := bd1_some h
        obtain ⟨hc6, h⟩ := ckK_some h
        cases h; exact mo.rf
      · obtain ⟨t3, et3, h⟩ := lt1_ex h
        refine mo.tr (t1 := t3) (mo.new et3) ?_
        exact mo_C_X4_either_p65 h
theorem mo_C_X4_either_p16 {t : CS} {x1 : Nat} {y0 : Int32} {r : Except Nat Nat} {t9 : CS} (h : C_X4_either_p16 t x1 y0 = some (r, t9)) : mo t t9 := by
  unfold C_X4_either_p16 at h
  exact mo_C_X4_either_p17 fu _ _ _ _ h
theorem mo_C_X4_either_p13 {t : CS} {x1 : Nat} {y0 : Nat} {y1 : Nat} {r : Except Nat Nat} {t9 : CS} (h : C_X4_either_p13 t x1 y0 y1 = some (r, t9)) : mo t t9 := by
  unfold C_X4_either_p13 at h
  obtain ⟨hc1, h⟩ := ckC_some h
  obtain ⟨v3, t2, ht2, h⟩ := bd2_some h
  refine mo.tr (t1 := t2) (mo_J_J9_add ht2) ?_
  exact mo_C_X4_either_p16 h
theorem mo_C_X4_either_p3 {t : CS} {y0 : Nat} {r : Except Nat Nat} {t9 : CS} (h : C_X4_either_p3 t y0 = some (r, t9)) : mo t t9 := by
  unfold C_X4_either_p3 at h
  obtain ⟨t1, ht1, h⟩ := bd1_some h
  refine mo.tr (t1 := t1) (mo_J_J9_init ht1) ?_
  rcases bdx_some h with ⟨q4, ht2, hr_⟩ | ⟨v3, t2, ht2, h⟩
  · exact mo_C_X4_both ht2
  · refine mo.tr (t1 := t2) (mo_C_X4_both ht2) ?_
    exact mo_C_X4_either_p13 h
theorem mo_C_X4_either {t : CS} {r : Except Nat Nat} {t9 : CS} (h : C_X4_either t = some (r, t9)) : mo t t9 := by
  unfold C_X4_either at h
  obtain ⟨t1, et1, h⟩ := lt1_ex h
  refine mo.tr (t1 := t1) (mo.new et1) ?_
  exact mo_C_X4_either_p3 h
theorem mo_C_X4_letters_p31 {t : CS} {y0 : Nat} {r : Except Nat Nat} {t9 : CS} (h : C_X4_letters_p31 t y0 = some (r, t9)) : mo t t9 := by
  unfold C_X4_letters_p31 at h
  obtain ⟨hw1, h⟩ := ckW_some h
  cases h; exact mo.rf
theorem mo_C_X4_letters_p26 {t : CS} {r : Except Nat Nat} {t9 : CS} (h : C_X4_letters_p26 t = some (r, t9)) : mo t t9 := by
  unfold C_X4_letters_p26 at h
  obtain ⟨v2, t1, ht1, h⟩ := bd2_some h
  refine mo.tr (t1 := t1) (mo_C_wrong ht1) ?_
  exact mo_C_X4_letters_p31 h
theorem mo_C_X4_letters_p78 {t : CS} {y0 : Nat} {r : Except Nat Nat} {t9 : CS} (h : C_X4_letters_p78 t y0 = some (r, t9)) : mo t t9 := by
  unfold C_X4_letters_p78 at h
  obtain ⟨hw1, h⟩ := ckW_some h
  cases h; exact mo.rf
theorem mo_C_X4_letters_p72 {t : CS} {r : Except Nat Nat} {t9 : CS} (h : C_X4_letters_p72 t = some (r, t9)) : mo t t9 := by
  unfold C_X4_letters_p72 at h
  obtain ⟨v2, t1, ht1, h⟩ := bd2_some h
  refine mo.tr (t1 := t1) (mo_C_wrong ht1) ?_
  exact mo_C_X4_letters_p78 h
theorem mo_C_X4_letters_p91 : ∀ (n : Nat) (t : CS) (x1 : Int32) (x2 : Nat) (x3 : Int32) (r : Except Nat Nat) (t9 : CS), C_X4_letters_p91 n t x1 x2 x3 = some (r, t9) → mo t t9 := by
  intro n
  induction n with
  | zero =>
    intro t x1 x2 x3 r t9 h
    have h : none = some _ := h
    cases h
  | succ n ih =>
    intro t x1 x2 x3 r t9 h
    rw [C_X4_letters_p91] at h
    rcases ite_or h with ⟨c, h⟩ | ⟨c, h⟩
    · obtain ⟨t1, ht1, h⟩ := bd1_some h
      refine mo.tr (t1 := t1) (mo_C_X4_next ht1) ?_
      cases h; exact mo.rf
    · obtain ⟨hi2, h⟩ := ck_some h
      obtain ⟨t3, ht3, h⟩ := bd1_some h
      refine mo.tr (t1 := t3) (mo.nn (das_N ht3)) ?_
      obtain ⟨v4, ev4, h⟩ := lt1_ex h
      exact ih _ _ _ _ _ _ h
theorem mo_C_X4_letters_p88 {t : CS} {x1 : Int32} {y0 : Nat} {r : Except Nat Nat} {t9 : CS} (h : C_X4_letters_p88 t x1 y0 = some (r, t9)) : mo t t9 := by
  unfold C_X4_letters_p88 at h
  exact mo_C_X4_letters_p91 fu _ _ _ _ _ _ h
theorem mo_C_X4_letters_p47 : ∀ (n : Nat) (t : CS) (x1 : Int32) (x2 : Int32) (r : Except Nat Nat) (t9 : CS), C_X4_letters_p47 n t x1 x2 = some (r, t9) → mo t t9 := by
  intro n
  induction n with
  | zero =>
    intro t x1 x2 r t9 h
    have h : none = some _ := h
    cases h
  | succ n ih =>
    intro t x1 x2 r t9 h
    rw [C_X4_letters_p47] at h
    rcases ite_or h with ⟨c, h⟩ | ⟨c, h⟩
    · obtain ⟨⟨hg2a, hg2b⟩, h⟩ := ngt_some h
      obtain ⟨t1, et1, h⟩ := lt1_ex h
      refine mo.tr (t1 := t1) (mo.new et1) ?_
      exact mo_C_X4_letters_p88 h
    · rcases ite_or h with ⟨c, h⟩ | ⟨c, h⟩
      · exact mo_C_X4_letters_p72 h
      · obtain ⟨hi3, h⟩ := ck_some h
        rcases ite_or h with ⟨c, h⟩ | ⟨c, h⟩
        · obtain ⟨v4, ev4, h⟩ := lt1_ex h
          exact ih _ _ _ _ _ h
        · exact mo_C_X4_letters_p72 h
theorem mo_C_X4_letters {t : CS} {r : Except Nat Nat} {t9 : CS} (h : C_X4_letters t = some (r, t9)) : mo t t9 := by
  unfold C_X4_letters at h
  rcases ite_or h with ⟨c, h⟩ | ⟨c, h⟩
  · exact mo_C_X4_letters_p26 h
  · obtain ⟨hi1, h⟩ := ck_some h
    obtain ⟨v2, hv2, h⟩ := bd1_some h
    rcases ite_or h with ⟨c, h⟩ | ⟨c, h⟩
    · exact mo_C_X4_letters_p26 h
    · obtain ⟨v3, ev3, h⟩ := lt1_ex h
      obtain ⟨v4, ev4, h⟩ := lt1_ex h
      exact mo_C_X4_letters_p47 fu _ _ _ _ _ h
theorem mo_C_X14_init_n {t : CS} {x0 : Nat} {x1 : Int32} {x2 : Nat} {x4 : Int32} {x5 : Int32} {t9 : CS} (h : C_X14_init_n t x0 x1 x2 x4 x5 = some t9) : mo t t9 := by
  unfold C_X14_init_n at h
  obtain ⟨v1, hv1, h⟩ := bd1_some h
  obtain ⟨t2, ht2, h⟩ := bd1_some h
  refine mo.tr (t1 := t2) (mo.nn (dpf_N ht2)) ?_
  obtain ⟨t3, ht3, h⟩ := bd1_some h
  refine mo.tr (t1 := t3) (mo.nn (dpf_N ht3)) ?_
  obtain ⟨t4, ht4, h⟩ := bd1_some h
  refine mo.tr (t1 := t4) (mo.nn (dpf_N ht4)) ?_
  obtain ⟨t5, ht5, h⟩ := bd1_some h
  refine mo.tr (t1 := t5) (mo.nn (dpf_N ht5)) ?_
  obtain ⟨t6, ht6, h⟩ := bd1_some h
  refine mo.tr (t1 := t6) (mo.nn (dpf_N ht6)) ?_
  cases h; exact mo.rf
theorem mo_C_X4_sign_p38 {t : CS} {x1 : Int32} {y0 : Nat} {y1 : Nat} {y2 : Int32} {y3 : Nat} {y5 : Int32} {r : Except Nat Nat} {t9 : CS} (h : C_X4_sign_p38 t x1 y0 y1 y2 y3 y5 = some (r, t9)) : mo t t9 := by
  unfold C_X4_sign_p38 at h
  obtain ⟨t1, ht1, h⟩ := bd1_some h
  refine mo.tr (t1 := t1) (mo_C_X14_init_n ht1) ?_
  cases h; exact mo.rf
theorem mo_C_X4_sign_p25 {t : CS} {x1 : Int32} {x2 : Nat} {y0 : Nat} {r : Except Nat Nat} {t9 : CS} (h : C_X4_sign_p25 t x1 x2 y0 = some (r, t9)) : mo t t9 := by
  unfold C_X4_sign_p25 at h
  rcases bdx_some h with ⟨q3, ht1, hr_⟩ | ⟨v2, t1, ht1, h⟩
  · exact mo_C_X4_number ht1
  · refine mo.tr (t1 := t1) (mo_C_X4_number ht1) ?_
    exact mo_C_X4_sign_p38 h
theorem mo_C_X4_sign_p50 {t : CS} {x1 : Int32} {x2 : Nat} {y0 : Nat} {r : Except Nat Nat} {t9 : CS} (h : C_X4_sign_p50 t x1 x2 y0 = some (r, t9)) : mo t t9 := by
  unfold C_X4_sign_p50 at h
  obtain ⟨t1, ht1, h⟩ := bd1_some h
  refine mo.tr (t1 := t1) (mo_C_X14_init_n ht1) ?_
  cases h; exact mo.rf
theorem mo_C_X4_sign_p12 {t : CS} {x1 : Int32} {x2 : Nat} {r : Except Nat Nat} {t9 : CS} (h : C_X4_sign_p12 t x1 x2 = some (r, t9)) : mo t t9 := by
  unfold C_X4_sign_p12 at h
  rcases ite_or h with ⟨c, h⟩ | ⟨c, h⟩
  · obtain ⟨t1, ht1, h⟩ := bd1_some h
    refine mo.tr (t1 := t1) (mo_C_X4_next ht1) ?_
    obtain ⟨t2, et2, h⟩ := lt1_ex h
    refine mo.tr (t1 := t2) (mo.new et2) ?_
    exact mo_C_X4_sign_p50 h
  · obtain ⟨t3, et3, h⟩ := lt1_ex h
    refine mo.tr (t1 := t3) (mo.new et3) ?_
    exact mo_C_X4_sign_p25 h
theorem mo_C_X4_sign_p4 {t : CS} {x1 : Int32} {y0 : Nat} {r : Except Nat Nat} {t9 : CS} (h : C_X4_sign_p4 t x1 y0 = some (r, t9)) : mo t t9 := by
  unfold C_X4_sign_p4 at h
  rcases bdx_some h with ⟨q3, ht1, hr_⟩ | ⟨v2, t1, ht1, h⟩
  · exact mo_C_X4_want ht1
  · refine mo.tr (t1 := t1) (mo_C_X4_want ht1) ?_
    exact mo_C_X4_sign_p12 h
theorem mo_C_X4_sign {t : CS} {x1 : Int32} {r : Except Nat Nat} {t9 : CS} (h : C_X4_sign t x1 = some (r, t9)) : mo t t9 := by
  unfold C_X4_sign at h
  rcases bdx_some h with ⟨q3, ht1, hr_⟩ | ⟨v2, t1, ht1, h⟩
  · exact mo_C_X4_letters ht1
  · refine mo.tr (t1 := t1) (mo_C_X4_letters ht1) ?_
    exact mo_C_X4_sign_p4 h
theorem mo_J_J0_copyOf_3_p10 {t : CS} {y0 : Nat} {r : Nat} {t9 : CS} (h : J_J0_copyOf_3_p10 t y0 = some (r, t9)) : mo t t9 := by
  unfold J_J0_copyOf_3_p10 at h
  obtain ⟨v1, hv1, h⟩ := bd1_some h
  cases h; exact mo.rf
theorem mo_J_J0_copyOf_3_p17 {t : CS} {x0 : Nat} {x1 : Int32} {y0 : Nat} {r : Nat} {t9 : CS} (h : J_J0_copyOf_3_p17 t x0 x1 y0 = some (r, t9)) : mo t t9 := by
  unfold J_J0_copyOf_3_p17 at h
  obtain ⟨v1, hv1, h⟩ := bd1_some h
  obtain ⟨t2, ht2, h⟩ := bd1_some h
  refine mo.tr (t1 := t2) (mo.nn (dcI_N ht2)) ?_
  cases h; exact mo.rf
theorem mo_J_J0_copyOf_3 {t : CS} {x0 : Nat} {x1 : Int32} {r : Nat} {t9 : CS} (h : J_J0_copyOf_3 t x0 x1 = some (r, t9)) : mo t t9 := by
  unfold J_J0_copyOf_3 at h
  obtain ⟨v1, hv1, h⟩ := bd1_some h
  rcases ite_or h with ⟨c, h⟩ | ⟨c, h⟩
  · obtain ⟨v5, hv5, h⟩ := bd1_some h
    obtain ⟨t4, et4, h⟩ := lt1_ex h
    refine mo.tr (t1 := t4) (mo.new et4) ?_
    exact mo_J_J0_copyOf_3_p10 h
  · obtain ⟨⟨hg3a, hg3b⟩, h⟩ := ngt_some h
    obtain ⟨t2, et2, h⟩ := lt1_ex h
    refine mo.tr (t1 := t2) (mo.new et2) ?_
    exact mo_J_J0_copyOf_3_p17 h
theorem mo_C_X4_senses_p44 {t : CS} {y0 : Nat} {r : Except Nat Nat} {t9 : CS} (h : C_X4_senses_p44 t y0 = some (r, t9)) : mo t t9 := by
  unfold C_X4_senses_p44 at h
  obtain ⟨hw1, h⟩ := ckW_some h
  cases h; exact mo.rf
theorem mo_C_X4_senses_p85 {k9 : CS → Nat → Int32 → Int32 → Option (Except Nat Nat × CS)} (mk9 : ∀ (t : CS) (x1 : Nat) (x2 : Int32) (x3 : Int32) (r : Except Nat Nat) (t9 : CS), k9 t x1 x2 x3 = some (r, t9) → mo t t9) {t : CS} {x1 : Nat} {x2 : Int32} {x3 : Int32} {r : Except Nat Nat} {t9 : CS} (h : C_X4_senses_p85 k9 t x1 x2 x3 = some (r, t9)) : mo t t9 := by
  unfold C_X4_senses_p85 at h
  exact mk9 _ _ _ _ _ _ h
theorem mo_C_X4_senses_p76 {k9 : CS → Nat → Int32 → Int32 → Option (Except Nat Nat × CS)} (mk9 : ∀ (t : CS) (x1 : Nat) (x2 : Int32) (x3 : Int32) (r : Except Nat Nat) (t9 : CS), k9 t x1 x2 x3 = some (r, t9) → mo t t9) {t : CS} {x1 : Nat} {x2 : Int32} {y0 : Int32} {r : Except Nat Nat} {t9 : CS} (h : C_X4_senses_p76 k9 t x1 x2 y0 = some (r, t9)) : mo t t9 := by
  unfold C_X4_senses_p76 at h
  rcases ite_or h with ⟨c, h⟩ | ⟨c, h⟩
  · exact mo_C_X4_senses_p85 mk9 h
  · obtain ⟨t1, ht1, h⟩ := bd1_some h
    refine mo.tr (t1 := t1) (mo_C_X4_next ht1) ?_
    exact mo_C_X4_senses_p85 mk9 h
theorem mo_C_X4_senses_p52 {k9 : CS → Nat → Int32 → Int32 → Option (Except Nat Nat × CS)} (mk9 : ∀ (t : CS) (x1 : Nat) (x2 : Int32) (x3 : Int32) (r : Except Nat Nat) (t9 : CS), k9 t x1 x2 x3 = some (r, t9) → mo t t9) {t : CS} {x1 : Nat} {x2 : Int32} {y0 : Int32} {r : Except Nat Nat} {t9 : CS} (h : C_X4_senses_p52 k9 t x1 x2 y0 = some (r, t9)) : mo t t9 := by
  unfold C_X4_senses_p52 at h
  obtain ⟨t1, ht1, h⟩ := bd1_some h
  refine mo.tr (t1 := t1) (mo.nn (das_N ht1)) ?_
  obtain ⟨v2, ev2, h⟩ := lt1_ex h
  rcases ite_or h with ⟨c, h⟩ | ⟨c, h⟩
  · exact mo_C_X4_senses_p76 mk9 h
  · exact mo_C_X4_senses_p76 mk9 h
theorem mo_C_X4_senses_p45 {k9 : CS → Nat → Int32 → Int32 → Option (Except Nat Nat × CS)} (mk9 : ∀ (t : CS) (x1 : Nat) (x2 : Int32) (x3 : Int32) (r : Except Nat Nat) (t9 : CS), k9 t x1 x2 x3 = some (r, t9) → mo t t9) {t : CS} {x1 : Nat} {x2 : Int32} {r : Except Nat Nat} {t9 : CS} (h : C_X4_senses_p45 k9 t x1 x2 = some (r, t9)) : mo t t9 := by
  unfold C_X4_senses_p45 at h
  rcases bdx_some h with ⟨q3, ht1, hr_⟩ | ⟨v2, t1, ht1, h⟩
  · exact mo_C_X4_number ht1
  · refine mo.tr (t1 := t1) (mo_C_X4_number ht1) ?_
    exact mo_C_X4_senses_p52 mk9 h
theorem mo_C_X4_senses_p93 {t : CS} {y0 : Nat} {r : Except Nat Nat} {t9 : CS} (h : C_X4_senses_p93 t y0 = some (r, t9)) : mo t t9 := by
  unfold C_X4_senses_p93 at h
  cases h; exact mo.rf
theorem mo_C_X4_senses_p9 : ∀ (n : Nat) (t : CS) (x1 : Nat) (x2 : Int32) (x3 : Int32) (r : Except Nat Nat) (t9 : CS), C_X4_senses_p9 n t x1 x2 x3 = some (r, t9) → mo t t9 := by
  intro n
  induction n with
  | zero =>
    intro t x1 x2 x3 r t9 h
    have h : none = some _ := h
    cases h
  | succ n ih =>
    intro t x1 x2 x3 r t9 h
    rw [C_X4_senses_p9] at h
    rcases ite_or h with ⟨c, h⟩ | ⟨c, h⟩
    · obtain ⟨v2, t1, ht1, h⟩ := bd2_some h
      refine mo.tr (t1 := t1) (mo_J_J0_copyOf_3 ht1) ?_
      exact mo_C_X4_senses_p93 h
    · rcases ite_or h with ⟨c, h⟩ | ⟨c, h⟩
      · rcases ite_or h with ⟨c, h⟩ | ⟨c, h⟩
        · rcases ite_or h with ⟨c, h⟩ | ⟨c, h⟩
          · exact mo_C_X4_senses_p45 ih h
          · obtain ⟨v4, t3, ht3, h⟩ := bd2_some h
            refine mo.tr (t1 := t3) (mo_C_wrong ht3) ?_
            exact mo_C_X4_senses_p44 h
        · exact mo_C_X4_senses_p45 ih h
      · exact mo_C_X4_senses_p45 ih h
theorem mo_C_X4_senses_p4 {t : CS} {y0 : Nat} {r : Except Nat Nat} {t9 : CS} (h : C_X4_senses_p4 t y0 = some (r, t9)) : mo t t9 := by
  unfold C_X4_senses_p4 at h
  exact mo_C_X4_senses_p9 fu _ _ _ _ _ _ h
theorem mo_C_X4_senses {t : CS} {r : Except Nat Nat} {t9 : CS} (h : C_X4_senses t = some (r, t9)) : mo t t9 := by
  unfold C_X4_senses at h
  obtain ⟨⟨hg2a, hg2b⟩, h⟩ := ngt_some h
  obtain ⟨t1, et1, h⟩ := lt1_ex h
  refine mo.tr (t1 := t1) (mo.new et1) ?_
  exact mo_C_X4_senses_p4 h
theorem mo_C_X14_init_n_n {t : CS} {x0 : Nat} {x1 : Int32} {x4 : Int32} {x5 : Int32} {t9 : CS} (h : C_X14_init_n_n t x0 x1 x4 x5 = some t9) : mo t t9 := by
  unfold C_X14_init_n_n at h
  obtain ⟨v1, hv1, h⟩ := bd1_some h
  obtain ⟨t2, ht2, h⟩ := bd1_some h
  refine mo.tr (t1 := t2) (mo.nn (dpf_N ht2)) ?_
  obtain ⟨t3, ht3, h⟩ := bd1_some h
  refine mo.tr (t1 := t3) (mo.nn (dpf_N ht3)) ?_
  obtain ⟨t4, ht4, h⟩ := bd1_some h
  refine mo.tr (t1 := t4) (mo.nn (dpf_N ht4)) ?_
  obtain ⟨t5, ht5, h⟩ := bd1_some h
  refine mo.tr (t1 := t5) (mo.nn (dpf_N ht5)) ?_
  obtain ⟨t6, ht6, h⟩ := bd1_some h
  refine mo.tr (t1 := t6) (mo.nn (dpf_N ht6)) ?_
  cases h; exact mo.rf
theorem mo_C_X4_behind_p11 {t : CS} {y0 : Int32} {r : Except Nat Int32} {t9 : CS} (h : C_X4_behind_p11 t y0 = some (r, t9)) : mo t t9 := by
  unfold C_X4_behind_p11 at h
  cases h; exact mo.rf
theorem mo_C_X4_behind_p5 {t : CS} {x2 : Int32} {x3 : Int32} {r : Except Nat Int32} {t9 : CS} (h : C_X4_behind_p5 t x2 x3 = some (r, t9)) : mo t t9 := by
  unfold C_X4_behind_p5 at h
  rcases bdx_some h with ⟨q3, ht1, hr_⟩ | ⟨v2, t1, ht1, h⟩
  · exact mo_C_X4_number ht1
  · refine mo.tr (t1 := t1) (mo_C_X4_number ht1) ?_
    exact mo_C_X4_behind_p11 h
theorem mo_C_X4_behind {t : CS} {x1 : Int32} {x2 : Int32} {x3 : Int32} {r : Except Nat Int32} {t9 : CS} (h : C_X4_behind t x1 x2 x3 = some (r, t9)) : mo t t9 := by
  unfold C_X4_behind at h
  rcases bdx_some h with ⟨q3, ht1, hr_⟩ | ⟨v2, t1, ht1, h⟩
  · exact mo_C_X4_want ht1
  · refine mo.tr (t1 := t1) (mo_C_X4_want ht1) ?_
    exact mo_C_X4_behind_p5 h
theorem mo_C_X14_init {t : CS} {x0 : Nat} {x1 : Int32} {x2 : Nat} {x3 : Nat} {x4 : Int32} {x5 : Int32} {t9 : CS} (h : C_X14_init t x0 x1 x2 x3 x4 x5 = some t9) : mo t t9 := by
  unfold C_X14_init at h
  obtain ⟨v1, hv1, h⟩ := bd1_some h
  obtain ⟨t2, ht2, h⟩ := bd1_some h
  refine mo.tr (t1 := t2) (mo.nn (dpf_N ht2)) ?_
  obtain ⟨t3, ht3, h⟩ := bd1_some h
  refine mo.tr (t1 := t3) (mo.nn (dpf_N ht3)) ?_
  obtain ⟨t4, ht4, h⟩ := bd1_some h
  refine mo.tr (t1 := t4) (mo.nn (dpf_N ht4)) ?_
  obtain ⟨t5, ht5, h⟩ := bd1_some h
  refine mo.tr (t1 := t5) (mo.nn (dpf_N ht5)) ?_
  obtain ⟨t6, ht6, h⟩ := bd1_some h
  refine mo.tr (t1 := t6) (mo.nn (dpf_N ht6)) ?_
  cases h; exact mo.rf
theorem mo_C_X4_doing_p77 {t : CS} {x1 : Int32} {y0 : Nat} {y1 : Nat} {y2 : Int32} {y3 : Nat} {y5 : Int32} {r : Except Nat Nat} {t9 : CS} (h : C_X4_doing_p77 t x1 y0 y1 y2 y3 y5 = some (r, t9)) : mo t t9 := by
  unfold C_X4_doing_p77 at h
  obtain ⟨t1, ht1, h⟩ := bd1_some h
  refine mo.tr (t1 := t1) (mo_C_X14_init_n ht1) ?_
  cases h; exact mo.rf
theorem mo_C_X4_doing_p60 {t : CS} {x1 : Int32} {x2 : Nat} {y0 : Nat} {r : Except Nat Nat} {t9 : CS} (h : C_X4_doing_p60 t x1 x2 y0 = some (r, t9)) : mo t t9 := by
  unfold C_X4_doing_p60 at h
  rcases bdx_some h with ⟨q3, ht1, hr_⟩ | ⟨v2, t1, ht1, h⟩
  · exact mo_C_X4_behind ht1
  · refine mo.tr (t1 := t1) (mo_C_X4_behind ht1) ?_
    exact mo_C_X4_doing_p77 h
theorem mo_C_X4_doing_p56 {t : CS} {x1 : Int32} {y0 : Nat} {r : Except Nat Nat} {t9 : CS} (h : C_X4_doing_p56 t x1 y0 = some (r, t9)) : mo t t9 := by
  unfold C_X4_doing_p56 at h
  obtain ⟨t1, et1, h⟩ := lt1_ex h
  refine mo.tr (t1 := t1) (mo.new et1) ?_
  exact mo_C_X4_doing_p60 h
theorem mo_C_X4_doing_p94 {t : CS} {x1 : Int32} {y0 : Nat} {y1 : Nat} {y2 : Int32} {y3 : Nat} {r : Except Nat Nat} {t9 : CS} (h : C_X4_doing_p94 t x1 y0 y1 y2 y3 = some (r, t9)) : mo t t9 := by
  unfold C_X4_doing_p94 at h
  obtain ⟨t1, ht1, h⟩ := bd1_some h
  refine mo.tr (t1 := t1) (mo_C_X14_init_n ht1) ?_
  cases h; exact mo.rf
theorem mo_C_X4_doing_p85 {t : CS} {x1 : Int32} {y0 : Nat} {r : Except Nat Nat} {t9 : CS} (h : C_X4_doing_p85 t x1 y0 = some (r, t9)) : mo t t9 := by
  unfold C_X4_doing_p85 at h
  rcases bdx_some h with ⟨q3, ht1, hr_⟩ | ⟨v2, t1, ht1, h⟩
  · exact mo_C_X4_senses ht1
  · refine mo.tr (t1 := t1) (mo_C_X4_senses ht1) ?_
    exact mo_C_X4_doing_p94 h
theorem mo_C_X4_doing_p126 {t : CS} {x1 : Int32} {y0 : Nat} {y1 : Nat} {y2 : Int32} {y3 : Nat} {y4 : Nat} {r : Except Nat Nat} {t9 : CS} (h : C_X4_doing_p126 t x1 y0 y1 y2 y3 y4 = some (r, t9)) : mo t t9 := by
  unfold C_X4_doing_p126 at h
  obtain ⟨t1, ht1, h⟩ := bd1_some h
  refine mo.tr (t1 := t1) (mo_C_X14_init ht1) ?_
  cases h; exact mo.rf
theorem mo_C_X4_doing_p116 {t : CS} {x1 : Int32} {x2 : Nat} {y0 : Nat} {r : Except Nat Nat} {t9 : CS} (h : C_X4_doing_p116 t x1 x2 y0 = some (r, t9)) : mo t t9 := by
  unfold C_X4_doing_p116 at h
  rcases bdx_some h with ⟨q3, ht1, hr_⟩ | ⟨v2, t1, ht1, h⟩
  · exact mo_C_X4_letters ht1
  · refine mo.tr (t1 := t1) (mo_C_X4_letters ht1) ?_
    exact mo_C_X4_doing_p126 h
theorem mo_C_X4_doing_p113 {t : CS} {x1 : Int32} {x2 : Nat} {r : Except Nat Nat} {t9 : CS} (h : C_X4_doing_p113 t x1 x2 = some (r, t9)) : mo t t9 := by
  unfold C_X4_doing_p113 at h
  obtain ⟨t1, et1, h⟩ := lt1_ex h
  refine mo.tr (t1 := t1) (mo.new et1) ?_
  exact mo_C_X4_doing_p116 h
theorem mo_C_X4_doing_p105 {t : CS} {x1 : Int32} {y0 : Nat} {r : Except Nat Nat} {t9 : CS} (h : C_X4_doing_p105 t x1 y0 = some (r, t9)) : mo t t9 := by
  unfold C_X4_doing_p105 at h
  rcases bdx_some h with ⟨q3, ht1, hr_⟩ | ⟨v2, t1, ht1, h⟩
  · exact mo_C_X4_want ht1
  · refine mo.tr (t1 := t1) (mo_C_X4_want ht1) ?_
    exact mo_C_X4_doing_p113 h
theorem mo_C_X4_doing_p144 {t : CS} {x1 : Int32} {y0 : Nat} {y1 : Nat} {y2 : Int32} {y3 : Nat} {r : Except Nat Nat} {t9 : CS} (h : C_X4_doing_p144 t x1 y0 y1 y2 y3 = some (r, t9)) : mo t t9 := by
  unfold C_X4_doing_p144 at h
  obtain ⟨t1, ht1, h⟩ := bd1_some h
  refine mo.tr (t1 := t1) (mo_C_X14_init_n ht1) ?_
  cases h; exact mo.rf
theorem mo_C_X4_doing_p135 {t : CS} {x1 : Int32} {y0 : Nat} {r : Except Nat Nat} {t9 : CS} (h : C_X4_doing_p135 t x1 y0 = some (r, t9)) : mo t t9 := by
  unfold C_X4_doing_p135 at h
  rcases bdx_some h with ⟨q3, ht1, hr_⟩ | ⟨v2, t1, ht1, h⟩
  · exact mo_C_X4_letters ht1
  · refine mo.tr (t1 := t1) (mo_C_X4_letters ht1) ?_
    exact mo_C_X4_doing_p144 h
theorem mo_C_X4_doing_p176 {t : CS} {x1 : Int32} {y0 : Nat} {y1 : Nat} {y2 : Int32} {y3 : Nat} {y5 : Int32} {r : Except Nat Nat} {t9 : CS} (h : C_X4_doing_p176 t x1 y0 y1 y2 y3 y5 = some (r, t9)) : mo t t9 := by
  unfold C_X4_doing_p176 at h
  obtain ⟨t1, ht1, h⟩ := bd1_some h
  refine mo.tr (t1 := t1) (mo_C_X14_init_n ht1) ?_
  cases h; exact mo.rf
theorem mo_C_X4_doing_p159 {t : CS} {x1 : Int32} {x2 : Nat} {y0 : Nat} {r : Except Nat Nat} {t9 : CS} (h : C_X4_doing_p159 t x1 x2 y0 = some (r, t9)) : mo t t9 := by
  unfold C_X4_doing_p159 at h
  rcases bdx_some h with ⟨q3, ht1, hr_⟩ | ⟨v2, t1, ht1, h⟩
  · exact mo_C_X4_behind ht1
  · refine mo.tr (t1 := t1) (mo_C_X4_behind ht1) ?_
    exact mo_C_X4_doing_p176 h
theorem mo_C_X4_doing_p155 {t : CS} {x1 : Int32} {y0 : Nat} {r : Except Nat Nat} {t9 : CS} (h : C_X4_doing_p155 t x1 y0 = some (r, t9)) : mo t t9 := by
  unfold C_X4_doing_p155 at h
  obtain ⟨t1, et1, h⟩ := lt1_ex h
  refine mo.tr (t1 := t1) (mo.new et1) ?_
  exact mo_C_X4_doing_p159 h
theorem mo_C_X4_doing_p186 {t : CS} {y0 : Nat} {r : Except Nat Nat} {t9 : CS} (h : C_X4_doing_p186 t y0 = some (r, t9)) : mo t t9 := by
  unfold C_X4_doing_p186 at h
  cases h; exact mo.rf
theorem mo_C_X4_doing_p204 {t : CS} {x1 : Int32} {y0 : Nat} {y1 : Nat} {y2 : Int32} {y5 : Int32} {r : Except Nat Nat} {t9 : CS} (h : C_X4_doing_p204 t x1 y0 y1 y2 y5 = some (r, t9)) : mo t t9 := by
  unfold C_X4_doing_p204 at h
  obtain ⟨t1, ht1, h⟩ := bd1_some h
  refine mo.tr (t1 := t1) (mo_C_X14_init_n_n ht1) ?_
  cases h; exact mo.rf
theorem mo_C_X4_doing_p190 {t : CS} {x1 : Int32} {y0 : Nat} {r : Except Nat Nat} {t9 : CS} (h : C_X4_doing_p190 t x1 y0 = some (r, t9)) : mo t t9 := by
  unfold C_X4_doing_p190 at h
  rcases bdx_some h with ⟨q3, ht1, hr_⟩ | ⟨v2, t1, ht1, h⟩
  · exact mo_C_X4_number ht1
  · refine mo.tr (t1 := t1) (mo_C_X4_number ht1) ?_
    exact mo_C_X4_doing_p204 h
theorem mo_C_X4_doing_p226 {t : CS} {x1 : Int32} {y0 : Nat} {y1 : Nat} {y2 : Int32} {y5 : Int32} {r : Except Nat Nat} {t9 : CS} (h : C_X4_doing_p226 t x1 y0 y1 y2 y5 = some (r, t9)) : mo t t9 := by
  unfold C_X4_doing_p226 at h
  obtain ⟨t1, ht1, h⟩ := bd1_some h
  refine mo.tr (t1 := t1) (mo_C_X14_init_n_n ht1) ?_
  cases h; exact mo.rf
theorem mo_C_X4_doing_p212 {t : CS} {x1 : Int32} {y0 : Nat} {r : Except Nat Nat} {t9 : CS} (h : C_X4_doing_p212 t x1 y0 = some (r, t9)) : mo t t9 := by
  unfold C_X4_doing_p212 at h
  rcases bdx_some h with ⟨q3, ht1, hr_⟩ | ⟨v2, t1, ht1, h⟩
  · exact mo_C_X4_number ht1
  · refine mo.tr (t1 := t1) (mo_C_X4_number ht1) ?_
    exact mo_C_X4_doing_p226 h
theorem mo_C_X4_doing {t : CS} {x1 : Int32} {r : Except Nat Nat} {t9 : CS} (h : C_X4_doing t x1 = some (r, t9)) : mo t t9 := by
  unfold C_X4_doing at h
  obtain ⟨v1, ev1, h⟩ := lt1_ex h
  rcases ite_or h with ⟨c, h⟩ | ⟨c, h⟩
  · rcases bdx_some h with ⟨q4, ht2, hr_⟩ | ⟨v3, t2, ht2, h⟩
    · exact mo_C_X4_letters ht2
    · refine mo.tr (t1 := t2) (mo_C_X4_letters ht2) ?_
      exact mo_C_X4_doing_p56 h
  rcases ite_or h with ⟨c, h⟩ | ⟨c, h⟩
  · obtain ⟨t5, et5, h⟩ := lt1_ex h
    refine mo.tr (t1 := t5) (mo.new et5) ?_
    exact mo_C_X4_doing_p85 h
  rcases ite_or h with ⟨c, h⟩ | ⟨c, h⟩
  · rcases bdx_some h with ⟨q8, ht6, hr_⟩ | ⟨v7, t6, ht6, h⟩
    · exact mo_C_X4_letters ht6
    · refine mo.tr (t1 := t6) (mo_C_X4_letters ht6) ?_
      exact mo_C_X4_doing_p105 h
  rcases ite_or h with ⟨c, h⟩ | ⟨c, h⟩
  · obtain ⟨t10, et10, h⟩ := lt1_ex h
    refine mo.tr (t1 := t10) (mo.new et10) ?_
    exact mo_C_X4_doing_p135 h
  rcases ite_or h with ⟨c, h⟩ | ⟨c, h⟩
  · obtain ⟨t11, et11, h⟩ := lt1_ex h
    refine mo.tr (t1 := t11) (mo.new et11) ?_
    exact mo_C_X4_doing_p135 h
  rcases ite_or h with ⟨c, h⟩ | ⟨c, h⟩
  · rcases bdx_some h with ⟨q14, ht12, hr_⟩ | ⟨v13, t12, ht12, h⟩
    · exact mo_C_X4_letters ht12
    · refine mo.tr (t1 := t12) (mo_C_X4_letters ht12) ?_
      exact mo_C_X4_doing_p155 h
  rcases ite_or h with ⟨c, h⟩ | ⟨c, h⟩
  · rcases bdx_some h with ⟨q17, ht15, hr_⟩ | ⟨v16, t15, ht15, h⟩
    · exact mo_C_X4_sign ht15
    · refine mo.tr (t1 := t15) (mo_C_X4_sign ht15) ?_
      exact mo_C_X4_doing_p186 h
  rcases ite_or h with ⟨c, h⟩ | ⟨c, h⟩
  · obtain ⟨t18, et18, h⟩ := lt1_ex h
    refine mo.tr (t1 := t18) (mo.new et18) ?_
    exact mo_C_X4_doing_p190 h
  obtain ⟨t19, et19, h⟩ := lt1_ex h
  refine mo.tr (t1 := t19) (mo.new et19) ?_
  exact mo_C_X4_doing_p212 h
theorem mo_C_X4_clause_p41 {t : CS} {y0 : Nat} {y1 : Nat} {r : Except Nat Unit} {t9 : CS} (h : C_X4_clause_p41 t y0 y1 = some (r, t9)) : mo t t9 := by
  unfold C_X4_clause_p41 at h
  obtain ⟨t1, ht1, h⟩ := bd1_some h
  refine mo.tr (t1 := t1) (mo.nn (dpf_N ht1)) ?_
  cases h; exact mo.rf
theorem mo_C_X4_clause_p52 {t : CS} {y0 : Nat} {y1 : Nat} {r : Except Nat Unit} {t9 : CS} (h : C_X4_clause_p52 t y0 y1 = some (r, t9)) : mo t t9 := by
  unfold C_X4_clause_p52 at h
  obtain ⟨t1, ht1, h⟩ := bd1_some h
  refine mo.tr (t1 := t1) (mo.nn (dpf_N ht1)) ?_
  cases h; exact mo.rf
theorem mo_C_X4_clause_p63 {t : CS} {y0 : Nat} {y1 : Nat} {r : Except Nat Unit} {t9 : CS} (h : C_X4_clause_p63 t y0 y1 = some (r, t9)) : mo t t9 := by
  unfold C_X4_clause_p63 at h
  obtain ⟨t1, ht1, h⟩ := bd1_some h
  refine mo.tr (t1 := t1) (mo.nn (dpf_N ht1)) ?_
  cases h; exact mo.rf
theorem mo_C_X4_clause_p74 {t : CS} {y0 : Nat} {y1 : Nat} {r : Except Nat Unit} {t9 : CS} (h : C_X4_clause_p74 t y0 y1 = some (r, t9)) : mo t t9 := by
  unfold C_X4_clause_p74 at h
  obtain ⟨t1, ht1, h⟩ := bd1_some h
  refine mo.tr (t1 := t1) (mo.nn (dpf_N ht1)) ?_
  cases h; exact mo.rf
theorem mo_C_X4_clause_p95 {t : CS} {y0 : Int32} {r : Except Nat Unit} {t9 : CS} (h : C_X4_clause_p95 t y0 = some (r, t9)) : mo t t9 := by
  unfold C_X4_clause_p95 at h
  cases h; exact mo.rf
theorem mo_C_X4_clause_p92 {t : CS} {y0 : Nat} {y1 : Nat} {r : Except Nat Unit} {t9 : CS} (h : C_X4_clause_p92 t y0 y1 = some (r, t9)) : mo t t9 := by
  unfold C_X4_clause_p92 at h
  obtain ⟨hc1, h⟩ := ckC_some h
  obtain ⟨v3, t2, ht2, h⟩ := bd2_some h
  refine mo.tr (t1 := t2) (mo_J_J9_add ht2) ?_
  exact mo_C_X4_clause_p95 h
theorem mo_C_X4_clause {t : CS} {x1 : Nat} {r : Except Nat Unit} {t9 : CS} (h : C_X4_clause t x1 = some (r, t9)) : mo t t9 := by
  unfold C_X4_clause at h
  obtain ⟨v1, ev1, h⟩ := lt1_ex h
  rcases ite_or h with ⟨c, h⟩ | ⟨c, h⟩
  · rcases bdx_some h with ⟨q4, ht2, hr_⟩ | ⟨v3, t2, ht2, h⟩
    · exact mo_C_X4_either ht2
    · refine mo.tr (t1 := t2) (mo_C_X4_either ht2) ?_
      exact mo_C_X4_clause_p41 h
  rcases ite_or h with ⟨c, h⟩ | ⟨c, h⟩
  · rcases bdx_some h with ⟨q7, ht5, hr_⟩ | ⟨v6, t5, ht5, h⟩
    · exact mo_C_X4_either ht5
    · refine mo.tr (t1 := t5) (mo_C_X4_either ht5) ?_
      exact mo_C_X4_clause_p52 h
  rcases ite_or h with ⟨c, h⟩ | ⟨c, h⟩
  · rcases bdx_some h with ⟨q10, ht8, hr_⟩ | ⟨v9, t8, ht8, h⟩
    · exact mo_C_X4_sum (mo_C_X4_one 64) ht8
    · refine mo.tr (t1 := t8) (mo_C_X4_sum (mo_C_X4_one 64) ht8) ?_
      exact mo_C_X4_clause_p63 h
  rcases ite_or h with ⟨c, h⟩ | ⟨c, h⟩
  · rcases bdx_some h with ⟨q13, ht11, hr_⟩ | ⟨v12, t11, ht11, h⟩
    · exact mo_C_X4_either ht11
    · refine mo.tr (t1 := t11) (mo_C_X4_either ht11) ?_
      exact mo_C_X4_clause_p74 h
  obtain ⟨v14, hv14, h⟩ := bd1_some h
  obtain ⟨v15, hv15, h⟩ := bd1_some h
  rcases bdx_some h with ⟨q18, ht16, hr_⟩ | ⟨v17, t16, ht16, h⟩
  · exact mo_C_X4_doing ht16
  · refine mo.tr (t1 := t16) (mo_C_X4_doing ht16) ?_
    exact mo_C_X4_clause_p92 h
theorem mo_C_X4_read_p47 {t : CS} {y0 : Nat} {r : Except Nat Nat} {t9 : CS} (h : C_X4_read_p47 t y0 = some (r, t9)) : mo t t9 := by
  unfold C_X4_read_p47 at h
  obtain ⟨hw1, h⟩ := ckW_some h
  cases h; exact mo.rf
theorem mo_C_X4_read_p42 {t : CS} {r : Except Nat Nat} {t9 : CS} (h : C_X4_read_p42 t = some (r, t9)) : mo t t9 := by
  unfold C_X4_read_p42 at h
  obtain ⟨v2, t1, ht1, h⟩ := bd2_some h
  refine mo.tr (t1 := t1) (mo_C_wrong ht1) ?_
  exact mo_C_X4_read_p47 h
theorem mo_C_X4_read_p129 {t : CS} {y0 : Nat} {r : Except Nat Nat} {t9 : CS} (h : C_X4_read_p129 t y0 = some (r, t9)) : mo t t9 := by
  unfold C_X4_read_p129 at h
  obtain ⟨hw1, h⟩ := ckW_some h
  cases h; exact mo.rf
theorem mo_C_X4_read_p124 {t : CS} {r : Except Nat Nat} {t9 : CS} (h : C_X4_read_p124 t = some (r, t9)) : mo t t9 := by
  unfold C_X4_read_p124 at h
  obtain ⟨v2, t1, ht1, h⟩ := bd2_some h
  refine mo.tr (t1 := t1) (mo_C_wrong ht1) ?_
  exact mo_C_X4_read_p129 h
theorem mo_C_X4_read_p145 {t : CS} {y0 : Nat} {r : Except Nat Nat} {t9 : CS} (h : C_X4_read_p145 t y0 = some (r, t9)) : mo t t9 := by
  unfold C_X4_read_p145 at h
  obtain ⟨hw1, h⟩ := ckW_some h
  cases h; exact mo.rf
theorem mo_C_X4_read_p161 {k12 : CS → Nat → Option (Except Nat Nat × CS)} (mk12 : ∀ (t : CS) (x1 : Nat) (r : Except Nat Nat) (t9 : CS), k12 t x1 = some (r, t9) → mo t t9) {t : CS} {x1 : Nat} {r : Except Nat Nat} {t9 : CS} (h : C_X4_read_p161 k12 t x1 = some (r, t9)) : mo t t9 := by
  unfold C_X4_read_p161 at h
  obtain ⟨v1, hv1, h⟩ := bd1_some h
  obtain ⟨t2, ht2, h⟩ := bd1_some h
  refine mo.tr (t1 := t2) (mo.nn (dpf_N ht2)) ?_
  exact mk12 _ _ _ _ h
theorem mo_C_X4_read_p155 {k12 : CS → Nat → Option (Except Nat Nat × CS)} (mk12 : ∀ (t : CS) (x1 : Nat) (r : Except Nat Nat) (t9 : CS), k12 t x1 = some (r, t9) → mo t t9) {t : CS} {x1 : Nat} {r : Except Nat Nat} {t9 : CS} (h : C_X4_read_p155 k12 t x1 = some (r, t9)) : mo t t9 := by
  unfold C_X4_read_p155 at h
  rcases bdx_some h with ⟨q3, ht1, hr_⟩ | ⟨v2, t1, ht1, h⟩
  · exact mo_C_X4_want ht1
  · refine mo.tr (t1 := t1) (mo_C_X4_want ht1) ?_
    exact mo_C_X4_read_p161 mk12 h
theorem mo_C_X4_read_p130 {k12 : CS → Nat → Option (Except Nat Nat × CS)} (mk12 : ∀ (t : CS) (x1 : Nat) (r : Except Nat Nat) (t9 : CS), k12 t x1 = some (r, t9) → mo t t9) {t : CS} {x1 : Nat} {r : Except Nat Nat} {t9 : CS} (h : C_X4_read_p130 k12 t x1 = some (r, t9)) : mo t t9 := by
  unfold C_X4_read_p130 at h
  obtain ⟨v1, hv1, h⟩ := bd1_some h
  rcases ite_or h with ⟨c, h⟩ | ⟨c, h⟩
  · obtain ⟨v7, t6, ht6, h⟩ := bd2_some h
    refine mo.tr (t1 := t6) (mo_C_wrong ht6) ?_
    exact mo_C_X4_read_p145 h
  · obtain ⟨t2, ht2, h⟩ := bd1_some h
    refine mo.tr (t1 := t2) (mo_C_X4_next ht2) ?_
    rcases bdx_some h with ⟨q5, ht3, hr_⟩ | ⟨v4, t3, ht3, h⟩
    · exact mo_C_X4_clause ht3
    · refine mo.tr (t1 := t3) (mo_C_X4_clause ht3) ?_
      exact mo_C_X4_read_p155 mk12 h
theorem mo_C_X4_read_p107 {k12 : CS → Nat → Option (Except Nat Nat × CS)} (mk12 : ∀ (t : CS) (x1 : Nat) (r : Except Nat Nat) (t9 : CS), k12 t x1 = some (r, t9) → mo t t9) {t : CS} {x1 : Nat} {r : Except Nat Nat} {t9 : CS} (h : C_X4_read_p107 k12 t x1 = some (r, t9)) : mo t t9 := by
  unfold C_X4_read_p107 at h
  rcases ite_or h with ⟨c, h⟩ | ⟨c, h⟩
  · obtain ⟨v1, hv1, h⟩ := bd1_some h
    rcases on1_some h with ⟨ho, h⟩ | ⟨r2, ho, h⟩
    · exact mo_C_X4_read_p130 mk12 h
    · exact mo_C_X4_read_p124 h
  · exact mo_C_X4_read_p130 mk12 h
theorem mo_C_X4_read_p90 {k12 : CS → Nat → Option (Except Nat Nat × CS)} (mk12 : ∀ (t : CS) (x1 : Nat) (r : Except Nat Nat) (t9 : CS), k12 t x1 = some (r, t9) → mo t t9) {t : CS} {x1 : Nat} {r : Except Nat Nat} {t9 : CS} (h : C_X4_read_p90 k12 t x1 = some (r, t9)) : mo t t9 := by
  unfold C_X4_read_p90 at h
  rcases ite_or h with ⟨c, h⟩ | ⟨c, h⟩
  · obtain ⟨v1, hv1, h⟩ := bd1_some h
    rcases on1_some h with ⟨ho, h⟩ | ⟨r2, ho, h⟩
    · exact mo_C_X4_read_p107 mk12 h
    · exact mo_C_X4_read_p124 h
  · exact mo_C_X4_read_p107 mk12 h
theorem mo_C_X4_read_p73 {k12 : CS → Nat → Option (Except Nat Nat × CS)} (mk12 : ∀ (t : CS) (x1 : Nat) (r : Except Nat Nat) (t9 : CS), k12 t x1 = some (r, t9) → mo t t9) {t : CS} {x1 : Nat} {r : Except Nat Nat} {t9 : CS} (h : C_X4_read_p73 k12 t x1 = some (r, t9)) : mo t t9 := by
  unfold C_X4_read_p73 at h
  rcases ite_or h with ⟨c, h⟩ | ⟨c, h⟩
  · obtain ⟨v1, hv1, h⟩ := bd1_some h
    rcases on1_some h with ⟨ho, h⟩ | ⟨r2, ho, h⟩
    · exact mo_C_X4_read_p90 mk12 h
    · exact mo_C_X4_read_p124 h
  · exact mo_C_X4_read_p90 mk12 h
theorem mo_C_X4_read_p12 : ∀ (n : Nat) (t : CS) (x1 : Nat) (r : Except Nat Nat) (t9 : CS), C_X4_read_p12 n t x1 = some (r, t9) → mo t t9 := by
  intro n
  induction n with
  | zero =>
    intro t x1 r t9 h
    have h : none = some _ := h
    cases h
  | succ n ih =>
    intro t x1 r t9 h
    rw [C_X4_read_p12] at h
    rcases ite_or h with ⟨c, h⟩ | ⟨c, h⟩
    · cases h; exact mo.rf
    · rcases ite_or h with ⟨c, h⟩ | ⟨c, h⟩
      · exact mo_C_X4_read_p42 h
      · rcases ite_or h with ⟨c, h⟩ | ⟨c, h⟩
        · obtain ⟨t1, et1, h⟩ := lt1_ex h
          refine mo.tr (t1 := t1) (mo.nn (by rw [et1]; rfl)) ?_
          rcases ite_or h with ⟨c, h⟩ | ⟨c, h⟩
          · obtain ⟨v2, hv2, h⟩ := bd1_some h
            rcases on1_some h with ⟨ho, h⟩ | ⟨r3, ho, h⟩
            · exact mo_C_X4_read_p73 ih h
            · exact mo_C_X4_read_p124 h
          · exact mo_C_X4_read_p73 ih h
        · exact mo_C_X4_read_p42 h
theorem mo_C_X4_read_p7 {t : CS} {y0 : Nat} {r : Except Nat Nat} {t9 : CS} (h : C_X4_read_p7 t y0 = some (r, t9)) : mo t t9 := by
  unfold C_X4_read_p7 at h
  obtain ⟨t1, ht1, h⟩ := bd1_some h
  refine mo.tr (t1 := t1) (mo_C_X4_next ht1) ?_
  exact mo_C_X4_read_p12 fu _ _ _ _ h
theorem mo_C_X4_read_p3 {t : CS} {y0 : Nat} {r : Except Nat Nat} {t9 : CS} (h : C_X4_read_p3 t y0 = some (r, t9)) : mo t t9 := by
  unfold C_X4_read_p3 at h
  obtain ⟨t1, ht1, h⟩ := bd1_some h
  refine mo.tr (t1 := t1) (mo_C_X5_init ht1) ?_
  exact mo_C_X4_read_p7 h
theorem mo_C_X4_read {t : CS} {r : Except Nat Nat} {t9 : CS} (h : C_X4_read t = some (r, t9)) : mo t t9 := by
  unfold C_X4_read at h
  obtain ⟨t1, et1, h⟩ := lt1_ex h
  refine mo.tr (t1 := t1) (mo.new et1) ?_
  exact mo_C_X4_read_p3 h
