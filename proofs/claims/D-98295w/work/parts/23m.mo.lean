/-! the numbers of cells only grow (written by gen/gen_comp.py) -/
set_option maxRecDepth 20000
theorem mo_C_tie {t : CS} {x1 : Int32} {x2 : Int32} {r : Int32} {t9 : CS} (h : C_tie t x1 x2 = some (r, t9)) : mo t t9 := by
  unfold C_tie at h
  obtain ⟨v1, hv1, h⟩ := bd1_some h
  rcases ite_or h with ⟨c, h⟩ | ⟨c, h⟩
  · cases h; exact mo.rf
  · obtain ⟨v2, hv2, h⟩ := bd1_some h
    rcases ite_or h with ⟨c, h⟩ | ⟨c, h⟩
    · cases h; exact mo.rf
    · rcases ite_or h with ⟨c, h⟩ | ⟨c, h⟩
      · cases h; exact mo.rf
      · obtain ⟨hi3, h⟩ := ck_some h
        obtain ⟨v4, hv4, h⟩ := bd1_some h
        rcases ite_or h with ⟨c, h⟩ | ⟨c, h⟩
        · obtain ⟨hi5, h⟩ := ck_some h
          obtain ⟨hi6, h⟩ := ck_some h
          obtain ⟨t7, et7, h⟩ := lt1_ex h
          refine mo.tr (t1 := t7) (mo.nn (by rw [et7]; rfl)) ?_
          cases h; exact mo.rf
        · cases h; exact mo.rf
theorem mo_C_X3_init {t : CS} {x0 : Nat} {x1 : Nat} {x2 : Int32} {x3 : Int32} {t9 : CS} (h : C_X3_init t x0 x1 x2 x3 = some t9) : mo t t9 := by
  unfold C_X3_init at h
  obtain ⟨v1, hv1, h⟩ := bd1_some h
  obtain ⟨t2, ht2, h⟩ := bd1_some h
  refine mo.tr (t1 := t2) (mo.nn (dpf_N ht2)) ?_
  obtain ⟨t3, ht3, h⟩ := bd1_some h
  refine mo.tr (t1 := t3) (mo.nn (dpf_N ht3)) ?_
  obtain ⟨t4, ht4, h⟩ := bd1_some h
  refine mo.tr (t1 := t4) (mo.nn (dpf_N ht4)) ?_
  cases h; exact mo.rf
theorem mo_C_adds_p120 {t : CS} {x1 : Nat} {x2 : Int32} {x3 : Int32} {y1 : Int32} {y2 : Nat} {r : Int32} {t9 : CS} (h : C_adds_p120 t x1 x2 x3 y1 y2 = some (r, t9)) : mo t t9 := by
  unfold C_adds_p120 at h
  obtain ⟨t1, ht1, h⟩ := bd1_some h
  refine mo.tr (t1 := t1) (mo_C_X3_init ht1) ?_
  obtain ⟨hi2, h⟩ := ck_some h
  obtain ⟨hc3, h⟩ := ckC_some h
  obtain ⟨t4, et4, h⟩ := lt1_ex h
  refine mo.tr (t1 := t4) (mo.nn (by rw [et4]; rfl)) ?_
  obtain ⟨hi5, h⟩ := ck_some h
  obtain ⟨hi6, h⟩ := ck_some h
  obtain ⟨t7, et7, h⟩ := lt1_ex h
  refine mo.tr (t1 := t7) (mo.nn (by rw [et7]; rfl)) ?_
  obtain ⟨hi8, h⟩ := ck_some h
  cases h; exact mo.rf
theorem mo_C_adds_p59 : ∀ (n : Nat) (t : CS) (x1 : Nat) (x2 : Int32) (x3 : Int32) (x4 : Int32) (r : Int32) (t9 : CS), C_adds_p59 n t x1 x2 x3 x4 = some (r, t9) → mo t t9 := by
  intro n
  induction n with
  | zero =>
    intro t x1 x2 x3 x4 r t9 h
    have h : none = some _ := h
    cases h
  | succ n ih =>
    intro t x1 x2 x3 x4 r t9 h
    rw [C_adds_p59] at h
    obtain ⟨hi1, h⟩ := ck_some h
    rcases ite_or h with ⟨c, h⟩ | ⟨c, h⟩
    · obtain ⟨hi2, h⟩ := ck_some h
      obtain ⟨t3, et3, h⟩ := lt1_ex h
      refine mo.tr (t1 := t3) (mo.new et3) ?_
      exact mo_C_adds_p120 h
    · obtain ⟨hi4, h⟩ := ck_some h
      obtain ⟨r5, hr5, h⟩ := bd1_some h
      obtain ⟨hc6, h⟩ := ckC_some h
      obtain ⟨v7, hv7, h⟩ := bd1_some h
      obtain ⟨v8, hv8, h⟩ := bd1_some h
      rcases ite_or h with ⟨c, h⟩ | ⟨c, h⟩
      · obtain ⟨v9, ev9, h⟩ := lt1_ex h
        exact ih _ _ _ _ _ _ _ h
      · cases h; exact mo.rf
theorem mo_C_adds_p29 : ∀ (n : Nat) (t : CS) (x1 : Nat) (x2 : Int32) (x3 : Int32) (x4 : Nat) (x5 : Int32) (x6 : Int32) (r : Int32) (t9 : CS), C_adds_p29 n t x1 x2 x3 x4 x5 x6 = some (r, t9) → mo t t9 := by
  intro n
  induction n with
  | zero =>
    intro t x1 x2 x3 x4 x5 x6 r t9 h
    have h : none = some _ := h
    cases h
  | succ n ih =>
    intro t x1 x2 x3 x4 x5 x6 r t9 h
    rw [C_adds_p29] at h
    rcases ite_or h with ⟨c, h⟩ | ⟨c, h⟩
    · exact mo_C_adds_p59 fu _ _ _ _ _ _ _ h
    · obtain ⟨v1, hv1, h⟩ := bd1_some h
      obtain ⟨v2, ev2, h⟩ := lt1_ex h
      obtain ⟨v3, ev3, h⟩ := lt1_ex h
      exact ih _ _ _ _ _ _ _ _ _ h
theorem mo_C_adds {t : CS} {x1 : Nat} {x2 : Int32} {r : Int32} {t9 : CS} (h : C_adds t x1 x2 = some (r, t9)) : mo t t9 := by
  unfold C_adds at h
  obtain ⟨hi1, h⟩ := ck_some h
  rcases ite_or h with ⟨c, h⟩ | ⟨c, h⟩
  · cases h; exact mo.rf
  · obtain ⟨v2, hv2, h⟩ := bd1_some h
    obtain ⟨v3, ev3, h⟩ := lt1_ex h
    exact mo_C_adds_p29 fu _ _ _ _ _ _ _ _ _ h
theorem mo_C_word_p112 {k52 : CS → Int32 → Int32 → Int32 → Int32 → Nat → Int32 → Option (Int32 × CS)} (mk52 : ∀ (t : CS) (x1 : Int32) (x2 : Int32) (x3 : Int32) (x4 : Int32) (x5 : Nat) (x6 : Int32) (r : Int32) (t9 : CS), k52 t x1 x2 x3 x4 x5 x6 = some (r, t9) → mo t t9) {t : CS} {x1 : Int32} {x2 : Int32} {x3 : Int32} {x4 : Int32} {x5 : Nat} {x6 : Int32} {r : Int32} {t9 : CS} (h : C_word_p112 k52 t x1 x2 x3 x4 x5 x6 = some (r, t9)) : mo t t9 := by
  unfold C_word_p112 at h
  obtain ⟨v1, ev1, h⟩ := lt1_ex h
  exact mk52 _ _ _ _ _ _ _ _ _ h
theorem mo_C_word_p98 {k52 : CS → Int32 → Int32 → Int32 → Int32 → Nat → Int32 → Option (Int32 × CS)} (mk52 : ∀ (t : CS) (x1 : Int32) (x2 : Int32) (x3 : Int32) (x4 : Int32) (x5 : Nat) (x6 : Int32) (r : Int32) (t9 : CS), k52 t x1 x2 x3 x4 x5 x6 = some (r, t9) → mo t t9) {t : CS} {x1 : Int32} {x2 : Int32} {x3 : Int32} {x4 : Int32} {x5 : Nat} {x6 : Int32} {x7 : Int32} {r : Int32} {t9 : CS} (h : C_word_p98 k52 t x1 x2 x3 x4 x5 x6 x7 = some (r, t9)) : mo t t9 := by
  unfold C_word_p98 at h
  rcases ite_or h with ⟨c, h⟩ | ⟨c, h⟩
  · exact mo_C_word_p112 mk52 h
  · obtain ⟨t1, ht1, h⟩ := bd1_some h
    refine mo.tr (t1 := t1) (mo.nn (das_N ht1)) ?_
    exact mo_C_word_p112 mk52 h
theorem mo_C_word_p125 {t : CS} {y0 : Int32} {r : Int32} {t9 : CS} (h : C_word_p125 t y0 = some (r, t9)) : mo t t9 := by
  unfold C_word_p125 at h
  cases h; exact mo.rf
theorem mo_C_word_p52 : ∀ (n : Nat) (t : CS) (x1 : Int32) (x2 : Int32) (x3 : Int32) (x4 : Int32) (x5 : Nat) (x6 : Int32) (r : Int32) (t9 : CS), C_word_p52 n t x1 x2 x3 x4 x5 x6 = some (r, t9) → mo t t9 := by
  intro n
  induction n with
  | zero =>
    intro t x1 x2 x3 x4 x5 x6 r t9 h
    have h : none = some _ := h
    cases h
  | succ n ih =>
    intro t x1 x2 x3 x4 x5 x6 r t9 h
    rw [C_word_p52] at h
    rcases ite_or h with ⟨c, h⟩ | ⟨c, h⟩
    · obtain ⟨v2, t1, ht1, h⟩ := bd2_some h
      refine mo.tr (t1 := t1) (mo_C_adds ht1) ?_
      exact mo_C_word_p125 h
    · obtain ⟨v3, hv3, h⟩ := bd1_some h
      obtain ⟨v4, ev4, h⟩ := lt1_ex h
      rcases ite_or h with ⟨c, h⟩ | ⟨c, h⟩
      · rcases ite_or h with ⟨c, h⟩ | ⟨c, h⟩
        · exact mo_C_word_p98 ih h
        · cases h; exact mo.rf
      · obtain ⟨v5, hv5, h⟩ := bd1_some h
        rcases ite_or h with ⟨c, h⟩ | ⟨c, h⟩
        · cases h; exact mo.rf
        · exact mo_C_word_p98 ih h
theorem mo_C_word_p47 {t : CS} {x1 : Int32} {x2 : Int32} {x3 : Int32} {x4 : Int32} {y0 : Nat} {r : Int32} {t9 : CS} (h : C_word_p47 t x1 x2 x3 x4 y0 = some (r, t9)) : mo t t9 := by
  unfold C_word_p47 at h
  exact mo_C_word_p52 fu _ _ _ _ _ _ _ _ _ h
theorem mo_C_word_p26 {t : CS} {x1 : Int32} {x2 : Int32} {x3 : Int32} {x4 : Int32} {r : Int32} {t9 : CS} (h : C_word_p26 t x1 x2 x3 x4 = some (r, t9)) : mo t t9 := by
  unfold C_word_p26 at h
  rcases ite_or h with ⟨c, h⟩ | ⟨c, h⟩
  · cases h; exact mo.rf
  · obtain ⟨v1, hv1, h⟩ := bd1_some h
    rcases ite_or h with ⟨c, h⟩ | ⟨c, h⟩
    · cases h; exact mo.rf
    · obtain ⟨⟨hg3a, hg3b⟩, h⟩ := ngt_some h
      obtain ⟨t2, et2, h⟩ := lt1_ex h
      refine mo.tr (t1 := t2) (mo.new et2) ?_
      exact mo_C_word_p47 h
theorem mo_C_word_p3 : ∀ (n : Nat) (t : CS) (x1 : Int32) (x2 : Int32) (x3 : Int32) (x4 : Int32) (r : Int32) (t9 : CS), C_word_p3 n t x1 x2 x3 x4 = some (r, t9) → mo t t9 := by
  intro n
  induction n with
  | zero =>
    intro t x1 x2 x3 x4 r t9 h
    have h : none = some _ := h
    cases h
  | succ n ih =>
    intro t x1 x2 x3 x4 r t9 h
    rw [C_word_p3] at h
    rcases ite_or h with ⟨c, h⟩ | ⟨c, h⟩
    · exact mo_C_word_p26 h
    · obtain ⟨v1, hv1, h⟩ := bd1_some h
      rcases ite_or h with ⟨c, h⟩ | ⟨c, h⟩
      · exact mo_C_word_p26 h
      · obtain ⟨v2, ev2, h⟩ := lt1_ex h
        exact ih _ _ _ _ _ _ _ h
theorem mo_C_word {t : CS} {x1 : Int32} {x2 : Int32} {x3 : Int32} {r : Int32} {t9 : CS} (h : C_word t x1 x2 x3 = some (r, t9)) : mo t t9 := by
  unfold C_word at h
  exact mo_C_word_p3 fu _ _ _ _ _ _ _ h
theorem mo_C_addsSaying {t : CS} {x1 : Nat} {r : Int32} {t9 : CS} (h : C_addsSaying t x1 = some (r, t9)) : mo t t9 := by
  unfold C_addsSaying at h
  obtain ⟨hi1, h⟩ := ck_some h
  rcases ite_or h with ⟨c, h⟩ | ⟨c, h⟩
  · cases h; exact mo.rf
  · obtain ⟨hi2, h⟩ := ck_some h
    obtain ⟨hi3, h⟩ := ck_some h
    obtain ⟨⟨nhc4, fhc4, hc4⟩, h⟩ := ckA_some h
    obtain ⟨t5, et5, h⟩ := lt1_ex h
    refine mo.tr (t1 := t5) (mo.nn (by rw [et5]; rfl)) ?_
    obtain ⟨hi6, h⟩ := ck_some h
    obtain ⟨hi7, h⟩ := ck_some h
    obtain ⟨t8, et8, h⟩ := lt1_ex h
    refine mo.tr (t1 := t8) (mo.nn (by rw [et8]; rfl)) ?_
    obtain ⟨hi9, h⟩ := ck_some h
    cases h; exact mo.rf
theorem mo_C_saying_p57 : ∀ (n : Nat) (t : CS) (x4 : Nat) (x5 : Int32) (x6 : Int32) (r : Int32) (t9 : CS), C_saying_p57 n t x4 x5 x6 = some (r, t9) → mo t t9 := by
  intro n
  induction n with
  | zero =>
    intro t x4 x5 x6 r t9 h
    have h : none = some _ := h
    cases h
  | succ n ih =>
    intro t x4 x5 x6 r t9 h
    rw [C_saying_p57] at h
    rcases ite_or h with ⟨c, h⟩ | ⟨c, h⟩
    · obtain ⟨v1, t2, ht2, h⟩ := bd2_some h
      refine mo.tr (t1 := t2) (mo_C_addsSaying ht2) ?_
      cases h; exact mo.rf
    · obtain ⟨t3, ht3, h⟩ := bd1_some h
      refine mo.tr (t1 := t3) (mo.nn (das_N ht3)) ?_
      obtain ⟨v4, ev4, h⟩ := lt1_ex h
      obtain ⟨v5, ev5, h⟩ := lt1_ex h
      exact ih _ _ _ _ _ _ h
theorem mo_C_saying_p47 {t : CS} {x1 : Int32} {x2 : Int32} {y0 : Nat} {r : Int32} {t9 : CS} (h : C_saying_p47 t x1 x2 y0 = some (r, t9)) : mo t t9 := by
  unfold C_saying_p47 at h
  obtain ⟨v1, ev1, h⟩ := lt1_ex h
  exact mo_C_saying_p57 fu _ _ _ _ _ _ h
theorem mo_C_saying_p4 : ∀ (n : Nat) (t : CS) (x1 : Int32) (x2 : Int32) (x3 : Int32) (r : Int32) (t9 : CS), C_saying_p4 n t x1 x2 x3 = some (r, t9) → mo t t9 := by
  intro n
  induction n with
  | zero =>
    intro t x1 x2 x3 r t9 h
    have h : none = some _ := h
    cases h
  | succ n ih =>
    intro t x1 x2 x3 r t9 h
    rw [C_saying_p4] at h
    obtain ⟨hn, h⟩ := nz_some h
    rcases ite_or h with ⟨c, h⟩ | ⟨c, h⟩
    · rcases ite_or h with ⟨c, h⟩ | ⟨c, h⟩
      · cases h; exact mo.rf
      · rcases ite_or h with ⟨c, h⟩ | ⟨c, h⟩
        · cases h; exact mo.rf
        · obtain ⟨hn, h⟩ := nz_some h
          rcases ite_or h with ⟨c, h⟩ | ⟨c, h⟩
          · obtain ⟨⟨hg2a, hg2b⟩, h⟩ := ngt_some h
            obtain ⟨t1, et1, h⟩ := lt1_ex h
            refine mo.tr (t1 := t1) (mo.new et1) ?_
            exact mo_C_saying_p47 h
          · cases h; exact mo.rf
    · obtain ⟨v3, ev3, h⟩ := lt1_ex h
      obtain ⟨v4, ev4, h⟩ := lt1_ex h
      exact ih _ _ _ _ _ _ h
theorem mo_C_saying {t : CS} {x1 : Int32} {r : Int32} {t9 : CS} (h : C_saying t x1 = some (r, t9)) : mo t t9 := by
  unfold C_saying at h
  exact mo_C_saying_p4 fu _ _ _ _ _ _ h
theorem mo_C_put_p3 : ∀ (n : Nat) (t : CS) (x1 : Int32) (x2 : Int32) (t9 : CS), C_put_p3 n t x1 x2 = some t9 → mo t t9 := by
  intro n
  induction n with
  | zero =>
    intro t x1 x2 t9 h
    have h : none = some _ := h
    cases h
  | succ n ih =>
    intro t x1 x2 t9 h
    rw [C_put_p3] at h
    rcases ite_or h with ⟨c, h⟩ | ⟨c, h⟩
    · cases h; exact mo.rf
    · obtain ⟨hi1, h⟩ := ck_some h
      obtain ⟨t2, et2, h⟩ := lt1_ex h
      refine mo.tr (t1 := t2) (mo.nn (by rw [et2]; rfl)) ?_
      obtain ⟨t3, et3, h⟩ := lt1_ex h
      refine mo.tr (t1 := t3) (mo.nn (by rw [et3]; rfl)) ?_
      obtain ⟨v4, ev4, h⟩ := lt1_ex h
      exact ih _ _ _ _ h
theorem mo_C_put {t : CS} {x1 : Int32} {t9 : CS} (h : C_put t x1 = some t9) : mo t t9 := by
  unfold C_put at h
  exact mo_C_put_p3 fu _ _ _ _ h
theorem mo_C_feed {t : CS} {x1 : Int32} {x2 : Int32} {x3 : Int32} {x4 : Int32} {x5 : Int32} {r : Int32} {t9 : CS} (h : C_feed t x1 x2 x3 x4 x5 = some (r, t9)) : mo t t9 := by
  unfold C_feed at h
  rcases ite_or h with ⟨c, h⟩ | ⟨c, h⟩
  · obtain ⟨t1, ht1, h⟩ := bd1_some h
    refine mo.tr (t1 := t1) (mo_C_put ht1) ?_
    obtain ⟨t2, ht2, h⟩ := bd1_some h
    refine mo.tr (t1 := t2) (mo_C_put ht2) ?_
    obtain ⟨t3, ht3, h⟩ := bd1_some h
    refine mo.tr (t1 := t3) (mo_C_put ht3) ?_
    obtain ⟨t4, ht4, h⟩ := bd1_some h
    refine mo.tr (t1 := t4) (mo_C_put ht4) ?_
    obtain ⟨t5, ht5, h⟩ := bd1_some h
    refine mo.tr (t1 := t5) (mo_C_put ht5) ?_
    cases h; exact mo.rf
  · cases h; exact mo.rf
theorem mo_C_end {t : CS} {x1 : Int32} {r : Int32} {t9 : CS} (h : C_end t x1 = some (r, t9)) : mo t t9 := by
  unfold C_end at h
  obtain ⟨v1, hv1, h⟩ := bd1_some h
  rcases ite_or h with ⟨c, h⟩ | ⟨c, h⟩
  · cases h; exact mo.rf
  · obtain ⟨t2, et2, h⟩ := lt1_ex h
    refine mo.tr (t1 := t2) (mo.nn (by rw [et2]; rfl)) ?_
    cases h; exact mo.rf
theorem mo_J_J8_init {t : CS} {x0 : Nat} {t9 : CS} (h : J_J8_init t x0 = some t9) : mo t t9 := by
  unfold J_J8_init at h
  obtain ⟨v1, hv1, h⟩ := bd1_some h
  obtain ⟨t2, ht2, h⟩ := bd1_some h
  refine mo.tr (t1 := t2) (mo.nn (dpf_N ht2)) ?_
  cases h; exact mo.rf
theorem mo_J_J9_init {t : CS} {x0 : Nat} {t9 : CS} (h : J_J9_init t x0 = some t9) : mo t t9 := by
  unfold J_J9_init at h
  obtain ⟨t1, ht1, h⟩ := bd1_some h
  refine mo.tr (t1 := t1) (mo_J_J8_init ht1) ?_
  obtain ⟨t2, ht2, h⟩ := bd1_some h
  refine mo.tr (t1 := t2) (mo.nn (dpf_N ht2)) ?_
  cases h; exact mo.rf
theorem mo_C_X5_init_p8 {t : CS} {y0 : Nat} {y1 : Nat} {t9 : CS} (h : C_X5_init_p8 t y0 y1 = some t9) : mo t t9 := by
  unfold C_X5_init_p8 at h
  obtain ⟨t1, ht1, h⟩ := bd1_some h
  refine mo.tr (t1 := t1) (mo_J_J9_init ht1) ?_
  obtain ⟨t2, ht2, h⟩ := bd1_some h
  refine mo.tr (t1 := t2) (mo.nn (dpf_N ht2)) ?_
  cases h; exact mo.rf
theorem mo_C_X5_init {t : CS} {x0 : Nat} {t9 : CS} (h : C_X5_init t x0 = some t9) : mo t t9 := by
  unfold C_X5_init at h
  obtain ⟨t1, et1, h⟩ := lt1_ex h
  refine mo.tr (t1 := t1) (mo.new et1) ?_
  exact mo_C_X5_init_p8 h
theorem mo_C_by_p15 {t : CS} {x1 : Int32} {r : Int32} {t9 : CS} (h : C_by_p15 t x1 = some (r, t9)) : mo t t9 := by
  unfold C_by_p15 at h
  obtain ⟨hi1, h⟩ := ck_some h
  obtain ⟨t2, et2, h⟩ := lt1_ex h
  refine mo.tr (t1 := t2) (mo.nn (by rw [et2]; rfl)) ?_
  cases h; exact mo.rf
theorem mo_C_by {t : CS} {x1 : Int32} {r : Int32} {t9 : CS} (h : C_by t x1 = some (r, t9)) : mo t t9 := by
  unfold C_by at h
  rcases ite_or h with ⟨c, h⟩ | ⟨c, h⟩
  · exact mo_C_by_p15 h
  · obtain ⟨v1, hv1, h⟩ := bd1_some h
    rcases ite_or h with ⟨c, h⟩ | ⟨c, h⟩
    · cases h; exact mo.rf
    · exact mo_C_by_p15 h
theorem mo_C_X1_keeps_p52 {t : CS} {t9 : CS} (h : C_X1_keeps_p52 t = some t9) : mo t t9 := by
  unfold C_X1_keeps_p52 at h
  obtain ⟨hi1, h⟩ := ck_some h
  obtain ⟨hi2, h⟩ := ck_some h
  obtain ⟨t3, et3, h⟩ := lt1_ex h
  refine mo.tr (t1 := t3) (mo.nn (by rw [et3]; rfl)) ?_
  obtain ⟨hi4, h⟩ := ck_some h
  obtain ⟨hi5, h⟩ := ck_some h
  obtain ⟨t6, et6, h⟩ := lt1_ex h
  refine mo.tr (t1 := t6) (mo.nn (by rw [et6]; rfl)) ?_
  cases h; exact mo.rf
theorem mo_C_X1_keeps_p13 : ∀ (n : Nat) (t : CS) (x1 : Int32) (t9 : CS), C_X1_keeps_p13 n t x1 = some t9 → mo t t9 := by
  intro n
  induction n with
  | zero =>
    intro t x1 t9 h
    have h : none = some _ := h
    cases h
  | succ n ih =>
    intro t x1 t9 h
    rw [C_X1_keeps_p13] at h
    rcases ite_or h with ⟨c, h⟩ | ⟨c, h⟩
    · obtain ⟨hi1, h⟩ := ck_some h
      obtain ⟨hi2, h⟩ := ck_some h
      obtain ⟨t3, et3, h⟩ := lt1_ex h
      refine mo.tr (t1 := t3) (mo.nn (by rw [et3]; rfl)) ?_
      exact mo_C_X1_keeps_p52 h
    · obtain ⟨hi4, h⟩ := ck_some h
      obtain ⟨hi5, h⟩ := ck_some h
      obtain ⟨t6, et6, h⟩ := lt1_ex h
      refine mo.tr (t1 := t6) (mo.nn (by rw [et6]; rfl)) ?_
      obtain ⟨v7, ev7, h⟩ := lt1_ex h
      exact ih _ _ _ h
theorem mo_C_X1_keeps {t : CS} {t9 : CS} (h : C_X1_keeps t = some t9) : mo t t9 := by
  unfold C_X1_keeps at h
  obtain ⟨hi1, h⟩ := ck_some h
  rcases ite_or h with ⟨c, h⟩ | ⟨c, h⟩
  · exact mo_C_X1_keeps_p13 fu _ _ _ h
  · exact mo_C_X1_keeps_p52 h
theorem mo_C_names {t : CS} {t9 : CS} (h : C_names t = some t9) : mo t t9 := by
  unfold C_names at h
  obtain ⟨hi1, h⟩ := ck_some h
  obtain ⟨hi2, h⟩ := ck_some h
  obtain ⟨t3, et3, h⟩ := lt1_ex h
  refine mo.tr (t1 := t3) (mo.nn (by rw [et3]; rfl)) ?_
  obtain ⟨v4, hv4, h⟩ := bd1_some h
  obtain ⟨hi5, h⟩ := ck_some h
  obtain ⟨t6, et6, h⟩ := lt1_ex h
  refine mo.tr (t1 := t6) (mo.nn (by rw [et6]; rfl)) ?_
  cases h; exact mo.rf
theorem mo_C_changes_p145 {t : CS} {x1 : Int32} {x5 : Nat} {y1 : Int32} {y2 : Int32} {r : Int32} {t9 : CS} (h : C_changes_p145 t x1 x5 y1 y2 = some (r, t9)) : mo t t9 := by
  unfold C_changes_p145 at h
  obtain ⟨hi1, h⟩ := ck_some h
  obtain ⟨t2, et2, h⟩ := lt1_ex h
  refine mo.tr (t1 := t2) (mo.nn (by rw [et2]; rfl)) ?_
  obtain ⟨v3, hv3, h⟩ := bd1_some h
  obtain ⟨hi4, h⟩ := ck_some h
  obtain ⟨t5, et5, h⟩ := lt1_ex h
  refine mo.tr (t1 := t5) (mo.nn (by rw [et5]; rfl)) ?_
  obtain ⟨v6, hv6, h⟩ := bd1_some h
  obtain ⟨hi7, h⟩ := ck_some h
  obtain ⟨t8, et8, h⟩ := lt1_ex h
  refine mo.tr (t1 := t8) (mo.nn (by rw [et8]; rfl)) ?_
  obtain ⟨v9, hv9, h⟩ := bd1_some h
  obtain ⟨hz, h⟩ := zr_some h
  cases h; exact mo.rf
theorem mo_C_changes_p56 {t : CS} {x1 : Int32} {x2 : Int32} {x3 : Int32} {x4 : Int32} {y0 : Option Nat} {r : Int32} {t9 : CS} (h : C_changes_p56 t x1 x2 x3 x4 y0 = some (r, t9)) : mo t t9 := by
  unfold C_changes_p56 at h
  rcases on1_some h with ⟨ho, h⟩ | ⟨r1, ho, h⟩
  · rcases ite_or h with ⟨c, h⟩ | ⟨c, h⟩
    · obtain ⟨v2, hv2, h⟩ := bd1_some h
      rcases ite_or h with ⟨c, h⟩ | ⟨c, h⟩
      · cases h; exact mo.rf
      · rcases ite_or h with ⟨c, h⟩ | ⟨c, h⟩
        · cases h; exact mo.rf
        · cases h; exact mo.rf
    · rcases ite_or h with ⟨c, h⟩ | ⟨c, h⟩
      · cases h; exact mo.rf
      · cases h; exact mo.rf
  · obtain ⟨t3, ht3, h⟩ := bd1_some h
    refine mo.tr (t1 := t3) (mo_C_names ht3) ?_
    obtain ⟨hi4, h⟩ := ck_some h
    obtain ⟨t5, et5, h⟩ := lt1_ex h
    refine mo.tr (t1 := t5) (mo.nn (by rw [et5]; rfl)) ?_
    obtain ⟨hi6, h⟩ := ck_some h
    obtain ⟨t7, et7, h⟩ := lt1_ex h
    refine mo.tr (t1 := t7) (mo.nn (by rw [et7]; rfl)) ?_
    obtain ⟨hi8, h⟩ := ck_some h
    obtain ⟨t9, et9, h⟩ := lt1_ex h
    refine mo.tr (t1 := t9) (mo.nn (by rw [et9]; rfl)) ?_
    obtain ⟨v10, hv10, h⟩ := bd1_some h
    rcases ite_or h with ⟨c, h⟩ | ⟨c, h⟩
    · exact mo_C_changes_p145 h
    · exact mo_C_changes_p145 h
theorem mo_C_changes {t : CS} {x1 : Int32} {r : Int32} {t9 : CS} (h : C_changes t x1 = some (r, t9)) : mo t t9 := by
  unfold C_changes at h
  obtain ⟨v1, hv1, h⟩ := bd1_some h
  obtain ⟨hi2, h⟩ := ck_some h
  obtain ⟨v3, ev3, h⟩ := lt1_ex h
  obtain ⟨hi4, h⟩ := ck_some h
  obtain ⟨v5, ev5, h⟩ := lt1_ex h
  rcases ite_or h with ⟨c, h⟩ | ⟨c, h⟩
  · obtain ⟨v6, hv6, h⟩ := bd1_some h
    obtain ⟨v7, hv7, h⟩ := bd1_some h
    exact mo_C_changes_p56 h
  · obtain ⟨v8, hv8, h⟩ := bd1_some h
    obtain ⟨v9, hv9, h⟩ := bd1_some h
    exact mo_C_changes_p56 h
theorem mo_C_mornings_p26 {k4 : CS → Int32 → Int32 → Option CS} (mk4 : ∀ (t : CS) (x1 : Int32) (x2 : Int32) (t9 : CS), k4 t x1 x2 = some t9 → mo t t9) {t : CS} {x2 : Int32} {y0 : Int32} {y1 : Int32} {t9 : CS} (h : C_mornings_p26 k4 t x2 y0 y1 = some t9) : mo t t9 := by
  unfold C_mornings_p26 at h
  obtain ⟨v1, ev1, h⟩ := lt1_ex h
  obtain ⟨v2, ev2, h⟩ := lt1_ex h
  exact mk4 _ _ _ _ h
theorem mo_C_mornings_p83 {k36 : CS → Int32 → Int32 → Option CS} (mk36 : ∀ (t : CS) (x1 : Int32) (x2 : Int32) (t9 : CS), k36 t x1 x2 = some t9 → mo t t9) {t : CS} {x1 : Int32} {x2 : Int32} {y1 : Int32} {y2 : Int32} {t9 : CS} (h : C_mornings_p83 k36 t x1 x2 y1 y2 = some t9) : mo t t9 := by
  unfold C_mornings_p83 at h
  obtain ⟨hi1, h⟩ := ck_some h
  obtain ⟨t2, et2, h⟩ := lt1_ex h
  refine mo.tr (t1 := t2) (mo.nn (by rw [et2]; rfl)) ?_
  obtain ⟨v3, ev3, h⟩ := lt1_ex h
  exact mk36 _ _ _ _ h
theorem mo_C_mornings_p36 : ∀ (n : Nat) (t : CS) (x1 : Int32) (x2 : Int32) (t9 : CS), C_mornings_p36 n t x1 x2 = some t9 → mo t t9 := by
  intro n
  induction n with
  | zero =>
    intro t x1 x2 t9 h
    have h : none = some _ := h
    cases h
  | succ n ih =>
    intro t x1 x2 t9 h
    rw [C_mornings_p36] at h
    rcases ite_or h with ⟨c, h⟩ | ⟨c, h⟩
    · obtain ⟨hi1, h⟩ := ck_some h
      obtain ⟨hi2, h⟩ := ck_some h
      obtain ⟨t3, et3, h⟩ := lt1_ex h
      refine mo.tr (t1 := t3) (mo.nn (by rw [et3]; rfl)) ?_
      obtain ⟨hi4, h⟩ := ck_some h
      obtain ⟨hi5, h⟩ := ck_some h
      obtain ⟨t6, et6, h⟩ := lt1_ex h
      refine mo.tr (t1 := t6) (mo.nn (by rw [et6]; rfl)) ?_
      cases h; exact mo.rf
    · obtain ⟨v7, hv7, h⟩ := bd1_some h
      rcases ite_or h with ⟨c, h⟩ | ⟨c, h⟩
      · obtain ⟨hi8, h⟩ := ck_some h
        exact mo_C_mornings_p83 ih h
      · exact mo_C_mornings_p83 ih h
theorem mo_C_mornings_p4 : ∀ (n : Nat) (t : CS) (x1 : Int32) (x2 : Int32) (t9 : CS), C_mornings_p4 n t x1 x2 = some t9 → mo t t9 := by
  intro n
  induction n with
  | zero =>
    intro t x1 x2 t9 h
    have h : none = some _ := h
    cases h
  | succ n ih =>
    intro t x1 x2 t9 h
    rw [C_mornings_p4] at h
    rcases ite_or h with ⟨c, h⟩ | ⟨c, h⟩
    · exact mo_C_mornings_p36 fu _ _ _ _ h
    · obtain ⟨v1, t2, ht2, h⟩ := bd2_some h
      refine mo.tr (t1 := t2) (mo_C_changes ht2) ?_
      rcases ite_or h with ⟨c, h⟩ | ⟨c, h⟩
      · exact mo_C_mornings_p26 ih h
      · exact mo_C_mornings_p26 ih h
theorem mo_C_mornings {t : CS} {t9 : CS} (h : C_mornings t = some t9) : mo t t9 := by
  unfold C_mornings at h
  exact mo_C_mornings_p4 fu _ _ _ _ h
theorem mo_C_morning_p31 : ∀ (n : Nat) (t : CS) (x1 : Int32) (x2 : Int32) (r : Int32) (t9 : CS), C_morning_p31 n t x1 x2 = some (r, t9) → mo t t9 := by
  intro n
  induction n with
  | zero =>
    intro t x1 x2 r t9 h
    have h : none = some _ := h
    cases h
  | succ n ih =>
    intro t x1 x2 r t9 h
    rw [C_morning_p31] at h
    rcases ite_or h with ⟨c, h⟩ | ⟨c, h⟩
    · obtain ⟨v1, hv1, h⟩ := bd1_some h
      cases h; exact mo.rf
    · obtain ⟨t2, ht2, h⟩ := bd1_some h
      refine mo.tr (t1 := t2) (mo_C_X1_keeps ht2) ?_
      obtain ⟨t3, ht3, h⟩ := bd1_some h
      refine mo.tr (t1 := t3) (mo_C_mornings ht3) ?_
      obtain ⟨v4, ev4, h⟩ := lt1_ex h
      exact ih _ _ _ _ _ h
theorem mo_C_morning {t : CS} {x1 : Int32} {r : Int32} {t9 : CS} (h : C_morning t x1 = some (r, t9)) : mo t t9 := by
  unfold C_morning at h
  obtain ⟨v1, hv1, h⟩ := bd1_some h
  rcases ite_or h with ⟨c, h⟩ | ⟨c, h⟩
  · cases h; exact mo.rf
  · obtain ⟨hi2, h⟩ := ck_some h
    rcases ite_or h with ⟨c, h⟩ | ⟨c, h⟩
    · exact mo_C_morning_p31 fu _ _ _ _ _ h
    · cases h; exact mo.rf
theorem mo_C_walks_p41 {k15 : CS → Int32 → Int32 → Option CS} (mk15 : ∀ (t : CS) (x1 : Int32) (x2 : Int32) (t9 : CS), k15 t x1 x2 = some t9 → mo t t9) {t : CS} {x1 : Int32} {x2 : Int32} {t9 : CS} (h : C_walks_p41 k15 t x1 x2 = some t9) : mo t t9 := by
  unfold C_walks_p41 at h
  obtain ⟨v1, ev1, h⟩ := lt1_ex h
  exact mk15 _ _ _ _ h
theorem mo_C_walks_p15 : ∀ (n : Nat) (t : CS) (x1 : Int32) (x2 : Int32) (t9 : CS), C_walks_p15 n t x1 x2 = some t9 → mo t t9 := by
  intro n
  induction n with
  | zero =>
    intro t x1 x2 t9 h
    have h : none = some _ := h
    cases h
  | succ n ih =>
    intro t x1 x2 t9 h
    rw [C_walks_p15] at h
    rcases ite_or h with ⟨c, h⟩ | ⟨c, h⟩
    · cases h; exact mo.rf
    · obtain ⟨v1, hv1, h⟩ := bd1_some h
      rcases ite_or h with ⟨c, h⟩ | ⟨c, h⟩
      · exact mo_C_walks_p41 ih h
      · obtain ⟨hi2, h⟩ := ck_some h
        obtain ⟨t3, et3, h⟩ := lt1_ex h
        refine mo.tr (t1 := t3) (mo.nn (by rw [et3]; rfl)) ?_
        exact mo_C_walks_p41 ih h
theorem mo_C_walks {t : CS} {x1 : Int32} {t9 : CS} (h : C_walks t x1 = some t9) : mo t t9 := by
  unfold C_walks at h
  obtain ⟨hi1, h⟩ := ck_some h
  obtain ⟨hi2, h⟩ := ck_some h
  obtain ⟨t3, et3, h⟩ := lt1_ex h
  refine mo.tr (t1 := t3) (mo.nn (by rw [et3]; rfl)) ?_
  exact mo_C_walks_p15 fu _ _ _ _ h
theorem mo_C_called {t : CS} {x1 : Int32} {r : Int32} {t9 : CS} (h : C_called t x1 = some (r, t9)) : mo t t9 := by
  unfold C_called at h
  rcases ite_or h with ⟨c, h⟩ | ⟨c, h⟩
  · cases h; exact mo.rf
  · obtain ⟨t1, ht1, h⟩ := bd1_some h
    refine mo.tr (t1 := t1) (mo_C_X1_keeps ht1) ?_
    obtain ⟨t2, ht2, h⟩ := bd1_some h
    refine mo.tr (t1 := t2) (mo_C_walks ht2) ?_
    obtain ⟨v3, hv3, h⟩ := bd1_some h
    cases h; exact mo.rf
theorem mo_C_strike {t : CS} {x1 : Int32} {r : Int32} {t9 : CS} (h : C_strike t x1 = some (r, t9)) : mo t t9 := by
  unfold C_strike at h
  obtain ⟨v1, hv1, h⟩ := bd1_some h
  rcases ite_or h with ⟨c, h⟩ | ⟨c, h⟩
  · cases h; exact mo.rf
  · obtain ⟨hi2, h⟩ := ck_some h
    obtain ⟨v3, t4, ht4, h⟩ := bd2_some h
    refine mo.tr (t1 := t4) (mo_C_called ht4) ?_
    cases h; exact mo.rf
theorem mo_C_comeBack {t : CS} {x1 : Int32} {r : Int32} {t9 : CS} (h : C_comeBack t x1 = some (r, t9)) : mo t t9 := by
  unfold C_comeBack at h
  obtain ⟨v1, hv1, h⟩ := bd1_some h
  rcases ite_or h with ⟨c, h⟩ | ⟨c, h⟩
  · cases h; exact mo.rf
  · obtain ⟨hi2, h⟩ := ck_some h
    obtain ⟨v3, t4, ht4, h⟩ := bd2_some h
    refine mo.tr (t1 := t4) (mo_C_called ht4) ?_
    cases h; exact mo.rf
theorem mo_C_raise {t : CS} {x1 : Int32} {x2 : Int32} {r : Int32} {t9 : CS} (h : C_raise t x1 x2 = some (r, t9)) : mo t t9 := by
  unfold C_raise at h
  obtain ⟨v1, hv1, h⟩ := bd1_some h
  rcases ite_or h with ⟨c, h⟩ | ⟨c, h⟩
  · cases h; exact mo.rf
  · obtain ⟨v2, hv2, h⟩ := bd1_some h
    rcases ite_or h with ⟨c, h⟩ | ⟨c, h⟩
    · cases h; exact mo.rf
    · obtain ⟨hi3, h⟩ := ck_some h
      rcases ite_or h with ⟨c, h⟩ | ⟨c, h⟩
      · cases h; exact mo.rf
      · obtain ⟨t4, ht4, h⟩ := bd1_some h
        refine mo.tr (t1 := t4) (mo_C_X1_keeps ht4) ?_
        obtain ⟨hi5, h⟩ := ck_some h
        obtain ⟨t6, et6, h⟩ := lt1_ex h
        refine mo.tr (t1 := t6) (mo.nn (by rw [et6]; rfl)) ?_
        cases h; exact mo.rf
theorem mo_C_sign {t : CS} {x1 : Int32} {x2 : Int32} {r : Int32} {t9 : CS} (h : C_sign t x1 x2 = some (r, t9)) : mo t t9 := by
  unfold C_sign at h
  obtain ⟨v1, hv1, h⟩ := bd1_some h
  rcases ite_or h with ⟨c, h⟩ | ⟨c, h⟩
  · cases h; exact mo.rf
  · obtain ⟨v2, hv2, h⟩ := bd1_some h
    rcases ite_or h with ⟨c, h⟩ | ⟨c, h⟩
    · cases h; exact mo.rf
    · obtain ⟨hi3, h⟩ := ck_some h
      rcases ite_or h with ⟨c, h⟩ | ⟨c, h⟩
      · cases h; exact mo.rf
      · obtain ⟨t4, ht4, h⟩ := bd1_some h
        refine mo.tr (t1 := t4) (mo_C_X1_keeps ht4) ?_
        obtain ⟨hi5, h⟩ := ck_some h
        obtain ⟨t6, et6, h⟩ := lt1_ex h
        refine mo.tr (t1 := t6) (mo.nn (by rw [et6]; rfl)) ?_
        cases h; exact mo.rf
theorem mo_C_says_p13 : ∀ (n : Nat) (t : CS) (x2 : Int32) (x3 : Nat) (x4 : Int32) (r : Int32) (t9 : CS), C_says_p13 n t x2 x3 x4 = some (r, t9) → mo t t9 := by
  intro n
  induction n with
  | zero =>
    intro t x2 x3 x4 r t9 h
    have h : none = some _ := h
    cases h
  | succ n ih =>
    intro t x2 x3 x4 r t9 h
    rw [C_says_p13] at h
    obtain ⟨v1, hv1, h⟩ := bd1_some h
    rcases ite_or h with ⟨c, h⟩ | ⟨c, h⟩
    · cases h; exact mo.rf
    · obtain ⟨v2, hv2, h⟩ := bd1_some h
      obtain ⟨v3, hv3, h⟩ := bd1_some h
      obtain ⟨hi4, h⟩ := ck_some h
      obtain ⟨t5, et5, h⟩ := lt1_ex h
      refine mo.tr (t1 := t5) (mo.nn (by rw [et5]; rfl)) ?_
      obtain ⟨hi6, h⟩ := ck_some h
      rcases ite_or h with ⟨c, h⟩ | ⟨c, h⟩
      · cases h; exact mo.rf
      · obtain ⟨v7, ev7, h⟩ := lt1_ex h
        exact ih _ _ _ _ _ _ h
theorem mo_C_says {t : CS} {x1 : Int32} {x2 : Int32} {r : Int32} {t9 : CS} (h : C_says t x1 x2 = some (r, t9)) : mo t t9 := by
  unfold C_says at h
  obtain ⟨hi1, h⟩ := ck_some h
  obtain ⟨r2, hr2, h⟩ := bd1_some h
  exact mo_C_says_p13 fu _ _ _ _ _ _ h
theorem mo_C_contract {t : CS} {x1 : Int32} {r : Int32} {t9 : CS} (h : C_contract t x1 = some (r, t9)) : mo t t9 := by
  unfold C_contract at h
  obtain ⟨hi1, h⟩ := ck_some h
  obtain ⟨v2, ev2, h⟩ := lt1_ex h
  obtain ⟨v3, hv3, h⟩ := bd1_some h
  rcases ite_or h with ⟨c, h⟩ | ⟨c, h⟩
  · cases h; exact mo.rf
  · rcases ite_or h with ⟨c, h⟩ | ⟨c, h⟩
    · cases h; exact mo.rf
    · obtain ⟨v4, hv4, h⟩ := bd1_some h
      obtain ⟨v5, t6, ht6, h⟩ := bd2_some h
      refine mo.tr (t1 := t6) (mo_C_says ht6) ?_
      rcases ite_or h with ⟨c, h⟩ | ⟨c, h⟩
      · cases h; exact mo.rf
      · obtain ⟨t7, ht7, h⟩ := bd1_some h
        refine mo.tr (t1 := t7) (mo_C_X1_keeps ht7) ?_
        obtain ⟨v8, ev8, h⟩ := lt1_ex h
        obtain ⟨hi9, h⟩ := ck_some h
        obtain ⟨t10, et10, h⟩ := lt1_ex h
        refine mo.tr (t1 := t10) (mo.nn (by rw [et10]; rfl)) ?_
        obtain ⟨hi11, h⟩ := ck_some h
        obtain ⟨hi12, h⟩ := ck_some h
        obtain ⟨t13, et13, h⟩ := lt1_ex h
        refine mo.tr (t1 := t13) (mo.nn (by rw [et13]; rfl)) ?_
        obtain ⟨hi14, h⟩ := ck_some h
        obtain ⟨r15, hr15, h⟩ := bd1_some h
        obtain ⟨v16, hv16, h⟩ := bd1_some h
        obtain ⟨hi17, h⟩ := ck_some h
        obtain ⟨t18, et18, h⟩ := lt1_ex h
        refine mo.tr (t1 := t18) (mo.nn (by rw [et18]; rfl)) ?_
        obtain ⟨hi19, h⟩ := ck_some h
        obtain ⟨r20, hr20, h⟩ := bd1_some h
        obtain ⟨v21, hv21, h⟩ := bd1_some h
        obtain ⟨⟨ha22a, ha22b, ha22c, ha22d, ha22e⟩, h⟩ := acp_some h
        obtain ⟨t23, et23, h⟩ := lt1_ex h
        refine mo.tr (t1 := t23) (mo.nn (by rw [et23]; rfl)) ?_
        obtain ⟨hi24, h⟩ := ck_some h
        obtain ⟨hi25, h⟩ := ck_some h
        obtain ⟨t26, et26, h⟩ := lt1_ex h
        refine mo.tr (t1 := t26) (mo.nn (by rw [et26]; rfl)) ?_
        cases h; exact mo.rf
theorem mo_C_fromNought_p7 : ∀ (n : Nat) (t : CS) (x0 : Nat) (x1 : Nat) (x2 : Int32) (r : Nat) (t9 : CS), C_fromNought_p7 n t x0 x1 x2 = some (r, t9) → mo t t9 := by
  intro n
  induction n with
  | zero =>
    intro t x0 x1 x2 r t9 h
    have h : none = some _ := h
    cases h
  | succ n ih =>
    intro t x0 x1 x2 r t9 h
    rw [C_fromNought_p7] at h
    obtain ⟨v1, hv1, h⟩ := bd1_some h
    rcases ite_or h with ⟨c, h⟩ | ⟨c, h⟩
    · cases h; exact mo.rf
    · obtain ⟨v2, hv2, h⟩ := bd1_some h
      obtain ⟨t3, ht3, h⟩ := bd1_some h
      refine mo.tr (t1 := t3) (mo.nn (das_N ht3)) ?_
      obtain ⟨v4, ev4, h⟩ := lt1_ex h
      exact ih _ _ _ _ _ _ h
theorem mo_C_fromNought_p4 {t : CS} {x0 : Nat} {y0 : Nat} {r : Nat} {t9 : CS} (h : C_fromNought_p4 t x0 y0 = some (r, t9)) : mo t t9 := by
  unfold C_fromNought_p4 at h
  exact mo_C_fromNought_p7 fu _ _ _ _ _ _ h
theorem mo_C_fromNought {t : CS} {x0 : Nat} {r : Nat} {t9 : CS} (h : C_fromNought t x0 = some (r, t9)) : mo t t9 := by
  unfold C_fromNought at h
  obtain ⟨v1, hv1, h⟩ := bd1_some h
  obtain ⟨v2, ev2, h⟩ := lt1_ex h
  obtain ⟨⟨hg4a, hg4b⟩, h⟩ := ngt_some h
  obtain ⟨t3, et3, h⟩ := lt1_ex h
  refine mo.tr (t1 := t3) (mo.new et3) ?_
  exact mo_C_fromNought_p4 h
theorem mo_C_ties_p57 {k15 : CS → Int32 → Int32 → Int32 → Int32 → Int32 → Option (Int32 × CS)} (mk15 : ∀ (t : CS) (x1 : Int32) (x2 : Int32) (x3 : Int32) (x4 : Int32) (x5 : Int32) (r : Int32) (t9 : CS), k15 t x1 x2 x3 x4 x5 = some (r, t9) → mo t t9) {t : CS} {x1 : Int32} {x2 : Int32} {x4 : Int32} {x5 : Int32} {y0 : Int32} {y1 : Int32} {r : Int32} {t9 : CS} (h : C_ties_p57 k15 t x1 x2 x4 x5 y0 y1 = some (r, t9)) : mo t t9 := by
  unfold C_ties_p57 at h
  obtain ⟨v1, ev1, h⟩ := lt1_ex h
  obtain ⟨v2, ev2, h⟩ := lt1_ex h
  exact mk15 _ _ _ _ _ _ _ _ h
theorem mo_C_ties_p56 {k15 : CS → Int32 → Int32 → Int32 → Int32 → Int32 → Option (Int32 × CS)} (mk15 : ∀ (t : CS) (x1 : Int32) (x2 : Int32) (x3 : Int32) (x4 : Int32) (x5 : Int32) (r : Int32) (t9 : CS), k15 t x1 x2 x3 x4 x5 = some (r, t9) → mo t t9) {t : CS} {x1 : Int32} {x2 : Int32} {x4 : Int32} {x5 : Int32} {y0 : Int32} {r : Int32} {t9 : CS} (h : C_ties_p56 k15 t x1 x2 x4 x5 y0 = some (r, t9)) : mo t t9 := by
  unfold C_ties_p56 at h
  exact mo_C_ties_p57 mk15 h
theorem mo_C_ties_p15 {k5 : CS → Int32 → Int32 → Int32 → Int32 → Option (Int32 × CS)} (mk5 : ∀ (t : CS) (x1 : Int32) (x2 : Int32) (x3 : Int32) (x4 : Int32) (r : Int32) (t9 : CS), k5 t x1 x2 x3 x4 = some (r, t9) → mo t t9) : ∀ (n : Nat) (t : CS) (x1 : Int32) (x2 : Int32) (x3 : Int32) (x4 : Int32) (x5 : Int32) (r : Int32) (t9 : CS), C_ties_p15 k5 n t x1 x2 x3 x4 x5 = some (r, t9) → mo t t9 := by
  intro n
  induction n with
  | zero =>
    intro t x1 x2 x3 x4 x5 r t9 h
    have h : none = some _ := h
    cases h
  | succ n ih =>
    intro t x1 x2 x3 x4 x5 r t9 h
    rw [C_ties_p15] at h
    rcases ite_or h with ⟨c, h⟩ | ⟨c, h⟩
    · obtain ⟨v1, ev1, h⟩ := lt1_ex h
      exact mk5 _ _ _ _ _ _ _ h
    · obtain ⟨v2, hv2, h⟩ := bd1_some h
      rcases ite_or h with ⟨c, h⟩ | ⟨c, h⟩
      · exact mo_C_ties_p56 ih h
      · obtain ⟨v3, hv3, h⟩ := bd1_some h
        rcases ite_or h with ⟨c, h⟩ | ⟨c, h⟩
        · exact mo_C_ties_p56 ih h
        · obtain ⟨v4, t5, ht5, h⟩ := bd2_some h
          refine mo.tr (t1 := t5) (mo_C_tie ht5) ?_
          rcases ite_or h with ⟨c, h⟩ | ⟨c, h⟩
          · exact mo_C_ties_p56 ih h
          · exact mo_C_ties_p57 ih h
theorem mo_C_ties_p5 : ∀ (n : Nat) (t : CS) (x1 : Int32) (x2 : Int32) (x3 : Int32) (x4 : Int32) (r : Int32) (t9 : CS), C_ties_p5 n t x1 x2 x3 x4 = some (r, t9) → mo t t9 := by
  intro n
  induction n with
  | zero =>
    intro t x1 x2 x3 x4 r t9 h
    have h : none = some _ := h
    cases h
  | succ n ih =>
    intro t x1 x2 x3 x4 r t9 h
    rw [C_ties_p5] at h
    rcases ite_or h with ⟨c, h⟩ | ⟨c, h⟩
    · obtain ⟨hz, h⟩ := zr_some h
      cases h; exact mo.rf
    · exact mo_C_ties_p15 ih fu _ _ _ _ _ _ _ _ h
theorem mo_C_ties {t : CS} {x1 : Int32} {x2 : Int32} {r : Int32} {t9 : CS} (h : C_ties t x1 x2 = some (r, t9)) : mo t t9 := by
  unfold C_ties at h
  exact mo_C_ties_p5 fu _ _ _ _ _ _ _ h
theorem mo_C_each_p67 {k6 : CS → Int32 → Int32 → Int32 → Int32 → Int32 → Option (Int32 × CS)} (mk6 : ∀ (t : CS) (x1 : Int32) (x2 : Int32) (x3 : Int32) (x4 : Int32) (x5 : Int32) (r : Int32) (t9 : CS), k6 t x1 x2 x3 x4 x5 = some (r, t9) → mo t t9) {t : CS} {x1 : Int32} {x2 : Int32} {x3 : Int32} {x4 : Int32} {x5 : Int32} {r : Int32} {t9 : CS} (h : C_each_p67 k6 t x1 x2 x3 x4 x5 = some (r, t9)) : mo t t9 := by
  unfold C_each_p67 at h
  obtain ⟨v1, ev1, h⟩ := lt1_ex h
  exact mk6 _ _ _ _ _ _ _ _ h
theorem mo_C_each_p64 {k6 : CS → Int32 → Int32 → Int32 → Int32 → Int32 → Option (Int32 × CS)} (mk6 : ∀ (t : CS) (x1 : Int32) (x2 : Int32) (x3 : Int32) (x4 : Int32) (x5 : Int32) (r : Int32) (t9 : CS), k6 t x1 x2 x3 x4 x5 = some (r, t9) → mo t t9) {t : CS} {x1 : Int32} {x2 : Int32} {x3 : Int32} {x5 : Int32} {y0 : Int32} {y1 : Int32} {r : Int32} {t9 : CS} (h : C_each_p64 k6 t x1 x2 x3 x5 y0 y1 = some (r, t9)) : mo t t9 := by
  unfold C_each_p64 at h
  obtain ⟨v1, ev1, h⟩ := lt1_ex h
  exact mo_C_each_p67 mk6 h
theorem mo_C_each_p6 : ∀ (n : Nat) (t : CS) (x1 : Int32) (x2 : Int32) (x3 : Int32) (x4 : Int32) (x5 : Int32) (r : Int32) (t9 : CS), C_each_p6 n t x1 x2 x3 x4 x5 = some (r, t9) → mo t t9 := by
  intro n
  induction n with
  | zero =>
    intro t x1 x2 x3 x4 x5 r t9 h
    have h : none = some _ := h
    cases h
  | succ n ih =>
    intro t x1 x2 x3 x4 x5 r t9 h
    rw [C_each_p6] at h
    rcases ite_or h with ⟨c, h⟩ | ⟨c, h⟩
    · obtain ⟨hz, h⟩ := zr_some h
      cases h; exact mo.rf
    · obtain ⟨v1, hv1, h⟩ := bd1_some h
      rcases ite_or h with ⟨c, h⟩ | ⟨c, h⟩
      · exact mo_C_each_p67 ih h
      · rcases ite_or h with ⟨c, h⟩ | ⟨c, h⟩
        · obtain ⟨v2, t3, ht3, h⟩ := bd2_some h
          refine mo.tr (t1 := t3) (mo_C_sign ht3) ?_
          exact mo_C_each_p64 ih h
        · obtain ⟨hi4, h⟩ := ck_some h
          obtain ⟨v5, t6, ht6, h⟩ := bd2_some h
          refine mo.tr (t1 := t6) (mo_C_raise ht6) ?_
          exact mo_C_each_p64 ih h
theorem mo_C_each {t : CS} {x1 : Int32} {x2 : Int32} {x3 : Int32} {r : Int32} {t9 : CS} (h : C_each t x1 x2 x3 = some (r, t9)) : mo t t9 := by
  unfold C_each at h
  exact mo_C_each_p6 fu _ _ _ _ _ _ _ _ h
theorem mo_C_mornings_2_p28 {t : CS} {x1 : Int32} {x2 : Int32} {r : Int32} {t9 : CS} (h : C_mornings_2_p28 t x1 x2 = some (r, t9)) : mo t t9 := by
  unfold C_mornings_2_p28 at h
  rcases ite_or h with ⟨c, h⟩ | ⟨c, h⟩
  · cases h; exact mo.rf
  · cases h; exact mo.rf
theorem mo_C_mornings_2 {t : CS} {x1 : Int32} {r : Int32} {t9 : CS} (h : C_mornings_2 t x1 = some (r, t9)) : mo t t9 := by
  unfold C_mornings_2 at h
  obtain ⟨hi1, h⟩ := ck_some h
  obtain ⟨v2, ev2, h⟩ := lt1_ex h
  rcases ite_or h with ⟨c, h⟩ | ⟨c, h⟩
  · exact mo_C_mornings_2_p28 h
  · obtain ⟨v3, t4, ht4, h⟩ := bd2_some h
    refine mo.tr (t1 := t4) (mo_C_morning ht4) ?_
    exact mo_C_mornings_2_p28 h
theorem mo_C_does_p67 {t : CS} {y0 : Int32} {r : Int32} {t9 : CS} (h : C_does_p67 t y0 = some (r, t9)) : mo t t9 := by
  unfold C_does_p67 at h
  rcases ite_or h with ⟨c, h⟩ | ⟨c, h⟩
  · cases h; exact mo.rf
  · cases h; exact mo.rf
theorem mo_C_does_p60 {t : CS} {x1 : Nat} {y1 : Nat} {r : Int32} {t9 : CS} (h : C_does_p60 t x1 y1 = some (r, t9)) : mo t t9 := by
  unfold C_does_p60 at h
  obtain ⟨hc1, h⟩ := ckC_some h
  obtain ⟨v2, hv2, h⟩ := bd1_some h
  obtain ⟨v4, t3, ht3, h⟩ := bd2_some h
  refine mo.tr (t1 := t3) (mo_C_adds ht3) ?_
  exact mo_C_does_p67 h
theorem mo_C_does {t : CS} {x1 : Nat} {r : Int32} {t9 : CS} (h : C_does t x1 = some (r, t9)) : mo t t9 := by
  unfold C_does at h
  obtain ⟨hc1, h⟩ := ckC_some h
  obtain ⟨v2, hv2, h⟩ := bd1_some h
  rcases ite_or h with ⟨c, h⟩ | ⟨c, h⟩
  · obtain ⟨hc3, h⟩ := ckC_some h
    obtain ⟨v4, hv4, h⟩ := bd1_some h
    obtain ⟨v6, t5, ht5, h⟩ := bd2_some h
    refine mo.tr (t1 := t5) (mo_C_fromNought ht5) ?_
    exact mo_C_does_p60 h
  rcases ite_or h with ⟨c, h⟩ | ⟨c, h⟩
  · obtain ⟨hc7, h⟩ := ckC_some h
    obtain ⟨v8, hv8, h⟩ := bd1_some h
    obtain ⟨v9, t10, ht10, h⟩ := bd2_some h
    refine mo.tr (t1 := t10) (mo_C_addsSaying ht10) ?_
    rcases ite_or h with ⟨c, h⟩ | ⟨c, h⟩
    · cases h; exact mo.rf
    · cases h; exact mo.rf
  rcases ite_or h with ⟨c, h⟩ | ⟨c, h⟩
  · obtain ⟨hc11, h⟩ := ckC_some h
    obtain ⟨v12, hv12, h⟩ := bd1_some h
    obtain ⟨v13, hv13, h⟩ := bd1_some h
    obtain ⟨hc14, h⟩ := ckC_some h
    obtain ⟨v15, hv15, h⟩ := bd1_some h
    obtain ⟨v16, hv16, h⟩ := bd1_some h
    obtain ⟨v17, t18, ht18, h⟩ := bd2_some h
    refine mo.tr (t1 := t18) (mo_C_ties ht18) ?_
    obtain ⟨hz, h⟩ := zr_some h
    cases h; exact mo.rf
  rcases ite_or h with ⟨c, h⟩ | ⟨c, h⟩
  · obtain ⟨hc19, h⟩ := ckC_some h
    obtain ⟨v20, hv20, h⟩ := bd1_some h
    obtain ⟨v21, hv21, h⟩ := bd1_some h
    obtain ⟨v22, t23, ht23, h⟩ := bd2_some h
    refine mo.tr (t1 := t23) (mo_C_strike ht23) ?_
    rcases ite_or h with ⟨c, h⟩ | ⟨c, h⟩
    · cases h; exact mo.rf
    · cases h; exact mo.rf
  rcases ite_or h with ⟨c, h⟩ | ⟨c, h⟩
  · obtain ⟨hc24, h⟩ := ckC_some h
    obtain ⟨v25, hv25, h⟩ := bd1_some h
    obtain ⟨v26, hv26, h⟩ := bd1_some h
    obtain ⟨v27, t28, ht28, h⟩ := bd2_some h
    refine mo.tr (t1 := t28) (mo_C_comeBack ht28) ?_
    rcases ite_or h with ⟨c, h⟩ | ⟨c, h⟩
    · cases h; exact mo.rf
    · cases h; exact mo.rf
  rcases ite_or h with ⟨c, h⟩ | ⟨c, h⟩
  · obtain ⟨hc29, h⟩ := ckC_some h
    obtain ⟨v30, hv30, h⟩ := bd1_some h
    obtain ⟨v31, hv31, h⟩ := bd1_some h
    obtain ⟨hc32, h⟩ := ckC_some h
    obtain ⟨v33, hv33, h⟩ := bd1_some h
    obtain ⟨v34, t35, ht35, h⟩ := bd2_some h
    refine mo.tr (t1 := t35) (mo_C_each ht35) ?_
    obtain ⟨hz, h⟩ := zr_some h
    cases h; exact mo.rf
  rcases ite_or h with ⟨c, h⟩ | ⟨c, h⟩
  · obtain ⟨hc36, h⟩ := ckC_some h
    obtain ⟨v37, hv37, h⟩ := bd1_some h
    obtain ⟨v38, hv38, h⟩ := bd1_some h
    obtain ⟨hc39, h⟩ := ckC_some h
    obtain ⟨v40, hv40, h⟩ := bd1_some h
    obtain ⟨v41, t42, ht42, h⟩ := bd2_some h
    refine mo.tr (t1 := t42) (mo_C_each ht42) ?_
    obtain ⟨hz, h⟩ := zr_some h
    cases h; exact mo.rf
  rcases ite_or h with ⟨c, h⟩ | ⟨c, h⟩
  · obtain ⟨hc43, h⟩ := ckC_some h
    obtain ⟨v44, hv44, h⟩ := bd1_some h
    obtain ⟨v45, t46, ht46, h⟩ := bd2_some h
    refine mo.tr (t1 := t46) (mo_C_contract ht46) ?_
    rcases ite_or h with ⟨c, h⟩ | ⟨c, h⟩
    · cases h; exact mo.rf
    · cases h; exact mo.rf
  obtain ⟨hc47, h⟩ := ckC_some h
  obtain ⟨v48, hv48, h⟩ := bd1_some h
  obtain ⟨v49, t50, ht50, h⟩ := bd2_some h
  refine mo.tr (t1 := t50) (mo_C_mornings_2 ht50) ?_
  obtain ⟨hz, h⟩ := zr_some h
  cases h; exact mo.rf
theorem mo_C_played_p46 {k26 : CS → Nat → Int32 → Option (Int32 × CS)} (mk26 : ∀ (t : CS) (x2 : Nat) (x3 : Int32) (r : Int32) (t9 : CS), k26 t x2 x3 = some (r, t9) → mo t t9) {t : CS} {x2 : Nat} {x3 : Int32} {y0 : Int32} {r : Int32} {t9 : CS} (h : C_played_p46 k26 t x2 x3 y0 = some (r, t9)) : mo t t9 := by
  unfold C_played_p46 at h
  rcases ite_or h with ⟨c, h⟩ | ⟨c, h⟩
  · obtain ⟨hc2, h⟩ := ckC_some h
    obtain ⟨v3, hv3, h⟩ := bd1_some h
    obtain ⟨hc4, h⟩ := ckC_some h
    obtain ⟨hc5, h⟩ := ckC_some h
    obtain ⟨v6, hv6, h⟩ := bd1_some h
    cases h; exact mo.rf
  · obtain ⟨v1, ev1, h⟩ := lt1_ex h
    exact mk26 _ _ _ _ _ h
theorem mo_C_played_p26 : ∀ (n : Nat) (t : CS) (x2 : Nat) (x3 : Int32) (r : Int32) (t9 : CS), C_played_p26 n t x2 x3 = some (r, t9) → mo t t9 := by
  intro n
  induction n with
  | zero =>
    intro t x2 x3 r t9 h
    have h : none = some _ := h
    cases h
  | succ n ih =>
    intro t x2 x3 r t9 h
    rw [C_played_p26] at h
    obtain ⟨hc1, h⟩ := ckC_some h
    obtain ⟨v2, hv2, h⟩ := bd1_some h
    rcases ite_or h with ⟨c, h⟩ | ⟨c, h⟩
    · cases h; exact mo.rf
    · obtain ⟨hc3, h⟩ := ckC_some h
      obtain ⟨v4, hv4, h⟩ := bd1_some h
      obtain ⟨hc5, h⟩ := ckC_some h
      obtain ⟨v7, t6, ht6, h⟩ := bd2_some h
      refine mo.tr (t1 := t6) (mo_C_does ht6) ?_
      exact mo_C_played_p46 ih h
theorem mo_C_played {t : CS} {x1 : Int32} {r : Int32} {t9 : CS} (h : C_played t x1 = some (r, t9)) : mo t t9 := by
  unfold C_played at h
  obtain ⟨v1, hv1, h⟩ := bd1_some h
  rcases ite_or h with ⟨c, h⟩ | ⟨c, h⟩
  · cases h; exact mo.rf
  · obtain ⟨hi2, h⟩ := ck_some h
    obtain ⟨r3, hr3, h⟩ := bd1_some h
    obtain ⟨v4, hv4, h⟩ := bd1_some h
    exact mo_C_played_p26 fu _ _ _ _ _ h
theorem mo_C_draws {t : CS} {t9 : CS} (h : C_draws t = some t9) : mo t t9 := by
  unfold C_draws at h
  obtain ⟨hi1, h⟩ := ck_some h
  obtain ⟨hi2, h⟩ := ck_some h
  obtain ⟨t3, et3, h⟩ := lt1_ex h
  refine mo.tr (t1 := t3) (mo.nn (by rw [et3]; rfl)) ?_
  cases h; exact mo.rf
theorem mo_C_happens {t : CS} {x1 : Int32} {x2 : Int32} {t9 : CS} (h : C_happens t x1 x2 = some t9) : mo t t9 := by
  unfold C_happens at h
  obtain ⟨v1, ev1, h⟩ := lt1_ex h
  rcases ite_or h with ⟨c, h⟩ | ⟨c, h⟩
  · obtain ⟨hi2, h⟩ := ck_some h
    obtain ⟨hi3, h⟩ := ck_some h
    obtain ⟨t4, et4, h⟩ := lt1_ex h
    refine mo.tr (t1 := t4) (mo.nn (by rw [et4]; rfl)) ?_
    cases h; exact mo.rf
  rcases ite_or h with ⟨c, h⟩ | ⟨c, h⟩
  · obtain ⟨t5, ht5, h⟩ := bd1_some h
    refine mo.tr (t1 := t5) (mo_C_walks ht5) ?_
    cases h; exact mo.rf
  rcases ite_or h with ⟨c, h⟩ | ⟨c, h⟩
  · obtain ⟨hi6, h⟩ := ck_some h
    obtain ⟨t7, et7, h⟩ := lt1_ex h
    refine mo.tr (t1 := t7) (mo.nn (by rw [et7]; rfl)) ?_
    cases h; exact mo.rf
  obtain ⟨hi8, h⟩ := ck_some h
  rcases ite_or h with ⟨c, h⟩ | ⟨c, h⟩
  · cases h; exact mo.rf
  · obtain ⟨t9, ht9, h⟩ := bd1_some h
    refine mo.tr (t1 := t9) (mo_C_mornings ht9) ?_
    cases h; exact mo.rf
theorem mo_C_year_p47 : ∀ (n : Nat) (t : CS) (x2 : Int32) (x3 : Int32) (r : Int32) (t9 : CS), C_year_p47 n t x2 x3 = some (r, t9) → mo t t9 := by
  intro n
  induction n with
  | zero =>
    intro t x2 x3 r t9 h
    have h : none = some _ := h
    cases h
  | succ n ih =>
    intro t x2 x3 r t9 h
    rw [C_year_p47] at h
    rcases ite_or h with ⟨c, h⟩ | ⟨c, h⟩
    · obtain ⟨v1, hv1, h⟩ := bd1_some h
      cases h; exact mo.rf
    · obtain ⟨hi2, h⟩ := ck_some h
      obtain ⟨v3, ev3, h⟩ := lt1_ex h
      obtain ⟨t4, ht4, h⟩ := bd1_some h
      refine mo.tr (t1 := t4) (mo_C_draws ht4) ?_
      obtain ⟨hi5, h⟩ := ck_some h
      obtain ⟨t6, ht6, h⟩ := bd1_some h
      refine mo.tr (t1 := t6) (mo_C_happens ht6) ?_
      obtain ⟨t7, ht7, h⟩ := bd1_some h
      refine mo.tr (t1 := t7) (mo_C_draws ht7) ?_
      obtain ⟨v8, ev8, h⟩ := lt1_ex h
      exact ih _ _ _ _ _ h
theorem mo_C_year {t : CS} {x1 : Int32} {x2 : Int32} {r : Int32} {t9 : CS} (h : C_year t x1 x2 = some (r, t9)) : mo t t9 := by
  unfold C_year at h
  obtain ⟨v1, hv1, h⟩ := bd1_some h
  rcases ite_or h with ⟨c, h⟩ | ⟨c, h⟩
  · cases h; exact mo.rf
  · obtain ⟨v2, hv2, h⟩ := bd1_some h
    rcases ite_or h with ⟨c, h⟩ | ⟨c, h⟩
    · cases h; exact mo.rf
    · obtain ⟨t3, ht3, h⟩ := bd1_some h
      refine mo.tr (t1 := t3) (mo_C_X1_keeps ht3) ?_
      obtain ⟨hi4, h⟩ := ck_some h
      obtain ⟨t5, et5, h⟩ := lt1_ex h
      refine mo.tr (t1 := t5) (mo.nn (by rw [et5]; rfl)) ?_
      exact mo_C_year_p47 fu _ _ _ _ _ h
theorem mo_C_undo {t : CS} {r : Int32} {t9 : CS} (h : C_undo t = some (r, t9)) : mo t t9 := by
  unfold C_undo at h
  obtain ⟨hi1, h⟩ := ck_some h
  rcases ite_or h with ⟨c, h⟩ | ⟨c, h⟩
  · cases h; exact mo.rf
  · obtain ⟨hi2, h⟩ := ck_some h
    obtain ⟨hi3, h⟩ := ck_some h
    obtain ⟨t4, et4, h⟩ := lt1_ex h
    refine mo.tr (t1 := t4) (mo.nn (by rw [et4]; rfl)) ?_
    obtain ⟨hi5, h⟩ := ck_some h
    obtain ⟨hi6, h⟩ := ck_some h
    obtain ⟨t7, et7, h⟩ := lt1_ex h
    refine mo.tr (t1 := t7) (mo.nn (by rw [et7]; rfl)) ?_
    obtain ⟨hi8, h⟩ := ck_some h
    cases h; exact mo.rf
theorem mo_C_of {t : CS} {x1 : Int32} {x2 : Int32} {r : Int32} {t9 : CS} (h : C_of t x1 x2 = some (r, t9)) : mo t t9 := by
  unfold C_of at h
  obtain ⟨v1, hv1, h⟩ := bd1_some h
  rcases ite_or h with ⟨c, h⟩ | ⟨c, h⟩
  · cases h; exact mo.rf
  · rcases ite_or h with ⟨c, h⟩ | ⟨c, h⟩
    · obtain ⟨hi2, h⟩ := ck_some h
      cases h; exact mo.rf
    rcases ite_or h with ⟨c, h⟩ | ⟨c, h⟩
    · obtain ⟨hi3, h⟩ := ck_some h
      cases h; exact mo.rf
    rcases ite_or h with ⟨c, h⟩ | ⟨c, h⟩
    · obtain ⟨v4, hv4, h⟩ := bd1_some h
      rcases ite_or h with ⟨c, h⟩ | ⟨c, h⟩
      · cases h; exact mo.rf
      · cases h; exact mo.rf
    rcases ite_or h with ⟨c, h⟩ | ⟨c, h⟩
    · obtain ⟨hi5, h⟩ := ck_some h
      cases h; exact mo.rf
    rcases ite_or h with ⟨c, h⟩ | ⟨c, h⟩
    · obtain ⟨hi6, h⟩ := ck_some h
      cases h; exact mo.rf
    rcases ite_or h with ⟨c, h⟩ | ⟨c, h⟩
    · obtain ⟨v7, hv7, h⟩ := bd1_some h
      cases h; exact mo.rf
    rcases ite_or h with ⟨c, h⟩ | ⟨c, h⟩
    · obtain ⟨v8, t9, ht9, h⟩ := bd2_some h
      refine mo.tr (t1 := t9) (mo_C_changes ht9) ?_
      rcases ite_or h with ⟨c, h⟩ | ⟨c, h⟩
      · cases h; exact mo.rf
      · cases h; exact mo.rf
    cases h; exact mo.rf
theorem mo_C_said_p82 : ∀ (n : Nat) (t : CS) (x1 : Int32) (x4 : Int32) (x5 : Int32) (r : Int32) (t9 : CS), C_said_p82 n t x1 x4 x5 = some (r, t9) → mo t t9 := by
  intro n
  induction n with
  | zero =>
    intro t x1 x4 x5 r t9 h
    have h : none = some _ := h
    cases h
  | succ n ih =>
    intro t x1 x4 x5 r t9 h
    rw [C_said_p82] at h
    obtain ⟨hi1, h⟩ := ck_some h
    obtain ⟨r2, hr2, h⟩ := bd1_some h
    obtain ⟨v3, hv3, h⟩ := bd1_some h
    rcases ite_or h with ⟨c, h⟩ | ⟨c, h⟩
    · cases h; exact mo.rf
    · obtain ⟨hi4, h⟩ := ck_some h
      obtain ⟨hi5, h⟩ := ck_some h
      obtain ⟨r6, hr6, h⟩ := bd1_some h
      obtain ⟨hc7, h⟩ := ckC_some h
      obtain ⟨v8, hv8, h⟩ := bd1_some h
      obtain ⟨v9, ev9, h⟩ := lt1_ex h
      obtain ⟨v10, ev10, h⟩ := lt1_ex h
      exact ih _ _ _ _ _ _ h
theorem mo_C_said_p56 {t : CS} {x1 : Int32} {x3 : Int32} {y1 : Int32} {y2 : Int32} {r : Int32} {t9 : CS} (h : C_said_p56 t x1 x3 y1 y2 = some (r, t9)) : mo t t9 := by
  unfold C_said_p56 at h
  obtain ⟨v1, t2, ht2, h⟩ := bd2_some h
  refine mo.tr (t1 := t2) (mo_C_says ht2) ?_
  rcases ite_or h with ⟨c, h⟩ | ⟨c, h⟩
  · cases h; exact mo.rf
  · rcases ite_or h with ⟨c, h⟩ | ⟨c, h⟩
    · exact mo_C_said_p82 fu _ _ _ _ _ _ h
    · obtain ⟨hi3, h⟩ := ck_some h
      cases h; exact mo.rf
theorem mo_C_said {t : CS} {x1 : Int32} {x2 : Int32} {x3 : Int32} {r : Int32} {t9 : CS} (h : C_said t x1 x2 x3 = some (r, t9)) : mo t t9 := by
  unfold C_said at h
  obtain ⟨v1, hv1, h⟩ := bd1_some h
  rcases ite_or h with ⟨c, h⟩ | ⟨c, h⟩
  · cases h; exact mo.rf
  · obtain ⟨v2, hv2, h⟩ := bd1_some h
    rcases ite_or h with ⟨c, h⟩ | ⟨c, h⟩
    · cases h; exact mo.rf
    · obtain ⟨hi3, h⟩ := ck_some h
      obtain ⟨r4, hr4, h⟩ := bd1_some h
      obtain ⟨v5, hv5, h⟩ := bd1_some h
      obtain ⟨v6, hv6, h⟩ := bd1_some h
      rcases ite_or h with ⟨c, h⟩ | ⟨c, h⟩
      · cases h; exact mo.rf
      · rcases ite_or h with ⟨c, h⟩ | ⟨c, h⟩
        · obtain ⟨v7, hv7, h⟩ := bd1_some h
          exact mo_C_said_p56 h
        · exact mo_C_said_p56 h
theorem mo_C_priceOf_p66 {k35 : CS → Nat → Int32 → Nat → Int32 → Int32 → Option (Int32 × CS)} (mk35 : ∀ (t : CS) (x1 : Nat) (x2 : Int32) (x3 : Nat) (x4 : Int32) (x5 : Int32) (r : Int32) (t9 : CS), k35 t x1 x2 x3 x4 x5 = some (r, t9) → mo t t9) {t : CS} {x1 : Nat} {x3 : Nat} {x4 : Int32} {x5 : Int32} {y0 : Int32} {y1 : Int32} {r : Int32} {t9 : CS} (h : C_priceOf_p66 k35 t x1 x3 x4 x5 y0 y1 = some (r, t9)) : mo t t9 := by
  unfold C_priceOf_p66 at h
  obtain ⟨v1, ev1, h⟩ := lt1_ex h
  obtain ⟨v2, ev2, h⟩ := lt1_ex h
  exact mk35 _ _ _ _ _ _ _ _ h
theorem mo_C_priceOf_p35 : ∀ (n : Nat) (t : CS) (x1 : Nat) (x2 : Int32) (x3 : Nat) (x4 : Int32) (x5 : Int32) (r : Int32) (t9 : CS), C_priceOf_p35 n t x1 x2 x3 x4 x5 = some (r, t9) → mo t t9 := by
  intro n
  induction n with
  | zero =>
    intro t x1 x2 x3 x4 x5 r t9 h
    have h : none = some _ := h
    cases h
  | succ n ih =>
    intro t x1 x2 x3 x4 x5 r t9 h
    rw [C_priceOf_p35] at h
    rcases ite_or h with ⟨c, h⟩ | ⟨c, h⟩
    · obtain ⟨hc1, h⟩ := ckC_some h
      obtain ⟨v2, hv2, h⟩ := bd1_some h
      obtain ⟨hi3, h⟩ := ck_some h
      obtain ⟨t4, et4, h⟩ := lt1_ex h
      refine mo.tr (t1 := t4) (mo.nn (by rw [et4]; rfl)) ?_
      obtain ⟨hc5, h⟩ := ckC_some h
      obtain ⟨v6, hv6, h⟩ := bd1_some h
      obtain ⟨hi7, h⟩ := ck_some h
      obtain ⟨t8, et8, h⟩ := lt1_ex h
      refine mo.tr (t1 := t8) (mo.nn (by rw [et8]; rfl)) ?_
      obtain ⟨hi9, h⟩ := ck_some h
      obtain ⟨t10, et10, h⟩ := lt1_ex h
      refine mo.tr (t1 := t10) (mo.nn (by rw [et10]; rfl)) ?_
      obtain ⟨v11, hv11, h⟩ := bd1_some h
      obtain ⟨v12, hv12, h⟩ := bd1_some h
      replace h := bd1_some h
      obtain ⟨r13, hr_, h⟩ := h
      subst hr_
      obtain ⟨v14, hv14, h⟩ := bd1_some h
      cases h; exact mo.rf
    · obtain ⟨v15, hv15, h⟩ := bd1_some h
      obtain ⟨v16, hv16, h⟩ := bd1_some h
      rcases ite_or h with ⟨c, h⟩ | ⟨c, h⟩
      · exact mo_C_priceOf_p66 ih h
      · exact mo_C_priceOf_p66 ih h
theorem mo_C_priceOf {t : CS} {x1 : Nat} {r : Int32} {t9 : CS} (h : C_priceOf t x1 = some (r, t9)) : mo t t9 := by
  unfold C_priceOf at h
  obtain ⟨v1, hv1, h⟩ := bd1_some h
  obtain ⟨v2, hv2, h⟩ := bd1_some h
  rcases on1_some h with ⟨ho, h⟩ | ⟨r3, ho, h⟩
  · obtain ⟨hc4, h⟩ := ckC_some h
    obtain ⟨v5, hv5, h⟩ := bd1_some h
    cases h; exact mo.rf
  · obtain ⟨t6, ht6, h⟩ := bd1_some h
    refine mo.tr (t1 := t6) (mo_C_names ht6) ?_
    obtain ⟨hc7, h⟩ := ckC_some h
    obtain ⟨v8, hv8, h⟩ := bd1_some h
    obtain ⟨v9, hv9, h⟩ := bd1_some h
    obtain ⟨v10, ev10, h⟩ := lt1_ex h
    exact mo_C_priceOf_p35 fu _ _ _ _ _ _ _ _ h
theorem mo_C_dear_p29 : ∀ (n : Nat) (t : CS) (x1 : Int32) (x2 : Int32) (x3 : Int32) (r : Int32) (t9 : CS), C_dear_p29 n t x1 x2 x3 = some (r, t9) → mo t t9 := by
  intro n
  induction n with
  | zero =>
    intro t x1 x2 x3 r t9 h
    have h : none = some _ := h
    cases h
  | succ n ih =>
    intro t x1 x2 x3 r t9 h
    rw [C_dear_p29] at h
    obtain ⟨hi1, h⟩ := ck_some h
    obtain ⟨r2, hr2, h⟩ := bd1_some h
    obtain ⟨v3, hv3, h⟩ := bd1_some h
    rcases ite_or h with ⟨c, h⟩ | ⟨c, h⟩
    · cases h; exact mo.rf
    · obtain ⟨hi4, h⟩ := ck_some h
      obtain ⟨hi5, h⟩ := ck_some h
      obtain ⟨r6, hr6, h⟩ := bd1_some h
      obtain ⟨v7, t8, ht8, h⟩ := bd2_some h
      refine mo.tr (t1 := t8) (mo_C_priceOf ht8) ?_
      obtain ⟨v9, ev9, h⟩ := lt1_ex h
      obtain ⟨v10, ev10, h⟩ := lt1_ex h
      exact ih _ _ _ _ _ _ h
theorem mo_C_dear {t : CS} {x1 : Int32} {r : Int32} {t9 : CS} (h : C_dear t x1 = some (r, t9)) : mo t t9 := by
  unfold C_dear at h
  obtain ⟨v1, hv1, h⟩ := bd1_some h
  rcases ite_or h with ⟨c, h⟩ | ⟨c, h⟩
  · cases h; exact mo.rf
  · obtain ⟨v2, hv2, h⟩ := bd1_some h
    obtain ⟨v3, t4, ht4, h⟩ := bd2_some h
    refine mo.tr (t1 := t4) (mo_C_says ht4) ?_
    rcases ite_or h with ⟨c, h⟩ | ⟨c, h⟩
    · cases h; exact mo.rf
    · exact mo_C_dear_p29 fu _ _ _ _ _ _ h
theorem mo_C_stops_p24 {rec : CS → Int32 → Int32 → Int32 → Int32 → Option (Int32 × CS)} (mrec : ∀ (t : CS) (x1 : Int32) (x2 : Int32) (x3 : Int32) (x4 : Int32) (r : Int32) (t9 : CS), rec t x1 x2 x3 x4 = some (r, t9) → mo t t9) : ∀ (n : Nat) (t : CS) (x1 : Int32) (x3 : Int32) (x4 : Int32) (x5 : Int32) (r : Int32) (t9 : CS), C_stops_p24 rec n t x1 x3 x4 x5 = some (r, t9) → mo t t9 := by
  intro n
  induction n with
  | zero =>
    intro t x1 x3 x4 x5 r t9 h
    have h : none = some _ := h
    cases h
  | succ n ih =>
    intro t x1 x3 x4 x5 r t9 h
    rw [C_stops_p24] at h
    rcases ite_or h with ⟨c, h⟩ | ⟨c, h⟩
    · cases h; exact mo.rf
    · obtain ⟨v1, t2, ht2, h⟩ := bd2_some h
      refine mo.tr (t1 := t2) (mrec _ _ _ _ _ _ _ ht2) ?_
      rcases ite_or h with ⟨c, h⟩ | ⟨c, h⟩
      · obtain ⟨v3, ev3, h⟩ := lt1_ex h
        exact ih _ _ _ _ _ _ _ h
      · cases h; exact mo.rf
theorem mo_C_stops_b {rec : CS → Int32 → Int32 → Int32 → Int32 → Option (Int32 × CS)} (mrec : ∀ (t : CS) (x1 : Int32) (x2 : Int32) (x3 : Int32) (x4 : Int32) (r : Int32) (t9 : CS), rec t x1 x2 x3 x4 = some (r, t9) → mo t t9) {t : CS} {x1 : Int32} {x2 : Int32} {x3 : Int32} {x4 : Int32} {r : Int32} {t9 : CS} (h : C_stops_b rec t x1 x2 x3 x4 = some (r, t9)) : mo t t9 := by
  unfold C_stops_b at h
  rcases ite_or h with ⟨c, h⟩ | ⟨c, h⟩
  · obtain ⟨v1, t2, ht2, h⟩ := bd2_some h
    refine mo.tr (t1 := t2) (mo_C_says ht2) ?_
    rcases ite_or h with ⟨c, h⟩ | ⟨c, h⟩
    · cases h; exact mo.rf
    · cases h; exact mo.rf
  · exact mo_C_stops_p24 mrec fu _ _ _ _ _ _ _ h
theorem mo_C_stops : ∀ (n : Nat) (t : CS) (x1 : Int32) (x2 : Int32) (x3 : Int32) (x4 : Int32) (r : Int32) (t9 : CS), C_stops n t x1 x2 x3 x4 = some (r, t9) → mo t t9 := by
  intro n
  induction n with
  | zero =>
    intro t x1 x2 x3 x4 r t9 h
    have h : none = some _ := h
    cases h
  | succ n ih =>
    intro t x1 x2 x3 x4 r t9 h
    rw [C_stops] at h
    exact mo_C_stops_b ih h
theorem mo_C_stop_p12 : ∀ (n : Nat) (t : CS) (x1 : Int32) (x2 : Int32) (r : Int32) (t9 : CS), C_stop_p12 n t x1 x2 = some (r, t9) → mo t t9 := by
  intro n
  induction n with
  | zero =>
    intro t x1 x2 r t9 h
    have h : none = some _ := h
    cases h
  | succ n ih =>
    intro t x1 x2 r t9 h
    rw [C_stop_p12] at h
    rcases ite_or h with ⟨c, h⟩ | ⟨c, h⟩
    · cases h; exact mo.rf
    · obtain ⟨v1, t2, ht2, h⟩ := bd2_some h
      refine mo.tr (t1 := t2) (mo_C_stops 64 _ _ _ _ _ _ _ ht2) ?_
      rcases ite_or h with ⟨c, h⟩ | ⟨c, h⟩
      · obtain ⟨v3, ev3, h⟩ := lt1_ex h
        exact ih _ _ _ _ _ h
      · cases h; exact mo.rf
theorem mo_C_stop {t : CS} {x1 : Int32} {r : Int32} {t9 : CS} (h : C_stop t x1 = some (r, t9)) : mo t t9 := by
  unfold C_stop at h
  obtain ⟨v1, hv1, h⟩ := bd1_some h
  rcases ite_or h with ⟨c, h⟩ | ⟨c, h⟩
  · cases h; exact mo.rf
  · exact mo_C_stop_p12 fu _ _ _ _ _ h
theorem mo_C_lost_p32 {k4 : CS → Int32 → Int32 → Int32 → Option (Int32 × CS)} (mk4 : ∀ (t : CS) (x1 : Int32) (x2 : Int32) (x3 : Int32) (r : Int32) (t9 : CS), k4 t x1 x2 x3 = some (r, t9) → mo t t9) {t : CS} {x1 : Int32} {x3 : Int32} {y0 : Int32} {y1 : Int32} {r : Int32} {t9 : CS} (h : C_lost_p32 k4 t x1 x3 y0 y1 = some (r, t9)) : mo t t9 := by
  unfold C_lost_p32 at h
  obtain ⟨v1, ev1, h⟩ := lt1_ex h
  obtain ⟨v2, ev2, h⟩ := lt1_ex h
  exact mk4 _ _ _ _ _ _ h
theorem mo_C_lost_p4 : ∀ (n : Nat) (t : CS) (x1 : Int32) (x2 : Int32) (x3 : Int32) (r : Int32) (t9 : CS), C_lost_p4 n t x1 x2 x3 = some (r, t9) → mo t t9 := by
  intro n
  induction n with
  | zero =>
    intro t x1 x2 x3 r t9 h
    have h : none = some _ := h
    cases h
  | succ n ih =>
    intro t x1 x2 x3 r t9 h
    rw [C_lost_p4] at h
    obtain ⟨hi1, h⟩ := ck_some h
    rcases ite_or h with ⟨c, h⟩ | ⟨c, h⟩
    · cases h; exact mo.rf
    · obtain ⟨v2, t3, ht3, h⟩ := bd2_some h
      refine mo.tr (t1 := t3) (mo_C_says ht3) ?_
      rcases ite_or h with ⟨c, h⟩ | ⟨c, h⟩
      · exact mo_C_lost_p32 ih h
      · exact mo_C_lost_p32 ih h
theorem mo_C_lost {t : CS} {x1 : Int32} {r : Int32} {t9 : CS} (h : C_lost t x1 = some (r, t9)) : mo t t9 := by
  unfold C_lost at h
  exact mo_C_lost_p4 fu _ _ _ _ _ _ h
theorem mo_C_spared_p39 {k7 : CS → Int32 → Int32 → Int32 → Int32 → Option (Int32 × CS)} (mk7 : ∀ (t : CS) (x1 : Int32) (x2 : Int32) (x3 : Int32) (x4 : Int32) (r : Int32) (t9 : CS), k7 t x1 x2 x3 x4 = some (r, t9) → mo t t9) {t : CS} {x1 : Int32} {x2 : Int32} {x3 : Int32} {x4 : Int32} {r : Int32} {t9 : CS} (h : C_spared_p39 k7 t x1 x2 x3 x4 = some (r, t9)) : mo t t9 := by
  unfold C_spared_p39 at h
  obtain ⟨v1, ev1, h⟩ := lt1_ex h
  exact mk7 _ _ _ _ _ _ _ h
theorem mo_C_spared_p7 : ∀ (n : Nat) (t : CS) (x1 : Int32) (x2 : Int32) (x3 : Int32) (x4 : Int32) (r : Int32) (t9 : CS), C_spared_p7 n t x1 x2 x3 x4 = some (r, t9) → mo t t9 := by
  intro n
  induction n with
  | zero =>
    intro t x1 x2 x3 x4 r t9 h
    have h : none = some _ := h
    cases h
  | succ n ih =>
    intro t x1 x2 x3 x4 r t9 h
    rw [C_spared_p7] at h
    rcases ite_or h with ⟨c, h⟩ | ⟨c, h⟩
    · rcases ite_or h with ⟨c, h⟩ | ⟨c, h⟩
      · cases h; exact mo.rf
      · cases h; exact mo.rf
    · obtain ⟨v1, t2, ht2, h⟩ := bd2_some h
      refine mo.tr (t1 := t2) (mo_C_lost ht2) ?_
      rcases ite_or h with ⟨c, h⟩ | ⟨c, h⟩
      · exact mo_C_spared_p39 ih h
      · exact mo_C_spared_p39 ih h
theorem mo_C_spared {t : CS} {x1 : Int32} {r : Int32} {t9 : CS} (h : C_spared t x1 = some (r, t9)) : mo t t9 := by
  unfold C_spared at h
  exact mo_C_spared_p7 fu _ _ _ _ _ _ _ h
theorem mo_C_power_p124 {k57 : CS → Int32 → Int32 → Int32 → Int32 → Int32 → Int32 → Int32 → Int32 → Option (Int32 × CS)} (mk57 : ∀ (t : CS) (x1 : Int32) (x3 : Int32) (x4 : Int32) (x5 : Int32) (x6 : Int32) (x7 : Int32) (x8 : Int32) (x9 : Int32) (r : Int32) (t9 : CS), k57 t x1 x3 x4 x5 x6 x7 x8 x9 = some (r, t9) → mo t t9) {t : CS} {x1 : Int32} {x3 : Int32} {x4 : Int32} {x5 : Int32} {x6 : Int32} {x7 : Int32} {x8 : Int32} {y0 : Int32} {r : Int32} {t9 : CS} (h : C_power_p124 k57 t x1 x3 x4 x5 x6 x7 x8 y0 = some (r, t9)) : mo t t9 := by
  unfold C_power_p124 at h
  obtain ⟨v1, ev1, h⟩ := lt1_ex h
  exact mk57 _ _ _ _ _ _ _ _ _ _ _ h
theorem mo_C_power_p114 {k57 : CS → Int32 → Int32 → Int32 → Int32 → Int32 → Int32 → Int32 → Int32 → Option (Int32 × CS)} (mk57 : ∀ (t : CS) (x1 : Int32) (x3 : Int32) (x4 : Int32) (x5 : Int32) (x6 : Int32) (x7 : Int32) (x8 : Int32) (x9 : Int32) (r : Int32) (t9 : CS), k57 t x1 x3 x4 x5 x6 x7 x8 x9 = some (r, t9) → mo t t9) {t : CS} {x1 : Int32} {x3 : Int32} {x4 : Int32} {x5 : Int32} {x6 : Int32} {x7 : Int32} {x8 : Int32} {r : Int32} {t9 : CS} (h : C_power_p114 k57 t x1 x3 x4 x5 x6 x7 x8 = some (r, t9)) : mo t t9 := by
  unfold C_power_p114 at h
  rcases ite_or h with ⟨c, h⟩ | ⟨c, h⟩
  · exact mo_C_power_p124 mk57 h
  · exact mo_C_power_p124 mk57 h
theorem mo_C_power_p57 : ∀ (n : Nat) (t : CS) (x1 : Int32) (x3 : Int32) (x4 : Int32) (x5 : Int32) (x6 : Int32) (x7 : Int32) (x8 : Int32) (x9 : Int32) (r : Int32) (t9 : CS), C_power_p57 n t x1 x3 x4 x5 x6 x7 x8 x9 = some (r, t9) → mo t t9 := by
  intro n
  induction n with
  | zero =>
    intro t x1 x3 x4 x5 x6 x7 x8 x9 r t9 h
    have h : none = some _ := h
    cases h
  | succ n ih =>
    intro t x1 x3 x4 x5 x6 x7 x8 x9 r t9 h
    rw [C_power_p57] at h
    rcases ite_or h with ⟨c, h⟩ | ⟨c, h⟩
    · obtain ⟨v1, hv1, h⟩ := bd1_some h
      obtain ⟨v2, hv2, h⟩ := bd1_some h
      cases h; exact mo.rf
    · obtain ⟨v3, hv3, h⟩ := bd1_some h
      obtain ⟨v4, t5, ht5, h⟩ := bd2_some h
      refine mo.tr (t1 := t5) (mo_C_says ht5) ?_
      rcases ite_or h with ⟨c, h⟩ | ⟨c, h⟩
      · exact mo_C_power_p114 ih h
      · obtain ⟨v6, t7, ht7, h⟩ := bd2_some h
        refine mo.tr (t1 := t7) (mo_C_says ht7) ?_
        rcases ite_or h with ⟨c, h⟩ | ⟨c, h⟩
        · obtain ⟨v8, hv8, h⟩ := bd1_some h
          obtain ⟨v9, hv9, h⟩ := bd1_some h
          obtain ⟨v10, ev10, h⟩ := lt1_ex h
          exact mo_C_power_p114 ih h
        · exact mo_C_power_p114 ih h
theorem mo_C_power {t : CS} {x1 : Int32} {x2 : Int32} {x3 : Int32} {x4 : Int32} {r : Int32} {t9 : CS} (h : C_power t x1 x2 x3 x4 = some (r, t9)) : mo t t9 := by
  unfold C_power at h
  obtain ⟨v1, hv1, h⟩ := bd1_some h
  rcases ite_or h with ⟨c, h⟩ | ⟨c, h⟩
  · cases h; exact mo.rf
  · obtain ⟨v2, hv2, h⟩ := bd1_some h
    rcases ite_or h with ⟨c, h⟩ | ⟨c, h⟩
    · cases h; exact mo.rf
    · obtain ⟨v3, hv3, h⟩ := bd1_some h
      rcases ite_or h with ⟨c, h⟩ | ⟨c, h⟩
      · cases h; exact mo.rf
      · obtain ⟨v4, hv4, h⟩ := bd1_some h
        rcases ite_or h with ⟨c, h⟩ | ⟨c, h⟩
        · cases h; exact mo.rf
        · obtain ⟨v5, ev5, h⟩ := lt1_ex h
          obtain ⟨v6, hv6, h⟩ := bd1_some h
          exact mo_C_power_p57 fu _ _ _ _ _ _ _ _ _ _ _ h
theorem mo_C_party {t : CS} {x1 : Int32} {r : Int32} {t9 : CS} (h : C_party t x1 = some (r, t9)) : mo t t9 := by
  unfold C_party at h
  rcases ite_or h with ⟨c, h⟩ | ⟨c, h⟩
  · obtain ⟨hi10, h⟩ := ck_some h
    obtain ⟨t11, et11, h⟩ := lt1_ex h
    refine mo.tr (t1 := t11) (mo.nn (by rw [et11]; rfl)) ?_
    cases h; exact mo.rf
  · obtain ⟨v1, hv1, h⟩ := bd1_some h
    rcases ite_or h with ⟨c, h⟩ | ⟨c, h⟩
    · cases h; exact mo.rf
    · obtain ⟨hi2, h⟩ := ck_some h
      rcases ite_or h with ⟨c, h⟩ | ⟨c, h⟩
      · cases h; exact mo.rf
      · obtain ⟨hi3, h⟩ := ck_some h
        obtain ⟨hi4, h⟩ := ck_some h
        obtain ⟨t5, et5, h⟩ := lt1_ex h
        refine mo.tr (t1 := t5) (mo.nn (by rw [et5]; rfl)) ?_
        obtain ⟨hi6, h⟩ := ck_some h
        obtain ⟨hi7, h⟩ := ck_some h
        obtain ⟨t8, et8, h⟩ := lt1_ex h
        refine mo.tr (t1 := t8) (mo.nn (by rw [et8]; rfl)) ?_
        obtain ⟨hi9, h⟩ := ck_some h
        cases h; exact mo.rf
theorem mo_C_worthOf_p39 {k4 : CS → Int32 → Int32 → Int32 → Option (Int32 × CS)} (mk4 : ∀ (t : CS) (x1 : Int32) (x2 : Int32) (x3 : Int32) (r : Int32) (t9 : CS), k4 t x1 x2 x3 = some (r, t9) → mo t t9) {t : CS} {x1 : Int32} {x3 : Int32} {y0 : Int32} {y1 : Int32} {r : Int32} {t9 : CS} (h : C_worthOf_p39 k4 t x1 x3 y0 y1 = some (r, t9)) : mo t t9 := by
  unfold C_worthOf_p39 at h
  obtain ⟨v1, ev1, h⟩ := lt1_ex h
  obtain ⟨v2, ev2, h⟩ := lt1_ex h
  exact mk4 _ _ _ _ _ _ h
theorem mo_C_worthOf_p4 : ∀ (n : Nat) (t : CS) (x1 : Int32) (x2 : Int32) (x3 : Int32) (r : Int32) (t9 : CS), C_worthOf_p4 n t x1 x2 x3 = some (r, t9) → mo t t9 := by
  intro n
  induction n with
  | zero =>
    intro t x1 x2 x3 r t9 h
    have h : none = some _ := h
    cases h
  | succ n ih =>
    intro t x1 x2 x3 r t9 h
    rw [C_worthOf_p4] at h
    obtain ⟨hi1, h⟩ := ck_some h
    rcases ite_or h with ⟨c, h⟩ | ⟨c, h⟩
    · obtain ⟨v2, t3, ht3, h⟩ := bd2_some h
      refine mo.tr (t1 := t3) (mo_C_lost ht3) ?_
      cases h; exact mo.rf
    · obtain ⟨v4, hv4, h⟩ := bd1_some h
      rcases ite_or h with ⟨c, h⟩ | ⟨c, h⟩
      · exact mo_C_worthOf_p39 ih h
      · obtain ⟨hi5, h⟩ := ck_some h
        exact mo_C_worthOf_p39 ih h
theorem mo_C_worthOf {t : CS} {x1 : Int32} {r : Int32} {t9 : CS} (h : C_worthOf t x1 = some (r, t9)) : mo t t9 := by
  unfold C_worthOf at h
  exact mo_C_worthOf_p4 fu _ _ _ _ _ _ h
theorem mo_C_worth {t : CS} {x1 : Int32} {r : Int32} {t9 : CS} (h : C_worth t x1 = some (r, t9)) : mo t t9 := by
  unfold C_worth at h
  obtain ⟨hi1, h⟩ := ck_some h
  obtain ⟨v2, hv2, h⟩ := bd1_some h
  rcases ite_or h with ⟨c, h⟩ | ⟨c, h⟩
  · cases h; exact mo.rf
  · obtain ⟨v3, t4, ht4, h⟩ := bd2_some h
    refine mo.tr (t1 := t4) (mo_C_worthOf ht4) ?_
    cases h; exact mo.rf
theorem mo_C_shares_p29 {rec : CS → Int32 → Int32 → Option (Int32 × CS)} (mrec : ∀ (t : CS) (x1 : Int32) (x2 : Int32) (r : Int32) (t9 : CS), rec t x1 x2 = some (r, t9) → mo t t9) : ∀ (n : Nat) (t : CS) (x1 : Int32) (x2 : Int32) (x3 : Int32) (r : Int32) (t9 : CS), C_shares_p29 rec n t x1 x2 x3 = some (r, t9) → mo t t9 := by
  intro n
  induction n with
  | zero =>
    intro t x1 x2 x3 r t9 h
    have h : none = some _ := h
    cases h
  | succ n ih =>
    intro t x1 x2 x3 r t9 h
    rw [C_shares_p29] at h
    rcases ite_or h with ⟨c, h⟩ | ⟨c, h⟩
    · cases h; exact mo.rf
    · obtain ⟨hi1, h⟩ := ck_some h
      obtain ⟨t2, et2, h⟩ := lt1_ex h
      refine mo.tr (t1 := t2) (mo.nn (by rw [et2]; rfl)) ?_
      obtain ⟨v3, t4, ht4, h⟩ := bd2_some h
      refine mo.tr (t1 := t4) (mrec _ _ _ _ _ ht4) ?_
      rcases ite_or h with ⟨c, h⟩ | ⟨c, h⟩
      · obtain ⟨v5, ev5, h⟩ := lt1_ex h
        exact ih _ _ _ _ _ _ h
      · cases h; exact mo.rf
theorem mo_C_shares_b {rec : CS → Int32 → Int32 → Option (Int32 × CS)} (mrec : ∀ (t : CS) (x1 : Int32) (x2 : Int32) (r : Int32) (t9 : CS), rec t x1 x2 = some (r, t9) → mo t t9) {t : CS} {x1 : Int32} {x2 : Int32} {r : Int32} {t9 : CS} (h : C_shares_b rec t x1 x2 = some (r, t9)) : mo t t9 := by
  unfold C_shares_b at h
  obtain ⟨hi1, h⟩ := ck_some h
  rcases ite_or h with ⟨c, h⟩ | ⟨c, h⟩
  · obtain ⟨hi2, h⟩ := ck_some h
    obtain ⟨t3, et3, h⟩ := lt1_ex h
    refine mo.tr (t1 := t3) (mo.nn (by rw [et3]; rfl)) ?_
    obtain ⟨v4, hv4, h⟩ := bd1_some h
    obtain ⟨hz, h⟩ := zr_some h
    cases h; exact mo.rf
  · exact mo_C_shares_p29 mrec fu _ _ _ _ _ _ h
theorem mo_C_shares : ∀ (n : Nat) (t : CS) (x1 : Int32) (x2 : Int32) (r : Int32) (t9 : CS), C_shares n t x1 x2 = some (r, t9) → mo t t9 := by
  intro n
  induction n with
  | zero =>
    intro t x1 x2 r t9 h
    have h : none = some _ := h
    cases h
  | succ n ih =>
    intro t x1 x2 r t9 h
    rw [C_shares] at h
    exact mo_C_shares_b ih h
theorem mo_C_core_p33 : ∀ (n : Nat) (t : CS) (x1 : Int32) (x2 : Int32) (x3 : Int32) (r : Int32) (t9 : CS), C_core_p33 n t x1 x2 x3 = some (r, t9) → mo t t9 := by
  intro n
  induction n with
  | zero =>
    intro t x1 x2 x3 r t9 h
    have h : none = some _ := h
    cases h
  | succ n ih =>
    intro t x1 x2 x3 r t9 h
    rw [C_core_p33] at h
    obtain ⟨hi1, h⟩ := ck_some h
    rcases ite_or h with ⟨c, h⟩ | ⟨c, h⟩
    · obtain ⟨v2, t3, ht3, h⟩ := bd2_some h
      refine mo.tr (t1 := t3) (mo_C_shares 64 _ _ _ _ _ ht3) ?_
      rcases ite_or h with ⟨c, h⟩ | ⟨c, h⟩
      · cases h; exact mo.rf
      · obtain ⟨hi4, h⟩ := ck_some h
        cases h; exact mo.rf
    · obtain ⟨v5, t6, ht6, h⟩ := bd2_some h
      refine mo.tr (t1 := t6) (mo_C_worthOf ht6) ?_
      obtain ⟨hi7, h⟩ := ck_some h
      obtain ⟨t8, et8, h⟩ := lt1_ex h
      refine mo.tr (t1 := t8) (mo.nn (by rw [et8]; rfl)) ?_
      obtain ⟨v9, ev9, h⟩ := lt1_ex h
      exact ih _ _ _ _ _ _ h
theorem mo_C_core {t : CS} {x1 : Int32} {x2 : Int32} {r : Int32} {t9 : CS} (h : C_core t x1 x2 = some (r, t9)) : mo t t9 := by
  unfold C_core at h
  obtain ⟨v1, hv1, h⟩ := bd1_some h
  rcases ite_or h with ⟨c, h⟩ | ⟨c, h⟩
  · cases h; exact mo.rf
  · obtain ⟨hi2, h⟩ := ck_some h
    obtain ⟨v3, hv3, h⟩ := bd1_some h
    rcases ite_or h with ⟨c, h⟩ | ⟨c, h⟩
    · cases h; exact mo.rf
    · exact mo_C_core_p33 fu _ _ _ _ _ _ h
theorem mo_J_J0_fill_2_110_p5 : ∀ (n : Nat) (t : CS) (x1 : Int32) (x2 : Int32) (x3 : Int32) (t9 : CS), J_J0_fill_2_110_p5 n t x1 x2 x3 = some t9 → mo t t9 := by
  intro n
  induction n with
  | zero =>
    intro t x1 x2 x3 t9 h
    have h : none = some _ := h
    cases h
  | succ n ih =>
    intro t x1 x2 x3 t9 h
    rw [J_J0_fill_2_110_p5] at h
    rcases ite_or h with ⟨c, h⟩ | ⟨c, h⟩
    · cases h; exact mo.rf
    · obtain ⟨hi1, h⟩ := ck_some h
      obtain ⟨t2, et2, h⟩ := lt1_ex h
      refine mo.tr (t1 := t2) (mo.nn (by rw [et2]; rfl)) ?_
      obtain ⟨v3, ev3, h⟩ := lt1_ex h
      exact ih _ _ _ _ _ h
theorem mo_J_J0_fill_2_110 {t : CS} {x1 : Int32} {t9 : CS} (h : J_J0_fill_2_110 t x1 = some t9) : mo t t9 := by
  unfold J_J0_fill_2_110 at h
  exact mo_J_J0_fill_2_110_p5 fu _ _ _ _ _ h
theorem mo_C_isGood {rec : CS → Int32 → Int32 → Option (Int32 × CS)} (mrec : ∀ (t : CS) (x1 : Int32) (x2 : Int32) (r : Int32) (t9 : CS), rec t x1 x2 = some (r, t9) → mo t t9) {t : CS} {x1 : Int32} {x2 : Int32} {x3 : Int32} {r : Int32} {t9 : CS} (h : C_isGood rec t x1 x2 x3 = some (r, t9)) : mo t t9 := by
  unfold C_isGood at h
  obtain ⟨v1, hv1, h⟩ := bd1_some h
  obtain ⟨v2, t3, ht3, h⟩ := bd2_some h
  refine mo.tr (t1 := t3) (mo_C_says ht3) ?_
  rcases ite_or h with ⟨c, h⟩ | ⟨c, h⟩
  · cases h; exact mo.rf
  · obtain ⟨v4, t5, ht5, h⟩ := bd2_some h
    refine mo.tr (t1 := t5) (mrec _ _ _ _ _ ht5) ?_
    rcases ite_or h with ⟨c, h⟩ | ⟨c, h⟩
    · cases h; exact mo.rf
    · cases h; exact mo.rf
theorem mo_C_doesWin_p82 {rec : CS → Int32 → Int32 → Option (Int32 × CS)} (mrec : ∀ (t : CS) (x1 : Int32) (x2 : Int32) (r : Int32) (t9 : CS), rec t x1 x2 = some (r, t9) → mo t t9) {k44 : CS → Int32 → Int32 → Int32 → Int32 → Option (Int32 × CS)} (mk44 : ∀ (t : CS) (x1 : Int32) (x2 : Int32) (x3 : Int32) (x4 : Int32) (r : Int32) (t9 : CS), k44 t x1 x2 x3 x4 = some (r, t9) → mo t t9) {t : CS} {x1 : Int32} {x2 : Int32} {x4 : Int32} {y0 : Int32} {r : Int32} {t9 : CS} (h : C_doesWin_p82 rec k44 t x1 x2 x4 y0 = some (r, t9)) : mo t t9 := by
  unfold C_doesWin_p82 at h
  obtain ⟨v1, ev1, h⟩ := lt1_ex h
  exact mk44 _ _ _ _ _ _ _ h
theorem mo_C_doesWin_p81 {rec : CS → Int32 → Int32 → Option (Int32 × CS)} (mrec : ∀ (t : CS) (x1 : Int32) (x2 : Int32) (r : Int32) (t9 : CS), rec t x1 x2 = some (r, t9) → mo t t9) {k44 : CS → Int32 → Int32 → Int32 → Int32 → Option (Int32 × CS)} (mk44 : ∀ (t : CS) (x1 : Int32) (x2 : Int32) (x3 : Int32) (x4 : Int32) (r : Int32) (t9 : CS), k44 t x1 x2 x3 x4 = some (r, t9) → mo t t9) {t : CS} {x1 : Int32} {x2 : Int32} {x4 : Int32} {r : Int32} {t9 : CS} (h : C_doesWin_p81 rec k44 t x1 x2 x4 = some (r, t9)) : mo t t9 := by
  unfold C_doesWin_p81 at h
  exact mo_C_doesWin_p82 mrec mk44 h
theorem mo_C_doesWin_p103 {rec : CS → Int32 → Int32 → Option (Int32 × CS)} (mrec : ∀ (t : CS) (x1 : Int32) (x2 : Int32) (r : Int32) (t9 : CS), rec t x1 x2 = some (r, t9) → mo t t9) {t : CS} {x3 : Int32} {y1 : Int32} {y2 : Int32} {r : Int32} {t9 : CS} (h : C_doesWin_p103 rec t x3 y1 y2 = some (r, t9)) : mo t t9 := by
  unfold C_doesWin_p103 at h
  obtain ⟨hi1, h⟩ := ck_some h
  obtain ⟨t2, et2, h⟩ := lt1_ex h
  refine mo.tr (t1 := t2) (mo.nn (by rw [et2]; rfl)) ?_
  obtain ⟨hz, h⟩ := zr_some h
  cases h; exact mo.rf
theorem mo_C_doesWin_p89 {rec : CS → Int32 → Int32 → Option (Int32 × CS)} (mrec : ∀ (t : CS) (x1 : Int32) (x2 : Int32) (r : Int32) (t9 : CS), rec t x1 x2 = some (r, t9) → mo t t9) {t : CS} {x2 : Int32} {x3 : Int32} {r : Int32} {t9 : CS} (h : C_doesWin_p89 rec t x2 x3 = some (r, t9)) : mo t t9 := by
  unfold C_doesWin_p89 at h
  rcases ite_or h with ⟨c, h⟩ | ⟨c, h⟩
  · exact mo_C_doesWin_p103 mrec h
  · exact mo_C_doesWin_p103 mrec h
theorem mo_C_doesWin_p44 {rec : CS → Int32 → Int32 → Option (Int32 × CS)} (mrec : ∀ (t : CS) (x1 : Int32) (x2 : Int32) (r : Int32) (t9 : CS), rec t x1 x2 = some (r, t9) → mo t t9) : ∀ (n : Nat) (t : CS) (x1 : Int32) (x2 : Int32) (x3 : Int32) (x4 : Int32) (r : Int32) (t9 : CS), C_doesWin_p44 rec n t x1 x2 x3 x4 = some (r, t9) → mo t t9 := by
  intro n
  induction n with
  | zero =>
    intro t x1 x2 x3 x4 r t9 h
    have h : none = some _ := h
    cases h
  | succ n ih =>
    intro t x1 x2 x3 x4 r t9 h
    rw [C_doesWin_p44] at h
    rcases ite_or h with ⟨c, h⟩ | ⟨c, h⟩
    · exact mo_C_doesWin_p89 mrec h
    · rcases ite_or h with ⟨c, h⟩ | ⟨c, h⟩
      · obtain ⟨v1, hv1, h⟩ := bd1_some h
        rcases ite_or h with ⟨c, h⟩ | ⟨c, h⟩
        · obtain ⟨v2, t3, ht3, h⟩ := bd2_some h
          refine mo.tr (t1 := t3) (mo_C_isGood mrec ht3) ?_
          rcases ite_or h with ⟨c, h⟩ | ⟨c, h⟩
          · exact mo_C_doesWin_p81 mrec ih h
          · exact mo_C_doesWin_p82 mrec ih h
        · exact mo_C_doesWin_p81 mrec ih h
      · exact mo_C_doesWin_p89 mrec h
theorem mo_C_doesWin_b {rec : CS → Int32 → Int32 → Option (Int32 × CS)} (mrec : ∀ (t : CS) (x1 : Int32) (x2 : Int32) (r : Int32) (t9 : CS), rec t x1 x2 = some (r, t9) → mo t t9) {t : CS} {x1 : Int32} {x2 : Int32} {r : Int32} {t9 : CS} (h : C_doesWin_b rec t x1 x2 = some (r, t9)) : mo t t9 := by
  unfold C_doesWin_b at h
  rcases ite_or h with ⟨c, h⟩ | ⟨c, h⟩
  · cases h; exact mo.rf
  · obtain ⟨hi1, h⟩ := ck_some h
    rcases ite_or h with ⟨c, h⟩ | ⟨c, h⟩
    · exact mo_C_doesWin_p44 mrec fu _ _ _ _ _ _ _ h
    · obtain ⟨hi2, h⟩ := ck_some h
      rcases ite_or h with ⟨c, h⟩ | ⟨c, h⟩
      · cases h; exact mo.rf
      · cases h; exact mo.rf
theorem mo_C_doesWin : ∀ (n : Nat) (t : CS) (x1 : Int32) (x2 : Int32) (r : Int32) (t9 : CS), C_doesWin n t x1 x2 = some (r, t9) → mo t t9 := by
  intro n
  induction n with
  | zero =>
    intro t x1 x2 r t9 h
    have h : none = some _ := h
    cases h
  | succ n ih =>
    intro t x1 x2 r t9 h
    rw [C_doesWin] at h
    exact mo_C_doesWin_b ih h
theorem mo_C_game_p75 {k35 : CS → Int32 → Int32 → Int32 → Int32 → Option (Int32 × CS)} (mk35 : ∀ (t : CS) (x1 : Int32) (x2 : Int32) (x3 : Int32) (x4 : Int32) (r : Int32) (t9 : CS), k35 t x1 x2 x3 x4 = some (r, t9) → mo t t9) {t : CS} {x1 : Int32} {x2 : Int32} {x3 : Int32} {x4 : Int32} {r : Int32} {t9 : CS} (h : C_game_p75 k35 t x1 x2 x3 x4 = some (r, t9)) : mo t t9 := by
  unfold C_game_p75 at h
  obtain ⟨v1, ev1, h⟩ := lt1_ex h
  exact mk35 _ _ _ _ _ _ _ h
theorem mo_C_game_p115 : ∀ (n : Nat) (t : CS) (x1 : Int32) (x4 : Int32) (x5 : Int32) (r : Int32) (t9 : CS), C_game_p115 n t x1 x4 x5 = some (r, t9) → mo t t9 := by
  intro n
  induction n with
  | zero =>
    intro t x1 x4 x5 r t9 h
    have h : none = some _ := h
    cases h
  | succ n ih =>
    intro t x1 x4 x5 r t9 h
    rw [C_game_p115] at h
    rcases ite_or h with ⟨c, h⟩ | ⟨c, h⟩
    · cases h; exact mo.rf
    · rcases ite_or h with ⟨c, h⟩ | ⟨c, h⟩
      · cases h; exact mo.rf
      · obtain ⟨v1, t2, ht2, h⟩ := bd2_some h
        refine mo.tr (t1 := t2) (mo_C_isGood (mo_C_doesWin 64) ht2) ?_
        rcases ite_or h with ⟨c, h⟩ | ⟨c, h⟩
        · obtain ⟨v3, ev3, h⟩ := lt1_ex h
          exact ih _ _ _ _ _ _ h
        · obtain ⟨hi4, h⟩ := ck_some h
          cases h; exact mo.rf
theorem mo_C_game_p35 : ∀ (n : Nat) (t : CS) (x1 : Int32) (x2 : Int32) (x3 : Int32) (x4 : Int32) (r : Int32) (t9 : CS), C_game_p35 n t x1 x2 x3 x4 = some (r, t9) → mo t t9 := by
  intro n
  induction n with
  | zero =>
    intro t x1 x2 x3 x4 r t9 h
    have h : none = some _ := h
    cases h
  | succ n ih =>
    intro t x1 x2 x3 x4 r t9 h
    rw [C_game_p35] at h
    rcases ite_or h with ⟨c, h⟩ | ⟨c, h⟩
    · obtain ⟨t1, ht1, h⟩ := bd1_some h
      refine mo.tr (t1 := t1) (mo_J_J0_fill_2_110 ht1) ?_
      obtain ⟨v2, t3, ht3, h⟩ := bd2_some h
      refine mo.tr (t1 := t3) (mo_C_doesWin 64 _ _ _ _ _ ht3) ?_
      rcases ite_or h with ⟨c, h⟩ | ⟨c, h⟩
      · rcases ite_or h with ⟨c, h⟩ | ⟨c, h⟩
        · cases h; exact mo.rf
        · cases h; exact mo.rf
      · exact mo_C_game_p115 fu _ _ _ _ _ _ h
    · obtain ⟨v4, hv4, h⟩ := bd1_some h
      rcases ite_or h with ⟨c, h⟩ | ⟨c, h⟩
      · exact mo_C_game_p75 ih h
      · obtain ⟨hi5, h⟩ := ck_some h
        obtain ⟨t6, et6, h⟩ := lt1_ex h
        refine mo.tr (t1 := t6) (mo.nn (by rw [et6]; rfl)) ?_
        obtain ⟨t7, et7, h⟩ := lt1_ex h
        refine mo.tr (t1 := t7) (mo.nn (by rw [et7]; rfl)) ?_
        exact mo_C_game_p75 ih h
theorem mo_C_game {t : CS} {x1 : Int32} {x2 : Int32} {x3 : Int32} {r : Int32} {t9 : CS} (h : C_game t x1 x2 x3 = some (r, t9)) : mo t t9 := by
  unfold C_game at h
  obtain ⟨v1, hv1, h⟩ := bd1_some h
  rcases ite_or h with ⟨c, h⟩ | ⟨c, h⟩
  · cases h; exact mo.rf
  · obtain ⟨v2, hv2, h⟩ := bd1_some h
    rcases ite_or h with ⟨c, h⟩ | ⟨c, h⟩
    · cases h; exact mo.rf
    · obtain ⟨v3, t4, ht4, h⟩ := bd2_some h
      refine mo.tr (t1 := t4) (mo_C_says ht4) ?_
      rcases ite_or h with ⟨c, h⟩ | ⟨c, h⟩
      · cases h; exact mo.rf
      · obtain ⟨t5, et5, h⟩ := lt1_ex h
        refine mo.tr (t1 := t5) (mo.nn (by rw [et5]; rfl)) ?_
        exact mo_C_game_p35 fu _ _ _ _ _ _ _ h
theorem mo_J_J0_fill_3_112_p5 : ∀ (n : Nat) (t : CS) (x1 : Int32) (x2 : Int32) (x3 : Int32) (t9 : CS), J_J0_fill_3_112_p5 n t x1 x2 x3 = some t9 → mo t t9 := by
  intro n
  induction n with
  | zero =>
    intro t x1 x2 x3 t9 h
    have h : none = some _ := h
    cases h
  | succ n ih =>
    intro t x1 x2 x3 t9 h
    rw [J_J0_fill_3_112_p5] at h
    rcases ite_or h with ⟨c, h⟩ | ⟨c, h⟩
    · cases h; exact mo.rf
    · obtain ⟨hi1, h⟩ := ck_some h
      obtain ⟨t2, et2, h⟩ := lt1_ex h
      refine mo.tr (t1 := t2) (mo.nn (by rw [et2]; rfl)) ?_
      obtain ⟨v3, ev3, h⟩ := lt1_ex h
      exact ih _ _ _ _ _ h
theorem mo_J_J0_fill_3_112 {t : CS} {x1 : Int32} {t9 : CS} (h : J_J0_fill_3_112 t x1 = some t9) : mo t t9 := by
  unfold J_J0_fill_3_112 at h
  exact mo_J_J0_fill_3_112_p5 fu _ _ _ _ _ h
theorem mo_C_signs_p54 {rec : CS → Int32 → Int32 → Int32 → Int32 → Option (Int32 × CS)} (mrec : ∀ (t : CS) (x1 : Int32) (x2 : Int32) (x3 : Int32) (x4 : Int32) (r : Int32) (t9 : CS), rec t x1 x2 x3 x4 = some (r, t9) → mo t t9) : ∀ (n : Nat) (t : CS) (x1 : Int32) (x3 : Int32) (x4 : Int32) (x5 : Int32) (x6 : Int32) (r : Int32) (t9 : CS), C_signs_p54 rec n t x1 x3 x4 x5 x6 = some (r, t9) → mo t t9 := by
  intro n
  induction n with
  | zero =>
    intro t x1 x3 x4 x5 x6 r t9 h
    have h : none = some _ := h
    cases h
  | succ n ih =>
    intro t x1 x3 x4 x5 x6 r t9 h
    rw [C_signs_p54] at h
    rcases ite_or h with ⟨c, h⟩ | ⟨c, h⟩
    · cases h; exact mo.rf
    · rcases ite_or h with ⟨c, h⟩ | ⟨c, h⟩
      · cases h; exact mo.rf
      · obtain ⟨hi1, h⟩ := ck_some h
        obtain ⟨t2, et2, h⟩ := lt1_ex h
        refine mo.tr (t1 := t2) (mo.nn (by rw [et2]; rfl)) ?_
        obtain ⟨v3, t4, ht4, h⟩ := bd2_some h
        refine mo.tr (t1 := t4) (mrec _ _ _ _ _ _ _ ht4) ?_
        rcases ite_or h with ⟨c, h⟩ | ⟨c, h⟩
        · obtain ⟨v5, ev5, h⟩ := lt1_ex h
          exact ih _ _ _ _ _ _ _ _ h
        · cases h; exact mo.rf
theorem mo_C_signs_p25 {rec : CS → Int32 → Int32 → Int32 → Int32 → Option (Int32 × CS)} (mrec : ∀ (t : CS) (x1 : Int32) (x2 : Int32) (x3 : Int32) (x4 : Int32) (r : Int32) (t9 : CS), rec t x1 x2 x3 x4 = some (r, t9) → mo t t9) {t : CS} {x1 : Int32} {x3 : Int32} {x4 : Int32} {x5 : Int32} {r : Int32} {t9 : CS} (h : C_signs_p25 rec t x1 x3 x4 x5 = some (r, t9)) : mo t t9 := by
  unfold C_signs_p25 at h
  rcases ite_or h with ⟨c, h⟩ | ⟨c, h⟩
  · rcases ite_or h with ⟨c, h⟩ | ⟨c, h⟩
    · obtain ⟨v1, hv1, h⟩ := bd1_some h
      rcases ite_or h with ⟨c, h⟩ | ⟨c, h⟩
      · cases h; exact mo.rf
      · cases h; exact mo.rf
    · cases h; exact mo.rf
  · exact mo_C_signs_p54 mrec fu _ _ _ _ _ _ _ _ h
theorem mo_C_signs_p3 {rec : CS → Int32 → Int32 → Int32 → Int32 → Option (Int32 × CS)} (mrec : ∀ (t : CS) (x1 : Int32) (x2 : Int32) (x3 : Int32) (x4 : Int32) (r : Int32) (t9 : CS), rec t x1 x2 x3 x4 = some (r, t9) → mo t t9) : ∀ (n : Nat) (t : CS) (x1 : Int32) (x3 : Int32) (x4 : Int32) (x5 : Int32) (r : Int32) (t9 : CS), C_signs_p3 rec n t x1 x3 x4 x5 = some (r, t9) → mo t t9 := by
  intro n
  induction n with
  | zero =>
    intro t x1 x3 x4 x5 r t9 h
    have h : none = some _ := h
    cases h
  | succ n ih =>
    intro t x1 x3 x4 x5 r t9 h
    rw [C_signs_p3] at h
    rcases ite_or h with ⟨c, h⟩ | ⟨c, h⟩
    · exact mo_C_signs_p25 mrec h
    · obtain ⟨v1, hv1, h⟩ := bd1_some h
      rcases ite_or h with ⟨c, h⟩ | ⟨c, h⟩
      · obtain ⟨v2, ev2, h⟩ := lt1_ex h
        exact ih _ _ _ _ _ _ _ h
      · exact mo_C_signs_p25 mrec h
theorem mo_C_signs_b {rec : CS → Int32 → Int32 → Int32 → Int32 → Option (Int32 × CS)} (mrec : ∀ (t : CS) (x1 : Int32) (x2 : Int32) (x3 : Int32) (x4 : Int32) (r : Int32) (t9 : CS), rec t x1 x2 x3 x4 = some (r, t9) → mo t t9) {t : CS} {x1 : Int32} {x2 : Int32} {x3 : Int32} {x4 : Int32} {r : Int32} {t9 : CS} (h : C_signs_b rec t x1 x2 x3 x4 = some (r, t9)) : mo t t9 := by
  unfold C_signs_b at h
  exact mo_C_signs_p3 mrec fu _ _ _ _ _ _ _ h
theorem mo_C_signs : ∀ (n : Nat) (t : CS) (x1 : Int32) (x2 : Int32) (x3 : Int32) (x4 : Int32) (r : Int32) (t9 : CS), C_signs n t x1 x2 x3 x4 = some (r, t9) → mo t t9 := by
  intro n
  induction n with
  | zero =>
    intro t x1 x2 x3 x4 r t9 h
    have h : none = some _ := h
    cases h
  | succ n ih =>
    intro t x1 x2 x3 x4 r t9 h
    rw [C_signs] at h
    exact mo_C_signs_b ih h
theorem mo_C_signsFor_p40 : ∀ (n : Nat) (t : CS) (x1 : Int32) (x2 : Int32) (x3 : Int32) (r : Int32) (t9 : CS), C_signsFor_p40 n t x1 x2 x3 = some (r, t9) → mo t t9 := by
  intro n
  induction n with
  | zero =>
    intro t x1 x2 x3 r t9 h
    have h : none = some _ := h
    cases h
  | succ n ih =>
    intro t x1 x2 x3 r t9 h
    rw [C_signsFor_p40] at h
    rcases ite_or h with ⟨c, h⟩ | ⟨c, h⟩
    · cases h; exact mo.rf
    · obtain ⟨t1, ht1, h⟩ := bd1_some h
      refine mo.tr (t1 := t1) (mo_J_J0_fill_3_112 ht1) ?_
      obtain ⟨v2, t3, ht3, h⟩ := bd2_some h
      refine mo.tr (t1 := t3) (mo_C_signs 64 _ _ _ _ _ _ _ ht3) ?_
      rcases ite_or h with ⟨c, h⟩ | ⟨c, h⟩
      · obtain ⟨v4, ev4, h⟩ := lt1_ex h
        exact ih _ _ _ _ _ _ h
      · rcases ite_or h with ⟨c, h⟩ | ⟨c, h⟩
        · cases h; exact mo.rf
        · obtain ⟨hi5, h⟩ := ck_some h
          cases h; exact mo.rf
theorem mo_C_signsFor_p38 {t : CS} {x1 : Int32} {x2 : Int32} {r : Int32} {t9 : CS} (h : C_signsFor_p38 t x1 x2 = some (r, t9)) : mo t t9 := by
  unfold C_signsFor_p38 at h
  exact mo_C_signsFor_p40 fu _ _ _ _ _ _ h
theorem mo_C_signsFor {t : CS} {x1 : Int32} {x2 : Int32} {r : Int32} {t9 : CS} (h : C_signsFor t x1 x2 = some (r, t9)) : mo t t9 := by
  unfold C_signsFor at h
  obtain ⟨v1, hv1, h⟩ := bd1_some h
  rcases ite_or h with ⟨c, h⟩ | ⟨c, h⟩
  · cases h; exact mo.rf
  · obtain ⟨v2, hv2, h⟩ := bd1_some h
    rcases ite_or h with ⟨c, h⟩ | ⟨c, h⟩
    · cases h; exact mo.rf
    · rcases ite_or h with ⟨c, h⟩ | ⟨c, h⟩
      · exact mo_C_signsFor_p38 h
      · obtain ⟨v3, hv3, h⟩ := bd1_some h
        rcases ite_or h with ⟨c, h⟩ | ⟨c, h⟩
        · cases h; exact mo.rf
        · obtain ⟨v4, hv4, h⟩ := bd1_some h
          rcases ite_or h with ⟨c, h⟩ | ⟨c, h⟩
          · cases h; exact mo.rf
          · exact mo_C_signsFor_p38 h
theorem mo_C_settles_p22 {rec : CS → Int32 → Int32 → Int32 → Int32 → Int32 → Option CS} (mrec : ∀ (t : CS) (x1 : Int32) (x2 : Int32) (x3 : Int32) (x4 : Int32) (x5 : Int32) (t9 : CS), rec t x1 x2 x3 x4 x5 = some t9 → mo t t9) : ∀ (n : Nat) (t : CS) (x1 : Int32) (x4 : Int32) (x5 : Int32) (x6 : Int32) (x7 : Int32) (t9 : CS), C_settles_p22 rec n t x1 x4 x5 x6 x7 = some t9 → mo t t9 := by
  intro n
  induction n with
  | zero =>
    intro t x1 x4 x5 x6 x7 t9 h
    have h : none = some _ := h
    cases h
  | succ n ih =>
    intro t x1 x4 x5 x6 x7 t9 h
    rw [C_settles_p22] at h
    rcases ite_or h with ⟨c, h⟩ | ⟨c, h⟩
    · rcases ite_or h with ⟨c, h⟩ | ⟨c, h⟩
      · obtain ⟨t1, et1, h⟩ := lt1_ex h
        refine mo.tr (t1 := t1) (mo.nn (by rw [et1]; rfl)) ?_
        obtain ⟨t2, et2, h⟩ := lt1_ex h
        refine mo.tr (t1 := t2) (mo.nn (by rw [et2]; rfl)) ?_
        obtain ⟨⟨ha3a, ha3b, ha3c, ha3d, ha3e⟩, h⟩ := acp_some h
        obtain ⟨t4, et4, h⟩ := lt1_ex h
        refine mo.tr (t1 := t4) (mo.nn (by rw [et4]; rfl)) ?_
        cases h; exact mo.rf
      · cases h; exact mo.rf
    · obtain ⟨hi5, h⟩ := ck_some h
      obtain ⟨hi6, h⟩ := ck_some h
      obtain ⟨r7, hr7, h⟩ := bd1_some h
      obtain ⟨hc8, h⟩ := ckC_some h
      obtain ⟨v9, hv9, h⟩ := bd1_some h
      obtain ⟨v10, ev10, h⟩ := lt1_ex h
      obtain ⟨v11, ev11, h⟩ := lt1_ex h
      exact ih _ _ _ _ _ _ _ h
theorem mo_C_settles_p99 {rec : CS → Int32 → Int32 → Int32 → Int32 → Int32 → Option CS} (mrec : ∀ (t : CS) (x1 : Int32) (x2 : Int32) (x3 : Int32) (x4 : Int32) (x5 : Int32) (t9 : CS), rec t x1 x2 x3 x4 x5 = some t9 → mo t t9) : ∀ (n : Nat) (t : CS) (x1 : Int32) (x3 : Int32) (x4 : Int32) (x5 : Int32) (x6 : Int32) (t9 : CS), C_settles_p99 rec n t x1 x3 x4 x5 x6 = some t9 → mo t t9 := by
  intro n
  induction n with
  | zero =>
    intro t x1 x3 x4 x5 x6 t9 h
    have h : none = some _ := h
    cases h
  | succ n ih =>
    intro t x1 x3 x4 x5 x6 t9 h
    rw [C_settles_p99] at h
    obtain ⟨hi1, h⟩ := ck_some h
    rcases ite_or h with ⟨c, h⟩ | ⟨c, h⟩
    · cases h; exact mo.rf
    · obtain ⟨hi2, h⟩ := ck_some h
      obtain ⟨t3, et3, h⟩ := lt1_ex h
      refine mo.tr (t1 := t3) (mo.nn (by rw [et3]; rfl)) ?_
      obtain ⟨hi4, h⟩ := ck_some h
      obtain ⟨r5, hr5, h⟩ := bd1_some h
      obtain ⟨hc6, h⟩ := ckC_some h
      obtain ⟨v7, hv7, h⟩ := bd1_some h
      obtain ⟨t8, ht8, h⟩ := bd1_some h
      refine mo.tr (t1 := t8) (mrec _ _ _ _ _ _ _ ht8) ?_
      obtain ⟨v9, ev9, h⟩ := lt1_ex h
      exact ih _ _ _ _ _ _ _ h
theorem mo_C_settles_b {rec : CS → Int32 → Int32 → Int32 → Int32 → Int32 → Option CS} (mrec : ∀ (t : CS) (x1 : Int32) (x2 : Int32) (x3 : Int32) (x4 : Int32) (x5 : Int32) (t9 : CS), rec t x1 x2 x3 x4 x5 = some t9 → mo t t9) {t : CS} {x1 : Int32} {x2 : Int32} {x3 : Int32} {x4 : Int32} {x5 : Int32} {t9 : CS} (h : C_settles_b rec t x1 x2 x3 x4 x5 = some t9) : mo t t9 := by
  unfold C_settles_b at h
  rcases ite_or h with ⟨c, h⟩ | ⟨c, h⟩
  · rcases ite_or h with ⟨c, h⟩ | ⟨c, h⟩
    · exact mo_C_settles_p22 mrec fu _ _ _ _ _ _ _ h
    · exact mo_C_settles_p99 mrec fu _ _ _ _ _ _ _ h
  · cases h; exact mo.rf
theorem mo_C_settles : ∀ (n : Nat) (t : CS) (x1 : Int32) (x2 : Int32) (x3 : Int32) (x4 : Int32) (x5 : Int32) (t9 : CS), C_settles n t x1 x2 x3 x4 x5 = some t9 → mo t t9 := by
  intro n
  induction n with
  | zero =>
    intro t x1 x2 x3 x4 x5 t9 h
    have h : none = some _ := h
    cases h
  | succ n ih =>
    intro t x1 x2 x3 x4 x5 t9 h
    rw [C_settles] at h
    exact mo_C_settles_b ih h
theorem mo_C_settlement_p27 : ∀ (n : Nat) (t : CS) (x1 : Int32) (x2 : Int32) (x3 : Int32) (r : Int32) (t9 : CS), C_settlement_p27 n t x1 x2 x3 = some (r, t9) → mo t t9 := by
  intro n
  induction n with
  | zero =>
    intro t x1 x2 x3 r t9 h
    have h : none = some _ := h
    cases h
  | succ n ih =>
    intro t x1 x2 x3 r t9 h
    rw [C_settlement_p27] at h
    rcases ite_or h with ⟨c, h⟩ | ⟨c, h⟩
    · rcases ite_or h with ⟨c, h⟩ | ⟨c, h⟩
      · cases h; exact mo.rf
      · rcases ite_or h with ⟨c, h⟩ | ⟨c, h⟩
        · cases h; exact mo.rf
        · rcases ite_or h with ⟨c, h⟩ | ⟨c, h⟩
          · cases h; exact mo.rf
          · obtain ⟨hi1, h⟩ := ck_some h
            cases h; exact mo.rf
    · obtain ⟨t2, ht2, h⟩ := bd1_some h
      refine mo.tr (t1 := t2) (mo_C_settles 64 _ _ _ _ _ _ _ ht2) ?_
      obtain ⟨v3, ev3, h⟩ := lt1_ex h
      exact ih _ _ _ _ _ _ h
theorem mo_C_settlement {t : CS} {x1 : Int32} {x2 : Int32} {r : Int32} {t9 : CS} (h : C_settlement t x1 x2 = some (r, t9)) : mo t t9 := by
  unfold C_settlement at h
  obtain ⟨v1, hv1, h⟩ := bd1_some h
  rcases ite_or h with ⟨c, h⟩ | ⟨c, h⟩
  · cases h; exact mo.rf
  · rcases ite_or h with ⟨c, h⟩ | ⟨c, h⟩
    · obtain ⟨t2, et2, h⟩ := lt1_ex h
      refine mo.tr (t1 := t2) (mo.nn (by rw [et2]; rfl)) ?_
      obtain ⟨t3, et3, h⟩ := lt1_ex h
      refine mo.tr (t1 := t3) (mo.nn (by rw [et3]; rfl)) ?_
      exact mo_C_settlement_p27 fu _ _ _ _ _ _ h
    · cases h; exact mo.rf
theorem mo_C_learns_p44 {rec : CS → Int32 → Int32 → Int32 → Int32 → Option CS} (mrec : ∀ (t : CS) (x1 : Int32) (x2 : Int32) (x3 : Int32) (x4 : Int32) (t9 : CS), rec t x1 x2 x3 x4 = some t9 → mo t t9) {k10 : CS → Int32 → Int32 → Int32 → Option CS} (mk10 : ∀ (t : CS) (x4 : Int32) (x5 : Int32) (x6 : Int32) (t9 : CS), k10 t x4 x5 x6 = some t9 → mo t t9) {t : CS} {x4 : Int32} {x6 : Int32} {y0 : Int32} {y1 : Int32} {t9 : CS} (h : C_learns_p44 rec k10 t x4 x6 y0 y1 = some t9) : mo t t9 := by
  unfold C_learns_p44 at h
  obtain ⟨v1, ev1, h⟩ := lt1_ex h
  obtain ⟨v2, ev2, h⟩ := lt1_ex h
  exact mk10 _ _ _ _ _ h
theorem mo_C_learns_p10 {rec : CS → Int32 → Int32 → Int32 → Int32 → Option CS} (mrec : ∀ (t : CS) (x1 : Int32) (x2 : Int32) (x3 : Int32) (x4 : Int32) (t9 : CS), rec t x1 x2 x3 x4 = some t9 → mo t t9) : ∀ (n : Nat) (t : CS) (x4 : Int32) (x5 : Int32) (x6 : Int32) (t9 : CS), C_learns_p10 rec n t x4 x5 x6 = some t9 → mo t t9 := by
  intro n
  induction n with
  | zero =>
    intro t x4 x5 x6 t9 h
    have h : none = some _ := h
    cases h
  | succ n ih =>
    intro t x4 x5 x6 t9 h
    rw [C_learns_p10] at h
    obtain ⟨hi1, h⟩ := ck_some h
    rcases ite_or h with ⟨c, h⟩ | ⟨c, h⟩
    · rcases ite_or h with ⟨c, h⟩ | ⟨c, h⟩
      · obtain ⟨t2, et2, h⟩ := lt1_ex h
        refine mo.tr (t1 := t2) (mo.nn (by rw [et2]; rfl)) ?_
        obtain ⟨t3, et3, h⟩ := lt1_ex h
        refine mo.tr (t1 := t3) (mo.nn (by rw [et3]; rfl)) ?_
        cases h; exact mo.rf
      · cases h; exact mo.rf
    · obtain ⟨v4, hv4, h⟩ := bd1_some h
      rcases ite_or h with ⟨c, h⟩ | ⟨c, h⟩
      · exact mo_C_learns_p44 mrec ih h
      · exact mo_C_learns_p44 mrec ih h
theorem mo_C_learns_p114 {rec : CS → Int32 → Int32 → Int32 → Int32 → Option CS} (mrec : ∀ (t : CS) (x1 : Int32) (x2 : Int32) (x3 : Int32) (x4 : Int32) (t9 : CS), rec t x1 x2 x3 x4 = some t9 → mo t t9) {k79 : CS → Int32 → Int32 → Int32 → Int32 → Option CS} (mk79 : ∀ (t : CS) (x1 : Int32) (x3 : Int32) (x4 : Int32) (x5 : Int32) (t9 : CS), k79 t x1 x3 x4 x5 = some t9 → mo t t9) {t : CS} {x1 : Int32} {x3 : Int32} {x4 : Int32} {x5 : Int32} {t9 : CS} (h : C_learns_p114 rec k79 t x1 x3 x4 x5 = some t9) : mo t t9 := by
  unfold C_learns_p114 at h
  obtain ⟨v1, ev1, h⟩ := lt1_ex h
  exact mk79 _ _ _ _ _ _ h
theorem mo_C_learns_p79 {rec : CS → Int32 → Int32 → Int32 → Int32 → Option CS} (mrec : ∀ (t : CS) (x1 : Int32) (x2 : Int32) (x3 : Int32) (x4 : Int32) (t9 : CS), rec t x1 x2 x3 x4 = some t9 → mo t t9) : ∀ (n : Nat) (t : CS) (x1 : Int32) (x3 : Int32) (x4 : Int32) (x5 : Int32) (t9 : CS), C_learns_p79 rec n t x1 x3 x4 x5 = some t9 → mo t t9 := by
  intro n
  induction n with
  | zero =>
    intro t x1 x3 x4 x5 t9 h
    have h : none = some _ := h
    cases h
  | succ n ih =>
    intro t x1 x3 x4 x5 t9 h
    rw [C_learns_p79] at h
    rcases ite_or h with ⟨c, h⟩ | ⟨c, h⟩
    · cases h; exact mo.rf
    · obtain ⟨v1, hv1, h⟩ := bd1_some h
      rcases ite_or h with ⟨c, h⟩ | ⟨c, h⟩
      · exact mo_C_learns_p114 mrec ih h
      · obtain ⟨t2, ht2, h⟩ := bd1_some h
        refine mo.tr (t1 := t2) (mrec _ _ _ _ _ _ ht2) ?_
        exact mo_C_learns_p114 mrec ih h
theorem mo_C_learns_b {rec : CS → Int32 → Int32 → Int32 → Int32 → Option CS} (mrec : ∀ (t : CS) (x1 : Int32) (x2 : Int32) (x3 : Int32) (x4 : Int32) (t9 : CS), rec t x1 x2 x3 x4 = some t9 → mo t t9) {t : CS} {x1 : Int32} {x2 : Int32} {x3 : Int32} {x4 : Int32} {t9 : CS} (h : C_learns_b rec t x1 x2 x3 x4 = some t9) : mo t t9 := by
  unfold C_learns_b at h
  rcases ite_or h with ⟨c, h⟩ | ⟨c, h⟩
  · exact mo_C_learns_p10 mrec fu _ _ _ _ _ h
  · exact mo_C_learns_p79 mrec fu _ _ _ _ _ _ h
theorem mo_C_learns : ∀ (n : Nat) (t : CS) (x1 : Int32) (x2 : Int32) (x3 : Int32) (x4 : Int32) (t9 : CS), C_learns n t x1 x2 x3 x4 = some t9 → mo t t9 := by
  intro n
  induction n with
  | zero =>
    intro t x1 x2 x3 x4 t9 h
    have h : none = some _ := h
    cases h
  | succ n ih =>
    intro t x1 x2 x3 x4 t9 h
    rw [C_learns] at h
    exact mo_C_learns_b ih h
theorem mo_C_learn_p16 : ∀ (n : Nat) (t : CS) (x1 : Int32) (x2 : Int32) (x3 : Int32) (x4 : Int32) (r : Int32) (t9 : CS), C_learn_p16 n t x1 x2 x3 x4 = some (r, t9) → mo t t9 := by
  intro n
  induction n with
  | zero =>
    intro t x1 x2 x3 x4 r t9 h
    have h : none = some _ := h
    cases h
  | succ n ih =>
    intro t x1 x2 x3 x4 r t9 h
    rw [C_learn_p16] at h
    obtain ⟨hi1, h⟩ := ck_some h
    rcases ite_or h with ⟨c, h⟩ | ⟨c, h⟩
    · obtain ⟨t2, et2, h⟩ := lt1_ex h
      refine mo.tr (t1 := t2) (mo.nn (by rw [et2]; rfl)) ?_
      obtain ⟨v3, hv3, h⟩ := bd1_some h
      obtain ⟨t4, ht4, h⟩ := bd1_some h
      refine mo.tr (t1 := t4) (mo_C_learns 64 _ _ _ _ _ _ ht4) ?_
      rcases ite_or h with ⟨c, h⟩ | ⟨c, h⟩
      · cases h; exact mo.rf
      · cases h; exact mo.rf
    · obtain ⟨hi5, h⟩ := ck_some h
      obtain ⟨r6, hr6, h⟩ := bd1_some h
      obtain ⟨hc7, h⟩ := ckC_some h
      obtain ⟨v8, hv8, h⟩ := bd1_some h
      obtain ⟨v9, ev9, h⟩ := lt1_ex h
      obtain ⟨v10, ev10, h⟩ := lt1_ex h
      exact ih _ _ _ _ _ _ _ h
theorem mo_C_learn {t : CS} {x1 : Int32} {x2 : Int32} {r : Int32} {t9 : CS} (h : C_learn t x1 x2 = some (r, t9)) : mo t t9 := by
  unfold C_learn at h
  obtain ⟨v1, hv1, h⟩ := bd1_some h
  rcases ite_or h with ⟨c, h⟩ | ⟨c, h⟩
  · cases h; exact mo.rf
  · exact mo_C_learn_p16 fu _ _ _ _ _ _ _ h
theorem mo_C_printed_p76 {t : CS} {y0 : Nat} {y1 : Nat} {y2 : Int32} {y3 : Int32} {r : Int32} {t9 : CS} (h : C_printed_p76 t y0 y1 y2 y3 = some (r, t9)) : mo t t9 := by
  unfold C_printed_p76 at h
  obtain ⟨t1, ht1, h⟩ := bd1_some h
  refine mo.tr (t1 := t1) (mo.nn (das_N ht1)) ?_
  obtain ⟨hi2, h⟩ := ck_some h
  obtain ⟨hi3, h⟩ := ck_some h
  obtain ⟨v4, hv4, h⟩ := bd1_some h
  obtain ⟨t5, et5, h⟩ := lt1_ex h
  refine mo.tr (t1 := t5) (mo.nn (by rw [et5]; rfl)) ?_
  obtain ⟨hi6, h⟩ := ck_some h
  obtain ⟨hi7, h⟩ := ck_some h
  obtain ⟨t8, et8, h⟩ := lt1_ex h
  refine mo.tr (t1 := t8) (mo.nn (by rw [et8]; rfl)) ?_
  obtain ⟨hi9, h⟩ := ck_some h
  cases h; exact mo.rf
theorem mo_C_printed_p57 {t : CS} {x1 : Int32} {x2 : Int32} {x3 : Int32} {y0 : Nat} {r : Int32} {t9 : CS} (h : C_printed_p57 t x1 x2 x3 y0 = some (r, t9)) : mo t t9 := by
  unfold C_printed_p57 at h
  obtain ⟨t1, ht1, h⟩ := bd1_some h
  refine mo.tr (t1 := t1) (mo.nn (das_N ht1)) ?_
  obtain ⟨t2, ht2, h⟩ := bd1_some h
  refine mo.tr (t1 := t2) (mo.nn (das_N ht2)) ?_
  rcases ite_or h with ⟨c, h⟩ | ⟨c, h⟩
  · exact mo_C_printed_p76 h
  · exact mo_C_printed_p76 h
theorem mo_C_printed {t : CS} {x1 : Int32} {x2 : Int32} {x3 : Int32} {r : Int32} {t9 : CS} (h : C_printed t x1 x2 x3 = some (r, t9)) : mo t t9 := by
  unfold C_printed at h
  rcases ite_or h with ⟨c, h⟩ | ⟨c, h⟩
  · obtain ⟨hi6, h⟩ := ck_some h
    obtain ⟨t7, et7, h⟩ := lt1_ex h
    refine mo.tr (t1 := t7) (mo.nn (by rw [et7]; rfl)) ?_
    cases h; exact mo.rf
  · obtain ⟨v1, hv1, h⟩ := bd1_some h
    rcases ite_or h with ⟨c, h⟩ | ⟨c, h⟩
    · cases h; exact mo.rf
    · obtain ⟨v2, hv2, h⟩ := bd1_some h
      rcases ite_or h with ⟨c, h⟩ | ⟨c, h⟩
      · cases h; exact mo.rf
      · obtain ⟨hi3, h⟩ := ck_some h
        rcases ite_or h with ⟨c, h⟩ | ⟨c, h⟩
        · cases h; exact mo.rf
        · obtain ⟨⟨hg5a, hg5b⟩, h⟩ := ngt_some h
          obtain ⟨t4, et4, h⟩ := lt1_ex h
          refine mo.tr (t1 := t4) (mo.new et4) ?_
          exact mo_C_printed_p57 h
theorem mo_C_binds {t : CS} {x1 : Int32} {x2 : Int32} {x3 : Int32} {r : Int32} {t9 : CS} (h : C_binds t x1 x2 x3 = some (r, t9)) : mo t t9 := by
  unfold C_binds at h
  obtain ⟨v1, hv1, h⟩ := bd1_some h
  obtain ⟨v2, hv2, h⟩ := bd1_some h
  obtain ⟨v3, hv3, h⟩ := bd1_some h
  rcases on1_some h with ⟨ho, h⟩ | ⟨r4, ho, h⟩
  · rcases ite_or h with ⟨c, h⟩ | ⟨c, h⟩
    · cases h; exact mo.rf
    · cases h; exact mo.rf
  · obtain ⟨hi5, h⟩ := ck_some h
    obtain ⟨hi6, h⟩ := ck_some h
    obtain ⟨t7, et7, h⟩ := lt1_ex h
    refine mo.tr (t1 := t7) (mo.nn (by rw [et7]; rfl)) ?_
    obtain ⟨hi8, h⟩ := ck_some h
    obtain ⟨t9, et9, h⟩ := lt1_ex h
    refine mo.tr (t1 := t9) (mo.nn (by rw [et9]; rfl)) ?_
    obtain ⟨hi10, h⟩ := ck_some h
    obtain ⟨t11, et11, h⟩ := lt1_ex h
    refine mo.tr (t1 := t11) (mo.nn (by rw [et11]; rfl)) ?_
    obtain ⟨hi12, h⟩ := ck_some h
    obtain ⟨hi13, h⟩ := ck_some h
    obtain ⟨t14, et14, h⟩ := lt1_ex h
    refine mo.tr (t1 := t14) (mo.nn (by rw [et14]; rfl)) ?_
    obtain ⟨hi15, h⟩ := ck_some h
    obtain ⟨hi16, h⟩ := ck_some h
    obtain ⟨hi17, h⟩ := ck_some h
    obtain ⟨t18, et18, h⟩ := lt1_ex h
    refine mo.tr (t1 := t18) (mo.nn (by rw [et18]; rfl)) ?_
    obtain ⟨v19, hv19, h⟩ := bd1_some h
    obtain ⟨v20, hv20, h⟩ := bd1_some h
    replace h := bd1_some h
    obtain ⟨r21, hr_, h⟩ := h
    subst hr_
    obtain ⟨v22, hv22, h⟩ := bd1_some h
    obtain ⟨hz, h⟩ := zr_some h
    cases h; exact mo.rf
theorem mo_C_loopholeOf_p86 {k25 : CS → Int32 → Int32 → Int32 → Option (Int32 × CS)} (mk25 : ∀ (t : CS) (x1 : Int32) (x2 : Int32) (x3 : Int32) (r : Int32) (t9 : CS), k25 t x1 x2 x3 = some (r, t9) → mo t t9) {t : CS} {x1 : Int32} {x2 : Int32} {x3 : Int32} {r : Int32} {t9 : CS} (h : C_loopholeOf_p86 k25 t x1 x2 x3 = some (r, t9)) : mo t t9 := by
  unfold C_loopholeOf_p86 at h
  obtain ⟨v1, ev1, h⟩ := lt1_ex h
  exact mk25 _ _ _ _ _ _ h
theorem mo_C_loopholeOf_p71 {k25 : CS → Int32 → Int32 → Int32 → Option (Int32 × CS)} (mk25 : ∀ (t : CS) (x1 : Int32) (x2 : Int32) (x3 : Int32) (r : Int32) (t9 : CS), k25 t x1 x2 x3 = some (r, t9) → mo t t9) {t : CS} {x1 : Int32} {x2 : Int32} {x3 : Int32} {y1 : Int32} {y2 : Int32} {y3 : Int32} {r : Int32} {t9 : CS} (h : C_loopholeOf_p71 k25 t x1 x2 x3 y1 y2 y3 = some (r, t9)) : mo t t9 := by
  unfold C_loopholeOf_p71 at h
  obtain ⟨v1, hv1, h⟩ := bd1_some h
  obtain ⟨v2, t3, ht3, h⟩ := bd2_some h
  refine mo.tr (t1 := t3) (mo_C_binds ht3) ?_
  rcases ite_or h with ⟨c, h⟩ | ⟨c, h⟩
  · cases h; exact mo.rf
  · exact mo_C_loopholeOf_p86 mk25 h
theorem mo_C_loopholeOf_p25 : ∀ (n : Nat) (t : CS) (x1 : Int32) (x2 : Int32) (x3 : Int32) (r : Int32) (t9 : CS), C_loopholeOf_p25 n t x1 x2 x3 = some (r, t9) → mo t t9 := by
  intro n
  induction n with
  | zero =>
    intro t x1 x2 x3 r t9 h
    have h : none = some _ := h
    cases h
  | succ n ih =>
    intro t x1 x2 x3 r t9 h
    rw [C_loopholeOf_p25] at h
    rcases ite_or h with ⟨c, h⟩ | ⟨c, h⟩
    · cases h; exact mo.rf
    · obtain ⟨v1, hv1, h⟩ := bd1_some h
      rcases ite_or h with ⟨c, h⟩ | ⟨c, h⟩
      · obtain ⟨hi2, h⟩ := ck_some h
        rcases ite_or h with ⟨c, h⟩ | ⟨c, h⟩
        · exact mo_C_loopholeOf_p71 ih h
        · exact mo_C_loopholeOf_p71 ih h
      · exact mo_C_loopholeOf_p86 ih h
theorem mo_C_loopholeOf {t : CS} {x1 : Int32} {r : Int32} {t9 : CS} (h : C_loopholeOf t x1 = some (r, t9)) : mo t t9 := by
  unfold C_loopholeOf at h
  obtain ⟨v1, hv1, h⟩ := bd1_some h
  obtain ⟨v2, hv2, h⟩ := bd1_some h
  obtain ⟨v3, t4, ht4, h⟩ := bd2_some h
  refine mo.tr (t1 := t4) (mo_C_binds ht4) ?_
  rcases ite_or h with ⟨c, h⟩ | ⟨c, h⟩
  · cases h; exact mo.rf
  · exact mo_C_loopholeOf_p25 fu _ _ _ _ _ _ h
theorem mo_C_signed {t : CS} {x1 : Int32} {x2 : Int32} {r : Int32} {t9 : CS} (h : C_signed t x1 x2 = some (r, t9)) : mo t t9 := by
  unfold C_signed at h
  rcases ite_or h with ⟨c, h⟩ | ⟨c, h⟩
  · obtain ⟨hi18, h⟩ := ck_some h
    cases h; exact mo.rf
  · obtain ⟨hi1, h⟩ := ck_some h
    obtain ⟨v2, hv2, h⟩ := bd1_some h
    rcases ite_or h with ⟨c, h⟩ | ⟨c, h⟩
    · cases h; exact mo.rf
    · obtain ⟨v3, ev3, h⟩ := lt1_ex h
      rcases ite_or h with ⟨c, h⟩ | ⟨c, h⟩
      · obtain ⟨hi4, h⟩ := ck_some h
        cases h; exact mo.rf
      rcases ite_or h with ⟨c, h⟩ | ⟨c, h⟩
      · obtain ⟨hi5, h⟩ := ck_some h
        cases h; exact mo.rf
      rcases ite_or h with ⟨c, h⟩ | ⟨c, h⟩
      · obtain ⟨hi6, h⟩ := ck_some h
        cases h; exact mo.rf
      rcases ite_or h with ⟨c, h⟩ | ⟨c, h⟩
      · obtain ⟨v7, hv7, h⟩ := bd1_some h
        obtain ⟨v8, hv8, h⟩ := bd1_some h
        obtain ⟨v9, t10, ht10, h⟩ := bd2_some h
        refine mo.tr (t1 := t10) (mo_C_binds ht10) ?_
        rcases ite_or h with ⟨c, h⟩ | ⟨c, h⟩
        · cases h; exact mo.rf
        · cases h; exact mo.rf
      rcases ite_or h with ⟨c, h⟩ | ⟨c, h⟩
      · obtain ⟨v11, hv11, h⟩ := bd1_some h
        obtain ⟨v12, hv12, h⟩ := bd1_some h
        cases h; exact mo.rf
      rcases ite_or h with ⟨c, h⟩ | ⟨c, h⟩
      · obtain ⟨v13, t14, ht14, h⟩ := bd2_some h
        refine mo.tr (t1 := t14) (mo_C_loopholeOf ht14) ?_
        cases h; exact mo.rf
      obtain ⟨hi15, h⟩ := ck_some h
      obtain ⟨v16, hv16, h⟩ := bd1_some h
      rcases ite_or h with ⟨c, h⟩ | ⟨c, h⟩
      · cases h; exact mo.rf
      · obtain ⟨hi17, h⟩ := ck_some h
        cases h; exact mo.rf
theorem mo_C_X1_copy_2_8_60_p2 : ∀ (n : Nat) (t : CS) (x2 : Int32) (t9 : CS), C_X1_copy_2_8_60_p2 n t x2 = some t9 → mo t t9 := by
  intro n
  induction n with
  | zero =>
    intro t x2 t9 h
    have h : none = some _ := h
    cases h
  | succ n ih =>
    intro t x2 t9 h
    rw [C_X1_copy_2_8_60_p2] at h
    rcases ite_or h with ⟨c, h⟩ | ⟨c, h⟩
    · cases h; exact mo.rf
    · obtain ⟨hi1, h⟩ := ck_some h
      obtain ⟨hi2, h⟩ := ck_some h
      obtain ⟨t3, et3, h⟩ := lt1_ex h
      refine mo.tr (t1 := t3) (mo.nn (by rw [et3]; rfl)) ?_
      obtain ⟨v4, ev4, h⟩ := lt1_ex h
      exact ih _ _ _ h
theorem mo_C_X1_copy_2_8_60 {t : CS} {t9 : CS} (h : C_X1_copy_2_8_60 t = some t9) : mo t t9 := by
  unfold C_X1_copy_2_8_60 at h
  exact mo_C_X1_copy_2_8_60_p2 fu _ _ _ h
theorem mo_C_X1_copy_2_21_73_p2 : ∀ (n : Nat) (t : CS) (x2 : Int32) (t9 : CS), C_X1_copy_2_21_73_p2 n t x2 = some t9 → mo t t9 := by
  intro n
  induction n with
  | zero =>
    intro t x2 t9 h
    have h : none = some _ := h
    cases h
  | succ n ih =>
    intro t x2 t9 h
    rw [C_X1_copy_2_21_73_p2] at h
    rcases ite_or h with ⟨c, h⟩ | ⟨c, h⟩
    · cases h; exact mo.rf
    · obtain ⟨hi1, h⟩ := ck_some h
      obtain ⟨hi2, h⟩ := ck_some h
      obtain ⟨t3, et3, h⟩ := lt1_ex h
      refine mo.tr (t1 := t3) (mo.nn (by rw [et3]; rfl)) ?_
      obtain ⟨v4, ev4, h⟩ := lt1_ex h
      exact ih _ _ _ h
theorem mo_C_X1_copy_2_21_73 {t : CS} {t9 : CS} (h : C_X1_copy_2_21_73 t = some t9) : mo t t9 := by
  unfold C_X1_copy_2_21_73 at h
  exact mo_C_X1_copy_2_21_73_p2 fu _ _ _ h
theorem mo_C_X1_be_53_1 {t : CS} {t9 : CS} (h : C_X1_be_53_1 t = some t9) : mo t t9 := by
  unfold C_X1_be_53_1 at h
  obtain ⟨t1, et1, h⟩ := lt1_ex h
  refine mo.tr (t1 := t1) (mo.nn (by rw [et1]; rfl)) ?_
  obtain ⟨t2, et2, h⟩ := lt1_ex h
  refine mo.tr (t1 := t2) (mo.nn (by rw [et2]; rfl)) ?_
  obtain ⟨t3, et3, h⟩ := lt1_ex h
  refine mo.tr (t1 := t3) (mo.nn (by rw [et3]; rfl)) ?_
  obtain ⟨t4, et4, h⟩ := lt1_ex h
  refine mo.tr (t1 := t4) (mo.nn (by rw [et4]; rfl)) ?_
  obtain ⟨ha5, h⟩ := ckL_some h
  obtain ⟨t6, et6, h⟩ := lt1_ex h
  refine mo.tr (t1 := t6) (mo.nn (by rw [et6]; rfl)) ?_
  obtain ⟨ha7, h⟩ := ckL_some h
  obtain ⟨t8, et8, h⟩ := lt1_ex h
  refine mo.tr (t1 := t8) (mo.nn (by rw [et8]; rfl)) ?_
  obtain ⟨t9, ht9, h⟩ := bd1_some h
  refine mo.tr (t1 := t9) (mo_C_X1_copy_2_8_60 ht9) ?_
  obtain ⟨t10, ht10, h⟩ := bd1_some h
  refine mo.tr (t1 := t10) (mo_C_X1_copy_2_21_73 ht10) ?_
  obtain ⟨ha11, h⟩ := ckL_some h
  obtain ⟨t12, et12, h⟩ := lt1_ex h
  refine mo.tr (t1 := t12) (mo.nn (by rw [et12]; rfl)) ?_
  cases h; exact mo.rf
theorem mo_C_image {t : CS} {r : Int32} {t9 : CS} (h : C_image t = some (r, t9)) : mo t t9 := by
  unfold C_image at h
  obtain ⟨t1, ht1, h⟩ := bd1_some h
  refine mo.tr (t1 := t1) (mo_C_X1_be_53_1 ht1) ?_
  obtain ⟨hi2, h⟩ := ck_some h
  cases h; exact mo.rf
theorem mo_C_X1_copy_2_60_8_p2 : ∀ (n : Nat) (t : CS) (x2 : Int32) (t9 : CS), C_X1_copy_2_60_8_p2 n t x2 = some t9 → mo t t9 := by
  intro n
  induction n with
  | zero =>
    intro t x2 t9 h
    have h : none = some _ := h
    cases h
  | succ n ih =>
    intro t x2 t9 h
    rw [C_X1_copy_2_60_8_p2] at h
    rcases ite_or h with ⟨c, h⟩ | ⟨c, h⟩
    · cases h; exact mo.rf
    · obtain ⟨hi1, h⟩ := ck_some h
      obtain ⟨hi2, h⟩ := ck_some h
      obtain ⟨t3, et3, h⟩ := lt1_ex h
      refine mo.tr (t1 := t3) (mo.nn (by rw [et3]; rfl)) ?_
      obtain ⟨v4, ev4, h⟩ := lt1_ex h
      exact ih _ _ _ h
theorem mo_C_X1_copy_2_60_8 {t : CS} {t9 : CS} (h : C_X1_copy_2_60_8 t = some t9) : mo t t9 := by
  unfold C_X1_copy_2_60_8 at h
  exact mo_C_X1_copy_2_60_8_p2 fu _ _ _ h
theorem mo_C_X1_copy_2_73_21_p2 : ∀ (n : Nat) (t : CS) (x2 : Int32) (t9 : CS), C_X1_copy_2_73_21_p2 n t x2 = some t9 → mo t t9 := by
  intro n
  induction n with
  | zero =>
    intro t x2 t9 h
    have h : none = some _ := h
    cases h
  | succ n ih =>
    intro t x2 t9 h
    rw [C_X1_copy_2_73_21_p2] at h
    rcases ite_or h with ⟨c, h⟩ | ⟨c, h⟩
    · cases h; exact mo.rf
    · obtain ⟨hi1, h⟩ := ck_some h
      obtain ⟨hi2, h⟩ := ck_some h
      obtain ⟨t3, et3, h⟩ := lt1_ex h
      refine mo.tr (t1 := t3) (mo.nn (by rw [et3]; rfl)) ?_
      obtain ⟨v4, ev4, h⟩ := lt1_ex h
      exact ih _ _ _ h
theorem mo_C_X1_copy_2_73_21 {t : CS} {t9 : CS} (h : C_X1_copy_2_73_21 t = some t9) : mo t t9 := by
  unfold C_X1_copy_2_73_21 at h
  exact mo_C_X1_copy_2_73_21_p2 fu _ _ _ h
theorem mo_C_X1_be_53 {t : CS} {t9 : CS} (h : C_X1_be_53 t = some t9) : mo t t9 := by
  unfold C_X1_be_53 at h
  obtain ⟨t1, et1, h⟩ := lt1_ex h
  refine mo.tr (t1 := t1) (mo.nn (by rw [et1]; rfl)) ?_
  obtain ⟨t2, et2, h⟩ := lt1_ex h
  refine mo.tr (t1 := t2) (mo.nn (by rw [et2]; rfl)) ?_
  obtain ⟨t3, et3, h⟩ := lt1_ex h
  refine mo.tr (t1 := t3) (mo.nn (by rw [et3]; rfl)) ?_
  obtain ⟨t4, et4, h⟩ := lt1_ex h
  refine mo.tr (t1 := t4) (mo.nn (by rw [et4]; rfl)) ?_
  obtain ⟨ha5, h⟩ := ckL_some h
  obtain ⟨t6, et6, h⟩ := lt1_ex h
  refine mo.tr (t1 := t6) (mo.nn (by rw [et6]; rfl)) ?_
  obtain ⟨ha7, h⟩ := ckL_some h
  obtain ⟨t8, et8, h⟩ := lt1_ex h
  refine mo.tr (t1 := t8) (mo.nn (by rw [et8]; rfl)) ?_
  obtain ⟨t9, ht9, h⟩ := bd1_some h
  refine mo.tr (t1 := t9) (mo_C_X1_copy_2_60_8 ht9) ?_
  obtain ⟨t10, ht10, h⟩ := bd1_some h
  refine mo.tr (t1 := t10) (mo_C_X1_copy_2_73_21 ht10) ?_
  obtain ⟨ha11, h⟩ := ckL_some h
  obtain ⟨t12, et12, h⟩ := lt1_ex h
  refine mo.tr (t1 := t12) (mo.nn (by rw [et12]; rfl)) ?_
  cases h; exact mo.rf
theorem mo_C_back {t : CS} {r : Int32} {t9 : CS} (h : C_back t = some (r, t9)) : mo t t9 := by
  unfold C_back at h
  obtain ⟨t1, ht1, h⟩ := bd1_some h
  refine mo.tr (t1 := t1) (mo_C_X1_be_53 ht1) ?_
  obtain ⟨hi2, h⟩ := ck_some h
  cases h; exact mo.rf
