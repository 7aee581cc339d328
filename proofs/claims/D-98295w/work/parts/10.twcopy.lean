set_option maxRecDepth 20000
/-! the reference's copy(from, to): two of its own arrays of 3038 places -/
abbrev rmX2_copy : Room := { frames := 0, cells := 0, slots := 0, locals := 0 }
theorem hdX2_copy : yX2_copy.cls ≠ "java/lang/invoke/MethodHandle" ∧ yX2_copy.cls ≠ "java/lang/invoke/VarHandle" ∧ (parseMethodDescriptor yX2_copy.desc).map (fun d => d.parameters.length) = some 2 := by decide +kernel
theorem copy_loop {p : Program} {l : Launch} {e : Env} {s : State} {m : MethodId} {args : Array Value} {below : List Frame} {meth : Method} {c : Code} {D : va_G} {dA : Nat → ClassId} {b : Nat} {t : TS} (C : cx p s m args meth c cX2_copy RX2 3 none) (hK : kk D dA s) {k1 k2 f1 f2 : Nat} (h1 : ∀ t, twc dA b t k1 = .inl (dA 0, 3038, .inl (t.1 f1))) (h2 : ∀ t, twc dA b t k2 = .inl (dA 0, 3038, .inl (t.1 f2))) (hk1 : k1 < 19) (hk2 : k2 < 19) (hf : f1 ≠ f2) (hu : ∀ (t : TS) (f : Nat → Int32) (j : Nat), j < 19 → j ≠ k2 → twc dA b (sa t f2 f) j = twc dA b t j) :
    ∀ (n i : Nat), i ≤ 3038 → 3038 < i + n → ∀ (t1 : TS) (H : Heap) (locs : List Loc) (ls : Array Slot), t1 = sa t f2 (fun j => if j < i then t.1 f1 j else t.1 f2 j) → wd D (tw dA b t1) H → tS b s.heap H locs → lv_has ls 3 [(2, .int (nI i)), (0, .ref (b + k1)), (1, .ref (b + k2))] → W p l e rmX2_copy s m args below meth c H locs 0 0 (MQ below (tQ D dA b (sa t f2 (t.1 f1)) none) args s 0 0 (ta b)) (F0 m 2 ls []) := by
  obtain ⟨hx, hb, hr, hml, hown, hts, hlocks⟩ := id C
  intro n
  induction n with
  | zero => intro i h0 h3; omega
  | succ n ih =>
    intro i hi hin t1 H locs ls ht hT hS hl
    refine lv_iload_n hx hb dX2_copy_2 rfl (lv_at hl 0 rfl) ?_
    refine lv_sipush (v := 3038) hx hb dX2_copy_3 (by decide) ?_
    refine lv_icmp_ge (tgt := 21) hx hb dX2_copy_6 (by decide) (fun c => ?_) (fun c => ?_)
    · have hi2 : i = 3038 := by
        have := (nI_leI (a := 3038) (b := i) (by decide) (by omega)).mp c
        omega
      subst hi2
      refine e_wv (t := sa t f2 (t.1 f1)) C (hT.kept (fun _ _ _ => rfl) |> fun hT => ?_) hS rfl dX2_copy_21
      intro q x hq
      unfold tw at hq
      split at hq
      · rename_i hq1
        cases hq
        by_cases hj : q - b = k2
        · have hT2 := hT (b + k2) _ (tw_at k2 hk2)
          have eq1 : q = b + k2 := by omega
          rw [hj, eq1, h2]
          rw [h2, ht] at hT2
          show H[b + k2]? = some (vp_cell _ _)
          have hT2 : H[b + k2]? = some (vp_cell _ _) := hT2
          rw [hT2, vp_cell_i, vp_cell_i]
          exact congrArg some (arrV_ext (fun j hj2 => by simp [sa, hj2]))
        · have hT2 := hT q _ (by unfold tw; rw [if_pos hq1])
          rw [ht, hu _ _ _ (by omega) hj] at hT2
          rw [hu _ _ _ (by omega) hj]
          exact hT2
      · cases hq
    · have hi2 : i < 3038 := by
        rcases Nat.lt_or_ge i 3038 with z | z
        · exact z
        · exact absurd ((nI_leI (a := 3038) (b := i) (by decide) (by omega)).mpr z) c
      refine lv_aload_n hx hb dX2_copy_9 rfl (lv_at hl 2 rfl) ?_
      refine lv_iload_n hx hb dX2_copy_10 rfl (lv_at hl 0 rfl) ?_
      refine lv_aload_n hx hb dX2_copy_11 rfl (lv_at hl 1 rfl) ?_
      refine lv_iload_n hx hb dX2_copy_12 rfl (lv_at hl 0 rfl) ?_
      refine t_ild hx hb hK hT ((tw_at k1 hk1).trans (congrArg some (h1 t1))) (vp_in_nI hi2 (by omega)) dX2_copy_13 ?_
      refine t_ist hx hb hK hT hS k2 3038 f2 hk2 (h2 t1) (vp_in_nI hi2 (by omega)) (t1 := sa t f2 (fun j => if j < i + 1 then t.1 f1 j else t.1 f2 j)) ?_ (fun j hj hj2 => by rw [ht, hu _ _ _ hj hj2, hu _ _ _ hj hj2]) dX2_copy_14 (fun H locs hT hS => ?_)
      · rw [h2, nI_clamp (by omega)]
        congr 4
        funext j
        rw [ht]
        simp only [sa, upd, hf, if_true, if_false]
        by_cases h5 : j = i
        · subst h5; simp
        · by_cases h6 : j < i
          · simp [h5, h6, show j < i + 1 by omega]
          · simp [h5, h6, show ¬ j < i + 1 by omega]
      refine lv_iinc (v := nI (i + 1)) (lv' := [(2, .int (nI (i + 1))), (0, .ref (b + k1)), (1, .ref (b + k2))]) hx hb dX2_copy_15 hl (k := 0) rfl (by rw [← nI_1]; rfl) (by decide) rfl (fun ls hl => ?_)
      refine lv_goto (tgt := 2) hx hb dX2_copy_18 (by decide) ?_
      exact ih (i + 1) (by omega) (by omega) _ H locs ls rfl hT hS hl
theorem mX2_copy {l : Launch} {D : va_G} {dA : Nat → ClassId} {b : Nat} {t : TS} {k1 k2 f1 f2 : Nat} (h1 : ∀ t, twc dA b t k1 = .inl (dA 0, 3038, .inl (t.1 f1))) (h2 : ∀ t, twc dA b t k2 = .inl (dA 0, 3038, .inl (t.1 f2))) (hk1 : k1 < 19) (hk2 : k2 < 19) (hf : f1 ≠ f2) (hu : ∀ (t : TS) (f : Nat → Int32) (j : Nat), j < 19 → j ≠ k2 → twc dA b (sa t f2 f) j = twc dA b t j) : Met l yX2_copy (ws_ yX2_copy cX2_copy 3 none) rmX2_copy (tPc D dA b t [.ref (b + k1), .ref (b + k2)]) (tQ D dA b (sa t f2 (t.1 f1)) none) 0 0 (ta b) :=
  en_R (by decide +kernel) rfl (Nat.le_of_ble_eq_true rfl) (fun p e s m below meth c ls C hK hT hl => by
    obtain ⟨hx, hb, hr, hml, hown, hts, hlocks⟩ := id C
    refine lv_iconst (v := 0) hx hb dX2_copy_0 (by decide) ?_
    refine lv_istore_n (lv' := [(2, .int 0), (0, .ref (b + k1)), (1, .ref (b + k2))]) hx hb dX2_copy_1 rfl hl (by decide) rfl (fun ls hl => ?_)
    refine copy_loop (t := t) C hK h1 h2 hk1 hk2 hf hu 3039 0 (by omega) (by omega) t _ [] ls ?_ hT tS.rf (by rw [nI_0]; exact hl)
    show t = _
    unfold sa
    simp only [Nat.not_lt_zero, if_false]
    refine Prod.ext ?_ rfl
    funext k j
    by_cases h : k = f2
    · subst h; simp
    · simp [h])
theorem copy_0_1 {p : Program} {l : Launch} {e : Env} {R : Room} {s : State} {m : MethodId} {args : Array Value} {below : List Frame} {meth : Method} {c : Code} {H : Heap} {locs : List Loc} {cells slots : Nat} {Q : State → Prop} {cc : ByteArray} {pc nL : Nat} {ls : Array Slot} {rest : List Value} {ret : Option FieldType} {D : va_G} {dA : Nat → ClassId} {b : Nat} {t : TS} (C : cx p s m args meth c cc RX2 nL ret) (hK : kk D dA s) (hT : wd D (tw dA b t) H) {H0 : Heap} (hS : tS b H0 H locs) (hdg : decode cc pc = .ok (.invokestatic 73, 3)) (hR : rmX2_copy.frames + 1 ≤ R.frames ∧ 8 + (3 + 11) + rmX2_copy.locals ≤ R.locals) (hc : cells ≤ R.cells ∧ slots ≤ R.slots) (hro : (rest.map fun v => v.category).sum ≤ 8) (hl : ls.size = nL) (kc : ∀ (t1 : TS) (H1 : Heap) (locs1 : List Loc), t1 = sa t 1 (t.1 0) → wd D (tw dA b t1) H1 → tS b H0 H1 locs1 → W p l e R s m args below meth c H1 locs1 cells slots Q (F0 m (pc + 3) ls rest)) : W p l e R s m args below meth c H locs cells slots Q (F0 m pc ls (.ref (b + 2) :: .ref (b + 1) :: rest)) :=
  w_void hS (run_st (As := [.ref (b + 1), .ref (b + 2)]) (rest := rest) C hK hT (mX2_copy (k1 := 1) (k2 := 2) (f1 := 0) (f2 := 1) (fun _ => rfl) (fun _ => rfl) (by decide) (by decide) (by decide) (fun t f i hi h0 => by match i, hi, h0 with | 0, _, _ => rfl | 1, _, _ => rfl | 2, _, h => exact absurd rfl h | 3, _, _ => rfl | 4, _, _ => rfl | 5, _, _ => rfl | 6, _, _ => rfl | 7, _, _ => rfl | 8, _, _ => rfl | 9, _, _ => rfl | 10, _, _ => rfl | 11, _, _ => rfl | 12, _, _ => rfl | 13, _, _ => rfl | 14, _, _ => rfl | 15, _, _ => rfl | 16, _, _ => rfl | 17, _, _ => rfl | 18, _, _ => rfl | z + 19, h, _ => exact absurd h (by omega))) q1525 q1526 q162 q1527 ⟨rfl, rfl⟩ hdX2_copy hR hc rfl hl rfl hro hdg) (fun H1 l1 => kc _ H1 l1 rfl)
theorem copy_1_0 {p : Program} {l : Launch} {e : Env} {R : Room} {s : State} {m : MethodId} {args : Array Value} {below : List Frame} {meth : Method} {c : Code} {H : Heap} {locs : List Loc} {cells slots : Nat} {Q : State → Prop} {cc : ByteArray} {pc nL : Nat} {ls : Array Slot} {rest : List Value} {ret : Option FieldType} {D : va_G} {dA : Nat → ClassId} {b : Nat} {t : TS} (C : cx p s m args meth c cc RX2 nL ret) (hK : kk D dA s) (hT : wd D (tw dA b t) H) {H0 : Heap} (hS : tS b H0 H locs) (hdg : decode cc pc = .ok (.invokestatic 73, 3)) (hR : rmX2_copy.frames + 1 ≤ R.frames ∧ 8 + (3 + 11) + rmX2_copy.locals ≤ R.locals) (hc : cells ≤ R.cells ∧ slots ≤ R.slots) (hro : (rest.map fun v => v.category).sum ≤ 8) (hl : ls.size = nL) (kc : ∀ (t1 : TS) (H1 : Heap) (locs1 : List Loc), t1 = sa t 0 (t.1 1) → wd D (tw dA b t1) H1 → tS b H0 H1 locs1 → W p l e R s m args below meth c H1 locs1 cells slots Q (F0 m (pc + 3) ls rest)) : W p l e R s m args below meth c H locs cells slots Q (F0 m pc ls (.ref (b + 1) :: .ref (b + 2) :: rest)) :=
  w_void hS (run_st (As := [.ref (b + 2), .ref (b + 1)]) (rest := rest) C hK hT (mX2_copy (k1 := 2) (k2 := 1) (f1 := 1) (f2 := 0) (fun _ => rfl) (fun _ => rfl) (by decide) (by decide) (by decide) (fun t f i hi h0 => by match i, hi, h0 with | 0, _, _ => rfl | 2, _, _ => rfl | 1, _, h => exact absurd rfl h | 3, _, _ => rfl | 4, _, _ => rfl | 5, _, _ => rfl | 6, _, _ => rfl | 7, _, _ => rfl | 8, _, _ => rfl | 9, _, _ => rfl | 10, _, _ => rfl | 11, _, _ => rfl | 12, _, _ => rfl | 13, _, _ => rfl | 14, _, _ => rfl | 15, _, _ => rfl | 16, _, _ => rfl | 17, _, _ => rfl | 18, _, _ => rfl | z + 19, h, _ => exact absurd h (by omega))) q1525 q1526 q162 q1527 ⟨rfl, rfl⟩ hdX2_copy hR hc rfl hl rfl hro hdg) (fun H1 l1 => kc _ H1 l1 rfl)
