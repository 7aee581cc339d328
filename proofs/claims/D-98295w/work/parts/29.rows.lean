/-! contracts for the constructors: Arrays.fill, copies of what is alike -/
set_option maxRecDepth 20000
def hQ (v : Option Value) (X : Heap → Heap → Prop) : Array Value → State → Outcome → State → Prop := fun _ st oc u => oc = .returned v ∧ X st.heap u.heap
abbrev rmJ0_fill : Room := { frames := 1, cells := 0, slots := 0, locals := 40 }
theorem hdJ0_fill : yJ0_fill.cls ≠ "java/lang/invoke/MethodHandle" ∧ yJ0_fill.cls ≠ "java/lang/invoke/VarHandle" ∧ (parseMethodDescriptor yJ0_fill.desc).map (fun d => d.parameters.length) = some 4 := by decide +kernel
def flf (f : Nat → Int32) (i j : Nat) (v : Int32) : Nat → Int32 := fun x => if i ≤ x ∧ x < j then v else f x
theorem flf_0 (f : Nat → Int32) (i : Nat) (v : Int32) : flf f i i v = f := funext fun x => if_neg (by omega)
theorem flf_succ (f : Nat → Int32) {i0 i : Nat} (h : i0 ≤ i) (v : Int32) : upd (flf f i0 i v) i v = flf f i0 (i + 1) v := by
  funext x
  unfold upd flf
  by_cases h1 : x = i
  · subst h1; rw [if_pos rfl, if_pos (by omega)]
  · rw [if_neg h1]
    by_cases h2 : i0 ≤ x ∧ x < i
    · rw [if_pos h2, if_pos (by omega)]
    · rw [if_neg h2, if_neg (by omega)]
theorem gset_twice {F : CF} {r : Nat} {x y : va_E} : gset (gset F r x) r y = gset F r y := by
  funext q
  by_cases hq : q = r
  · subst hq; rw [gset_eq, gset_eq]
  · rw [gset_ne hq, gset_ne hq, gset_ne hq]
theorem gset_same {F : CF} {r : Nat} {x : va_E} (h : F r = some x) : gset F r x = F := by
  funext q
  by_cases hq : q = r
  · subst hq; rw [gset_eq, h]
  · rw [gset_ne hq]
section CG2
variable {p : Program} {l : Launch} {e : Env} {R : Room} {s : State} {m : MethodId} {args : Array Value} {below : List Frame} {meth : Method} {c : Code} {H : Heap} {locs : List Loc} {cells slots : Nat} {Q : State → Prop}
variable {cc : ByteArray} {pc nL : Nat} {ls : Array Slot} {rest st0 : List Value} {own : String} {ret : Option FieldType} {D : va_G} {dA : Nat → ClassId} {F : CF} {M q0 : Nat}
theorem en_G {P : State → Prop} {y : MethodName} {maxL mc ms : Nat} {rm : Room} {av : List Value} {Qc : Array Value → State → Outcome → State → Prop} {free : Addr → Prop} (hy : plainName y.cls = true) (hc : y.cls = own) (hlen : (lg_sl av).length ≤ maxL)
    (body : ∀ (p : Program) (e : Env) (s : State) (m : MethodId) (below : List Frame) (meth : Method) (c : Code) (ls : Array Slot), cx p s m av.toArray meth c cc own maxL ret → meth.name = y.name → P s → lv_has ls maxL (lv_args 0 av) → W p l e rm s m av.toArray below meth c s.heap [] 0 0 (MQ below Qc av.toArray s mc ms free) (F0 m 0 ls [])) : Met l y (ws_ y cc maxL ret) rm (va_Pc av P) Qc mc ms free := by
  refine Met.ofW (cc := cc) (maxL := maxL) (ret := ret) hy rfl ?_
  intro p e s m args below meth c s₁ B hml hv
  obtain ⟨rfl, hP⟩ := hv
  have hts := atoms_spec (ws := ws_ y cc maxL ret) B.pre
  have hl := lv_entry av (n := maxL) hlen
  rw [lg_entry_eq]
  exact body p e s m below meth c _ ⟨B.exec, B.bytes, B.returns, hml, by rw [← hc]; exact findClass_of_methodNamed B.named, fun w h => hts w (List.mem_cons_of_mem _ h), B.notSynchronized⟩ (name_of_methodNamed B.named B.method).1 hP hl
theorem rn_any {v0 : Option Value} {X : Heap → Heap → Prop} {free : Addr → Prop} {a0 : Array Value} {mc ms : Nat} (hr : va_Run p l e R s m args below meth c H locs cells slots mc ms (F0 m pc ls st0) rest (hQ v0 X a0) free) (kc : ∀ (H1 : Heap) (L : List Loc), X H H1 → (∀ z ∈ L, free z.base) → W p l e R s m args below meth c H1 (locs ++ L) (cells + mc) (slots + ms) Q (F0 m (pc + 3) ls (v0.toList ++ rest))) : W p l e R s m args below meth c H locs cells slots Q (F0 m pc ls st0) := by
  intro T hT X0
  obtain ⟨v, st₀, u, T', L, h0, X', hL, e1, e2, ⟨hv, hX⟩, st⟩ := hr T hT X0
  cases hv
  rw [h0] at hX
  obtain ⟨t2, a1, b1⟩ := kc T'.heap L (by rw [e1]; exact hX) hL T' rfl X'
  exact ⟨t2, st t2 a1, b1⟩
theorem rn_void {X : Heap → Heap → Prop} {free : Addr → Prop} {a0 : Array Value} {mc ms : Nat} (hr : va_Run p l e R s m args below meth c H locs cells slots mc ms (F0 m pc ls st0) rest (hQ none X a0) free) (kc : ∀ (H1 : Heap) (L : List Loc), X H H1 → (∀ z ∈ L, free z.base) → W p l e R s m args below meth c H1 (locs ++ L) (cells + mc) (slots + ms) Q (F0 m (pc + 3) ls rest)) : W p l e R s m args below meth c H locs cells slots Q (F0 m pc ls st0) := rn_any hr kc
theorem fill_loop {r n : Nat} {f : Nat → Int32} {i0 j : Nat} {v : Int32} (C : cx p s m args meth c cJ0_fill RJ0 5 none) (hK : kk D dA s) (hj : j ≤ n) (hn : n < 100000) (hr : F r = some (.inl (dA 0, n, .inl f))) :
    ∀ (k i : Nat), i0 ≤ i → i ≤ j → j < i + k → ∀ (H : Heap) (locs : List Loc) (ls : Array Slot), gW D (gset F r (.inl (dA 0, n, .inl (flf f i0 i v)))) M H → (∀ q : Nat, q ≠ r → H[q]? = s.heap[q]?) → H.size = s.heap.size → (∀ x ∈ locs, x.base = r) → lv_has ls 5 [(4, .int (nI i)), (0, .ref r), (1, .int (nI i0)), (2, .int (nI j)), (3, .int v)] →
      W p l e rmJ0_fill s m args below meth c H locs 0 0 (MQ below (hQ none (fun H0 H1 => gW D (gset F r (.inl (dA 0, n, .inl (flf f i0 j v)))) M H1 ∧ (∀ q : Nat, q ≠ r → H1[q]? = H0[q]?) ∧ H1.size = H0.size)) args s 0 0 (fun q => q = r)) (F0 m 10 ls []) := by
  obtain ⟨hx, hb, hr0, hml, hown, hts, hlocks⟩ := id C
  intro k
  induction k with
  | zero => intro i h1 h2 h3; omega
  | succ k ih =>
    intro i h1 h2 h3 H locs ls hG hS hz hL hl
    refine lv_iload hx hb dJ0_fill_10 (lv_at hl 0 rfl) ?_
    refine lv_iload_n hx hb dJ0_fill_12 rfl (lv_at hl 3 rfl) ?_
    refine lv_icmp_ge (tgt := 27) hx hb dJ0_fill_13 (by decide) (fun c => ?_) (fun c => ?_)
    · have hij : i = j := by
        have := (nI_leI (a := j) (b := i) (by omega) (by omega)).mp c
        omega
      subst hij
      exact W.vret hx hb hr0 (fun u hu _ => ⟨rfl, by rw [hu]; exact ⟨hG, hS, hz⟩⟩) hL dJ0_fill_27 hlocks
    · have hij : i < j := by
        rcases Nat.lt_or_ge i j with z | z
        · exact z
        · exact absurd ((nI_leI (a := j) (b := i) (by omega) (by omega)).mpr z) c
      refine lv_aload_n hx hb dJ0_fill_16 rfl (lv_at hl 1 rfl) ?_
      refine lv_iload hx hb dJ0_fill_17 (lv_at hl 0 rfl) ?_
      refine lv_iload_n hx hb dJ0_fill_19 rfl (lv_at hl 4 rfl) ?_
      refine gw_ist0 C hK hG gset_eq (vp_in_nI (show i < n by omega) (by omega)) dJ0_fill_20 (fun H1 hG1 z1 o1 => ?_)
      refine lv_iinc (v := nI (i + 1)) (lv' := [(4, .int (nI (i + 1))), (0, .ref r), (1, .int (nI i0)), (2, .int (nI j)), (3, .int v)]) hx hb dJ0_fill_21 hl (k := 0) rfl (by rw [← nI_1]; rfl) (by decide) rfl (fun ls hl => ?_)
      refine lv_goto (tgt := 10) hx hb dJ0_fill_24 (by decide) ?_
      rw [gset_twice, nI_clamp (by omega), flf_succ f h1 v] at hG1
      refine ih (i + 1) (by omega) (by omega) (by omega) H1 _ ls hG1 (fun q hq => (o1 q hq).trans (hS q hq)) (z1.trans hz) (fun x hx => ?_) hl
      rcases List.mem_append.mp hx with h | h
      · exact hL x h
      · rw [List.mem_singleton.mp h]
def ftP (D : va_G) (dA : Nat → ClassId) (F : CF) (M : Nat) : State → Prop := fun U => kk D dA U ∧ gW D F M U.heap
theorem mJ0_fill {r n : Nat} {f : Nat → Int32} {i j : Nat} {v : Int32} (hi : i ≤ j) (hj : j ≤ n) (hn : n < 100000) (hr : F r = some (.inl (dA 0, n, .inl f))) : Met l yJ0_fill (ws_ yJ0_fill cJ0_fill 5 none) rmJ0_fill (va_Pc [.ref r, .int (nI i), .int (nI j), .int v] (ftP D dA F M)) (hQ none (fun H0 H1 => gW D (gset F r (.inl (dA 0, n, .inl (flf f i j v)))) M H1 ∧ (∀ q : Nat, q ≠ r → H1[q]? = H0[q]?) ∧ H1.size = H0.size)) 0 0 (fun q => q = r) := by
  refine en_G (by decide +kernel) rfl (Nat.le_of_ble_eq_true rfl) (fun p e s m below meth c ls C hin hP hl => ?_)
  obtain ⟨hx, hb, hr0, hml, hown, hts, hlocks⟩ := id C
  obtain ⟨hK, hG⟩ := hP
  refine lv_aload_n hx hb dJ0_fill_0 rfl (lv_at hl 0 rfl) ?_
  refine va_alen hx hb hK (hG.1.one hr) 0 0 (x := (n, .inl f)) rfl (ty := .int) rfl (v := nI n) rfl dJ0_fill_1 ?_
  refine lv_iload_n hx hb dJ0_fill_2 rfl (lv_at hl 1 rfl) ?_
  refine lv_iload_n hx hb dJ0_fill_3 rfl (lv_at hl 2 rfl) ?_
  have hrc : J_J0_rangeCheck (nI n) (nI i) (nI j) = some () := by
    unfold J_J0_rangeCheck
    rw [if_pos ((nI_leI (by omega) (by omega)).mpr hi), if_pos (nI_pos' (by omega)), if_pos ((nI_leI (by omega) (by omega)).mpr hj)]
  refine r_void (run_s (As := [.int (nI n), .int (nI i), .int (nI j)]) (rest := []) C (mJ0_rangeCheck hrc) q218 q219 q160 q220 ⟨rfl, rfl⟩ hdJ0_rangeCheck ⟨Nat.le_of_ble_eq_true rfl, Nat.le_of_ble_eq_true rfl⟩ ⟨Nat.zero_le _, Nat.zero_le _⟩ rfl hl.1 rfl (Nat.le_of_ble_eq_true rfl) dJ0_fill_4) ?_
  refine lv_iload_n hx hb dJ0_fill_7 rfl (lv_at hl 1 rfl) ?_
  refine lv_istore (lv' := [(4, .int (nI i)), (0, .ref r), (1, .int (nI i)), (2, .int (nI j)), (3, .int v)]) hx hb dJ0_fill_8 hl (by decide) rfl (fun ls hl => ?_)
  exact fill_loop C hK hj hn hr (j + 1) i (Nat.le_refl _) hi (by omega) s.heap [] ls (by rw [flf_0, gset_same hr]; exact hG) (fun _ _ => rfl) rfl (fun x hx => by cases hx) hl
theorem fb_G {D : va_G} {dA : Nat → ClassId} {av : List Value} {X : Heap → Prop} : FrameBlind (va_Pc av (fun U => kk D dA U ∧ X U.heap)) := fun A U g mk q => ⟨q.1, q.2.1.moved (u := U) (U := U.calling g mk A) (Vm.Alike.refl U.vm), q.2.2⟩
theorem gw_fill {r n i j : Nat} {v : Int32} {f : Nat → Int32} (C : cx p s m args meth c cc own nL ret) (hK : kk D dA s) (hG : gW D F M H) (hS : gS q0 s.heap H locs) (hl : ls.size = nL) (hr : F r = some (.inl (dA 0, n, .inl f))) (hqr : q0 ≤ r) (hi : i ≤ j) (hj : j ≤ n) (hn : n < 100000) {index : Nat} (hq : (Cond.methodLink own index yJ0_fill) ∈ lw_all) (hR : 2 ≤ R.frames ∧ 100 ≤ R.locals) (hcs : cells ≤ R.cells ∧ slots ≤ R.slots) (hro : (rest.map fun v => v.category).sum ≤ 8) (hdg : decode cc pc = .ok (.invokestatic index, 3))
    (kc : ∀ (H1 : Heap) (locs1 : List Loc), gW D (gset F r (.inl (dA 0, n, .inl (flf f i j v)))) M H1 → gS q0 s.heap H1 locs1 → W p l e R s m args below meth c H1 locs1 cells slots Q (F0 m (pc + 3) ls rest)) : W p l e R s m args below meth c H locs cells slots Q (F0 m pc ls (.int v :: .int (nI j) :: .int (nI i) :: .ref r :: rest)) := by
  obtain ⟨hx, hb, -, hml, hown, hts, -⟩ := C
  refine rn_void (va_runS (As := [.ref r, .int (nI i), .int (nI j), .int v]) (rest := rest) ⟨hx, hb, hml, hown, hts⟩ (mJ0_fill (D := D) (dA := dA) (F := F) (M := M) hi hj hn hr) (va_cwS 4 hts (lw_S hq q216 q160 q217) rfl rfl rfl hdJ0_fill ⟨hR.1, by show 8 + (5 + 11) + 40 ≤ _; omega⟩) ⟨fb_G (X := gW D F M), fun U hU hW => ⟨rfl, hK.moved hW.alike, by rw [hU]; exact hG⟩⟩ rfl rfl hl rfl (lv_room hro) hdg hcs) (fun H1 L hX hL => ?_)
  exact kc H1 _ hX.1 (hS.puts hqr (by rw [hG.2.1]; exact hG.2.2 _ _ hr) hX.2.2 hX.2.1 hL)
/-- a copy of what is alike -/
theorem heap_same {H H1 : Heap} (h : ∀ q : Nat, H1[q]? = H[q]?) : H1 = H := Array.ext_getElem? h
abbrev rmnc : Room := { frames := 1, cells := 0, slots := 0, locals := 30 }
def ncP (D : va_G) (dA : Nat → ClassId) (F : CF) : State → Prop := fun U => kk D dA U ∧ wd D F U.heap
theorem nc_copy {r r1 n : Nat} {f : Nat → Int32} (hn : n < 1000) (h0 : F r = some (.inl (dA 0, n, .inl f))) (h1 : F r1 = some (.inl (dA 0, n, .inl f))) : Met l yX1_copy (ws_ yX1_copy cX1_copy 2 none) rmnc (va_Pc [.ref r, .ref r1] (ncP D dA F)) (hQ none (fun H0 H1 => H1 = H0)) 0 0 (fun q => q = r1) := by
  refine en_G (by decide +kernel) rfl (Nat.le_of_ble_eq_true rfl) (fun p e s m below meth c ls C hin hP hl => ?_)
  obtain ⟨hx, hb, hr0, hml, hown, hts, hlocks⟩ := id C
  obtain ⟨hK, hT⟩ := hP
  have hcl : (nI n).toNatClampNeg = n := nI_clamp (by omega)
  have z0 : (0 : Int32).toNatClampNeg = 0 := by decide
  refine lv_aload_n hx hb dX1_copy_0 rfl (lv_at hl 0 rfl) ?_
  refine lv_iconst (v := 0) hx hb dX1_copy_1 (by decide) ?_
  refine lv_aload_n hx hb dX1_copy_2 rfl (lv_at hl 1 rfl) ?_
  refine lv_iconst (v := 0) hx hb dX1_copy_3 (by decide) ?_
  refine lv_aload_n hx hb dX1_copy_4 rfl (lv_at hl 0 rfl) ?_
  refine va_alen hx hb hK (hT.one h0) 0 0 (x := (n, .inl f)) rfl (ty := .int) rfl (v := nI n) rfl dX1_copy_5 ?_
  refine W_copyi hx hb (hml.trans hl.1.symm) hown (hts _ q266) (hts _ q268) (hts _ q267) (hts _ q161) (hT.one h0 0 _ rfl) (hT.one h1 0 _ rfl) (hK.2 0 _ rfl).1 (hK.2 0 _ rfl).1 rfl (by decide) (by decide) (nI_pos (by omega)) (by rw [hcl, z0]; omega) (by rw [hcl, z0]; omega) (fun _ _ => rfl) (Nat.le_refl _) (nfw_le (Nat.le_of_ble_eq_true rfl) (Nat.le_refl _)) dX1_copy_6 (fun H1 L hL e1 e2 e3 => ?_)
  have hH : H1 = s.heap := heap_same fun q => by
    by_cases hq : q = r1
    · subst hq
      rw [e1]
      refine Eq.trans (congrArg some ?_) (hT.one h1 0 _ rfl).symm
      rw [vp_cell_i, vp_cell_i]
      exact arrV_ext (fun z hz => by simp [va_cpy, hcl, hz, z0])
    · exact e3 q hq
  subst hH
  exact W.vret hx hb hr0 (fun u hu _ => ⟨rfl, by rw [hu]⟩) (fun q hq => hL q hq) dX1_copy_9 hlocks
theorem ncw {r r1 n : Nat} {f : Nat → Int32} {fr : Addr → Prop} (hn : n < 1000) (C : cx p s m args meth c cc own nL ret) (hK : kk D dA s) (hT : wd D F H) (hl : ls.size = nL) (h0 : F r = some (.inl (dA 0, n, .inl f))) (h1 : F r1 = some (.inl (dA 0, n, .inl f))) (hL0 : ∀ x ∈ locs, fr x.base) (hfr : fr r1) {index : Nat} (hq : (Cond.methodLink own index yX1_copy) ∈ lw_all) (hR : 2 ≤ R.frames ∧ 60 ≤ R.locals) (hcs : cells ≤ R.cells ∧ slots ≤ R.slots) (hro : (rest.map fun v => v.category).sum ≤ 8) (hdg : decode cc pc = .ok (.invokestatic index, 3))
    (kc : ∀ (locs1 : List Loc), (∀ x ∈ locs1, fr x.base) → W p l e R s m args below meth c H locs1 cells slots Q (F0 m (pc + 3) ls rest)) : W p l e R s m args below meth c H locs cells slots Q (F0 m pc ls (.ref r1 :: .ref r :: rest)) := by
  obtain ⟨hx, hb, -, hml, hown, hts, -⟩ := C
  refine rn_void (va_runS (As := [.ref r, .ref r1]) (rest := rest) ⟨hx, hb, hml, hown, hts⟩ (nc_copy (D := D) (dA := dA) (F := F) hn h0 h1) (va_cwS 2 hts (lw_S hq q264 q159 q265) rfl rfl rfl hdX1_copy ⟨hR.1, by show 8 + (2 + 11) + 30 ≤ _; omega⟩) ⟨fb_G (X := wd D F), fun U hU hW => ⟨rfl, hK.moved hW.alike, by rw [hU]; exact hT⟩⟩ rfl rfl hl rfl (lv_room hro) hdg hcs) (fun H1 L hX hL => ?_)
  subst hX
  refine kc _ (fun x hx => ?_)
  rcases List.mem_append.mp hx with h | h
  · exact hL0 x h
  · rw [hL x h]; exact hfr
/-- copy(int[][], int[][]) of rows that are alike -/
abbrev rmnc2 : Room := { frames := 3, cells := 0, slots := 0, locals := 100 }
theorem hdX1_copy_2 : yX1_copy_2.cls ≠ "java/lang/invoke/MethodHandle" ∧ yX1_copy_2.cls ≠ "java/lang/invoke/VarHandle" ∧ (parseMethodDescriptor yX1_copy_2.desc).map (fun d => d.parameters.length) = some 2 := by decide +kernel
theorem nc2_loop {r r1 P P1 N n : Nat} {f : Nat → Int32} (hn : n < 1000) (hN : N < 1000) (C : cx p s m args meth c cX1_copy_2 RX1 3 none) (hK : kk D dA s) (hT : wd D F s.heap) (h0 : F r = some (.inl (dA 6, N, qrf (fun j => some (P + j))))) (h1 : F r1 = some (.inl (dA 6, N, qrf (fun j => some (P1 + j))))) (h2 : ∀ z, z < N → F (P + z) = some (.inl (dA 0, n, .inl f))) (h3 : ∀ z, z < N → F (P1 + z) = some (.inl (dA 0, n, .inl f))) :
    ∀ (k i : Nat), i ≤ N → N < i + k → ∀ (locs : List Loc) (ls : Array Slot), (∀ x ∈ locs, P1 ≤ x.base ∧ x.base < P1 + N) → lv_has ls 3 [(2, .int (nI i)), (0, .ref r), (1, .ref r1)] → W p l e rmnc2 s m args below meth c s.heap locs 0 0 (MQ below (hQ none (fun H0 H1 => H1 = H0)) args s 0 0 (fun q => P1 ≤ q ∧ q < P1 + N)) (F0 m 2 ls []) := by
  obtain ⟨hx, hb, hr0, hml, hown, hts, hlocks⟩ := id C
  intro k
  induction k with
  | zero => intro i h4 h5; omega
  | succ k ih =>
    intro i h4 h5 locs ls hL hl
    refine lv_iload_n hx hb dX1_copy_2_2 rfl (lv_at hl 0 rfl) ?_
    refine lv_aload_n hx hb dX1_copy_2_3 rfl (lv_at hl 1 rfl) ?_
    refine va_alen hx hb hK (hT.one h0) 0 6 (x := (N, qrf (fun j => some (P + j)))) rfl (ty := .array .int) rfl (v := nI N) rfl dX1_copy_2_4 ?_
    refine lv_icmp_ge (tgt := 23) hx hb dX1_copy_2_5 (by decide) (fun c => ?_) (fun c => ?_)
    · exact W.vret hx hb hr0 (fun u hu _ => ⟨rfl, by rw [hu]⟩) hL dX1_copy_2_23 hlocks
    · have hij : i < N := by
        rcases Nat.lt_or_ge i N with z | z
        · exact z
        · exact absurd ((nI_leI (a := N) (b := i) (by omega) (by omega)).mpr z) c
      have hcl : (nI i).toNatClampNeg = i := nI_clamp (by omega)
      have hin : vp_in (nI i) N := vp_in_nI hij (by omega)
      refine lv_aload_n hx hb dX1_copy_2_8 rfl (lv_at hl 1 rfl) ?_
      refine lv_iload_n hx hb dX1_copy_2_9 rfl (lv_at hl 0 rfl) ?_
      refine W.aald (v := .ref (P + i)) (ty := .array .int) hx hb (hT.one h0 0 _ rfl) ((hK.2 6 _ rfl).1 N (fun j => va_rf (some (P + j)))) rfl (fun q => by cases q) (by show ¬ ((nI i) < 0 ∨ (arrV _ _ _).slots.size ≤ _); rw [arrV_size]; exact hin) (by show (arrV _ _ _).slots[_]? = _; rw [arrV_read _ _ (by rw [hcl]; exact hij), hcl]; rfl) rfl rfl dX1_copy_2_10 ?_
      refine W.eq (g2 := F0 m 11 ls [.ref (P + i)]) rfl ?_
      refine lv_aload_n hx hb dX1_copy_2_11 rfl (lv_at hl 2 rfl) ?_
      refine lv_iload_n hx hb dX1_copy_2_12 rfl (lv_at hl 0 rfl) ?_
      refine W.aald (v := .ref (P1 + i)) (ty := .array .int) hx hb (hT.one h1 0 _ rfl) ((hK.2 6 _ rfl).1 N (fun j => va_rf (some (P1 + j)))) rfl (fun q => by cases q) (by show ¬ ((nI i) < 0 ∨ (arrV _ _ _).slots.size ≤ _); rw [arrV_size]; exact hin) (by show (arrV _ _ _).slots[_]? = _; rw [arrV_read _ _ (by rw [hcl]; exact hij), hcl]; rfl) rfl rfl dX1_copy_2_13 ?_
      refine W.eq (g2 := F0 m 14 ls [.ref (P1 + i), .ref (P + i)]) rfl ?_
      refine ncw (r := P + i) (r1 := P1 + i) (fr := fun q => P1 ≤ q ∧ q < P1 + N) hn C hK hT hl.1 (h2 i hij) (h3 i hij) hL ⟨Nat.le_add_right P1 i, Nat.add_lt_add_left hij P1⟩ q263 ⟨Nat.le_of_ble_eq_true rfl, Nat.le_of_ble_eq_true rfl⟩ ⟨Nat.le_refl _, Nat.le_refl _⟩ (Nat.le_of_ble_eq_true rfl) dX1_copy_2_14 (fun locs hL => ?_)
      refine lv_iinc (v := nI (i + 1)) (lv' := [(2, .int (nI (i + 1))), (0, .ref r), (1, .ref r1)]) hx hb dX1_copy_2_17 hl (k := 0) rfl (by rw [← nI_1]; rfl) (by decide) rfl (fun ls hl => ?_)
      refine lv_goto (tgt := 2) hx hb dX1_copy_2_20 (by decide) ?_
      exact ih (i + 1) (by omega) (by omega) locs ls hL hl
theorem nc_copy2 {r r1 P P1 N n : Nat} {f : Nat → Int32} (hn : n < 1000) (hN : N < 1000) (h0 : F r = some (.inl (dA 6, N, qrf (fun j => some (P + j))))) (h1 : F r1 = some (.inl (dA 6, N, qrf (fun j => some (P1 + j))))) (h2 : ∀ z, z < N → F (P + z) = some (.inl (dA 0, n, .inl f))) (h3 : ∀ z, z < N → F (P1 + z) = some (.inl (dA 0, n, .inl f))) : Met l yX1_copy_2 (ws_ yX1_copy_2 cX1_copy_2 3 none) rmnc2 (va_Pc [.ref r, .ref r1] (ncP D dA F)) (hQ none (fun H0 H1 => H1 = H0)) 0 0 (fun q => P1 ≤ q ∧ q < P1 + N) := by
  refine en_G (by decide +kernel) rfl (Nat.le_of_ble_eq_true rfl) (fun p e s m below meth c ls C hin hP hl => ?_)
  obtain ⟨hx, hb, hr0, hml, hown, hts, hlocks⟩ := id C
  obtain ⟨hK, hT⟩ := hP
  refine lv_iconst (v := 0) hx hb dX1_copy_2_0 (by decide) ?_
  refine lv_istore_n (lv' := [(2, .int (nI 0)), (0, .ref r), (1, .ref r1)]) hx hb dX1_copy_2_1 rfl hl (by decide) rfl (fun ls hl => ?_)
  exact nc2_loop hn hN C hK hT h0 h1 h2 h3 (N + 1) 0 (Nat.zero_le _) (by omega) [] ls (fun x hx => by cases hx) hl
theorem ncw2 {r r1 P P1 N n : Nat} {f : Nat → Int32} {fr : Addr → Prop} (hn : n < 1000) (hN : N < 1000) (C : cx p s m args meth c cc own nL ret) (hK : kk D dA s) (hT : wd D F H) (hl : ls.size = nL) (h0 : F r = some (.inl (dA 6, N, qrf (fun j => some (P + j))))) (h1 : F r1 = some (.inl (dA 6, N, qrf (fun j => some (P1 + j))))) (h2 : ∀ z, z < N → F (P + z) = some (.inl (dA 0, n, .inl f))) (h3 : ∀ z, z < N → F (P1 + z) = some (.inl (dA 0, n, .inl f))) (hL0 : ∀ x ∈ locs, fr x.base) (hfr : ∀ q, P1 ≤ q ∧ q < P1 + N → fr q) {index : Nat} (hq : (Cond.methodLink own index yX1_copy_2) ∈ lw_all) (hR : 4 ≤ R.frames ∧ 130 ≤ R.locals) (hcs : cells ≤ R.cells ∧ slots ≤ R.slots) (hro : (rest.map fun v => v.category).sum ≤ 8) (hdg : decode cc pc = .ok (.invokestatic index, 3))
    (kc : ∀ (locs1 : List Loc), (∀ x ∈ locs1, fr x.base) → W p l e R s m args below meth c H locs1 cells slots Q (F0 m (pc + 3) ls rest)) : W p l e R s m args below meth c H locs cells slots Q (F0 m pc ls (.ref r1 :: .ref r :: rest)) := by
  obtain ⟨hx, hb, -, hml, hown, hts, -⟩ := C
  refine rn_void (va_runS (As := [.ref r, .ref r1]) (rest := rest) ⟨hx, hb, hml, hown, hts⟩ (nc_copy2 (D := D) (dA := dA) (F := F) hn hN h0 h1 h2 h3) (va_cwS 2 hts (lw_S hq q270 q159 q271) rfl rfl rfl hdX1_copy_2 ⟨hR.1, by show 8 + (3 + 11) + 100 ≤ _; omega⟩) ⟨fb_G (X := wd D F), fun U hU hW => ⟨rfl, hK.moved hW.alike, by rw [hU]; exact hT⟩⟩ rfl rfl hl rfl (lv_room hro) hdg hcs) (fun H1 L hX hL => ?_)
  subst hX
  refine kc _ (fun x hx => ?_)
  rcases List.mem_append.mp hx with h | h
  · exact hL0 x h
  · exact hfr _ (hL x h)
/-- System.arraycopy of references that are none -/
theorem ncq {r r1 n w : Nat} {fr : Addr → Prop} (C : cx p s m args meth c cc own nL ret) (hK : kk D dA s) (hT : wd D F H) (hl : ls.size = nL) {ty : FieldType} (hw : (tysA dA)[w]? = some (dA w, ty)) (hty : ty = .array .int ∨ ∃ C, ty = .object C) {kA kE : Class} {comp : ClassId} (w1 : s.vm.classes[dA w]? = some kA) (w2 : kA.kind = .array comp ty) (w3 : s.vm.classes[comp]? = some kE) (h0 : F r = some (.inl (dA w, n, qrf (fun _ => none)))) (h1 : F r1 = some (.inl (dA w, n, qrf (fun _ => none)))) (hL0 : ∀ x ∈ locs, fr x.base) (hfr : fr r1) {index : Nat} (hq : (Cond.methodLink own index arraycopyName) ∈ lw_all) {n2 : Int32} (hn0 : ¬ n2 < 0) (hn : n2.toNatClampNeg = n) (hR : 1 ≤ R.frames ∧ 30 ≤ R.locals) (hro : (rest.map fun v => v.category).sum ≤ 8) (hdg : decode cc pc = .ok (.invokestatic index, 3))
    (kc : ∀ (locs1 : List Loc), (∀ x ∈ locs1, fr x.base) → W p l e R s m args below meth c H locs1 cells slots Q (F0 m (pc + 3) ls rest)) : W p l e R s m args below meth c H locs cells slots Q (F0 m pc ls (.int n2 :: .int 0 :: .ref r1 :: .int 0 :: .ref r :: rest)) := by
  obtain ⟨hx, hb, -, hml, hown, hts, -⟩ := C
  have z0 : (0 : Int32).toNatClampNeg = 0 := by decide
  refine W_copyq hx hb (hml.trans hl.symm) hown (hts _ hq) (hts _ q268) (hts _ q267) (hts _ q161) hty (hT.one h0 0 _ rfl) (hT.one h1 0 _ rfl) (hK.2 w _ hw).1 w1 w2 w3 (by decide) (by decide) hn0 (by rw [z0, hn]; omega) (by rw [z0, hn]; omega) (fun z hz y hy => by cases hy) hR.1 (nfw_le hro hR.2) hdg (fun H1 L hL e1 e2 e3 => ?_)
  have hH : H1 = H := heap_same fun q => by
    by_cases hq : q = r1
    · subst hq
      rw [e1]
      refine Eq.trans (congrArg some ?_) (hT.one h1 0 _ rfl).symm
      unfold qrf
      rw [vp_cell_q, vp_cell_q]
      exact arrV_ext (fun z hz => by simp [va_cpy])
    · exact e3 q hq
  subst hH
  refine kc _ (fun x hx => ?_)
  rcases List.mem_append.mp hx with h | h
  · exact hL0 x h
  · rw [hL x h]; exact hfr
end CG2
