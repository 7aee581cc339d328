/-! further rows of the component's world -/
def ckC {α : Type} (t : CS) (r ci : Nat) (x : Option α) : Option α := if gC t r = some ci then x else none
theorem ckC_some {α : Type} {t : CS} {r ci : Nat} {x : Option α} {o : α} (h : ckC t r ci x = some o) : gC t r = some ci ∧ x = some o := by
  unfold ckC at h
  split at h
  · exact ⟨by assumption, h⟩
  · cases h
def nek {α : Type} (i j : Nat) (x : Option α) : Option α := if i = j then none else x
theorem nek_some {α : Type} {i j : Nat} {x : Option α} {o : α} (h : nek i j x = some o) : i ≠ j ∧ x = some o := by
  unfold nek at h
  split at h
  · cases h
  · exact ⟨by assumption, h⟩
def iush (x y : Int32) : Int32 := (x.toUInt32 >>> (y.toUInt32 &&& Int32.toUInt32 31)).toInt32
def lush (x : Int64) (y : Int32) : Int64 := (x.toUInt64 >>> (y.toInt64.toUInt64 &&& Int64.toUInt64 63)).toInt64
theorem fam_lt {x : Int32} {n : Nat} (h : vp_in x n) : x.toNatClampNeg < n := Nat.not_le.mp fun q => h (Or.inr q)
theorem fam_k9 {x : Int32} (h : vp_in x 12) : 9 + x.toNatClampNeg < 115 := by have := fam_lt h; omega
theorem fam_k22 {x : Int32} (h : vp_in x 30) : 22 + x.toNatClampNeg < 115 := by have := fam_lt h; omega
theorem fam_k61 {x : Int32} (h : vp_in x 12) : 61 + x.toNatClampNeg < 115 := by have := fam_lt h; omega
theorem fam_k74 {x : Int32} (h : vp_in x 30) : 74 + x.toNatClampNeg < 115 := by have := fam_lt h; omega
theorem fam_a9 {dA : Nat → ClassId} {a : Nat} {x : Int32} (h : vp_in x 12) : ∀ f g, cwd dA a (9 + x.toNatClampNeg) f g = .inl (dA 0, 3, .inl f) := fun f g => by
  have := fam_lt h
  unfold cwd
  rw [if_pos (Or.inl ⟨by omega, by omega⟩)]
theorem fam_a61 {dA : Nat → ClassId} {a : Nat} {x : Int32} (h : vp_in x 12) : ∀ f g, cwd dA a (61 + x.toNatClampNeg) f g = .inl (dA 0, 3, .inl f) := fun f g => by
  have := fam_lt h
  unfold cwd
  rw [if_pos (Or.inr ⟨by omega, by omega⟩)]
theorem fam_a22 {dA : Nat → ClassId} {a : Nat} {x : Int32} (h : vp_in x 30) : ∀ f g, cwd dA a (22 + x.toNatClampNeg) f g = .inl (dA 0, 192, .inl f) := fun f g => by
  have := fam_lt h
  unfold cwd
  rw [if_neg (by omega), if_pos (Or.inl ⟨by omega, by omega⟩)]
theorem fam_a74 {dA : Nat → ClassId} {a : Nat} {x : Int32} (h : vp_in x 30) : ∀ f g, cwd dA a (74 + x.toNatClampNeg) f g = .inl (dA 0, 192, .inl f) := fun f g => by
  have := fam_lt h
  unfold cwd
  rw [if_neg (by omega), if_pos (Or.inr ⟨by omega, by omega⟩)]
theorem cS.va {a : Nat} {H0 H : Heap} {locs : List Loc} {N0 : Nat → Nat} {lo : Nat} {t : CS} (h : cS a H0 H locs N0 lo t) : va_S (ca a) H0 H locs := ⟨h.1, fun q _ h2 => h.2.1 q h2, h.2.2.1⟩
section CX2
variable {p : Program} {l : Launch} {e : Env} {R : Room} {s : State} {m : MethodId} {args : Array Value} {below : List Frame} {meth : Method} {c : Code} {H : Heap} {locs : List Loc} {cells slots : Nat} {Q : State → Prop}
variable {cc : ByteArray} {pc nL : Nat} {ls : Array Slot} {rest st0 : List Value} {own : String} {ret : Option FieldType} {D : va_G} {dA : Nat → ClassId} {a : Nat} {k : KP a} {t : CS}
theorem c_aln (C : cx p s m args meth c cc own nL ret) (hK : kC D dA a k t.2.2.2 s) (hT : cW D dA a k t H) (i n : Nat) (hi : i < 115) (j : Nat) {x : (Nat → Int32) ⊕ (Nat → Int64) ⊕ (Nat → UInt32) ⊕ (Nat → UInt64) ⊕ (Nat → Option Nat)} (ha : cwd dA a i (t.1 i) (t.2.1 i) = .inl (dA j, n, x)) {ty : FieldType} (hj : (tysA dA)[j]? = some (dA j, ty)) {v : Int32} (hv : Int32.ofNat n = v) (hdg : decode cc pc = .ok (.arraylength, 1)) (kc : W p l e R s m args below meth c H locs cells slots Q (F0 m (pc + 1) ls (.int v :: rest))) : W p l e R s m args below meth c H locs cells slots Q (F0 m pc ls (.ref (a + i) :: rest)) :=
  va_alen C.1 C.2.1 hK.1 (c_cell hT i hi ha) 0 j rfl hj hv hdg kc
theorem g_nothing (C : cx p s m args meth c cc RX0 nL ret) (hK : kC D dA a k t.2.2.2 s) (hS : va_S (ca a) s.heap H locs) {index : Nat} (hq : (Cond.fieldLink RX0 index "LettersOnStrike" "NOTHING" "LLettersOnStrike$Text;") ∈ lw_all) (hdg : decode cc pc = .ok (.getstatic index, 3)) (kc : W p l e R s m args below meth c H locs cells slots Q (F0 m (pc + 3) ls (.ref (t.2.2.2 3) :: rest))) : W p l e R s m args below meth c H locs cells slots Q (F0 m pc ls rest) :=
  va_gets C.1 C.2.1 hK.2.2.1.1 hS C.2.2.2.2.1 (C.2.2.2.2.2.1 _ hq) (fun _ h => h) hdg kc
/-- System.arraycopy of ints, what it does to the heap -/
theorem W_copyi (hexec : p.tables.exec = Jvm.exec) (hb : c.code = cc) (hml : c.maxLocals = ls.size) {own : String} {index : Nat} (hown : s.vm.findClass own = some m.cls) (hlink : (Cond.methodLink own index arraycopyName).before args s = true) (hnat : (Cond.native arraycopyName).before args s = true) (hstat : (Cond.static arraycopyName).before args s = true) (hini : (Cond.initialized "java/lang/System").before args s = true)
    {a0 a1 : Nat} {c0 c1 : ClassId} {n0 n1 : Nat} {f g : Nat → Int32} {ty : FieldType} (hc0 : H[a0]? = some (vp_cell c0 (n0, .inl f))) (hc1 : H[a1]? = some (vp_cell c1 (n1, .inl g))) (ht0 : ArrOfT s c0 ty) (ht1 : ArrOfT s c1 ty) (hprim : refKind ty = false)
    {sp dp n : Int32} (h1 : ¬ sp < 0) (h2 : ¬ dp < 0) (h3 : ¬ n < 0) (h4 : sp.toNatClampNeg + n.toNatClampNeg ≤ n0) (h5 : dp.toNatClampNeg + n.toNatClampNeg ≤ n1) (hfit : ∀ i, i < n.toNatClampNeg → fits ty (.int (f (sp.toNatClampNeg + i))) = true)
    (hframes : 1 ≤ R.frames) (hlocals : (rest.map fun v => v.category).sum + (nativeFrameWords "java/lang/System" "arraycopy" 5 + 11) ≤ R.locals) (hdg : decode cc pc = .ok (.invokestatic index, 3))
    (kc : ∀ (H1 : Heap) (L : List Loc), (∀ q ∈ L, q.base = a1) → H1[a1]? = some (vp_cell c1 (n1, .inl (va_cpy f g sp.toNatClampNeg dp.toNatClampNeg n.toNatClampNeg))) → H1.size = H.size → (∀ q : Nat, q ≠ a1 → H1[q]? = H[q]?) → W p l e R s m args below meth c H1 (locs ++ L) cells slots Q (F0 m (pc + 3) ls rest)) : W p l e R s m args below meth c H locs cells slots Q (F0 m pc ls (.int n :: .int dp :: .ref a1 :: .int sp :: .ref a0 :: rest)) := by
  have nn : ∀ z : Int32, ¬ z < 0 → z.toInt = (z.toNatClampNeg : Int) := by
    intro z hz
    have hz0 : (0 : Int) ≤ z.toInt := by
      have := Int32.not_lt.mp hz
      simpa using Int32.le_iff_toInt_le.mp this
    show z.toInt = ((z.toInt.toNat : Nat) : Int)
    omega
  intro T hT X
  obtain ⟨-, k0, hk0, cm0, hkk0⟩ := ht0 n0 (fun j => .int (f j))
  obtain ⟨-, k1, hk1, cm1, hkk1⟩ := ht1 n1 (fun j => .int (g j))
  obtain ⟨vm', X', step⟩ := X.arraycopy hexec hown hlink hnat hstat hini (src := a0) (dst := a1) (cs := vp_cell c0 (n0, .inl f)) (cd := vp_cell c1 (n1, .inl g)) (srcPos := sp) (destPos := dp) (n := n) (by rw [hT]; exact hc0) (by rw [hT]; exact hc1)
    (fun _ h => by cases h) (fun _ h => by cases h) (fun h => by cases h) (fun h => by cases h) hk0 hk1 hkk0 hkk1 (by simp [hprim]) h1 h2 h3
    (by rw [nn sp h1, nn n h3]; show ¬ _ > ((arrV c0 n0 (fun j => .int (f j))).slots.size : Int); rw [arrV_size]; omega)
    (by rw [nn dp h2, nn n h3]; show ¬ _ > ((arrV c1 n1 (fun j => .int (g j))).slots.size : Int); rw [arrV_size]; omega)
    (fun vm₁ _ i hi => by
      have e : (vp_cell c0 (n0, .inl f)).slots.getD (sp.toNatClampNeg + i) .null = .int (f (sp.toNatClampNeg + i)) := by
        show (arrV c0 n0 (fun j => .int (f j))).slots.getD _ _ = _
        rw [Array.getD_eq_getD_getElem?, arrV_read _ _ (by omega)]
        rfl
      refine ⟨?_, ?_⟩
      · rw [e]
        exact hfit i hi
      · rw [e]
        exact trivial)
    (g := F0 m pc ls (.int n :: .int dp :: .ref a1 :: .int sp :: .ref a0 :: rest)) rfl (by rw [hml]) (rest := rest) rfl (by rw [hb]; exact hdg) hframes (by show 2 * 0 + _ + _ ≤ _; omega)
  have e1 : copied (vp_cell c0 (n0, .inl f)) (vp_cell c1 (n1, .inl g)) sp dp n = vp_cell c1 (n1, .inl (va_cpy f g sp.toNatClampNeg dp.toNatClampNeg n.toNatClampNeg)) := va_copied (fun z => .int z) c0 c1 f g h4
  rw [e1] at X' step
  have hl : a1 < H.size := (Array.getElem?_eq_some_iff.mp hc1).1
  have hheap : ((T.setVm vm').setCell a1 (vp_cell c1 (n1, .inl (va_cpy f g sp.toNatClampNeg dp.toNatClampNeg n.toNatClampNeg)))).heap = H.setIfInBounds a1 (vp_cell c1 (n1, .inl (va_cpy f g sp.toNatClampNeg dp.toNatClampNeg n.toNatClampNeg))) := by rw [← hT]; rfl
  obtain ⟨t, b1, b2⟩ := kc _ _ (fun q h => by
      obtain ⟨z, -, hz⟩ := List.mem_map.mp h
      rw [← hz]) (show (H.setIfInBounds a1 _)[a1]? = some _ by simp [Array.getElem?_setIfInBounds, hl]) (by simp) (fun q hq => by simp [Array.getElem?_setIfInBounds, Ne.symm hq]) _ hheap X'
  exact ⟨t, step t b1, b2⟩
theorem cS.puts {a : Nat} {H0 H H1 : Heap} {locs L : List Loc} {N0 : Nat → Nat} {lo : Nat} {t t1 : CS} {q0 : Nat} (h : cS a H0 H locs N0 lo t) (z : H1.size = H.size) (oq : ∀ q : Nat, q ≠ q0 → H1[q]? = H[q]?) (ha : ca a q0) (hL : ∀ q ∈ L, q.base = q0) (hN : t1.2.2.2 = t.2.2.2) : cS a H0 H1 (locs ++ L) N0 lo t1 := by
  refine ⟨by rw [z]; exact h.1, fun q h1 => (oq q (fun e => h1 (e ▸ ha))).trans (h.2.1 q h1), fun q hq => ?_, by rw [hN]; exact h.2.2.2⟩
  rcases List.mem_append.mp hq with h1 | h1
  · exact h.2.2.1 q h1
  · rw [hL q h1]; exact ha
theorem nfw_le {n R0 : Nat} (h : n ≤ 8) (hR : 30 ≤ R0) : n + (nativeFrameWords "java/lang/System" "arraycopy" 5 + 11) ≤ R0 := by
  have h1 : nativeFrameWords "java/lang/System" "arraycopy" 5 = 7 := by decide +kernel
  omega
/-- ints of one fixed cell into another: the row -/
theorem c_copyi (C : cx p s m args meth c cc own nL ret) (hK : kC D dA a k t.2.2.2 s) (hT : cW D dA a k t H) {H0 : Heap} {N0 : Nat → Nat} {lo : Nat} (hS : cS a H0 H locs N0 lo t) (hl : ls.size = nL) (i j n0 n1 : Nat) (hi : i < 115) (hj : j < 115) (hai : ∀ f g, cwd dA a i f g = .inl (dA 0, n0, .inl f)) (haj : ∀ f g, cwd dA a j f g = .inl (dA 0, n1, .inl f)) {index : Nat} (hq : (Cond.methodLink own index arraycopyName) ∈ lw_all)
    {sp dp n : Int32} (h1 : ¬ sp < 0) (h2 : ¬ dp < 0) (h3 : ¬ n < 0) (h4 : sp.toNatClampNeg + n.toNatClampNeg ≤ n0) (h5 : dp.toNatClampNeg + n.toNatClampNeg ≤ n1) (hR : 1 ≤ R.frames ∧ 30 ≤ R.locals) (hro : (rest.map fun v => v.category).sum ≤ 8) (hdg : decode cc pc = .ok (.invokestatic index, 3))
    (kc : ∀ (t1 : CS) (H1 : Heap) (locs1 : List Loc), t1 = ca_ t j (va_cpy (t.1 i) (t.1 j) sp.toNatClampNeg dp.toNatClampNeg n.toNatClampNeg) → cW D dA a k t1 H1 → cS a H0 H1 locs1 N0 lo t1 → kC D dA a k t1.2.2.2 s → W p l e R s m args below meth c H1 locs1 cells slots Q (F0 m (pc + 3) ls rest)) : W p l e R s m args below meth c H locs cells slots Q (F0 m pc ls (.int n :: .int dp :: .ref (a + j) :: .int sp :: .ref (a + i) :: rest)) := by
  obtain ⟨hx, hb, -, hml, hown, hts, -⟩ := C
  refine W_copyi hx hb (hml.trans hl.symm) hown (hts _ hq) (hts _ q268) (hts _ q267) (hts _ q161) (c_cell hT i hi (hai _ _) 0 _ rfl) (c_cell hT j hj (haj _ _) 0 _ rfl) (hK.1.2 0 _ rfl).1 (hK.1.2 0 _ rfl).1 rfl h1 h2 h3 h4 h5 (fun _ _ => rfl) hR.1 (nfw_le hro hR.2) hdg (fun H1 L hL e1 e2 e3 => ?_)
  refine kc _ H1 _ rfl (hT.put j hj ?_ e2 e3 (fun w hw => by funext y; simp [ca_, hw]) (fun _ _ => rfl) rfl) (hS.puts e2 e3 (Or.inl ⟨Nat.le_add_right _ _, by omega⟩) hL rfl) hK
  rw [haj]
  have e4 : (ca_ t j (va_cpy (t.1 i) (t.1 j) sp.toNatClampNeg dp.toNatClampNeg n.toNatClampNeg)).1 j = va_cpy (t.1 i) (t.1 j) sp.toNatClampNeg dp.toNatClampNeg n.toNatClampNeg := by funext y; simp [ca_]
  rw [e4]
  exact e1
/-- calls by a nest mate's link -/
theorem run_csN {host : String} {y : MethodName} {bytes : ByteArray} {maxL n index mc ms : Nat} {rt : Option FieldType} {rm : Room} {As : List Value} {Qc : Array Value → State → Outcome → State → Prop} {free : Addr → Prop} (C : cx p s m args meth c cc own nL ret) (hK : kC D dA a k t.2.2.2 s) (hT : cW D dA a k t H) (hh : ∀ q : Nat, ¬ ca a q → H[q]? = s.heap[q]?) (hM : Met l y (ws_ y bytes maxL rt) rm (cPc D dA a k t As) Qc mc ms free) (h1 : va_Nw (.methodLinkNest own index y host) s) (h2 : (Cond.static y) ∈ lw_all) (h4 : (Cond.initialized y.cls) ∈ lw_all) (h5 : (Cond.code y bytes maxL rt) ∈ lw_all) (hrm : rm.cells = mc ∧ rm.slots = ms) (hd : y.cls ≠ "java/lang/invoke/MethodHandle" ∧ y.cls ≠ "java/lang/invoke/VarHandle" ∧ (parseMethodDescriptor y.desc).map (fun d => d.parameters.length) = some n) (hR : rm.frames + 1 ≤ R.frames ∧ 8 + (maxL + 11) + rm.locals ≤ R.locals) (hc : cells + mc ≤ R.cells ∧ slots + ms ≤ R.slots)
    (hn : As.length = n) (hl : ls.size = nL) (hst : st0 = As.reverse ++ rest) (hro : (rest.map fun v => v.category).sum ≤ 8) (hdg : decode cc pc = .ok (.invokestatic index, 3)) : va_Run p l e R s m args below meth c H locs cells slots mc ms (F0 m pc ls st0) rest (Qc As.toArray) free := by
  obtain ⟨hx, hb, -, hml, hown, hts, -⟩ := C
  exact va_runSN (As := As) (rest := rest) ⟨hx, hb, hml, hown, hts⟩ hM ⟨va_cnB n hts (lw_meth h5) rfl hrm.1 hrm.2 h1 (hts _ h4) hd hR, hts _ h2, trivial⟩ ⟨fb_c, fun U hU hW => ⟨rfl, hK.go hW (by rw [hU]; exact hh) (fun _ _ => rfl), by rw [hU]; exact hT⟩⟩ rfl hn hl hst (lv_room hro) hdg hc
theorem run_sN {host : String} {y : MethodName} {bytes : ByteArray} {maxL n index : Nat} {rt : Option FieldType} {rm : Room} {As : List Value} {Qc : Array Value → State → Outcome → State → Prop} {free : Addr → Prop} (C : cx p s m args meth c cc own nL ret) (hM : Met l y (ws_ y bytes maxL rt) rm (sPc As) Qc 0 0 free) (h1 : va_Nw (.methodLinkNest own index y host) s) (h2 : (Cond.static y) ∈ lw_all) (h4 : (Cond.initialized y.cls) ∈ lw_all) (h5 : (Cond.code y bytes maxL rt) ∈ lw_all) (hrm : rm.cells = 0 ∧ rm.slots = 0) (hd : y.cls ≠ "java/lang/invoke/MethodHandle" ∧ y.cls ≠ "java/lang/invoke/VarHandle" ∧ (parseMethodDescriptor y.desc).map (fun d => d.parameters.length) = some n) (hR : rm.frames + 1 ≤ R.frames ∧ 8 + (maxL + 11) + rm.locals ≤ R.locals) (hc : cells ≤ R.cells ∧ slots ≤ R.slots)
    (hn : As.length = n) (hl : ls.size = nL) (hst : st0 = As.reverse ++ rest) (hro : (rest.map fun v => v.category).sum ≤ 8) (hdg : decode cc pc = .ok (.invokestatic index, 3)) : va_Run p l e R s m args below meth c H locs cells slots 0 0 (F0 m pc ls st0) rest (Qc As.toArray) free := by
  obtain ⟨hx, hb, -, hml, hown, hts, -⟩ := C
  exact va_runSN (As := As) (rest := rest) ⟨hx, hb, hml, hown, hts⟩ hM ⟨va_cnB n hts (lw_meth h5) rfl hrm.1 hrm.2 h1 (hts _ h4) hd hR, hts _ h2, trivial⟩ ⟨fb_s, fun U hU hW => ⟨rfl, trivial⟩⟩ rfl hn hl hst (lv_room hro) hdg hc
/-- State.copy(int[], int[]) -/
abbrev rmX1_copy : Room := { frames := 1, cells := 0, slots := 0, locals := 30 }
theorem hdX1_copy : yX1_copy.cls ≠ "java/lang/invoke/MethodHandle" ∧ yX1_copy.cls ≠ "java/lang/invoke/VarHandle" ∧ (parseMethodDescriptor yX1_copy.desc).map (fun d => d.parameters.length) = some 2 := by decide +kernel
theorem mX1_copy (i j n : Nat) (hi : i < 115) (hj : j < 115) (hn : n < 1000) (hai : ∀ f g, cwd dA a i f g = .inl (dA 0, n, .inl f)) (haj : ∀ f g, cwd dA a j f g = .inl (dA 0, n, .inl f)) : Met l yX1_copy (ws_ yX1_copy cX1_copy 2 none) rmX1_copy (cPc D dA a k t [.ref (a + i), .ref (a + j)]) (cQ D dA a k 0 t (ca_ t j (t.1 i)) none) 0 0 (ca a) :=
  en_C (by decide +kernel) rfl (Nat.le_of_ble_eq_true rfl) (fun p e s m below meth c ls C hK hT hl => by
    obtain ⟨hx, hb, hr, hml, hown, hts, hlocks⟩ := id C
    have hcl : (nI n).toNatClampNeg = n := nI_clamp (by omega)
    refine lv_aload_n hx hb dX1_copy_0 rfl (lv_at hl 0 rfl) ?_
    refine lv_iconst (v := 0) hx hb dX1_copy_1 (by decide) ?_
    refine lv_aload_n hx hb dX1_copy_2 rfl (lv_at hl 1 rfl) ?_
    refine lv_iconst (v := 0) hx hb dX1_copy_3 (by decide) ?_
    refine lv_aload_n hx hb dX1_copy_4 rfl (lv_at hl 0 rfl) ?_
    refine c_aln C hK hT i n hi 0 (hai _ _) rfl (v := nI n) rfl dX1_copy_5 ?_
    refine c_copyi C hK hT (cS.rf (lo := 0)) hl.1 i j n n hi hj hai haj q266 (by decide) (by decide) (nI_pos (by omega)) (by rw [hcl]; simp [show (0 : Int32).toNatClampNeg = 0 by decide]) (by rw [hcl]; simp [show (0 : Int32).toNatClampNeg = 0 by decide]) ⟨Nat.le_refl _, Nat.le_refl _⟩ (Nat.le_of_ble_eq_true rfl) dX1_copy_6 (fun t1 H locs e1 hT hS hK => ?_)
    refine ec_v (t := ca_ t j (t.1 i)) C ⟨fun q x hq => ?_, by rw [e1] at hT; exact hT.2⟩ (by rw [e1] at hS; exact hS) rfl dX1_copy_9
    unfold cw at hq
    split at hq
    · rename_i hq1
      cases hq
      by_cases hj2 : q - a = j
      · have h2 := hT.1 (a + j) _ (cw_at j hj)
        have eq1 : q = a + j := by omega
        rw [hj2, eq1, haj]
        rw [haj, e1] at h2
        show H[a + j]? = some (vp_cell _ _)
        have h2 : H[a + j]? = some (vp_cell _ _) := h2
        rw [h2, vp_cell_i, vp_cell_i]
        exact congrArg some (arrV_ext (fun z hz => by simp [ca_, va_cpy, hcl, hz, show (0 : Int32).toNatClampNeg = 0 by decide]))
      · have h2 := hT.1 q _ (by unfold cw; rw [if_pos hq1])
        rw [e1] at h2
        have e5 : (ca_ t j (va_cpy (t.1 i) (t.1 j) (0 : Int32).toNatClampNeg (0 : Int32).toNatClampNeg (nI n).toNatClampNeg)).1 (q - a) = (ca_ t j (t.1 i)).1 (q - a) := by funext z; simp [ca_, hj2]
        rw [e5] at h2
        exact h2
    · rename_i hq1
      have h2 := hT.1 q x (by
        unfold cw
        rw [if_neg hq1]
        rw [← hq, e1]
        have e6 : ∀ f, (ca_ t j f).1 200 = t.1 200 := fun f => by funext z; simp [ca_, show (200 : Nat) ≠ j by omega]
        rw [e6, e6]
        rfl)
      exact h2)
theorem x_copy (C : cx p s m args meth c cc own nL ret) (hK : kC D dA a k t.2.2.2 s) (hT : cW D dA a k t H) {N0 : Nat → Nat} {lo : Nat} (hS : cS a s.heap H locs N0 lo t) (i j n : Nat) (hi : i < 115) (hj : j < 115) (hai : ∀ f g, cwd dA a i f g = .inl (dA 0, n, .inl f)) (haj : ∀ f g, cwd dA a j f g = .inl (dA 0, n, .inl f)) (hn : n < 1000) (hl : ls.size = nL) (hro : (rest.map fun v => v.category).sum ≤ 8) (hR : rmX1_copy.frames + 1 ≤ R.frames ∧ 8 + (2 + 11) + rmX1_copy.locals ≤ R.locals) (hc : cells ≤ R.cells ∧ slots ≤ R.slots) {index : Nat} (hq : (Cond.methodLink own index yX1_copy) ∈ lw_all) (hdg : decode cc pc = .ok (.invokestatic index, 3)) (kc : ∀ (t1 : CS) (H1 : Heap) (locs1 : List Loc), t1 = ca_ t j (t.1 i) → cW D dA a k t1 H1 → cS a s.heap H1 locs1 N0 lo t1 → kC D dA a k t1.2.2.2 s → W p l e R s m args below meth c H1 locs1 cells slots Q (F0 m (pc + 3) ls rest)) : W p l e R s m args below meth c H locs cells slots Q (F0 m pc ls (.ref (a + j) :: .ref (a + i) :: rest)) :=
  wc_void hS hK (run_cs (As := [.ref (a + i), .ref (a + j)]) (rest := rest) C hK hT hS.2.1 (mX1_copy i j n hi hj hn hai haj) hq q264 q159 q265 ⟨rfl, rfl⟩ hdX1_copy hR hc rfl hl rfl hro hdg) (fun H1 l1 a1 a2 a3 _ => kc _ H1 l1 rfl a1 a2 a3)
theorem x_copyN {host : String} (C : cx p s m args meth c cc own nL ret) (hK : kC D dA a k t.2.2.2 s) (hT : cW D dA a k t H) {N0 : Nat → Nat} {lo : Nat} (hS : cS a s.heap H locs N0 lo t) (i j n : Nat) (hi : i < 115) (hj : j < 115) (hai : ∀ f g, cwd dA a i f g = .inl (dA 0, n, .inl f)) (haj : ∀ f g, cwd dA a j f g = .inl (dA 0, n, .inl f)) (hn : n < 1000) (hl : ls.size = nL) (hro : (rest.map fun v => v.category).sum ≤ 8) (hR : rmX1_copy.frames + 1 ≤ R.frames ∧ 8 + (2 + 11) + rmX1_copy.locals ≤ R.locals) (hc : cells ≤ R.cells ∧ slots ≤ R.slots) {index : Nat} (hq : va_Nw (.methodLinkNest own index yX1_copy host) s) (hdg : decode cc pc = .ok (.invokestatic index, 3)) (kc : ∀ (t1 : CS) (H1 : Heap) (locs1 : List Loc), t1 = ca_ t j (t.1 i) → cW D dA a k t1 H1 → cS a s.heap H1 locs1 N0 lo t1 → kC D dA a k t1.2.2.2 s → W p l e R s m args below meth c H1 locs1 cells slots Q (F0 m (pc + 3) ls rest)) : W p l e R s m args below meth c H locs cells slots Q (F0 m pc ls (.ref (a + j) :: .ref (a + i) :: rest)) :=
  wc_void hS hK (run_csN (As := [.ref (a + i), .ref (a + j)]) (rest := rest) C hK hT hS.2.1 (mX1_copy i j n hi hj hn hai haj) hq q264 q159 q265 ⟨rfl, rfl⟩ hdX1_copy hR hc rfl hl rfl hro hdg) (fun H1 l1 a1 a2 a3 _ => kc _ H1 l1 rfl a1 a2 a3)
end CX2
