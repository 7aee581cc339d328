/-! rows: a world that grows (constructors) -/
set_option maxRecDepth 20000
def gW (D : va_G) (F : CF) (M : Nat) (H : Heap) : Prop := wd D F H ∧ H.size = M ∧ ∀ (q : Nat) (x : va_E), F q = some x → q < M
def gset (F : CF) (r : Nat) (x : va_E) : CF := fun q => if q = r then some x else F q
theorem gset_eq {F : CF} {r : Nat} {x : va_E} : gset F r x r = some x := if_pos rfl
theorem gset_ne {F : CF} {r q : Nat} {x : va_E} (h : q ≠ r) : gset F r x q = F q := if_neg h
def gS (q0 : Nat) (H0 H : Heap) (locs : List Loc) : Prop := H0.size ≤ H.size ∧ (∀ q : Nat, q < q0 → H[q]? = H0[q]?) ∧ ∀ x ∈ locs, q0 ≤ x.base ∧ x.base < H.size
theorem gS.rf {q0 : Nat} {H : Heap} : gS q0 H H [] := ⟨Nat.le_refl _, fun _ _ => rfl, fun _ h => absurd h List.not_mem_nil⟩
theorem gW.push {D : va_G} {F : CF} {M : Nat} {H H1 : Heap} {x : va_E} (h : gW D F M H) (he : va_at D classes (M, x) H1) (z : H1.size = M + 1) (oq : ∀ q : Nat, q < M → H1[q]? = H[q]?) : gW D (gset F M x) (M + 1) H1 := by
  refine ⟨fun q y hy => ?_, z, fun q y hy => ?_⟩
  · by_cases hq : q = M
    · subst hq
      rw [gset_eq] at hy
      cases hy; exact he
    · rw [gset_ne hq] at hy
      exact (h.1 q y hy).kept (oq q (h.2.2 q y hy))
  · by_cases hq : q = M
    · omega
    · rw [gset_ne hq] at hy
      have := h.2.2 q y hy
      omega
theorem gW.put {D : va_G} {F : CF} {M r : Nat} {H H1 : Heap} {x0 x : va_E} (h : gW D F M H) (hr : F r = some x0) (he : va_at D classes (r, x) H1) (z : H1.size = H.size) (oq : ∀ q : Nat, q ≠ r → H1[q]? = H[q]?) : gW D (gset F r x) M H1 := by
  refine ⟨fun q y hy => ?_, z.trans h.2.1, fun q y hy => ?_⟩
  · by_cases hq : q = r
    · subst hq
      rw [gset_eq] at hy
      cases hy; exact he
    · rw [gset_ne hq] at hy
      exact (h.1 q y hy).kept (oq q hq)
  · by_cases hq : q = r
    · subst hq; exact h.2.2 _ _ hr
    · rw [gset_ne hq] at hy
      exact h.2.2 q y hy
theorem gS.push {q0 M : Nat} {H0 H H1 : Heap} {locs : List Loc} (h : gS q0 H0 H locs) (hM : q0 ≤ M) (hz : H.size = M) (z : H1.size = M + 1) (oq : ∀ q : Nat, q < M → H1[q]? = H[q]?) : gS q0 H0 H1 locs :=
  ⟨by have := h.1; omega, fun q hq => (oq q (by omega)).trans (h.2.1 q hq), fun x hx => ⟨(h.2.2 x hx).1, Nat.lt_of_lt_of_le (h.2.2 x hx).2 (by omega)⟩⟩
theorem gS.puts {q0 r : Nat} {H0 H H1 : Heap} {locs L : List Loc} (h : gS q0 H0 H locs) (hr : q0 ≤ r) (hz : r < H.size) (z : H1.size = H.size) (oq : ∀ q : Nat, q ≠ r → H1[q]? = H[q]?) (hL : ∀ q ∈ L, q.base = r) : gS q0 H0 H1 (locs ++ L) := by
  refine ⟨by rw [z]; exact h.1, fun q hq => (oq q (by omega)).trans (h.2.1 q hq), fun x hx => ?_⟩
  rcases List.mem_append.mp hx with h1 | h1
  · exact ⟨(h.2.2 x h1).1, by rw [z]; exact (h.2.2 x h1).2⟩
  · rw [hL x h1]; exact ⟨hr, by rw [z]; exact hz⟩
def aoI (U : State) : Prop := (Cond.arrayOver (.array .int)).before #[] U = true
theorem aoI.use {A : Array Value} {U : State} (h : aoI U) : (Cond.arrayOver (.array .int)).before A U = true := h
theorem idx_bare (vm : Vm) (comp : ClassId) : (vm.bare.classes.findIdx? fun (x : Class) => match x.kind with | .array component _ => component == comp | _ => false) = (vm.classes.findIdx? fun (x : Class) => match x.kind with | .array component _ => component == comp | _ => false) := by
  simp only [Vm.bare, Array.findIdx?_map]
  rfl
theorem aoI_spec {s : State} (h : aoI s) : ∃ comp c k, s.vm.findClass (FieldType.array .int).toString = some comp ∧ (s.vm.classes.findIdx? fun x => match x.kind with | .array component _ => component == comp | _ => false) = some c ∧ s.vm.classes[c]? = some k ∧ k.kind = .array comp (.array .int) ∧ s.vm.findClass ("[" ++ (FieldType.array .int).toString) = some c := by
  unfold aoI Cond.before at h
  simp only [Cond.holds, Cond.value, beq_iff_eq] at h
  cases hc : s.vm.findClass (FieldType.array .int).toString with
  | none => simp [hc] at h
  | some comp =>
    simp only [hc, Option.bind_some, Option.bind_eq_some_iff, Option.map_eq_some_iff] at h
    obtain ⟨c, hi, k, hk, hb⟩ := h
    obtain ⟨hlt, hp, -⟩ := Array.findIdx?_eq_some_iff_getElem.mp hi
    have hkk : s.vm.classes[c] = k := (Array.getElem?_eq_some_iff.mp hk).2
    rw [hkk] at hp
    cases hkind : k.kind with
    | array component ty =>
      rw [hkind] at hb hp
      simp at hb hp
      exact ⟨comp, c, k, rfl, hi, hk, by rw [hkind, hp, hb.1], hb.2⟩
    | _ => rw [hkind] at hb; simp at hb
theorem aoI.moved {u U : State} (hvm : u.vm.Alike U.vm) (h : aoI u) : aoI U := by
  obtain ⟨comp, c, k, h1, h2, h3, h4, h5⟩ := aoI_spec h
  obtain ⟨k', hk', he⟩ := hvm.2.2 _ _ h3
  have hi : (U.vm.classes.findIdx? fun (x : Class) => match x.kind with | .array component _ => component == comp | _ => false) = some c := by
    rw [← idx_bare]
    first | rw [hvm.bare_eq] | rw [← hvm.bare_eq]
    rw [idx_bare]
    exact h2
  have hkind : k'.kind = .array comp (.array .int) := by rw [he]; exact h4
  have f1 : U.vm.findClass (FieldType.array .int).toString = some comp := by rw [hvm.findClass]; exact h1
  have f2 : U.vm.findClass ("[" ++ (FieldType.array .int).toString) = some c := by rw [hvm.findClass]; exact h5
  unfold aoI Cond.before Cond.holds
  simp only [Cond.value]
  rw [f1, Option.bind_some]
  refine (congrArg (fun o : Option Nat => (o.bind (fun c => (U.vm.classes[c]?).map fun (k : Class) => match k.kind with | .array _ ty => decide (ty = FieldType.array .int) && decide (U.vm.findClass ("[" ++ (FieldType.array .int).toString) = some c) | _ => false) == some true)) hi).trans ?_
  simp [hk', hkind, f2]
def gmul (dA : Nat → ClassId) (F : CF) (M nn kn : Nat) : CF := fun q => if q = M then some (.inl (dA 6, nn, qrf (fun j => some (M + 1 + j)))) else if M + 1 ≤ q ∧ q < M + 1 + nn then some (.inl (dA 0, kn, .inl (fun _ => 0))) else F q
theorem gmul_ne {dA : Nat → ClassId} {F : CF} {M nn kn q : Nat} (h : q < M ∨ M + 1 + nn ≤ q) : gmul dA F M nn kn q = F q := by
  unfold gmul
  rw [if_neg (by omega), if_neg (by omega)]
theorem outer_arr (c : ClassId) (N h0 : Nat) : ∀ i, Jvm.Free.Multi.outerC c N h0 i = arrV c N (fun j => if j < i then .ref (h0 + 1 + j) else .null)
  | 0 => by
    show ({ cls := c, slots := Array.replicate N .null, vm := .none } : Cell) = _
    rw [arrV_new]
    rfl
  | i + 1 => by
    show (Jvm.Free.Multi.outerC c N h0 i).setSlot i (.ref (h0 + 1 + i)) = _
    rw [outer_arr c N h0 i, arrV_store]
    congr 1
    funext j
    unfold updV
    by_cases hj : j = i
    · subst hj; simp
    · by_cases h1 : j < i
      · simp [hj, h1, show j < i + 1 by omega]
      · simp [hj, h1, show ¬ j < i + 1 by omega]
section CG1
variable {p : Program} {l : Launch} {e : Env} {R : Room} {s : State} {m : MethodId} {args : Array Value} {below : List Frame} {meth : Method} {c : Code} {H : Heap} {locs : List Loc} {cells slots : Nat} {Q : State → Prop}
variable {cc : ByteArray} {pc nL : Nat} {ls : Array Slot} {rest st0 : List Value} {own : String} {ret : Option FieldType} {D : va_G} {dA : Nat → ClassId} {F : CF} {M q0 : Nat}
theorem gw_newp {atype : ArrayType} {jA : Nat} {x : vp_A} {qi : Nat} (C : cx p s m args meth c cc own nL ret) (hK : kk D dA s) (hG : gW D F M H) (hS : gS q0 s.heap H locs) (hq0 : q0 ≤ M) (hw : (Cond.arrayClass (newarray.typeOf atype)).before args s = true) (hj : (tysA dA)[jA]? = some (dA jA, newarray.typeOf atype)) (hR : va_RA s (dA jA) (newarray.typeOf atype) → s.vm.findClass ("[" ++ (newarray.typeOf atype).toString) = some (dA jA)) (hx : vp_cell (dA jA) x = arrV (dA jA) x.1 (fun _ => defaultValue (newarray.typeOf atype))) {n : Int32} (hn : ¬ n < 0) (hnn : n.toNatClampNeg = x.1) (hbd : x.1 * componentBytes (newarray.typeOf atype) ≤ 536870912) (hcs : cells + 1 ≤ R.cells ∧ slots + x.1 ≤ R.slots) (hdg : decode cc pc = .ok (.newarray atype, 2))
    (kc : ∀ (H1 : Heap), gW D (gset F M (.inl (dA jA, x))) (M + 1) H1 → gS q0 s.heap H1 locs → W p l e R s m args below meth c H1 locs (cells + 1) (slots + x.1) Q (F0 m (pc + 2) ls (.ref M :: rest))) : W p l e R s m args below meth c H locs cells slots Q (F0 m pc ls (.int n :: rest)) := by
  obtain ⟨hx0, hb, -, hml, hown, hts, -⟩ := C
  have hz := hG.2.1
  refine va_newaK (atype := atype) hx0 hb hw rfl hdg rfl hn hnn hbd hcs.1 hcs.2 hz fun H1 cA e1 z1 o1 hAr hNm => ?_
  have hcA : cA = dA jA := Option.some.inj (hNm.symm.trans (hR (hK.2 jA _ hj).2))
  subst hcA
  refine kc H1 (hG.push ?_ z1 o1) (hS.push hq0 hz z1 o1)
  show H1[M]? = some (vp_cell _ _)
  rw [hx]
  exact e1
theorem gw_newi {n : Int32} {nn : Nat} (C : cx p s m args meth c cc own nL ret) (hK : kk D dA s) (hG : gW D F M H) (hS : gS q0 s.heap H locs) (hq0 : q0 ≤ M) (hn : ¬ n < 0) (hnn : n.toNatClampNeg = nn) (hbd : nn ≤ 100000) (hcs : cells + 1 ≤ R.cells ∧ slots + nn ≤ R.slots) (hdg : decode cc pc = .ok (.newarray .int, 2))
    (kc : ∀ (H1 : Heap), gW D (gset F M (.inl (dA 0, nn, .inl (fun _ => 0)))) (M + 1) H1 → gS q0 s.heap H1 locs → W p l e R s m args below meth c H1 locs (cells + 1) (slots + nn) Q (F0 m (pc + 2) ls (.ref M :: rest))) : W p l e R s m args below meth c H locs cells slots Q (F0 m pc ls (.int n :: rest)) :=
  gw_newp (atype := .int) (jA := 0) (x := (nn, .inl (fun _ => 0))) (qi := 0) C hK hG hS hq0 (C.2.2.2.2.2.1 _ q258) rfl (fun h => h) rfl hn hnn (by show nn * 4 ≤ _; omega) hcs hdg kc
theorem gw_newb {n : Int32} {nn : Nat} (C : cx p s m args meth c cc own nL ret) (hK : kk D dA s) (hG : gW D F M H) (hS : gS q0 s.heap H locs) (hq0 : q0 ≤ M) (hn : ¬ n < 0) (hnn : n.toNatClampNeg = nn) (hbd : nn ≤ 100000) (hcs : cells + 1 ≤ R.cells ∧ slots + nn ≤ R.slots) (hdg : decode cc pc = .ok (.newarray .byte, 2))
    (kc : ∀ (H1 : Heap), gW D (gset F M (.inl (dA 1, nn, .inl (fun _ => 0)))) (M + 1) H1 → gS q0 s.heap H1 locs → W p l e R s m args below meth c H1 locs (cells + 1) (slots + nn) Q (F0 m (pc + 2) ls (.ref M :: rest))) : W p l e R s m args below meth c H locs cells slots Q (F0 m pc ls (.int n :: rest)) :=
  gw_newp (atype := .byte) (jA := 1) (x := (nn, .inl (fun _ => 0))) (qi := 0) C hK hG hS hq0 (C.2.2.2.2.2.1 _ q333) rfl (fun h => h) rfl hn hnn (by show nn * 1 ≤ _; omega) hcs hdg kc
theorem gw_newz {n : Int32} {nn : Nat} (C : cx p s m args meth c cc own nL ret) (hK : kk D dA s) (hG : gW D F M H) (hS : gS q0 s.heap H locs) (hq0 : q0 ≤ M) (hn : ¬ n < 0) (hnn : n.toNatClampNeg = nn) (hbd : nn ≤ 100000) (hcs : cells + 1 ≤ R.cells ∧ slots + nn ≤ R.slots) (hdg : decode cc pc = .ok (.newarray .boolean, 2))
    (kc : ∀ (H1 : Heap), gW D (gset F M (.inl (dA 2, nn, .inl (fun _ => 0)))) (M + 1) H1 → gS q0 s.heap H1 locs → W p l e R s m args below meth c H1 locs (cells + 1) (slots + nn) Q (F0 m (pc + 2) ls (.ref M :: rest))) : W p l e R s m args below meth c H locs cells slots Q (F0 m pc ls (.int n :: rest)) :=
  gw_newp (atype := .boolean) (jA := 2) (x := (nn, .inl (fun _ => 0))) (qi := 0) C hK hG hS hq0 (C.2.2.2.2.2.1 _ q1648) rfl (fun h => h) rfl hn hnn (by show nn * 1 ≤ _; omega) hcs hdg kc
theorem gw_newl {n : Int32} {nn : Nat} (C : cx p s m args meth c cc own nL ret) (hK : kk D dA s) (hG : gW D F M H) (hS : gS q0 s.heap H locs) (hq0 : q0 ≤ M) (hn : ¬ n < 0) (hnn : n.toNatClampNeg = nn) (hbd : nn ≤ 100000) (hcs : cells + 1 ≤ R.cells ∧ slots + nn ≤ R.slots) (hdg : decode cc pc = .ok (.newarray .long, 2))
    (kc : ∀ (H1 : Heap), gW D (gset F M (.inl (dA 3, nn, .inr (.inl (fun _ => 0))))) (M + 1) H1 → gS q0 s.heap H1 locs → W p l e R s m args below meth c H1 locs (cells + 1) (slots + nn) Q (F0 m (pc + 2) ls (.ref M :: rest))) : W p l e R s m args below meth c H locs cells slots Q (F0 m pc ls (.int n :: rest)) :=
  gw_newp (atype := .long) (jA := 3) (x := (nn, .inr (.inl (fun _ => 0)))) (qi := 0) C hK hG hS hq0 (C.2.2.2.2.2.1 _ q1647) rfl (fun h => h) rfl hn hnn (by show nn * 8 ≤ _; omega) hcs hdg kc
theorem gw_newC {CC : String} {jA : Nat} {n : Int32} {nn : Nat} (C : cx p s m args meth c cc own nL ret) (hK : kk D dA s) (hao : va_AO CC s) (hG : gW D F M H) (hS : gS q0 s.heap H locs) (hq0 : q0 ≤ M) (hj : (tysA dA)[jA]? = some (dA jA, .object CC)) {index : Nat} (hq : (Cond.classLink own index CC) ∈ lw_all) (hn : ¬ n < 0) (hnn : n.toNatClampNeg = nn) (hbd : nn ≤ 100000) (hcs : cells + 1 ≤ R.cells ∧ slots + nn ≤ R.slots) (hdg : decode cc pc = .ok (.anewarray index, 3))
    (kc : ∀ (H1 : Heap), gW D (gset F M (.inl (dA jA, nn, qrf (fun _ => none)))) (M + 1) H1 → gS q0 s.heap H1 locs → W p l e R s m args below meth c H1 locs (cells + 1) (slots + nn) Q (F0 m (pc + 3) ls (.ref M :: rest))) : W p l e R s m args below meth c H locs cells slots Q (F0 m pc ls (.int n :: rest)) := by
  obtain ⟨hx0, hb, -, hml, hown, hts, -⟩ := C
  have hz := hG.2.1
  subst hnn
  refine W.anew hx0 hb hown (hts _ hq) (va_AO.use hao) rfl hdg rfl hn (by omega) hcs.1 hcs.2 fun cA kA comp f1 f2 f3 f4 => ?_
  have hcA : cA = dA jA := by
    obtain ⟨kA', comp', k1, k2, k3, k4⟩ := (hK.2 jA _ hj).2
    exact Option.some.inj (f1.symm.trans k4)
  subst hcA
  generalize hH1 : H.push ({ cls := dA jA, slots := Array.replicate n.toNatClampNeg .null, vm := .none } : Cell) = H1
  have z1 : H1.size = M + 1 := by rw [← hH1, Array.size_push, hz]
  have e1 : H1[M]? = some (arrV (dA jA) n.toNatClampNeg (fun _ => .null)) := by rw [← hH1, ← hz, Array.getElem?_push_size, ← arrV_new]
  have o1 : ∀ q : Nat, q < M → H1[q]? = H[q]? := fun q hq => by rw [← hH1, Array.getElem?_push, if_neg (by omega)]
  rw [hz]
  refine kc H1 (hG.push ?_ z1 o1) (hS.push hq0 hz z1 o1)
  show H1[M]? = some (vp_cell _ _)
  unfold qrf
  rw [vp_cell_q]
  exact e1
theorem gw_newA {n : Int32} {nn : Nat} (C : cx p s m args meth c cc own nL ret) (hK : kk D dA s) (hao : aoI s) (hG : gW D F M H) (hS : gS q0 s.heap H locs) (hq0 : q0 ≤ M) {index : Nat} (hq : (Cond.classLink own index "[I") ∈ lw_all) (hn : ¬ n < 0) (hnn : n.toNatClampNeg = nn) (hbd : nn ≤ 100000) (hcs : cells + 1 ≤ R.cells ∧ slots + nn ≤ R.slots) (hdg : decode cc pc = .ok (.anewarray index, 3))
    (kc : ∀ (H1 : Heap), gW D (gset F M (.inl (dA 6, nn, qrf (fun _ => none)))) (M + 1) H1 → gS q0 s.heap H1 locs → W p l e R s m args below meth c H1 locs (cells + 1) (slots + nn) Q (F0 m (pc + 3) ls (.ref M :: rest))) : W p l e R s m args below meth c H locs cells slots Q (F0 m pc ls (.int n :: rest)) := by
  obtain ⟨hx0, hb, -, hml, hown, hts, -⟩ := C
  have hz := hG.2.1
  subst hnn
  refine W.anewA (t := .int) hx0 hb hown (hts _ hq) hao.use rfl hdg rfl hn (by omega) hcs.1 hcs.2 fun cA kA comp f1 f2 f3 f4 => ?_
  have hcA : cA = dA 6 := Option.some.inj (f1.symm.trans (hK.2 6 _ rfl).2)
  subst hcA
  generalize hH1 : H.push ({ cls := dA 6, slots := Array.replicate n.toNatClampNeg .null, vm := .none } : Cell) = H1
  have z1 : H1.size = M + 1 := by rw [← hH1, Array.size_push, hz]
  have e1 : H1[M]? = some (arrV (dA 6) n.toNatClampNeg (fun _ => .null)) := by rw [← hH1, ← hz, Array.getElem?_push_size, ← arrV_new]
  have o1 : ∀ q : Nat, q < M → H1[q]? = H[q]? := fun q hq => by rw [← hH1, Array.getElem?_push, if_neg (by omega)]
  rw [hz]
  refine kc H1 (hG.push ?_ z1 o1) (hS.push hq0 hz z1 o1)
  show H1[M]? = some (vp_cell _ _)
  unfold qrf
  rw [vp_cell_q]
  exact e1
theorem gw_multi {n k : Int32} {nn kn : Nat} (C : cx p s m args meth c cc own nL ret) (hK : kk D dA s) (hao : aoI s) (hG : gW D F M H) (hS : gS q0 s.heap H locs) (hq0 : q0 ≤ M) {index : Nat} (hq : (Cond.classLink own index "[[I") ∈ lw_all) (hn : ¬ n < 0) (hk : ¬ k < 0) (en : n.toNatClampNeg = nn) (ek : k.toNatClampNeg = kn) (b1 : nn ≤ 1000) (b2 : kn ≤ 1000) (hcs : cells + (1 + nn) ≤ R.cells ∧ slots + (nn + nn * kn) ≤ R.slots) (hdg : decode cc pc = .ok (.multianewarray index 2, 4))
    (kc : ∀ (H1 : Heap) (locs1 : List Loc), gW D (gmul dA F M nn kn) (M + 1 + nn) H1 → gS q0 s.heap H1 locs1 → W p l e R s m args below meth c H1 locs1 (cells + 1 + nn) (slots + nn + nn * kn) Q (F0 m (pc + 4) ls (.ref M :: rest))) : W p l e R s m args below meth c H locs cells slots Q (F0 m pc ls (.int k :: .int n :: rest)) := by
  obtain ⟨hx0, hb, -, hml, hown, hts, -⟩ := C
  have hz := hG.2.1
  subst en; subst ek
  intro T hT X
  obtain ⟨vm₁, cA, comp, hW, hfA, hfC, -, -, X1, step⟩ := X.multianewarray2K hx0 (ty := .int) hown (hts _ hq) hao.use (hts _ q258) (g := F0 m pc ls (.int k :: .int n :: rest)) rfl (by rw [hb]; exact hdg) rfl hn hk (by omega) (by show k.toNatClampNeg * 4 ≤ _; omega) (by omega) rfl rfl hcs.1 hcs.2
  have hcA : cA = dA 6 := Option.some.inj (hfA.symm.trans (hK.2 6 _ rfl).2)
  have hcC : comp = dA 0 := Option.some.inj (hfC.symm.trans (hK.2 0 _ rfl).2)
  subst hcA; subst hcC
  generalize hU : Jvm.Free.Multi.fill (T.setVm vm₁) (dA 6) (dA 0) n.toNatClampNeg k.toNatClampNeg (defaultValue .int) n.toNatClampNeg = U at X1 step
  have hTs : (T.setVm vm₁).heap.size = M := by rw [← hz, ← hT]; rfl
  have hTh : (T.setVm vm₁).heap = H := by rw [← hT]; rfl
  obtain ⟨f1, f2, f3, f4⟩ := Jvm.Free.Multi.fill_facts (T.setVm vm₁) (dA 6) (dA 0) n.toNatClampNeg k.toNatClampNeg (defaultValue .int) n.toNatClampNeg
  have f5 := fun q (hq : q < (T.setVm vm₁).heap.size) => Jvm.Free.Multi.fill_old (T.setVm vm₁) (dA 6) (dA 0) n.toNatClampNeg k.toNatClampNeg (defaultValue .int) hq n.toNatClampNeg
  have f6 := fun j (hj : j < n.toNatClampNeg) => Jvm.Free.Multi.fill_inner (T.setVm vm₁) (dA 6) (dA 0) n.toNatClampNeg k.toNatClampNeg (defaultValue .int) n.toNatClampNeg j hj
  rw [hU, hTs] at f1 f2
  rw [hU, hTs] at f6
  simp only [hU, hTs, hTh] at f5
  have hG1 : gW D (gmul dA F M n.toNatClampNeg k.toNatClampNeg) (M + 1 + n.toNatClampNeg) U.heap := by
    refine ⟨fun q y hy => ?_, f1, fun q y hy => ?_⟩
    · unfold gmul at hy
      split at hy
      · rename_i h1
        cases hy
        subst h1
        show U.heap[q]? = some (vp_cell _ _)
        rw [f2, outer_arr]
        unfold qrf
        rw [vp_cell_q]
        exact congrArg some (arrV_ext (fun j hj => by rw [if_pos hj]; rfl))
      · split at hy
        · rename_i h1 h2
          cases hy
          have h3 := f6 (q - (M + 1)) (by omega)
          rw [show M + 1 + (q - (M + 1)) = q by omega] at h3
          show U.heap[q]? = some (vp_cell _ _)
          rw [h3, vp_cell_i]
          show some ({ cls := dA 0, slots := Array.replicate k.toNatClampNeg (defaultValue .int), vm := .none } : Cell) = _
          rw [arrV_new]
          rfl
        · exact (hG.1 q y hy).kept (f5 q (by rw [hz]; exact hG.2.2 q y hy))
    · unfold gmul at hy
      split at hy
      · omega
      · split at hy
        · omega
        · have := hG.2.2 q y hy
          omega
  obtain ⟨t9, b1, b2⟩ := kc U.heap (locs ++ (List.range n.toNatClampNeg).map fun j => ⟨M, j⟩) hG1 ⟨by have := hS.1; rw [f1]; omega, fun q hq => (f5 q (by omega)).trans (hS.2.1 q hq), fun x hx => by
    rcases List.mem_append.mp hx with h1 | h1
    · exact ⟨(hS.2.2 x h1).1, Nat.lt_of_lt_of_le (hS.2.2 x h1).2 (by rw [f1]; omega)⟩
    · obtain ⟨j, -, rfl⟩ := List.mem_map.mp h1
      exact ⟨hq0, show M < U.heap.size by rw [f1]; omega⟩⟩ U rfl (by rw [hT, hz] at X1; exact X1)
  refine ⟨t9, step t9 ?_, b2⟩
  rw [hT, hz]
  exact b1
theorem gw_new {CC : String} {TT : u_T} {N ci : Nat} (hin : ∀ w ∈ u_ws CC TT N, w ∈ lw_all) (ty : Nat → FieldType) (hty : ∀ k, k < N → parseFieldDescriptor (TT k).2.2.1 = some (ty k)) (hc : classes[ci]? = some (CC, TT, N)) (C : cx p s m args meth c cc own nL ret) (hK : kk D dA s) (hG : gW D F M H) (hS : gS q0 s.heap H locs) (hq0 : q0 ≤ M) {index : Nat} (h1 : (Cond.classLink own index CC) ∈ lw_all) (h2 : (Cond.instantiable CC N) ∈ lw_all) (h3 : (Cond.initialized CC) ∈ lw_all) {fs : List Value} (hfs : ∀ j, j < N → defaultValue (ty j) = vp_V fs j) (hcs : cells + 1 ≤ R.cells ∧ slots + N ≤ R.slots) (hdg : decode cc pc = .ok (.new index, 3))
    (kc : ∀ (H1 : Heap), gW D (gset F M (.inr (ci, fs))) (M + 1) H1 → gS q0 s.heap H1 locs → W p l e R s m args below meth c H1 locs (cells + 1) (slots + N) Q (F0 m (pc + 3) ls (.ref M :: rest))) : W p l e R s m args below meth c H locs cells slots Q (F0 m pc ls rest) := by
  obtain ⟨hx, hb, -, hml, hown, hts, -⟩ := C
  have hKn := hK.1 ci _ hc
  refine W.newcK hx hb hown (hts _ h1) (hts _ h2) (hts _ h3) rfl hdg hcs.1 hcs.2 hKn.2.1 hG.2.1 fun H1 kC hkC e1 z1 o1 => ?_
  exact kc H1 (hG.push ⟨_, hc, (u_born ty hts hin hKn hkC e1 hty).to hfs⟩ z1 o1) (hS.push hq0 hG.2.1 z1 o1)
theorem gw_get {CC : String} {TT : u_T} {N ci : Nat} (hin : ∀ w ∈ u_ws CC TT N, w ∈ lw_all) (hc : classes[ci]? = some (CC, TT, N)) (C : cx p s m args meth c cc own nL ret) (hK : kk D dA s) (hT : wd D F H) (j : Nat) (hj : j < N) {index : Nat} (hq : (Cond.fieldLink own index CC (TT j).2.1 (TT j).2.2.1) ∈ lw_all) (hC : (TT j).1 = CC) {r : Nat} {fs : List Value} (hr : F r = some (.inr (ci, fs))) {v : Value} (hv : fs[j]? = some v) (hdg : decode cc pc = .ok (.getfield index, 3)) (kc : W p l e R s m args below meth c H locs cells slots Q (F0 m (pc + 3) ls (v :: rest))) : W p l e R s m args below meth c H locs cells slots Q (F0 m pc ls (.ref r :: rest)) :=
  va_get (ci := ci) (C := CC) (T := TT) (N := N) C.1 C.2.1 C.2.2.2.2.2.1 hin C.2.2.2.2.1 hK (hT.one hr) 0 rfl hc j hj (C.2.2.2.2.2.1 _ hq) (fun x h => by rw [hC] at h; exact h) hv hdg kc
theorem gw_put {CC : String} {TT : u_T} {N ci : Nat} (hin : ∀ w ∈ u_ws CC TT N, w ∈ lw_all) (ty0 : Nat → FieldType) (hty : ∀ k, k < N → parseFieldDescriptor (TT k).2.2.1 = some (ty0 k)) (hnm : ∀ a, a < N → ∀ b, b < N → a ≠ b → (TT a).2.1 ≠ (TT b).2.1) (hc : classes[ci]? = some (CC, TT, N)) (C : cx p s m args meth c cc own nL ret) (hK : kk D dA s) (hG : gW D F M H) (hS : gS q0 s.heap H locs) (j : Nat) (hj : j < N) {index : Nat} (hq : (Cond.fieldLink own index CC (TT j).2.1 (TT j).2.2.1) ∈ lw_all) (hC : (TT j).1 = CC) (hfin : (TT j).2.2.2 = false ∨ ((TT j).2.2.2 = true ∧ meth.name = "<init>" ∧ (TT j).1 = own)) {r : Nat} {fs : List Value} (hr : F r = some (.inr (ci, fs))) (hlen : j < fs.length) (hqr : q0 ≤ r) {v : Value} {ty : FieldType} (hd : parseFieldDescriptor (TT j).2.2.1 = some ty) (hn : narrow ty v = v) (hfit : fits ty v = true) (hdg : decode cc pc = .ok (.putfield index, 3))
    (kc : ∀ (H1 : Heap) (locs1 : List Loc), gW D (gset F r (.inr (ci, fs.set j v))) M H1 → gS q0 s.heap H1 locs1 → W p l e R s m args below meth c H1 locs1 cells slots Q (F0 m (pc + 3) ls rest)) : W p l e R s m args below meth c H locs cells slots Q (F0 m pc ls (v :: .ref r :: rest)) := by
  obtain ⟨hx, hb, -, hml, hown, hts, -⟩ := C
  have hP := hG.1.one hr
  have hap := va_apart (own := own) hts hin ty0 hty hnm hK hc
  obtain ⟨r0, e1, cell, q1, q2, q3, q4⟩ := hP 0 _ rfl
  have hr0 : r0 = (CC, TT, N) := Option.some.inj (e1.symm.trans hc)
  subst hr0
  obtain ⟨hSl, hfc, kC, hkC, hkind⟩ := hK.1 ci _ hc
  obtain ⟨cf, kf, fi, f, hi, hsl⟩ := hSl j hj
  have hlay := hts _ (hin _ (u_in_lay hj))
  have hst := (u_facts hfc hkC (u_lays hts hin hj) hi).1
  have hi2 := hi
  rw [hC] at hi2
  have fin : ∀ (H' : Heap), H'[r]? = some (cell.setSlot f.slot v) → H'.size = H.size → (∀ q : Nat, q ≠ r → H'[q]? = H[q]?) → W p l e R s m args below meth c H' (locs ++ [⟨r, f.slot⟩]) cells slots Q (F0 m (pc + 3) ls rest) := by
    intro H' e1 e2 e3
    rw [hsl] at e1
    refine kc H' _ (hG.put hr ?_ e2 e3) (hS.puts hqr (by rw [hG.2.1]; exact hG.2.2 _ _ hr) e2 e3 (fun q hq => by rw [List.mem_singleton.mp hq]))
    exact ⟨_, hc, t_OB.to (V := updV (vp_V fs) j v) ⟨_, e1, q2, q3, t_set q4 hap hj v⟩ (fun z _ => vp_updV_set hlen v z)⟩
  unfold u_lay at hlay
  rcases hfin with hfin | ⟨hfin, hin2, hdecl⟩
  · rw [if_neg (by rw [hfin]; decide)] at hlay
    have h6 := u_store hfc hkC hkind hlay hi hd hn hfit
    exact W.putK hx hb (f := f) ⟨hown, hts _ hq, ⟨_, _, _, hi2⟩, hst⟩ (by rw [q2]; exact h6) q1 q3 (by rw [hsl]; exact k2_hasslot (q4 j hj)) rfl rfl hdg fin
  · rw [if_pos hfin] at hlay
    have hcf : m.cls = cf := by
      obtain ⟨_, _, c', _, _, _, -, -, hf', -, -, -, hown2, -⟩ := Cond.laysFinal_spec hlay
      have e1 : c' = cf := by have := hi.symm.trans hf'; simp at this; exact this.1.symm
      rw [hdecl] at hown2
      rw [← e1]; exact Option.some.inj (hown.symm.trans hown2)
    have h6 := u_fits hfc hkC hkind (Or.inr hlay) hi hd hn hfit
    exact W.putFinK hx hb hown (hts _ hq) hi2 hst hcf hin2 (by rw [q2]; exact h6) q1 q3 (by rw [hsl]; exact k2_hasslot (q4 j hj)) rfl rfl hdg fin
theorem gw_ist0 (C : cx p s m args meth c cc own nL ret) (hK : kk D dA s) (hG : gW D F M H) {r n : Nat} {f : Nat → Int32} (hr : F r = some (.inl (dA 0, n, .inl f))) {x v : Int32} (hin : vp_in x n) (hdg : decode cc pc = .ok (.iastore, 1)) (kc : ∀ (H1 : Heap), gW D (gset F r (.inl (dA 0, n, .inl (upd f x.toNatClampNeg v)))) M H1 → H1.size = H.size → (∀ q : Nat, q ≠ r → H1[q]? = H[q]?) → W p l e R s m args below meth c H1 (locs ++ [⟨r, x.toNatClampNeg⟩]) cells slots Q (F0 m (pc + 1) ls rest)) : W p l e R s m args below meth c H locs cells slots Q (F0 m pc ls (.int v :: .int x :: .ref r :: rest)) := by
  refine W.iast C.1 C.2.1 (hG.1 _ _ hr) ((hK.2 0 _ rfl).1 n (fun j => .int (f j))) (fun q => by cases q) (by show ¬ (x < 0 ∨ (arrV _ _ _).slots.size ≤ _); rw [arrV_size]; exact hin) rfl rfl hdg fun H1 e z oq => ?_
  refine kc H1 (hG.put hr ?_ z oq) z oq
  show H1[r]? = some (vp_cell _ _)
  rw [e]
  show some ((vp_cell (dA 0) (n, .inl f)).setSlot _ _) = _
  rw [vp_cell_i, vp_cell_i, arrV_store]
  congr 2
  funext q
  by_cases hq : q = x.toNatClampNeg
  · subst hq
    simp [updV, upd]
  · simp [updV, upd, hq]
theorem gw_ist (C : cx p s m args meth c cc own nL ret) (hK : kk D dA s) (hG : gW D F M H) (hS : gS q0 s.heap H locs) {r n : Nat} {f : Nat → Int32} (hr : F r = some (.inl (dA 0, n, .inl f))) (hqr : q0 ≤ r) {x v : Int32} (hin : vp_in x n) (hdg : decode cc pc = .ok (.iastore, 1)) (kc : ∀ (H1 : Heap) (locs1 : List Loc), gW D (gset F r (.inl (dA 0, n, .inl (upd f x.toNatClampNeg v)))) M H1 → gS q0 s.heap H1 locs1 → W p l e R s m args below meth c H1 locs1 cells slots Q (F0 m (pc + 1) ls rest)) : W p l e R s m args below meth c H locs cells slots Q (F0 m pc ls (.int v :: .int x :: .ref r :: rest)) :=
  gw_ist0 C hK hG hr hin hdg fun H1 h1 z oq => kc H1 _ h1 (hS.puts hqr (by rw [hG.2.1]; exact hG.2.2 _ _ hr) z oq (fun q hq => by rw [List.mem_singleton.mp hq]))
end CG1
