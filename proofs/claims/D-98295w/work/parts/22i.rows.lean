/-! rows: lists' arrays, clone, class objects -/
def aNE (t : CS) (r : Nat) : Option Nat := if r = t.2.2.2 6 then some 0 else aN t r
/-- the class of an object that may lie in a list -/
def inL (ci : Nat) : Option (String × u_T × Nat) := match ci with
  | 7 => some (RX7, TX7, 1)
  | 8 => some (RX8, TX8, 3)
  | 9 => some (RX9, TX9, 1)
  | 10 => some (RX10, TX10, 1)
  | 11 => some (RX11, TX11, 1)
  | 12 => some (RX12, TX12, 3)
  | 13 => some (RX13, TX13, 2)
  | 14 => some (RX14, TX14, 5)
  | 16 => some ("java/lang/Integer", TJ5, 1)
  | _ => none
theorem inL_ok {ci : Nat} {q : String × u_T × Nat} (h : inL ci = some q) : classes[ci]? = some q ∧ (q.1, "java/lang/Object") ∈ kxC := by
  unfold inL at h
  split at h <;> first | cases h | skip
  · exact ⟨rfl, List.mem_of_getElem? (i := 19) rfl⟩
  · exact ⟨rfl, List.mem_of_getElem? (i := 20) rfl⟩
  · exact ⟨rfl, List.mem_of_getElem? (i := 21) rfl⟩
  · exact ⟨rfl, List.mem_of_getElem? (i := 22) rfl⟩
  · exact ⟨rfl, List.mem_of_getElem? (i := 23) rfl⟩
  · exact ⟨rfl, List.mem_of_getElem? (i := 25) rfl⟩
  · exact ⟨rfl, List.mem_of_getElem? (i := 26) rfl⟩
  · exact ⟨rfl, List.mem_of_getElem? (i := 27) rfl⟩
  · exact ⟨rfl, List.mem_of_getElem? (i := 24) rfl⟩
def okO (t : CS) (v : Nat) : Bool := match gC t v with
  | some ci => (inL ci).isSome
  | none => false
theorem okO_some {t : CS} {v : Nat} (h : okO t v = true) : ∃ ci q, gC t v = some ci ∧ inL ci = some q := by
  unfold okO at h
  split at h
  · rename_i ci hc
    cases hq : inL ci with
    | none => rw [hq] at h; cases h
    | some q => exact ⟨ci, q, hc, hq⟩
  · cases h
def okOo (t : CS) (o : Option Nat) : Bool := match o with
  | some v => okO t v
  | none => true
def dao (t : CS) (r : Nat) (i : Int32) (v : Nat) : Option CS := match t.2.2.1 r with
  | some (.inl (7, n, .inr (.inr (.inr (.inr f))))) => if ((i < 0 ∨ n ≤ i.toNatClampNeg) ∨ r < t.2.2.2 2) ∨ okO t v = false then none else some (dset t r (.inl (7, n, qrf (va_up f i.toNatClampNeg (some v)))))
  | _ => none
theorem dao_some {t t1 : CS} {r v : Nat} {i : Int32} (h : dao t r i v = some t1) : ∃ n f, t.2.2.1 r = some (.inl (7, n, qrf f)) ∧ vp_in i n ∧ t.2.2.2 2 ≤ r ∧ okO t v = true ∧ t1 = dset t r (.inl (7, n, qrf (va_up f i.toNatClampNeg (some v)))) := by
  unfold dao at h
  split at h
  · rename_i n f hg
    split at h
    · cases h
    · rename_i hn
      refine ⟨n, f, hg, fun q => hn (Or.inl (Or.inl q)), Nat.not_lt.mp fun q => hn (Or.inl (Or.inr q)), ?_, (Option.some.inj h).symm⟩
      cases ho : okO t v with
      | true => rfl
      | false => exact absurd (Or.inr ho) hn
  · cases h
theorem dao_N {t t1 : CS} {r v : Nat} {i : Int32} (h : dao t r i v = some t1) : t1.2.2.2 = t.2.2.2 := by
  obtain ⟨n, f, -, -, -, -, e⟩ := dao_some h
  rw [e]; rfl
/-- the Object arrays of a list -/
def aO (t : CS) (r : Nat) : Option (Nat × (Nat → Option Nat)) := match t.2.2.1 r with
  | some (.inl (7, n, .inr (.inr (.inr (.inr f))))) => some (n, f)
  | _ => none
theorem aO_some {t : CS} {r : Nat} {x : Nat × (Nat → Option Nat)} (h : aO t r = some x) : t.2.2.1 r = some (.inl (7, x.1, qrf x.2)) := by
  unfold aO at h
  split at h
  · rename_i n f hg
    cases h
    exact hg
  · cases h
def aIn (t : CS) (r : Nat) : Option (Nat × (Nat → Int32)) := match t.2.2.1 r with
  | some (.inl (0, n, .inl f)) => some (n, f)
  | _ => none
theorem aIn_some {t : CS} {r : Nat} {x : Nat × (Nat → Int32)} (h : aIn t r = some x) : t.2.2.1 r = some (.inl (0, x.1, .inl x.2)) := by
  unfold aIn at h
  split at h
  · rename_i n f hg
    cases h
    exact hg
  · cases h
/-- System.arraycopy of dynamic arrays -/
def dcO (t : CS) (r : Nat) (sp : Int32) (q : Nat) (dp n : Int32) : Option CS := match aO t r, aO t q with
  | some x, some y => if t.2.2.2 2 ≤ q ∧ (((¬ sp < 0 ∧ ¬ dp < 0) ∧ ¬ n < 0) ∧ (sp.toNatClampNeg + n.toNatClampNeg ≤ x.1 ∧ dp.toNatClampNeg + n.toNatClampNeg ≤ y.1)) ∧ ∀ i, i < n.toNatClampNeg → okOo t (x.2 (sp.toNatClampNeg + i)) = true then some (dset t q (.inl (7, y.1, qrf (va_cpy x.2 y.2 sp.toNatClampNeg dp.toNatClampNeg n.toNatClampNeg)))) else none
  | _, _ => none
theorem dcO_some {t t1 : CS} {r q : Nat} {sp dp n : Int32} (h : dcO t r sp q dp n = some t1) : ∃ x y, aO t r = some x ∧ aO t q = some y ∧ (t.2.2.2 2 ≤ q ∧ (((¬ sp < 0 ∧ ¬ dp < 0) ∧ ¬ n < 0) ∧ (sp.toNatClampNeg + n.toNatClampNeg ≤ x.1 ∧ dp.toNatClampNeg + n.toNatClampNeg ≤ y.1)) ∧ ∀ i, i < n.toNatClampNeg → okOo t (x.2 (sp.toNatClampNeg + i)) = true) ∧ t1 = dset t q (.inl (7, y.1, qrf (va_cpy x.2 y.2 sp.toNatClampNeg dp.toNatClampNeg n.toNatClampNeg))) := by
  unfold dcO at h
  split at h
  · rename_i x y h1 h2
    split at h
    · rename_i hc
      exact ⟨x, y, h1, h2, hc, (Option.some.inj h).symm⟩
    · cases h
  · cases h
theorem dcO_N {t t1 : CS} {r q : Nat} {sp dp n : Int32} (h : dcO t r sp q dp n = some t1) : t1.2.2.2 = t.2.2.2 := by
  obtain ⟨x, y, -, -, -, e⟩ := dcO_some h
  rw [e]; rfl
def dcI (t : CS) (r : Nat) (sp : Int32) (q : Nat) (dp n : Int32) : Option CS := match aIn t r, aIn t q with
  | some x, some y => if t.2.2.2 2 ≤ q ∧ (((¬ sp < 0 ∧ ¬ dp < 0) ∧ ¬ n < 0) ∧ (sp.toNatClampNeg + n.toNatClampNeg ≤ x.1 ∧ dp.toNatClampNeg + n.toNatClampNeg ≤ y.1)) then some (dset t q (.inl (0, y.1, .inl (va_cpy x.2 y.2 sp.toNatClampNeg dp.toNatClampNeg n.toNatClampNeg)))) else none
  | _, _ => none
theorem dcI_some {t t1 : CS} {r q : Nat} {sp dp n : Int32} (h : dcI t r sp q dp n = some t1) : ∃ x y, aIn t r = some x ∧ aIn t q = some y ∧ (t.2.2.2 2 ≤ q ∧ (((¬ sp < 0 ∧ ¬ dp < 0) ∧ ¬ n < 0) ∧ (sp.toNatClampNeg + n.toNatClampNeg ≤ x.1 ∧ dp.toNatClampNeg + n.toNatClampNeg ≤ y.1))) ∧ t1 = dset t q (.inl (0, y.1, .inl (va_cpy x.2 y.2 sp.toNatClampNeg dp.toNatClampNeg n.toNatClampNeg))) := by
  unfold dcI at h
  split at h
  · rename_i x y h1 h2
    split at h
    · rename_i hc
      exact ⟨x, y, h1, h2, hc, (Option.some.inj h).symm⟩
    · cases h
  · cases h
theorem dcI_N {t t1 : CS} {r q : Nat} {sp dp n : Int32} (h : dcI t r sp q dp n = some t1) : t1.2.2.2 = t.2.2.2 := by
  obtain ⟨x, y, -, -, -, e⟩ := dcI_some h
  rw [e]; rfl
section CX7
variable {p : Program} {l : Launch} {e : Env} {R : Room} {s : State} {m : MethodId} {args : Array Value} {below : List Frame} {meth : Method} {c : Code} {H : Heap} {locs : List Loc} {cells slots : Nat} {Q : State → Prop}
variable {cc : ByteArray} {pc nL : Nat} {ls : Array Slot} {rest st0 : List Value} {own : String} {ret : Option FieldType} {D : va_G} {dA : Nat → ClassId} {a : Nat} {k : KP a} {t : CS}
theorem e_aln (C : cx p s m args meth c cc own nL ret) (hK : kC D dA a k t.2.2.2 s) (hT : cW D dA a k t H) (hS : va_S (ca a) s.heap H locs) {r n : Nat} (hv : aNE t r = some n) (hdg : decode cc pc = .ok (.arraylength, 1)) (kc : W p l e R s m args below meth c H locs cells slots Q (F0 m (pc + 1) ls (.int (nI n) :: rest))) : W p l e R s m args below meth c H locs cells slots Q (F0 m pc ls (.ref r :: rest)) := by
  unfold aNE at hv
  split at hv
  · rename_i hr
    cases hv
    rw [hr]
    exact va_tlen C.1 C.2.1 hK.2.2.1.2.2.2.1.2 hS rfl hdg kc
  · exact d_aln C hK hT hv hdg kc
/-- an object that may lie in a list, for the machine -/
theorem okO_any (hK : kC D dA a k t.2.2.2 s) (hT : cW D dA a k t H) {v : Nat} (h : okO t v = true) : ∃ (cellV : Cell) (kC : Class), H[v]? = some cellV ∧ cellV.vm.isStatics = false ∧ s.vm.classes[cellV.cls]? = some kC ∧ ∀ comp : ClassId, s.vm.findClass "java/lang/Object" = some comp → s.vm.assignable cellV.cls comp = true := by
  obtain ⟨ci, q, h1, h2⟩ := okO_some h
  obtain ⟨hc, hx⟩ := inL_ok h2
  obtain ⟨q1, q2, q3⟩ := q
  obtain ⟨cell, g1, g2, g3⟩ := rv_D hc hK hT h1
  obtain ⟨kC, hkC, -⟩ := Vm.findClass_spec g3
  exact ⟨cell, kC, g1, g2, hkC, fun comp hcomp => vb_asgC (hK.2.1.2.2.1 _ hx) comp _ hcomp g3⟩
theorem d_astO (C : cx p s m args meth c cc own nL ret) (hK : kC D dA a k t.2.2.2 s) (hT : cW D dA a k t H) {N0 : Nat → Nat} {lo : Nat} (hS : cS a s.heap H locs N0 lo t) {r v : Nat} {x : Int32} {t1 : CS} (hp : dao t r x v = some t1) (hdg : decode cc pc = .ok (.aastore, 1)) (kc : ∀ (H1 : Heap) (locs1 : List Loc), cW D dA a k t1 H1 → cS a s.heap H1 locs1 N0 lo t1 → kC D dA a k t1.2.2.2 s → W p l e R s m args below meth c H1 locs1 cells slots Q (F0 m (pc + 1) ls rest)) : W p l e R s m args below meth c H locs cells slots Q (F0 m pc ls (.ref v :: .int x :: .ref r :: rest)) := by
  obtain ⟨n, f, g1, hin, g3, g4, g5⟩ := dao_some hp
  subst g5
  have hlt : x.toNatClampNeg < n := Nat.not_le.mp fun q => hin (Or.inr q)
  have hca : ca a r := Or.inr (by rw [← hT.2.2.1]; exact g3)
  obtain ⟨cellV, kC, b1, b2, b3, b4⟩ := okO_any hK hT g4
  obtain ⟨kA, comp, k1, k2, k3, -⟩ := (hK.1.2 7 _ rfl).2
  obtain ⟨kE, hkE, -⟩ := Vm.findClass_spec k3
  refine W.aast C.1 C.2.1 (d_at hT g1 0 _ rfl) (fun q h => by cases h) (fun h => by cases h) k1 k2 rfl hkE ⟨fun q => hin (Or.inl q), by show _ < (arrV _ _ _).slots.size; rw [arrV_size]; exact hlt⟩ b1 (fun q h => by rw [h] at b2; cases b2) b3 (b4 _ k3) rfl rfl hdg fun H1 e z oq => ?_
  refine kc H1 _ (hT.dput g1 (by have := hT.2.2.1; omega) ?_ z oq) (hS.put z oq hca rfl) hK
  show H1[r]? = some (vp_cell _ _)
  rw [e]
  show some ((vp_cell (dA 7) (n, .inr (.inr (.inr (.inr f))))).setSlot _ _) = some (vp_cell (dA 7) (n, .inr (.inr (.inr (.inr (va_up f x.toNatClampNeg (some v)))))))
  rw [vp_cell_q, vp_cell_q, arrV_store]
  congr 2
  funext q
  by_cases hq : q = x.toNatClampNeg
  · subst hq
    simp [updV, va_up, va_rf]
  · simp [updV, va_up, hq]
theorem n_newO (C : cx p s m args meth c cc own nL ret) (hK : kC D dA a k t.2.2.2 s) (hT : cW D dA a k t H) {N0 : Nat → Nat} (hS : cS a s.heap H locs N0 2 t) {index : Nat} (hq : (Cond.classLink own index "java/lang/Object") ∈ lw_all) {n : Int32} (hn : ¬ n < 0) (hbd : n.toNatClampNeg ≤ 100000) (hcs : cells + 1 ≤ R.cells ∧ slots + n.toNatClampNeg ≤ R.slots) (hdg : decode cc pc = .ok (.anewarray index, 3))
    (kc : ∀ (t1 : CS) (H1 : Heap), t1 = dnew t (.inl (7, n.toNatClampNeg, qrf (fun _ => none))) n.toNatClampNeg → cW D dA a k t1 H1 → cS a s.heap H1 locs N0 2 t1 → kC D dA a k t1.2.2.2 s → W p l e R s m args below meth c H1 locs (cells + 1) (slots + n.toNatClampNeg) Q (F0 m (pc + 3) ls (.ref (t.2.2.2 0) :: rest))) : W p l e R s m args below meth c H locs cells slots Q (F0 m pc ls (.int n :: rest)) := by
  obtain ⟨hx, hb, -, hml, hown, hts, -⟩ := C
  have hz := hT.2.1
  refine W.anew hx hb hown (hts _ hq) (va_AO.use (hK.2.1.2.2.2.1 _ (List.mem_of_getElem? (i := 2) rfl))) rfl hdg rfl hn (by omega) hcs.1 hcs.2 fun cA kA comp f1 f2 f3 f4 => ?_
  have hcA : cA = dA 7 := by
    obtain ⟨kA', comp', k1, k2, k3, k4⟩ := (hK.1.2 7 _ rfl).2
    exact Option.some.inj (f1.symm.trans k4)
  subst hcA
  generalize hH1 : H.push ({ cls := dA 7, slots := Array.replicate n.toNatClampNeg .null, vm := .none } : Cell) = H1
  have z1 : H1.size = H.size + 1 := by rw [← hH1, Array.size_push]
  have e1 : H1[H.size]? = some (arrV (dA 7) n.toNatClampNeg (fun _ => .null)) := by rw [← hH1, Array.getElem?_push_size, ← arrV_new]
  have o1 : ∀ q : Nat, q < H.size → H1[q]? = H[q]? := fun q hq => by rw [← hH1, Array.getElem?_push, if_neg (Nat.ne_of_lt hq)]
  rw [hz]
  refine kc _ H1 rfl (hT.dnw (x := .inl (7, n.toNatClampNeg, qrf (fun _ => none))) _ ?_ z1 o1) (hS.nw (by rw [hz]; exact hT.2.2.2.1) _ _ z1 o1) (hK.nw _ _)
  show H1[H.size]? = some (vp_cell _ _)
  unfold qrf
  rw [vp_cell_q]
  exact e1
theorem d_copyO (C : cx p s m args meth c cc own nL ret) (hK : kC D dA a k t.2.2.2 s) (hT : cW D dA a k t H) {N0 : Nat → Nat} {lo : Nat} (hS : cS a s.heap H locs N0 lo t) (hl : ls.size = nL) {index r q : Nat} (hq : (Cond.methodLink own index arraycopyName) ∈ lw_all) {sp dp n : Int32} {t1 : CS} (hp : dcO t r sp q dp n = some t1) (hR : 1 ≤ R.frames ∧ 30 ≤ R.locals) (hro : (rest.map fun v => v.category).sum ≤ 8) (hdg : decode cc pc = .ok (.invokestatic index, 3))
    (kc : ∀ (H1 : Heap) (locs1 : List Loc), cW D dA a k t1 H1 → cS a s.heap H1 locs1 N0 lo t1 → kC D dA a k t1.2.2.2 s → W p l e R s m args below meth c H1 locs1 cells slots Q (F0 m (pc + 3) ls rest)) : W p l e R s m args below meth c H locs cells slots Q (F0 m pc ls (.int n :: .int dp :: .ref q :: .int sp :: .ref r :: rest)) := by
  obtain ⟨hx, hb, -, hml, hown, hts, -⟩ := C
  obtain ⟨x, y, g1, g2, ⟨g3, ⟨⟨⟨g4, g5⟩, g6⟩, g7, g8⟩, g9⟩, g10⟩ := dcO_some hp
  subst g10
  obtain ⟨kA, comp, k1, k2, k3, -⟩ := (hK.1.2 7 _ rfl).2
  obtain ⟨kE, hkE, -⟩ := Vm.findClass_spec k3
  have hca : ca a q := Or.inr (by rw [← hT.2.2.1]; exact g3)
  refine W_copyq hx hb (hml.trans hl.symm) hown (hts _ hq) (hts _ q268) (hts _ q267) (hts _ q161) (Or.inr ⟨_, rfl⟩) (d_at hT (aO_some g1) 0 _ rfl) (d_at hT (aO_some g2) 0 _ rfl) (hK.1.2 7 _ rfl).1 k1 k2 hkE g4 g5 g6 g7 g8 (fun z hz w hw => ?_) hR.1 (nfw_le hro hR.2) hdg (fun H1 L hL e1 e2 e3 => ?_)
  · have h1 := g9 z hz
    rw [hw] at h1
    obtain ⟨cellV, kC, b1, b2, b3, b4⟩ := okO_any hK hT h1
    exact ⟨cellV, kC, b1, b2, b3, b4 _ k3⟩
  · exact kc H1 _ (hT.dput (aO_some g2) (by have := hT.2.2.1; omega) e1 e2 e3) (hS.puts e2 e3 hca hL rfl) hK
theorem d_copyI (C : cx p s m args meth c cc own nL ret) (hK : kC D dA a k t.2.2.2 s) (hT : cW D dA a k t H) {N0 : Nat → Nat} {lo : Nat} (hS : cS a s.heap H locs N0 lo t) (hl : ls.size = nL) {index r q : Nat} (hq : (Cond.methodLink own index arraycopyName) ∈ lw_all) {sp dp n : Int32} {t1 : CS} (hp : dcI t r sp q dp n = some t1) (hR : 1 ≤ R.frames ∧ 30 ≤ R.locals) (hro : (rest.map fun v => v.category).sum ≤ 8) (hdg : decode cc pc = .ok (.invokestatic index, 3))
    (kc : ∀ (H1 : Heap) (locs1 : List Loc), cW D dA a k t1 H1 → cS a s.heap H1 locs1 N0 lo t1 → kC D dA a k t1.2.2.2 s → W p l e R s m args below meth c H1 locs1 cells slots Q (F0 m (pc + 3) ls rest)) : W p l e R s m args below meth c H locs cells slots Q (F0 m pc ls (.int n :: .int dp :: .ref q :: .int sp :: .ref r :: rest)) := by
  obtain ⟨hx, hb, -, hml, hown, hts, -⟩ := C
  obtain ⟨x, y, g1, g2, ⟨g3, ⟨⟨g4, g5⟩, g6⟩, g7, g8⟩, g10⟩ := dcI_some hp
  subst g10
  have hca : ca a q := Or.inr (by rw [← hT.2.2.1]; exact g3)
  exact W_copyi hx hb (hml.trans hl.symm) hown (hts _ hq) (hts _ q268) (hts _ q267) (hts _ q161) (d_at hT (aIn_some g1) 0 _ rfl) (d_at hT (aIn_some g2) 0 _ rfl) (hK.1.2 0 _ rfl).1 (hK.1.2 0 _ rfl).1 rfl g4 g5 g6 g7 g8 (fun _ _ => rfl) hR.1 (nfw_le hro hR.2) hdg (fun H1 L hL e1 e2 e3 => kc H1 _ (hT.dput (aIn_some g2) (by have := hT.2.2.1; omega) e1 e2 e3) (hS.puts e2 e3 hca hL rfl) hK)
/-- class objects -/
theorem m_getC (C : cx p s m args meth c cc own nL ret) (hK : kC D dA a k t.2.2.2 s) (hT : cW D dA a k t H) (hl : ls.size = nL) {r : Nat} {x : Nat × (Nat → Option Nat)} (hr : aO t r = some x) {index : Nat} (hq : (Cond.methodLink own index ⟨"java/lang/Object", "getClass", "()Ljava/lang/Class;"⟩) ∈ lw_all) (h1 : (Cond.selects "[Ljava/lang/Object;" ⟨"java/lang/Object", "getClass", "()Ljava/lang/Class;"⟩ ⟨"java/lang/Object", "getClass", "()Ljava/lang/Class;"⟩) ∈ lw_all) (h2 : (Cond.instanceMethod ⟨"java/lang/Object", "getClass", "()Ljava/lang/Class;"⟩) ∈ lw_all) (h3 : (Cond.native ⟨"java/lang/Object", "getClass", "()Ljava/lang/Class;"⟩) ∈ lw_all) (hR : 1 ≤ R.frames ∧ 30 ≤ R.locals) (hro : (rest.map fun v => v.category).sum ≤ 8) (hdg : decode cc pc = .ok (.invokevirtual index, 3)) (kc : W p l e R s m args below meth c H locs cells slots Q (F0 m (pc + 3) ls (.ref (dA 50) :: rest))) : W p l e R s m args below meth c H locs cells slots Q (F0 m pc ls (.ref r :: rest)) := by
  obtain ⟨hx, hb, -, hml, hown, hts, -⟩ := C
  obtain ⟨kA, comp, -, -, -, k4⟩ := (hK.1.2 7 _ rfl).2
  exact va_getC hx hb (hml.trans hl.symm) hown (hts _ hq) hK.2.2.1.2.2.2.2.2.1.2.use (hts _ h1) (hts _ h2) (hts _ h3) hK.2.2.1.2.2.2.2.2.1.1 ⟨_, d_at hT (aO_some hr) 0 _ rfl, rfl, k4⟩ hR.1 (by omega) hdg kc
theorem m_ldc (C : cx p s m args meth c cc own nL ret) (hK : kC D dA a k t.2.2.2 s) {index : Nat} (hq : (Cond.classLink own index "[Ljava/lang/Object;") ∈ lw_all) (hdg : decode cc pc = .ok (.ldc index, 2)) (kc : W p l e R s m args below meth c H locs cells slots Q (F0 m (pc + 2) ls (.ref (dA 50) :: rest))) : W p l e R s m args below meth c H locs cells slots Q (F0 m pc ls rest) :=
  va_ldcM C.1 C.2.1 C.2.2.2.2.1 (C.2.2.2.2.2.1 _ hq) hK.2.2.1.2.2.2.2.2.1.1 hdg kc
end CX7
