/-! THE COMPONENT'S WORLD (written by gen/found_c.py) -/
/-- the texts that the class asks for: WORDS, then SIGNS -/
def wLen : List Nat := [5, 7, 5, 5, 4, 3, 3, 6, 4, 5, 4, 8, 7, 5, 2, 2, 2, 4, 2, 3, 3, 3, 4, 6, 4, 5, 5, 4, 4, 6, 5, 5, 6, 4, 4, 12]
def wByt : List (List Int32) := [[106, 111, 105, 110, 115], [114, 101, 116, 117, 114, 110, 115], [112, 114, 105, 99, 101], [98, 105, 110, 100, 115], [119, 111, 114, 100], [115, 97, 121], [116, 105, 101], [115, 116, 114, 105, 107, 101], [98, 97, 99, 107], [114, 97, 105, 115, 101], [115, 105, 103, 110], [99, 111, 110, 116, 114, 97, 99, 116], [109, 111, 114, 110, 105, 110, 103], [109, 101, 97, 110, 115], [116, 111], [98, 121], [97, 115], [110, 111, 110, 101], [111, 114], [97, 110, 100], [110, 111, 116], [100, 97, 121], [111, 117, 116, 115], [108, 101, 116, 116, 101, 114], [119, 97, 103, 101], [115, 105, 110, 99, 101], [118, 111, 119, 101, 108], [116, 105, 101, 100], [117, 115, 101, 115], [108, 101, 110, 103, 116, 104], [115, 101, 110, 115, 101], [115, 105, 103, 110, 115], [98, 114, 111, 107, 101, 110], [109, 97, 110, 121], [100, 97, 121, 115], [60, 62, 61, 35, 43, 45, 42, 47, 40, 41, 44, 59]]
/-- the component's typed state: ints and references of the fixed cells (by offset and place), the dynamic cells by address, numbers (0: the next address, 1: slots made so far, 2: where the dynamic cells begin, 3: the cell NOTHING) -/
abbrev CS : Type := (Nat → Nat → Int32) × (Nat → Nat → Option Nat) × (Nat → Option va_E) × (Nat → Nat)
def ci_ (t : CS) (k j : Nat) (v : Int32) : CS := (fun k' j' => if k' = k then (if j' = j then v else t.1 k' j') else t.1 k' j', t.2)
def ca_ (t : CS) (k : Nat) (f : Nat → Int32) : CS := (fun k' j' => if k' = k then f j' else t.1 k' j', t.2)
def cr_ (t : CS) (k j : Nat) (v : Option Nat) : CS := (t.1, fun k' j' => if k' = k then (if j' = j then v else t.2.1 k' j') else t.2.1 k' j', t.2.2)
def cra_ (t : CS) (k : Nat) (f : Nat → Option Nat) : CS := (t.1, fun k' j' => if k' = k then f j' else t.2.1 k' j', t.2.2)
def cv (dA : Nat → ClassId) (x : va_E) : va_E := match x with
  | .inl y => .inl (dA y.1, y.2)
  | .inr y => .inr y
def cxO (a : Nat) (f : Nat → Int32) : List Value := [.ref (a + 1), .ref (a + 53), .ref (a + 105), .int (f 3), .int (f 4), .int (f 5), .ref (a + 106), .ref (a + 107), .ref (a + 108), .ref (a + 109), .ref (a + 110), .ref (a + 111), .int (f 12), .ref (a + 112), .ref (a + 113), .ref (a + 114), .int (f 16), .int (f 17), .int (f 18), .int (f 19)]
def csO (q : Nat) : List Value := [.ref (q + 1), .ref (q + 2), .ref (q + 3), .ref (q + 4), .ref (q + 5), .ref (q + 6), .ref (q + 7), .ref (q + 20), .ref (q + 51)]
def ctO (a : Nat) (f : Nat → Int32) : List Value := [.ref (a + 105), .int (f 1), .int (f 2), .int (f 3), .int (f 4), .int (f 5), .int (f 6), .int (f 7)]
def qrf (f : Nat → Option Nat) : (Nat → Int32) ⊕ (Nat → Int64) ⊕ (Nat → UInt32) ⊕ (Nat → UInt64) ⊕ (Nat → Option Nat) := .inr (.inr (.inr (.inr f)))
def cwd (dA : Nat → ClassId) (a i : Nat) (f : Nat → Int32) (g : Nat → Option Nat) : va_E :=
  if (9 ≤ i ∧ i < 21) ∨ (61 ≤ i ∧ i < 73) then .inl (dA 0, 3, .inl f)
  else if (22 ≤ i ∧ i < 52) ∨ (74 ≤ i ∧ i < 104) then .inl (dA 0, 192, .inl f)
  else match i with
  | 0 => .inr (0, cxO a f)
  | 1 => .inr (1, csO (a + 1))
  | 2 => .inl (dA 0, 7, .inl f)
  | 3 => .inl (dA 0, 192, .inl f)
  | 4 => .inl (dA 0, 26, .inl f)
  | 5 => .inl (dA 0, 4, .inl f)
  | 6 => .inl (dA 4, 24, qrf g)
  | 7 => .inl (dA 6, 8, qrf g)
  | 8 => .inl (dA 6, 12, qrf (fun j => some (a + (9 + j))))
  | 21 => .inl (dA 6, 30, qrf (fun j => some (a + (22 + j))))
  | 52 => .inl (dA 5, 4, qrf g)
  | 53 => .inr (1, csO (a + 53))
  | 54 => .inl (dA 0, 7, .inl f)
  | 55 => .inl (dA 0, 192, .inl f)
  | 56 => .inl (dA 0, 26, .inl f)
  | 57 => .inl (dA 0, 4, .inl f)
  | 58 => .inl (dA 4, 24, qrf g)
  | 59 => .inl (dA 6, 8, qrf g)
  | 60 => .inl (dA 6, 12, qrf (fun j => some (a + (61 + j))))
  | 73 => .inl (dA 6, 30, qrf (fun j => some (a + (74 + j))))
  | 104 => .inl (dA 5, 4, qrf g)
  | 105 => .inl (dA 1, 300, .inl f)
  | 106 => .inl (dA 0, 14, .inl f)
  | 107 => .inl (dA 0, 8, .inl f)
  | 108 => .inl (dA 0, 4, .inl f)
  | 109 => .inl (dA 0, 16, .inl f)
  | 110 => .inl (dA 1, 1024, .inl f)
  | 111 => .inl (dA 0, 10, .inl f)
  | 112 => .inl (dA 0, 26, .inl f)
  | 113 => .inl (dA 0, 4, .inl f)
  | _ => .inl (dA 0, 4, .inl f)

/-- the cells that are the component's own -/
def ca (a : Nat) : Nat → Prop := fun q => (a ≤ q ∧ q < a + 115) ∨ a + 134 ≤ q
/-- what else holds of every state on the way: kept where the machine is alike and the cells not our own stand -/
def kcl (a : Nat) (P : State → Prop) : Prop := ∀ s U : State, (s.WarmedH U.vm ∨ U.vm = s.vm) → (∀ q : Nat, ¬ ca a q → U.heap[q]? = s.heap[q]?) → P s → P U
abbrev KP (a : Nat) : Type := Nat × { P : State → Prop // kcl a P }
def cw (dA : Nat → ClassId) (a : Nat) (k : KP a) (t : CS) : CF := fun q => if a ≤ q ∧ q < a + 115 then some (cwd dA a (q - a) (t.1 (q - a)) (t.2.1 (q - a))) else if q = k.1 then some (.inr (4, ctO a (t.1 200))) else if q < a then none else (t.2.2.1 q).map (cv dA)
/-- an object that was there from the start: nobody writes it -/
def wkO (D : va_G) (x : va_E) (q : Nat) (H : Heap) : Prop := match x with
  | .inl _ => False
  | .inr o => ∃ (r : vw_C) (cell : Cell), classes[o.1]? = some r ∧ H[q]? = some cell ∧ cell.cls = D.1 o.1 ∧ cell.vm.isStatics = false ∧ cell.vm ≠ .unknown ∧ ∀ k, k < r.2.2 → cell.slots[D.2 o.1 k]? = some (vp_V o.2 k)
theorem wkO.kept {D : va_G} {x : va_E} {q : Nat} {H H1 : Heap} (h : wkO D x q H) (hq : H1[q]? = H[q]?) : wkO D x q H1 := by
  cases x with
  | inl y => exact h
  | inr o =>
    obtain ⟨r, cell, h1, h2, h3⟩ := h
    exact ⟨r, cell, h1, hq.trans h2, h3⟩
theorem wkO.lt {D : va_G} {x : va_E} {q : Nat} {H : Heap} (h : wkO D x q H) : q < H.size := by
  cases x with
  | inl y => exact h.elim
  | inr o =>
    obtain ⟨r, cell, h1, h2, h3⟩ := h
    exact (Array.getElem?_eq_some_iff.mp h2).1
/-- the world -/
def cW (D : va_G) (dA : Nat → ClassId) (a : Nat) (k : KP a) (t : CS) (H : Heap) : Prop := wd D (cw dA a k t) H ∧ H.size = t.2.2.2 0 ∧ t.2.2.2 2 = a + 134 ∧ a + 134 ≤ t.2.2.2 0 ∧ ((k.1 = a ∨ a + 134 ≤ k.1) ∧ k.1 < t.2.2.2 0) ∧ ∀ (q : Nat) (x : va_E), t.2.2.1 q = some x → (q < a ∨ a + 134 ≤ q) ∧ q ≠ k.1 ∧ q < t.2.2.2 0 ∧ (q < a → wkO D x q H)
def cS (a : Nat) (H0 H : Heap) (locs : List Loc) (N0 : Nat → Nat) (lo : Nat) (t : CS) : Prop := H0.size ≤ H.size ∧ (∀ q : Nat, ¬ ca a q → H[q]? = H0[q]?) ∧ (∀ q ∈ locs, ca a q.base) ∧ ∀ i, lo ≤ i → t.2.2.2 i = N0 i
theorem cS.rf {a : Nat} {H : Heap} {lo : Nat} {t : CS} : cS a H H [] t.2.2.2 lo t := ⟨Nat.le_refl _, fun _ _ => rfl, fun _ h => absurd h List.not_mem_nil, fun _ _ => rfl⟩
theorem cS.put {a : Nat} {H0 H H1 : Heap} {locs : List Loc} {N0 : Nat → Nat} {lo : Nat} {t t1 : CS} {q0 j : Nat} (h : cS a H0 H locs N0 lo t) (z : H1.size = H.size) (oq : ∀ q : Nat, q ≠ q0 → H1[q]? = H[q]?) (ha : ca a q0) (hN : t1.2.2.2 = t.2.2.2) : cS a H0 H1 (locs ++ [⟨q0, j⟩]) N0 lo t1 := by
  refine ⟨by rw [z]; exact h.1, fun q h1 => (oq q (fun e => h1 (e ▸ ha))).trans (h.2.1 q h1), fun q hq => ?_, by rw [hN]; exact h.2.2.2⟩
  rcases List.mem_append.mp hq with h1 | h1
  · exact h.2.2.1 q h1
  · rw [List.mem_singleton.mp h1]; exact ha
theorem cw_at {dA : Nat → ClassId} {a : Nat} {k : KP a} {t : CS} (i : Nat) (hi : i < 115) : cw dA a k t (a + i) = some (cwd dA a i (t.1 i) (t.2.1 i)) := by
  unfold cw
  rw [if_pos ⟨Nat.le_add_right _ _, by omega⟩, Nat.add_sub_cancel_left]
theorem cw_dyn {D : va_G} {dA : Nat → ClassId} {a : Nat} {k : KP a} {t : CS} {H : Heap} (h : cW D dA a k t H) {q : Nat} {x : va_E} (hq : t.2.2.1 q = some x) (ha : a ≤ q) : cw dA a k t q = some (cv dA x) := by
  obtain ⟨h1, h2, -⟩ := h.2.2.2.2.2 q x hq
  unfold cw
  rw [if_neg (by omega), if_neg h2, if_neg (by omega), hq]
  rfl
/-- a change of one fixed cell -/
theorem cW.put {D : va_G} {dA : Nat → ClassId} {a : Nat} {k : KP a} {t t1 : CS} {H H1 : Heap} (h : cW D dA a k t H) (i : Nat) (hi : i < 115) (he : va_at D classes (a + i, cwd dA a i (t1.1 i) (t1.2.1 i)) H1) (z : H1.size = H.size) (oq : ∀ q : Nat, q ≠ a + i → H1[q]? = H[q]?) (h1 : ∀ j, j ≠ i → t1.1 j = t.1 j) (h2 : ∀ j, j ≠ i → t1.2.1 j = t.2.1 j) (h3 : t1.2.2 = t.2.2) : cW D dA a k t1 H1 := by
  refine ⟨h.1.put he oq (fun q y hy => ?_), by rw [h3, z]; exact h.2.1, by rw [h3]; exact h.2.2.1, by rw [h3]; exact h.2.2.2.1, by rw [h3]; exact h.2.2.2.2.1, fun q x hx => by
    rw [h3] at hx ⊢
    obtain ⟨b1, b2, b3, b4⟩ := h.2.2.2.2.2 q x hx
    exact ⟨b1, b2, b3, fun z => (b4 z).kept (oq q (by omega))⟩⟩
  unfold cw at hy ⊢
  split at hy
  · rename_i hq
    cases hy
    refine ⟨fun e => ?_, fun e => ?_⟩
    · subst e; rw [Nat.add_sub_cancel_left]
    · rw [if_pos hq, h1 (q - a) (by omega), h2 (q - a) (by omega)]
  · rename_i hq
    refine ⟨fun e => absurd (by omega) hq, fun e => ?_⟩
    rw [if_neg hq, ← h1 200 (by omega), ← h3]
    exact hy
def vO (n : Nat) : Option Nat := match n with
  | 0 => none
  | k + 1 => some k
/-- the small Integers: the array of the cache, the boxes' addresses -/
def kIc (dA : Nat → ClassId) (a : Nat) (N0 : Nat → Nat) (U : State) : Prop := va_Z "java/lang/Integer$IntegerCache" "cache" "[Ljava/lang/Integer;" (.ref (dA 301)) (ca a) U U.heap ∧ va_T (.object "java/lang/Integer") (dA 301) 256 (fun j => .ref (N0 (400 + j))) (ca a) U U.heap ∧ va_Z "java/lang/Integer$IntegerCache" "high" "I" (.int 127) (ca a) U U.heap
/-- the texts: WORDS, SIGNS -/
def kSt (dA : Nat → ClassId) (a : Nat) (U : State) : Prop := va_Z "LettersOnStrike$Tokens" "WORDS" "[Ljava/lang/String;" (.ref (dA 300)) (ca a) U U.heap ∧ va_T (.object "java/lang/String") (dA 300) 35 (fun j => .ref (dA (100 + j))) (ca a) U U.heap ∧ vk_S 36 wLen wByt (fun i => dA (100 + i)) (fun i => dA (200 + i)) (ca a) U U.heap ∧ va_Z "java/lang/String" "COMPACT_STRINGS" "Z" (.int 1) (ca a) U U.heap ∧ va_Z "jdk/internal/util/Preconditions" "SIOOBE_FORMATTER" "Ljava/util/function/BiFunction;" (va_rf (vO (dA 51))) (ca a) U U.heap
/-- the empty array of a new list -/
def kEm (a : Nat) (N0 : Nat → Nat) (U : State) : Prop := va_Z "java/util/ArrayList" "DEFAULTCAPACITY_EMPTY_ELEMENTDATA" "[Ljava/lang/Object;" (.ref (N0 6)) (ca a) U U.heap ∧ va_T (.object "java/lang/Object") (N0 6) 0 (fun _ => .null) (ca a) U U.heap
def dcl (x : MethodName) (U : State) : Prop := (Cond.declares x).before #[] U = true
theorem dcl.use {x : MethodName} {A : Array Value} {U : State} (h : dcl x U) : (Cond.declares x).before A U = true := va_any rfl h
theorem dcl.moved {x : MethodName} {u U : State} (hvm : u.vm.Alike U.vm) (h : dcl x u) : dcl x U := by
  have h1 : (Cond.declares x).before #[] (u.setVm U.vm) = true := by
    rw [Cond.declares_setVm hvm]
    exact h
  have e := Cond.onTables_vm (A := #[]) (A' := #[]) (U := u) (U' := U) U.vm (Cond.declares x) rfl
  have hU : U.setVm U.vm = U := rfl
  rw [hU] at e
  unfold dcl
  rw [← e]
  exact h1
def kTh (a : Nat) (U : State) : Prop := vx_Zq Bundle.tN "UNASSIGNED_STACK" Bundle.steD (ca a) U U.heap ∧ vx_Zq Bundle.tN "SUPPRESSED_SENTINEL" Bundle.listD (ca a) U U.heap ∧ dcl (Bundle.init0 Bundle.tN) U
def kVm (dA : Nat → ClassId) (U : State) : Prop := va_Mi "[Ljava/lang/Object;" (dA 50) U ∧ va_Dc U
def kst (dA : Nat → ClassId) (a : Nat) (N0 : Nat → Nat) (U : State) : Prop := va_Z "LettersOnStrike" "NOTHING" "LLettersOnStrike$Text;" (.ref (N0 3)) (ca a) U U.heap ∧ kIc dA a N0 U ∧ kSt dA a U ∧ kEm a N0 U ∧ kTh a U ∧ kVm dA U ∧ vk_R "LettersOnStrike$Tokens" 53 "<>=#+-*/(),;" (dA 135) U
def kG (dA : Nat → ClassId) (U : State) : Prop := ∃ k0 kA : Class, U.vm.classes[dA 0]? = some k0 ∧ U.vm.classes[dA 6]? = some kA ∧ kA.kind = .array (dA 0) (.array .int) ∧ U.vm.assignable (dA 0) (dA 0) = true
theorem kG.moved {dA : Nat → ClassId} {u U : State} (hvm : u.vm.Alike U.vm) (h : kG dA u) : kG dA U := by
  obtain ⟨k0, kA, h1, h2, h3, h4⟩ := h
  obtain ⟨k0', g1, -⟩ := hvm.2.2 _ _ h1
  obtain ⟨kA', g2, g3⟩ := hvm.2.2 _ _ h2
  exact ⟨k0', kA', g1, g2, by rw [g3]; exact h3, by rw [hvm.assignable]; exact h4⟩
def kC (D : va_G) (dA : Nat → ClassId) (a : Nat) (k : KP a) (N0 : Nat → Nat) (U : State) : Prop := kk D dA U ∧ kx U ∧ kst dA a N0 U ∧ kG dA U ∧ k.2.1 U
theorem kst.go {dA : Nat → ClassId} {a : Nat} {N0 N1 : Nat → Nat} {s U : State} (hw : s.WarmedH U.vm ∨ U.vm = s.vm) (hh : ∀ q : Nat, ¬ ca a q → U.heap[q]? = s.heap[q]?) (hN : ∀ i, 3 ≤ i → N1 i = N0 i) (h : kst dA a N0 s) : kst dA a N1 U := by
  have hvm : s.vm.Alike U.vm := by
    rcases hw with h | h
    · exact h.alike
    · rw [h]; exact Vm.Alike.refl _
  have hk : ∀ q : Nat, q < s.heap.size → ¬ ca a q → U.heap[q]? = s.heap[q]? := fun q _ hq => hh q hq
  obtain ⟨h1, ⟨i1, i2, i3⟩, ⟨s1, s2, s3, s4, s5⟩, ⟨e1, e2⟩, ⟨t1, t2, t3⟩, ⟨v1, v2⟩, g⟩ := h
  unfold kst kIc kEm
  simp only [hN 3 (by omega), hN 6 (by omega), fun j => hN (400 + j) (by omega)]
  refine ⟨(va_Z.moved hvm h1).kept hk, ⟨(va_Z.moved hvm i1).kept hk, (va_T.moved hvm i2).kept hk, (va_Z.moved hvm i3).kept hk⟩, ⟨(va_Z.moved hvm s1).kept hk, (va_T.moved hvm s2).kept hk, (vk_S.moved hvm s3).kept hk, (va_Z.moved hvm s4).kept hk, (va_Z.moved hvm s5).kept hk⟩, ⟨(va_Z.moved hvm e1).kept hk, (va_T.moved hvm e2).kept hk⟩, ⟨(vx_Zq.moved hvm t1).kept hk, (vx_Zq.moved hvm t2).kept hk, dcl.moved hvm t3⟩, ⟨va_Mi.moved hvm v1, va_Dc.moved hvm v2⟩, ?_⟩
  rcases hw with h | h
  · exact vk_R.warm h g
  · exact vk_R.same h g
theorem kC.go {D : va_G} {dA : Nat → ClassId} {a : Nat} {k : KP a} {N0 N1 : Nat → Nat} {s U : State} (hW : s.WarmedH U.vm) (hh : ∀ q : Nat, ¬ ca a q → U.heap[q]? = s.heap[q]?) (hN : ∀ i, 3 ≤ i → N1 i = N0 i) (h : kC D dA a k N0 s) : kC D dA a k N1 U := ⟨h.1.moved hW.alike, h.2.1.warm hW, h.2.2.1.go (Or.inl hW) hh hN, h.2.2.2.1.moved hW.alike, k.2.2 s U (Or.inl hW) hh h.2.2.2.2⟩
/-- contracts -/
def cPc (D : va_G) (dA : Nat → ClassId) (a : Nat) (k : KP a) (t : CS) (av : List Value) : Array Value → State → Prop := va_Pc av (fun U => kC D dA a k t.2.2.2 U ∧ cW D dA a k t U.heap)
def cQ (D : va_G) (dA : Nat → ClassId) (a : Nat) (k : KP a) (lo : Nat) (t0 t : CS) (v : Option Value) : Array Value → State → Outcome → State → Prop := fun _ st oc u => oc = .returned v ∧ cW D dA a k t u.heap ∧ st.heap.size ≤ u.heap.size ∧ (∀ q : Nat, ¬ ca a q → u.heap[q]? = st.heap[q]?) ∧ ∀ i, lo ≤ i → t.2.2.2 i = t0.2.2.2 i
def rQv (v : Option Value) : Array Value → State → Outcome → State → Prop := fun _ st oc u => oc = .returned v ∧ u.heap = st.heap
/-- reading dynamic cells -/
def gV (t : CS) (r ci k : Nat) : Option Value := match t.2.2.1 r with
  | some (.inr o) => if o.1 = ci then o.2[k]? else none
  | _ => none
def gI (t : CS) (r ci k : Nat) : Option Int32 := match gV t r ci k with
  | some (.int v) => some v
  | _ => none
def gR (t : CS) (r ci k : Nat) : Option Nat := match gV t r ci k with
  | some (.ref v) => some v
  | _ => none
def gO (t : CS) (r ci k : Nat) : Option (Option Nat) := match gV t r ci k with
  | some (.ref v) => some (some v)
  | some .null => some none
  | _ => none
def gC (t : CS) (r : Nat) : Option Nat := match t.2.2.1 r with
  | some (.inr o) => some o.1
  | _ => none
def aN (t : CS) (r : Nat) : Option Nat := match t.2.2.1 r with
  | some (.inl x) => if x.1 < 8 ∧ (x.1 = 0 ∨ x.1 = 7) then some x.2.1 else none
  | _ => none
def aI (t : CS) (r : Nat) (i : Int32) : Option Int32 := match t.2.2.1 r with
  | some (.inl (0, n, .inl f)) => if i < 0 ∨ n ≤ i.toNatClampNeg then none else some (f i.toNatClampNeg)
  | _ => none
def aR (t : CS) (r : Nat) (i : Int32) : Option (Option Nat) := match t.2.2.1 r with
  | some (.inl (7, n, .inr (.inr (.inr (.inr f))))) => if i < 0 ∨ n ≤ i.toNatClampNeg then none else some (f i.toNatClampNeg)
  | _ => none
theorem gV_some {t : CS} {r ci k : Nat} {v : Value} (h : gV t r ci k = some v) : ∃ fs, t.2.2.1 r = some (.inr (ci, fs)) ∧ fs[k]? = some v := by
  unfold gV at h
  split at h
  · rename_i o ho
    split at h
    · rename_i hc
      exact ⟨o.2, by rw [ho, ← hc], h⟩
    · cases h
  · cases h
theorem gI_some {t : CS} {r ci k : Nat} {v : Int32} (h : gI t r ci k = some v) : gV t r ci k = some (.int v) := by
  unfold gI at h
  split at h
  · cases h; assumption
  · cases h
theorem gR_some {t : CS} {r ci k v : Nat} (h : gR t r ci k = some v) : gV t r ci k = some (.ref v) := by
  unfold gR at h
  split at h
  · cases h; assumption
  · cases h
theorem gO_some {t : CS} {r ci k : Nat} {v : Option Nat} (h : gO t r ci k = some v) : gV t r ci k = some (va_rf v) := by
  unfold gO at h
  split at h
  · cases h; assumption
  · cases h; assumption
  · cases h
theorem gC_some {t : CS} {r ci : Nat} (h : gC t r = some ci) : ∃ fs, t.2.2.1 r = some (.inr (ci, fs)) := by
  unfold gC at h
  split at h
  · rename_i o ho
    cases h
    exact ⟨o.2, ho⟩
  · cases h
def on1 {β : Type} (x : Option Nat) (d : Option β) (f : Nat → Option β) : Option β := match x with
  | none => d
  | some v => f v
theorem on1_some {β : Type} {x : Option Nat} {d : Option β} {f : Nat → Option β} {o : β} (h : on1 x d f = some o) : (x = none ∧ d = some o) ∨ ∃ v, x = some v ∧ f v = some o := by
  cases x with
  | none => exact Or.inl ⟨rfl, h⟩
  | some v => exact Or.inr ⟨v, rfl, h⟩
