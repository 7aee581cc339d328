/-! rows: statics, texts, boxes, the Tokens object, lists -/
section CX6
variable {p : Program} {l : Launch} {e : Env} {R : Room} {s : State} {m : MethodId} {args : Array Value} {below : List Frame} {meth : Method} {c : Code} {H : Heap} {locs : List Loc} {cells slots : Nat} {Q : State → Prop}
variable {cc : ByteArray} {pc nL : Nat} {ls : Array Slot} {rest st0 : List Value} {own : String} {ret : Option FieldType} {D : va_G} {dA : Nat → ClassId} {a : Nat} {k : KP a} {t : CS}
theorem g_stat {C0 n d : String} {v : Value} (hZ : va_Z C0 n d v (ca a) s s.heap) (C : cx p s m args meth c cc own nL ret) (hS : va_S (ca a) s.heap H locs) {index : Nat} (hq : (Cond.fieldLink own index C0 n d) ∈ lw_all) (hdg : decode cc pc = .ok (.getstatic index, 3)) (kc : W p l e R s m args below meth c H locs cells slots Q (F0 m (pc + 3) ls (v :: rest))) : W p l e R s m args below meth c H locs cells slots Q (F0 m pc ls rest) :=
  va_gets C.1 C.2.1 hZ hS C.2.2.2.2.1 (C.2.2.2.2.2.1 _ hq) (fun _ h => h) hdg kc
theorem w_ald (C : cx p s m args meth c cc own nL ret) (hK : kC D dA a k t.2.2.2 s) (hS : va_S (ca a) s.heap H locs) {x : Int32} (hin : vp_in x 35) (hdg : decode cc pc = .ok (.aaload, 1)) (kc : W p l e R s m args below meth c H locs cells slots Q (F0 m (pc + 1) ls (.ref (dA (100 + x.toNatClampNeg)) :: rest))) : W p l e R s m args below meth c H locs cells slots Q (F0 m pc ls (.int x :: .ref (dA 300) :: rest)) :=
  vb_tq C.1 C.2.1 hK.2.2.1.2.2.1.2.1 hS hin rfl hdg kc
theorem w_aln (C : cx p s m args meth c cc own nL ret) (hK : kC D dA a k t.2.2.2 s) (hS : va_S (ca a) s.heap H locs) (hdg : decode cc pc = .ok (.arraylength, 1)) (kc : W p l e R s m args below meth c H locs cells slots Q (F0 m (pc + 1) ls (.int 35 :: rest))) : W p l e R s m args below meth c H locs cells slots Q (F0 m pc ls (.ref (dA 300) :: rest)) :=
  va_tlen C.1 C.2.1 hK.2.2.1.2.2.1.2.1 hS (v := 35) (by decide) hdg kc
theorem i_ald (C : cx p s m args meth c cc own nL ret) (hK : kC D dA a k t.2.2.2 s) (hS : va_S (ca a) s.heap H locs) {x : Int32} (hin : vp_in x 256) (hdg : decode cc pc = .ok (.aaload, 1)) (kc : W p l e R s m args below meth c H locs cells slots Q (F0 m (pc + 1) ls (.ref (t.2.2.2 (400 + x.toNatClampNeg)) :: rest))) : W p l e R s m args below meth c H locs cells slots Q (F0 m pc ls (.int x :: .ref (dA 301) :: rest)) :=
  vb_tq C.1 C.2.1 hK.2.2.1.2.1.2.1 hS hin rfl hdg kc
/-- a text's place -/
def ckQ {α : Type} (i : Nat) (x : Option α) : Option α := if i < 36 then x else none
theorem ckQ_some {α : Type} {i : Nat} {x : Option α} {o : α} (h : ckQ i x = some o) : i < 36 ∧ x = some o := by
  unfold ckQ at h
  split at h
  · exact ⟨by assumption, h⟩
  · cases h
theorem q_val (C : cx p s m args meth c cc own nL ret) (hK : kC D dA a k t.2.2.2 s) (hS : va_S (ca a) s.heap H locs) {i : Nat} (hi : i < 36) {index : Nat} (hq : (Cond.fieldLink own index "java/lang/String" "value" "[B") ∈ lw_all) (hdg : decode cc pc = .ok (.getfield index, 3)) (kc : W p l e R s m args below meth c H locs cells slots Q (F0 m (pc + 3) ls (.ref (dA (200 + i)) :: rest))) : W p l e R s m args below meth c H locs cells slots Q (F0 m pc ls (.ref (dA (100 + i)) :: rest)) :=
  vk_getf C.1 C.2.1 (hK.2.2.1.2.2.1.2.2.1.1 i hi).2.2.1 hS C.2.2.2.2.1 (C.2.2.2.2.2.1 _ hq) (fun _ h => h) hdg kc
theorem q_cod (C : cx p s m args meth c cc own nL ret) (hK : kC D dA a k t.2.2.2 s) (hS : va_S (ca a) s.heap H locs) {i : Nat} (hi : i < 36) {index : Nat} (hq : (Cond.fieldLink own index "java/lang/String" "coder" "B") ∈ lw_all) (hdg : decode cc pc = .ok (.getfield index, 3)) (kc : W p l e R s m args below meth c H locs cells slots Q (F0 m (pc + 3) ls (.int 0 :: rest))) : W p l e R s m args below meth c H locs cells slots Q (F0 m pc ls (.ref (dA (100 + i)) :: rest)) :=
  vk_getf C.1 C.2.1 (hK.2.2.1.2.2.1.2.2.1.1 i hi).2.1 hS C.2.2.2.2.1 (C.2.2.2.2.2.1 _ hq) (fun _ h => h) hdg kc
theorem b_aln (C : cx p s m args meth c cc own nL ret) (hK : kC D dA a k t.2.2.2 s) (hS : va_S (ca a) s.heap H locs) {i : Nat} (hi : i < 36) (hdg : decode cc pc = .ok (.arraylength, 1)) (kc : W p l e R s m args below meth c H locs cells slots Q (F0 m (pc + 1) ls (.int (nI (wLen.getD i 0)) :: rest))) : W p l e R s m args below meth c H locs cells slots Q (F0 m pc ls (.ref (dA (200 + i)) :: rest)) :=
  va_tlen C.1 C.2.1 (hK.2.2.1.2.2.1.2.2.1.1 i hi).2.2.2 hS rfl hdg kc
theorem b_bld (C : cx p s m args meth c cc own nL ret) (hK : kC D dA a k t.2.2.2 s) (hS : va_S (ca a) s.heap H locs) {i : Nat} (hi : i < 36) {x : Int32} (hin : vp_in x (wLen.getD i 0)) (hdg : decode cc pc = .ok (.baload, 1)) (kc : W p l e R s m args below meth c H locs cells slots Q (F0 m (pc + 1) ls (.int ((wByt.getD i []).getD x.toNatClampNeg 0) :: rest))) : W p l e R s m args below meth c H locs cells slots Q (F0 m pc ls (.int x :: .ref (dA (200 + i)) :: rest)) :=
  va_tb C.1 C.2.1 (hK.2.2.1.2.2.1.2.2.1.1 i hi).2.2.2 hS hin rfl hdg kc
theorem rv_Q (hK : kC D dA a k t.2.2.2 s) (hS : va_S (ca a) s.heap H locs) {i : Nat} (hi : i < 36) : ∃ cell : Cell, H[dA (100 + i)]? = some cell ∧ cell.vm.isStatics = false ∧ s.vm.findClass "java/lang/String" = some cell.cls := vk_recv (i := i) hK.2.2.1.2.2.1.2.2.1 hi hS
theorem q_ldc (C : cx p s m args meth c cc "LettersOnStrike$Tokens" nL ret) (hK : kC D dA a k t.2.2.2 s) (hdg : decode cc pc = .ok (.ldc 53, 2)) (kc : W p l e R s m args below meth c H locs cells slots Q (F0 m (pc + 2) ls (.ref (dA (100 + 35)) :: rest))) : W p l e R s m args below meth c H locs cells slots Q (F0 m pc ls rest) :=
  va_ldcS C.1 C.2.1 C.2.2.2.2.1 hK.2.2.1.2.2.2.2.2.2 hdg kc
/-- the Tokens object -/
theorem tk_cell (hT : cW D dA a k t H) (hk : k.1 ≠ a) : va_P D classes [(k.1, .inr (4, ctO a (t.1 200)))] H := hT.1.one (by
  have h1 := hT.2.2.2.2.1.1
  unfold cw
  rw [if_neg (by omega), if_pos rfl])
theorem c_getT (C : cx p s m args meth c cc RX4 nL ret) (hK : kC D dA a k t.2.2.2 s) (hT : cW D dA a k t H) (hk : k.1 ≠ a) (j : Nat) (hj : j < 8) {index : Nat} (hq : (Cond.fieldLink RX4 index RX4 (TX4 j).2.1 (TX4 j).2.2.1) ∈ lw_all) (hC : (TX4 j).1 = RX4) {v : Value} (hv : (ctO a (t.1 200))[j]? = some v) (hdg : decode cc pc = .ok (.getfield index, 3)) (kc : W p l e R s m args below meth c H locs cells slots Q (F0 m (pc + 3) ls (v :: rest))) : W p l e R s m args below meth c H locs cells slots Q (F0 m pc ls (.ref k.1 :: rest)) :=
  va_get (ci := 4) (C := RX4) (T := TX4) (N := 8) C.1 C.2.1 C.2.2.2.2.2.1 in_X4 C.2.2.2.2.1 hK.1 (tk_cell hT hk) 0 rfl rfl j hj (C.2.2.2.2.2.1 _ hq) (fun x h => by rw [hC] at h; exact h) hv hdg kc
theorem rv_T (hK : kC D dA a k t.2.2.2 s) (hT : cW D dA a k t H) (hk : k.1 ≠ a) : ∃ cell : Cell, H[k.1]? = some cell ∧ cell.vm.isStatics = false ∧ s.vm.findClass RX4 = some cell.cls := va_recv (ci := 4) (q0 := 0) (q := (RX4, TX4, 8)) hK.1 (tk_cell hT hk) rfl rfl
theorem cW.putT (h : cW D dA a k t H) (hk : k.1 ≠ a) {H1 : Heap} {t1 : CS} (he : va_at D classes (k.1, .inr (4, ctO a (t1.1 200))) H1) (z : H1.size = H.size) (oq : ∀ q : Nat, q ≠ k.1 → H1[q]? = H[q]?) (h1 : ∀ j, j ≠ 200 → t1.1 j = t.1 j) (h2 : t1.2 = t.2) : cW D dA a k t1 H1 := by
  have hk1 := h.2.2.2.2.1.1
  refine ⟨h.1.put he oq (fun q y hy => ?_), by rw [h2, z]; exact h.2.1, by rw [h2]; exact h.2.2.1, by rw [h2]; exact h.2.2.2.1, by rw [h2]; exact h.2.2.2.2.1, fun q x hx => ?_⟩
  · unfold cw at hy ⊢
    split at hy
    · rename_i hq
      refine ⟨fun e => absurd hq (by omega), fun e => ?_⟩
      rw [if_pos hq, ← h1 (q - a) (by omega), ← h2]
      exact hy
    · rename_i hq
      rw [if_neg hq]
      split at hy
      · rename_i hq2
        refine ⟨fun e => by cases hy; rfl, fun e => absurd hq2 e⟩
      · rename_i hq2
        refine ⟨fun e => absurd e hq2, fun e => ?_⟩
        rw [if_neg hq2, ← h2]
        exact hy
  · rw [h2] at hx ⊢
    obtain ⟨b1, b2, b3, b4⟩ := h.2.2.2.2.2 q x hx
    exact ⟨b1, b2, b3, fun z => (b4 z).kept (oq q b2)⟩
theorem c_putT (C : cx p s m args meth c cc RX4 nL ret) (hK : kC D dA a k t.2.2.2 s) (hT : cW D dA a k t H) (hk : k.1 ≠ a) {H0 : Heap} {N0 : Nat → Nat} {lo : Nat} (hS : cS a H0 H locs N0 lo t) (j : Nat) (hj : 1 < j ∧ j < 8) {index : Nat} (hq : (Cond.fieldLink RX4 index RX4 (TX4 j).2.1 (TX4 j).2.2.1) ∈ lw_all) (hC : (TX4 j).1 = RX4) (hfin : (TX4 j).2.2.2 = false) (hd : parseFieldDescriptor (TX4 j).2.2.1 = some .int) {x : Int32} (hdg : decode cc pc = .ok (.putfield index, 3))
    (kc : ∀ (t1 : CS) (H1 : Heap) (locs1 : List Loc), t1 = ci_ t 200 j x → cW D dA a k t1 H1 → cS a H0 H1 locs1 N0 lo t1 → kC D dA a k t1.2.2.2 s → W p l e R s m args below meth c H1 locs1 cells slots Q (F0 m (pc + 3) ls rest)) : W p l e R s m args below meth c H locs cells slots Q (F0 m pc ls (.int x :: .ref k.1 :: rest)) := by
  obtain ⟨hx, hb, -, hml, hown, hts, -⟩ := C
  have hP := tk_cell hT hk
  have hap := va_apart (ci := 4) (own := RX4) hts in_X4 tyX4 tyX4_ok nmX4 hK.1 rfl
  obtain ⟨r0, e1, cell, q1, q2, q3, q4⟩ := hP 0 _ rfl
  have hr : r0 = (RX4, TX4, 8) := Option.some.inj (e1.symm.trans rfl)
  subst hr
  obtain ⟨hSl, hfc, kC, hkC, hkind⟩ := hK.1.1 4 _ rfl
  obtain ⟨cf, kf, fi, f, hi, hsl⟩ := hSl j hj.2
  have hlay := hts _ (in_X4 _ (u_in_lay hj.2))
  have hst := (u_facts hfc hkC (u_lays hts in_X4 hj.2) hi).1
  have hi2 := hi
  rw [hC] at hi2
  have hk1 := hT.2.2.2.2.1.1
  have hca : ca a k.1 := Or.inr (by omega)
  unfold u_lay at hlay
  rw [if_neg (by rw [hfin]; decide)] at hlay
  have h6 := u_store hfc hkC hkind hlay hi hd (v := .int x) rfl rfl
  refine W.putK hx hb (f := f) ⟨hown, hts _ hq, ⟨_, _, _, hi2⟩, hst⟩ (by rw [q2]; exact h6) q1 q3 (by rw [hsl]; exact k2_hasslot (q4 j hj.2)) rfl rfl hdg fun H' e1 e2 e3 => ?_
  rw [hsl] at e1
  refine kc _ H' _ rfl (hT.putT hk ?_ e2 e3 (fun j' h => by funext z; simp [ci_, h]) rfl) (hS.put e2 e3 hca rfl) hK
  refine ⟨_, rfl, t_OB.to (V := updV (vp_V (ctO a (t.1 200))) j (.int x)) ⟨_, e1, q2, q3, t_set q4 hap hj.2 (.int x)⟩ (fun z hz => ?_)⟩
  have hj2 : j = 2 ∨ j = 3 ∨ j = 4 ∨ j = 5 ∨ j = 6 ∨ j = 7 := by omega
  have hz3 : z < 8 := hz
  have hz2 : z = 0 ∨ z = 1 ∨ z = 2 ∨ z = 3 ∨ z = 4 ∨ z = 5 ∨ z = 6 ∨ z = 7 := by omega
  rcases hj2 with rfl | rfl | rfl | rfl | rfl | rfl <;> rcases hz2 with rfl | rfl | rfl | rfl | rfl | rfl | rfl | rfl <;> rfl
/-- a field under the name of a class above -/
theorem d_getU {CC rf : String} {TT : u_T} {N ci : Nat} (hin : ∀ w ∈ u_ws CC TT N, w ∈ lw_all) (hc : classes[ci]? = some (CC, TT, N)) (C : cx p s m args meth c cc own nL ret) (hK : kC D dA a k t.2.2.2 s) (hT : cW D dA a k t H) (j : Nat) (hj : j < N) {index : Nat} (hq : (Cond.fieldLink own index rf (TT j).2.1 (TT j).2.2.1) ∈ lw_all) (hsame : ∀ x, s.fieldFound? (TT j).1 (TT j).2.1 (TT j).2.2.1 = some x → s.fieldFound? rf (TT j).2.1 (TT j).2.2.1 = some x) {r : Nat} {v : Value} (hv : gV t r ci j = some v) (hdg : decode cc pc = .ok (.getfield index, 3)) (kc : W p l e R s m args below meth c H locs cells slots Q (F0 m (pc + 3) ls (v :: rest))) : W p l e R s m args below meth c H locs cells slots Q (F0 m pc ls (.ref r :: rest)) := by
  obtain ⟨fs, h1, h2⟩ := gV_some hv
  obtain ⟨hS0, hfc, kC, hkC, hkind⟩ := hK.1.1 ci _ hc
  obtain ⟨cf, kf, fi, f, hi, hsl⟩ := hS0 j hj
  obtain ⟨cell, q1, q2, q3, q4, q5⟩ := d_ob hT h1 hc
  refine W.getf C.1 C.2.1 C.2.2.2.2.1 (C.2.2.2.2.2.1 _ hq) (hsame _ hi) (u_facts hfc hkC (u_lays C.2.2.2.2.2.1 hin hj) hi).1 q1 q4 (v := v) ?_ rfl rfl hdg kc
  rw [hsl, q5 j hj]
  simp [vp_V, h2]
theorem d_putU {CC rf : String} {TT : u_T} {N ci : Nat} (hin : ∀ w ∈ u_ws CC TT N, w ∈ lw_all) (ty0 : Nat → FieldType) (hty : ∀ k, k < N → parseFieldDescriptor (TT k).2.2.1 = some (ty0 k)) (hnm : ∀ a, a < N → ∀ b, b < N → a ≠ b → (TT a).2.1 ≠ (TT b).2.1) (hc : classes[ci]? = some (CC, TT, N)) (C : cx p s m args meth c cc own nL ret) (hK : kC D dA a k t.2.2.2 s) (hT : cW D dA a k t H) {N0 : Nat → Nat} {lo : Nat} (hS : cS a s.heap H locs N0 lo t) (j : Nat) (hj : j < N) {index : Nat} (hq : (Cond.fieldLink own index rf (TT j).2.1 (TT j).2.2.1) ∈ lw_all) (hsame : ∀ x, s.fieldFound? (TT j).1 (TT j).2.1 (TT j).2.2.1 = some x → s.fieldFound? rf (TT j).2.1 (TT j).2.2.1 = some x) (hfin : (TT j).2.2.2 = false) {r : Nat} {v : Value} {t1 : CS} (hp : dpf t r ci j v = some t1) {ty : FieldType} (hd : parseFieldDescriptor (TT j).2.2.1 = some ty) (hn : narrow ty v = v) (hfit : fits ty v = true) (hdg : decode cc pc = .ok (.putfield index, 3))
    (kc : ∀ (H1 : Heap) (locs1 : List Loc), cW D dA a k t1 H1 → cS a s.heap H1 locs1 N0 lo t1 → kC D dA a k t1.2.2.2 s → W p l e R s m args below meth c H1 locs1 cells slots Q (F0 m (pc + 3) ls rest)) : W p l e R s m args below meth c H locs cells slots Q (F0 m pc ls (v :: .ref r :: rest)) := by
  obtain ⟨hx, hb, -, hml, hown, hts, -⟩ := C
  obtain ⟨fs, g1, g2, g3, g4⟩ := dpf_some hp
  subst g4
  have hP := d_atO hT g1 g3
  have hap := va_apart (own := own) hts hin ty0 hty hnm hK.1 hc
  obtain ⟨r0, e1, cell, q1, q2, q3, q4⟩ := hP 0 _ rfl
  have hr : r0 = (CC, TT, N) := Option.some.inj (e1.symm.trans hc)
  subst hr
  obtain ⟨hSl, hfc, kC, hkC, hkind⟩ := hK.1.1 ci _ hc
  obtain ⟨cf, kf, fi, f, hi, hsl⟩ := hSl j hj
  have hlay := hts _ (hin _ (u_in_lay hj))
  have hst := (u_facts hfc hkC (u_lays hts hin hj) hi).1
  have hi2 := hsame _ hi
  have hca : ca a r := by
    obtain ⟨w1, -, -⟩ := hT.2.2.2.2.2 r _ g1
    exact Or.inr (by rw [← hT.2.2.1]; exact g3)
  unfold u_lay at hlay
  rw [if_neg (by rw [hfin]; decide)] at hlay
  have h6 := u_store hfc hkC hkind hlay hi hd hn hfit
  refine W.putK hx hb (f := f) ⟨hown, hts _ hq, ⟨_, _, _, hi2⟩, hst⟩ (by rw [q2]; exact h6) q1 q3 (by rw [hsl]; exact k2_hasslot (q4 j hj)) rfl rfl hdg fun H' e1 e2 e3 => ?_
  rw [hsl] at e1
  refine kc H' _ (hT.dput g1 (by have := hT.2.2.1; omega) ?_ e2 e3) (hS.put e2 e3 hca rfl) hK
  exact ⟨_, hc, t_OB.to (V := updV (vp_V fs) j v) ⟨_, e1, q2, q3, t_set q4 hap hj v⟩ (fun z _ => vp_updV_set g2 v z)⟩
end CX6
