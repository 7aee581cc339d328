/-! constructors (written by gen/mk_ctor.py) -/
set_option maxRecDepth 20000
/-- what the constructors leave in the component's cells -/
def ci0 : Nat → Nat → Int32
  | 0 => fun j => if j = 4 ∨ j = 5 then -1 else 0
  | 2 => fun j => if j = 3 then -1 else 0
  | 54 => fun j => if j = 3 then -1 else 0
  | 3 => fun j => if 55 ≤ j ∧ j < 81 then -1 else if 29 ≤ j ∧ j < 55 then 1 else if j = 2 then 17 else 0
  | 55 => fun j => if 55 ≤ j ∧ j < 81 then -1 else if 29 ≤ j ∧ j < 55 then 1 else if j = 2 then 17 else 0
  | _ => fun _ => 0
def stF (dA : Nat → ClassId) (F : CF) (r : Nat) : Prop := F r = some (.inr (1, csO r)) ∧ F (r + 1) = some (.inl (dA 0, 7, .inl (ci0 2))) ∧ F (r + 2) = some (.inl (dA 0, 192, .inl (ci0 3))) ∧ F (r + 3) = some (.inl (dA 0, 26, .inl (fun _ => 0))) ∧ F (r + 4) = some (.inl (dA 0, 4, .inl (fun _ => 0))) ∧ F (r + 5) = some (.inl (dA 4, 24, qrf (fun _ => none))) ∧ F (r + 6) = some (.inl (dA 6, 8, qrf (fun _ => none))) ∧ F (r + 7) = some (.inl (dA 6, 12, qrf (fun j => some (r + 8 + j)))) ∧ (∀ z, z < 12 → F (r + 8 + z) = some (.inl (dA 0, 3, .inl (fun _ => 0)))) ∧ F (r + 20) = some (.inl (dA 6, 30, qrf (fun j => some (r + 21 + j)))) ∧ (∀ z, z < 30 → F (r + 21 + z) = some (.inl (dA 0, 192, .inl (fun _ => 0)))) ∧ F (r + 51) = some (.inl (dA 5, 4, qrf (fun _ => none)))
theorem stF.kept {dA : Nat → ClassId} {F F1 : CF} {r : Nat} (h : stF dA F r) (hk : ∀ q, r ≤ q → q < r + 52 → F1 q = F q) : stF dA F1 r := by
  obtain ⟨h0, h1, h2, h3, h4, h5, h6, h7, h8, h9, h10, h11⟩ := h
  exact ⟨(hk _ (by omega) (by omega)).trans h0, (hk _ (by omega) (by omega)).trans h1, (hk _ (by omega) (by omega)).trans h2, (hk _ (by omega) (by omega)).trans h3, (hk _ (by omega) (by omega)).trans h4, (hk _ (by omega) (by omega)).trans h5, (hk _ (by omega) (by omega)).trans h6, (hk _ (by omega) (by omega)).trans h7, fun z hz => (hk _ (by omega) (by omega)).trans (h8 z hz), (hk _ (by omega) (by omega)).trans h9, fun z hz => (hk _ (by omega) (by omega)).trans (h10 z hz), (hk _ (by omega) (by omega)).trans h11⟩
def ctP (D : va_G) (dA : Nat → ClassId) (F : CF) (M : Nat) : State → Prop := fun U => kk D dA U ∧ kx U ∧ aoI U ∧ kG dA U ∧ gW D F M U.heap
theorem fb_ct {D : va_G} {dA : Nat → ClassId} {F : CF} {M : Nat} {av : List Value} : FrameBlind (va_Pc av (ctP D dA F M)) := fun A U g mk q => ⟨q.1, q.2.1.moved (u := U) (U := U.calling g mk A) (Vm.Alike.refl U.vm), kx.same (s := U) (U := U.calling g mk A) rfl q.2.2.1, aoI.moved (u := U) (U := U.calling g mk A) (Vm.Alike.refl U.vm) q.2.2.2.1, kG.moved (u := U) (U := U.calling g mk A) (Vm.Alike.refl U.vm) q.2.2.2.2.1, q.2.2.2.2.2⟩
theorem ctP.warm {D : va_G} {dA : Nat → ClassId} {F : CF} {M : Nat} {s U : State} (hW : s.WarmedH U.vm) (h : kk D dA s ∧ kx s ∧ aoI s ∧ kG dA s ∧ gW D F M U.heap) : ctP D dA F M U := ⟨h.1.moved hW.alike, h.2.1.warm hW, h.2.2.1.moved hW.alike, h.2.2.2.1.moved hW.alike, h.2.2.2.2⟩
def btP (D : va_G) (dA : Nat → ClassId) (F : CF) : State → Prop := fun U => kk D dA U ∧ kG dA U ∧ wd D F U.heap
theorem fb_bt {D : va_G} {dA : Nat → ClassId} {F : CF} {av : List Value} : FrameBlind (va_Pc av (btP D dA F)) := fun A U g mk q => ⟨q.1, q.2.1.moved (u := U) (U := U.calling g mk A) (Vm.Alike.refl U.vm), kG.moved (u := U) (U := U.calling g mk A) (Vm.Alike.refl U.vm) q.2.2.1, q.2.2.2⟩
theorem gS.run {D : va_G} {F : CF} {M N q0 r : Nat} {H0 H H1 : Heap} {locs L : List Loc} (h : gS q0 H0 H locs) (hG : gW D F M H) (hlow : ∀ q : Nat, q < r → H1[q]? = H[q]?) (hz : H1.size = N) (hr : q0 ≤ r) (hM : M ≤ N ∧ r + 52 ≤ N) (hL : ∀ x ∈ L, r ≤ x.base ∧ x.base < r + 52) : gS q0 H0 H1 (locs ++ L) := by
  have hz0 := hG.2.1
  refine ⟨by have := h.1; omega, fun q hq => (hlow q (by omega)).trans (h.2.1 q hq), fun x hx => ?_⟩
  rcases List.mem_append.mp hx with h1 | h1
  · exact ⟨(h.2.2 x h1).1, Nat.lt_of_lt_of_le (h.2.2 x h1).2 (by omega)⟩
  · exact ⟨Nat.le_trans hr (hL x h1).1, Nat.lt_of_lt_of_le (hL x h1).2 (by omega)⟩
theorem gS.more {D : va_G} {F : CF} {M q0 r : Nat} {H0 H : Heap} {locs L : List Loc} (h : gS q0 H0 H locs) (hG : gW D F M H) (hr : q0 ≤ r) (hM : r + 52 ≤ M) (hL : ∀ x ∈ L, r ≤ x.base ∧ x.base < r + 52) : gS q0 H0 H (locs ++ L) := h.run hG (fun _ _ => rfl) hG.2.1 hr ⟨Nat.le_refl _, hM⟩ hL
abbrev rmX1_init : Room := { frames := 3, cells := 51, slots := 6103, locals := 140 }
theorem hdX1_init : yX1_init.cls ≠ "java/lang/invoke/MethodHandle" ∧ yX1_init.cls ≠ "java/lang/invoke/VarHandle" ∧ (parseMethodDescriptor yX1_init.desc).map (fun d => d.parameters.length) = some 0 := by decide +kernel
abbrev rmX1_be0 : Room := { frames := 4, cells := 0, slots := 0, locals := 130 }
theorem hdX1_be0 : yX1_be.cls = RX1 ∧ yX1_be.cls ≠ "java/lang/invoke/MethodHandle" ∧ yX1_be.cls ≠ "java/lang/invoke/VarHandle" ∧ (parseMethodDescriptor yX1_be.desc).map (fun d => d.parameters.length) = some 1 := by decide +kernel
abbrev rmX0_init : Room := { frames := 5, cells := 114, slots := 13634, locals := 180 }
theorem hdX0_init : yX0_init.cls ≠ "java/lang/invoke/MethodHandle" ∧ yX0_init.cls ≠ "java/lang/invoke/VarHandle" ∧ (parseMethodDescriptor yX0_init.desc).map (fun d => d.parameters.length) = some 0 := by decide +kernel
def stX (D : va_G) (dA : Nat → ClassId) (F : CF) (r : Nat) (H0 H1 : Heap) : Prop := (∀ q : Nat, q < r → H1[q]? = H0[q]?) ∧ ∃ F1, gW D F1 (r + 52) H1 ∧ (∀ q : Nat, q < r → F1 q = F q) ∧ stF dA F1 r
def x0X (D : va_G) (dA : Nat → ClassId) (a : Nat) (H0 H1 : Heap) : Prop := H1.size = a + 115 ∧ (∀ q : Nat, q < a → H1[q]? = H0[q]?) ∧ ∀ i, i < 115 → va_at D classes (a + i, cwd dA a i (ci0 i) (fun _ => none)) H1
section CG3
variable {p : Program} {l : Launch} {e : Env} {R : Room} {s : State} {m : MethodId} {args : Array Value} {below : List Frame} {meth : Method} {c : Code} {H : Heap} {locs : List Loc} {cells slots : Nat} {Q : State → Prop}
variable {D : va_G} {dA : Nat → ClassId} {F0_ : CF}

theorem mX1_init {E0 : CF} {r : Nat} (hr : E0 r = some (.inr (1, [.null, .null, .null, .null, .null, .null, .null, .null, .null]))) : Met l yX1_init (ws_ yX1_init cX1_init 1 none) rmX1_init (va_Pc [.ref r] (ctP D dA E0 (r + 1))) (hQ none (stX D dA E0 r)) 51 6103 (fun z => r ≤ z ∧ z < r + 52) := by
  refine en_G (by decide +kernel) rfl (Nat.le_of_ble_eq_true rfl) (fun p e s m below meth c ls C hin hP hl => ?_)
  obtain ⟨hx, hb, hr0, hml, hown, hts, hlocks⟩ := id C
  obtain ⟨hK, hX, hao, hkG, hG⟩ := hP
  have hS : gS r s.heap s.heap [] := gS.rf
  have hlo : ∀ q : Nat, q < r → E0 q = E0 q := fun _ _ => rfl
  have hG : gW D E0 (r + 1) s.heap := hG
  refine lv_aload_n hx hb dX1_init_0 rfl (lv_at hl 0 rfl) ?_
  refine W.objInit hx hb hown (hts _ q207) (hts _ q200) (hts _ q201) rfl (by rw [hml]; exact hl.1) rfl dX1_init_1 (Nat.le_of_ble_eq_true rfl) (Nat.le_of_ble_eq_true rfl) ?_
  refine W.eq (g2 := F0 m 4 ls []) rfl ?_
  refine lv_aload_n hx hb dX1_init_4 rfl (lv_at hl 0 rfl) ?_
  refine lv_bipush (v := 7) hx hb dX1_init_5 (by decide) ?_
  refine gw_newi (nn := 7) C hK hG hS (by omega) (by decide) (by decide) (by decide) ⟨Nat.le_of_ble_eq_true rfl, Nat.le_of_ble_eq_true rfl⟩ dX1_init_7 (fun H hG hS => ?_)
  obtain ⟨E1, eE1⟩ : ∃ z, z = gset E0 (r + 1) (.inl (dA 0, 7, .inl (fun _ => 0))) := ⟨_, rfl⟩
  rw [← eE1] at hG
  have hr : E1 r = some (.inr (1, [.null, .null, .null, .null, .null, .null, .null, .null, .null])) := Eq.trans (by rw [eE1, gset_ne (by omega)]) (hr)
  have hlo : ∀ q : Nat, q < r → E1 q = E0 q := fun q hq => Eq.trans (by rw [eE1, gset_ne (by omega)]) (hlo q hq)
  have h1 : E1 (r + 1) = some (.inl (dA 0, 7, .inl (fun _ => 0))) := by rw [eE1]; exact gset_eq
  have hG : gW D E1 (r + 2) H := hG
  refine gw_put (ci := 1) in_X1 tyX1 tyX1_ok nmX1 rfl C hK hG hS 0 (by decide) q221 rfl (Or.inr ⟨rfl, hin, rfl⟩) hr (by show 0 < 9; omega) (Nat.le_refl _) (tyX1_ok 0 (by decide)) rfl rfl dX1_init_9 (fun H locs hG hS => ?_)
  have hG : gW D (gset E1 r (.inr (1, [.ref (r + 1), .null, .null, .null, .null, .null, .null, .null, .null]))) (r + 2) H := hG
  obtain ⟨E2, eE2⟩ : ∃ z, z = gset E1 r (.inr (1, [.ref (r + 1), .null, .null, .null, .null, .null, .null, .null, .null])) := ⟨_, rfl⟩
  rw [← eE2] at hG
  have h1 : E2 (r + 1) = some (.inl (dA 0, 7, .inl (fun _ => 0))) := Eq.trans (by rw [eE2, gset_ne (by omega)]) (h1)
  have hlo : ∀ q : Nat, q < r → E2 q = E0 q := fun q hq => Eq.trans (by rw [eE2, gset_ne (by omega)]) (hlo q hq)
  have hr : E2 r = some (.inr (1, [.ref (r + 1), .null, .null, .null, .null, .null, .null, .null, .null])) := by rw [eE2]; exact gset_eq
  refine lv_aload_n hx hb dX1_init_12 rfl (lv_at hl 0 rfl) ?_
  refine lv_sipush (v := 192) hx hb dX1_init_13 (by decide) ?_
  refine gw_newi (nn := 192) C hK hG hS (by omega) (by decide) (by decide) (by decide) ⟨Nat.le_of_ble_eq_true rfl, Nat.le_of_ble_eq_true rfl⟩ dX1_init_16 (fun H hG hS => ?_)
  obtain ⟨E3, eE3⟩ : ∃ z, z = gset E2 (r + 2) (.inl (dA 0, 192, .inl (fun _ => 0))) := ⟨_, rfl⟩
  rw [← eE3] at hG
  have hr : E3 r = some (.inr (1, [.ref (r + 1), .null, .null, .null, .null, .null, .null, .null, .null])) := Eq.trans (by rw [eE3, gset_ne (by omega)]) (hr)
  have h1 : E3 (r + 1) = some (.inl (dA 0, 7, .inl (fun _ => 0))) := Eq.trans (by rw [eE3, gset_ne (by omega)]) (h1)
  have hlo : ∀ q : Nat, q < r → E3 q = E0 q := fun q hq => Eq.trans (by rw [eE3, gset_ne (by omega)]) (hlo q hq)
  have h2 : E3 (r + 2) = some (.inl (dA 0, 192, .inl (fun _ => 0))) := by rw [eE3]; exact gset_eq
  have hG : gW D E3 (r + 3) H := hG
  refine gw_put (ci := 1) in_X1 tyX1 tyX1_ok nmX1 rfl C hK hG hS 1 (by decide) q223 rfl (Or.inr ⟨rfl, hin, rfl⟩) hr (by show 1 < 9; omega) (Nat.le_refl _) (tyX1_ok 1 (by decide)) rfl rfl dX1_init_18 (fun H locs hG hS => ?_)
  have hG : gW D (gset E3 r (.inr (1, [.ref (r + 1), .ref (r + 2), .null, .null, .null, .null, .null, .null, .null]))) (r + 3) H := hG
  obtain ⟨E4, eE4⟩ : ∃ z, z = gset E3 r (.inr (1, [.ref (r + 1), .ref (r + 2), .null, .null, .null, .null, .null, .null, .null])) := ⟨_, rfl⟩
  rw [← eE4] at hG
  have h1 : E4 (r + 1) = some (.inl (dA 0, 7, .inl (fun _ => 0))) := Eq.trans (by rw [eE4, gset_ne (by omega)]) (h1)
  have h2 : E4 (r + 2) = some (.inl (dA 0, 192, .inl (fun _ => 0))) := Eq.trans (by rw [eE4, gset_ne (by omega)]) (h2)
  have hlo : ∀ q : Nat, q < r → E4 q = E0 q := fun q hq => Eq.trans (by rw [eE4, gset_ne (by omega)]) (hlo q hq)
  have hr : E4 r = some (.inr (1, [.ref (r + 1), .ref (r + 2), .null, .null, .null, .null, .null, .null, .null])) := by rw [eE4]; exact gset_eq
  refine lv_aload_n hx hb dX1_init_21 rfl (lv_at hl 0 rfl) ?_
  refine lv_bipush (v := 26) hx hb dX1_init_22 (by decide) ?_
  refine gw_newi (nn := 26) C hK hG hS (by omega) (by decide) (by decide) (by decide) ⟨Nat.le_of_ble_eq_true rfl, Nat.le_of_ble_eq_true rfl⟩ dX1_init_24 (fun H hG hS => ?_)
  obtain ⟨E5, eE5⟩ : ∃ z, z = gset E4 (r + 3) (.inl (dA 0, 26, .inl (fun _ => 0))) := ⟨_, rfl⟩
  rw [← eE5] at hG
  have hr : E5 r = some (.inr (1, [.ref (r + 1), .ref (r + 2), .null, .null, .null, .null, .null, .null, .null])) := Eq.trans (by rw [eE5, gset_ne (by omega)]) (hr)
  have h1 : E5 (r + 1) = some (.inl (dA 0, 7, .inl (fun _ => 0))) := Eq.trans (by rw [eE5, gset_ne (by omega)]) (h1)
  have h2 : E5 (r + 2) = some (.inl (dA 0, 192, .inl (fun _ => 0))) := Eq.trans (by rw [eE5, gset_ne (by omega)]) (h2)
  have hlo : ∀ q : Nat, q < r → E5 q = E0 q := fun q hq => Eq.trans (by rw [eE5, gset_ne (by omega)]) (hlo q hq)
  have h3 : E5 (r + 3) = some (.inl (dA 0, 26, .inl (fun _ => 0))) := by rw [eE5]; exact gset_eq
  have hG : gW D E5 (r + 4) H := hG
  refine gw_put (ci := 1) in_X1 tyX1 tyX1_ok nmX1 rfl C hK hG hS 2 (by decide) q225 rfl (Or.inr ⟨rfl, hin, rfl⟩) hr (by show 2 < 9; omega) (Nat.le_refl _) (tyX1_ok 2 (by decide)) rfl rfl dX1_init_26 (fun H locs hG hS => ?_)
  have hG : gW D (gset E5 r (.inr (1, [.ref (r + 1), .ref (r + 2), .ref (r + 3), .null, .null, .null, .null, .null, .null]))) (r + 4) H := hG
  obtain ⟨E6, eE6⟩ : ∃ z, z = gset E5 r (.inr (1, [.ref (r + 1), .ref (r + 2), .ref (r + 3), .null, .null, .null, .null, .null, .null])) := ⟨_, rfl⟩
  rw [← eE6] at hG
  have h1 : E6 (r + 1) = some (.inl (dA 0, 7, .inl (fun _ => 0))) := Eq.trans (by rw [eE6, gset_ne (by omega)]) (h1)
  have h2 : E6 (r + 2) = some (.inl (dA 0, 192, .inl (fun _ => 0))) := Eq.trans (by rw [eE6, gset_ne (by omega)]) (h2)
  have h3 : E6 (r + 3) = some (.inl (dA 0, 26, .inl (fun _ => 0))) := Eq.trans (by rw [eE6, gset_ne (by omega)]) (h3)
  have hlo : ∀ q : Nat, q < r → E6 q = E0 q := fun q hq => Eq.trans (by rw [eE6, gset_ne (by omega)]) (hlo q hq)
  have hr : E6 r = some (.inr (1, [.ref (r + 1), .ref (r + 2), .ref (r + 3), .null, .null, .null, .null, .null, .null])) := by rw [eE6]; exact gset_eq
  refine lv_aload_n hx hb dX1_init_29 rfl (lv_at hl 0 rfl) ?_
  refine lv_iconst (v := 4) hx hb dX1_init_30 (by decide) ?_
  refine gw_newi (nn := 4) C hK hG hS (by omega) (by decide) (by decide) (by decide) ⟨Nat.le_of_ble_eq_true rfl, Nat.le_of_ble_eq_true rfl⟩ dX1_init_31 (fun H hG hS => ?_)
  obtain ⟨E7, eE7⟩ : ∃ z, z = gset E6 (r + 4) (.inl (dA 0, 4, .inl (fun _ => 0))) := ⟨_, rfl⟩
  rw [← eE7] at hG
  have hr : E7 r = some (.inr (1, [.ref (r + 1), .ref (r + 2), .ref (r + 3), .null, .null, .null, .null, .null, .null])) := Eq.trans (by rw [eE7, gset_ne (by omega)]) (hr)
  have h1 : E7 (r + 1) = some (.inl (dA 0, 7, .inl (fun _ => 0))) := Eq.trans (by rw [eE7, gset_ne (by omega)]) (h1)
  have h2 : E7 (r + 2) = some (.inl (dA 0, 192, .inl (fun _ => 0))) := Eq.trans (by rw [eE7, gset_ne (by omega)]) (h2)
  have h3 : E7 (r + 3) = some (.inl (dA 0, 26, .inl (fun _ => 0))) := Eq.trans (by rw [eE7, gset_ne (by omega)]) (h3)
  have hlo : ∀ q : Nat, q < r → E7 q = E0 q := fun q hq => Eq.trans (by rw [eE7, gset_ne (by omega)]) (hlo q hq)
  have h4 : E7 (r + 4) = some (.inl (dA 0, 4, .inl (fun _ => 0))) := by rw [eE7]; exact gset_eq
  have hG : gW D E7 (r + 5) H := hG
  refine gw_put (ci := 1) in_X1 tyX1 tyX1_ok nmX1 rfl C hK hG hS 3 (by decide) q227 rfl (Or.inr ⟨rfl, hin, rfl⟩) hr (by show 3 < 9; omega) (Nat.le_refl _) (tyX1_ok 3 (by decide)) rfl rfl dX1_init_33 (fun H locs hG hS => ?_)
  have hG : gW D (gset E7 r (.inr (1, [.ref (r + 1), .ref (r + 2), .ref (r + 3), .ref (r + 4), .null, .null, .null, .null, .null]))) (r + 5) H := hG
  obtain ⟨E8, eE8⟩ : ∃ z, z = gset E7 r (.inr (1, [.ref (r + 1), .ref (r + 2), .ref (r + 3), .ref (r + 4), .null, .null, .null, .null, .null])) := ⟨_, rfl⟩
  rw [← eE8] at hG
  have h1 : E8 (r + 1) = some (.inl (dA 0, 7, .inl (fun _ => 0))) := Eq.trans (by rw [eE8, gset_ne (by omega)]) (h1)
  have h2 : E8 (r + 2) = some (.inl (dA 0, 192, .inl (fun _ => 0))) := Eq.trans (by rw [eE8, gset_ne (by omega)]) (h2)
  have h3 : E8 (r + 3) = some (.inl (dA 0, 26, .inl (fun _ => 0))) := Eq.trans (by rw [eE8, gset_ne (by omega)]) (h3)
  have h4 : E8 (r + 4) = some (.inl (dA 0, 4, .inl (fun _ => 0))) := Eq.trans (by rw [eE8, gset_ne (by omega)]) (h4)
  have hlo : ∀ q : Nat, q < r → E8 q = E0 q := fun q hq => Eq.trans (by rw [eE8, gset_ne (by omega)]) (hlo q hq)
  have hr : E8 r = some (.inr (1, [.ref (r + 1), .ref (r + 2), .ref (r + 3), .ref (r + 4), .null, .null, .null, .null, .null])) := by rw [eE8]; exact gset_eq
  refine lv_aload_n hx hb dX1_init_36 rfl (lv_at hl 0 rfl) ?_
  refine lv_bipush (v := 24) hx hb dX1_init_37 (by decide) ?_
  refine gw_newC (jA := 4) (nn := 24) C hK (hX.2.2.2.1 "LettersOnStrike$Word" (by decide +kernel)) hG hS (by omega) rfl q208 (by decide) (by decide) (by decide) ⟨Nat.le_of_ble_eq_true rfl, Nat.le_of_ble_eq_true rfl⟩ dX1_init_39 (fun H hG hS => ?_)
  obtain ⟨E9, eE9⟩ : ∃ z, z = gset E8 (r + 5) (.inl (dA 4, 24, qrf (fun _ => none))) := ⟨_, rfl⟩
  rw [← eE9] at hG
  have hr : E9 r = some (.inr (1, [.ref (r + 1), .ref (r + 2), .ref (r + 3), .ref (r + 4), .null, .null, .null, .null, .null])) := Eq.trans (by rw [eE9, gset_ne (by omega)]) (hr)
  have h1 : E9 (r + 1) = some (.inl (dA 0, 7, .inl (fun _ => 0))) := Eq.trans (by rw [eE9, gset_ne (by omega)]) (h1)
  have h2 : E9 (r + 2) = some (.inl (dA 0, 192, .inl (fun _ => 0))) := Eq.trans (by rw [eE9, gset_ne (by omega)]) (h2)
  have h3 : E9 (r + 3) = some (.inl (dA 0, 26, .inl (fun _ => 0))) := Eq.trans (by rw [eE9, gset_ne (by omega)]) (h3)
  have h4 : E9 (r + 4) = some (.inl (dA 0, 4, .inl (fun _ => 0))) := Eq.trans (by rw [eE9, gset_ne (by omega)]) (h4)
  have hlo : ∀ q : Nat, q < r → E9 q = E0 q := fun q hq => Eq.trans (by rw [eE9, gset_ne (by omega)]) (hlo q hq)
  have h5 : E9 (r + 5) = some (.inl (dA 4, 24, qrf (fun _ => none))) := by rw [eE9]; exact gset_eq
  have hG : gW D E9 (r + 6) H := hG
  refine gw_put (ci := 1) in_X1 tyX1 tyX1_ok nmX1 rfl C hK hG hS 4 (by decide) q229 rfl (Or.inr ⟨rfl, hin, rfl⟩) hr (by show 4 < 9; omega) (Nat.le_refl _) (tyX1_ok 4 (by decide)) rfl rfl dX1_init_42 (fun H locs hG hS => ?_)
  have hG : gW D (gset E9 r (.inr (1, [.ref (r + 1), .ref (r + 2), .ref (r + 3), .ref (r + 4), .ref (r + 5), .null, .null, .null, .null]))) (r + 6) H := hG
  obtain ⟨E10, eE10⟩ : ∃ z, z = gset E9 r (.inr (1, [.ref (r + 1), .ref (r + 2), .ref (r + 3), .ref (r + 4), .ref (r + 5), .null, .null, .null, .null])) := ⟨_, rfl⟩
  rw [← eE10] at hG
  have h1 : E10 (r + 1) = some (.inl (dA 0, 7, .inl (fun _ => 0))) := Eq.trans (by rw [eE10, gset_ne (by omega)]) (h1)
  have h2 : E10 (r + 2) = some (.inl (dA 0, 192, .inl (fun _ => 0))) := Eq.trans (by rw [eE10, gset_ne (by omega)]) (h2)
  have h3 : E10 (r + 3) = some (.inl (dA 0, 26, .inl (fun _ => 0))) := Eq.trans (by rw [eE10, gset_ne (by omega)]) (h3)
  have h4 : E10 (r + 4) = some (.inl (dA 0, 4, .inl (fun _ => 0))) := Eq.trans (by rw [eE10, gset_ne (by omega)]) (h4)
  have h5 : E10 (r + 5) = some (.inl (dA 4, 24, qrf (fun _ => none))) := Eq.trans (by rw [eE10, gset_ne (by omega)]) (h5)
  have hlo : ∀ q : Nat, q < r → E10 q = E0 q := fun q hq => Eq.trans (by rw [eE10, gset_ne (by omega)]) (hlo q hq)
  have hr : E10 r = some (.inr (1, [.ref (r + 1), .ref (r + 2), .ref (r + 3), .ref (r + 4), .ref (r + 5), .null, .null, .null, .null])) := by rw [eE10]; exact gset_eq
  refine lv_aload_n hx hb dX1_init_45 rfl (lv_at hl 0 rfl) ?_
  refine lv_bipush (v := 8) hx hb dX1_init_46 (by decide) ?_
  refine gw_newA (nn := 8) C hK hao hG hS (by omega) q210 (by decide) (by decide) (by decide) ⟨Nat.le_of_ble_eq_true rfl, Nat.le_of_ble_eq_true rfl⟩ dX1_init_48 (fun H hG hS => ?_)
  obtain ⟨E11, eE11⟩ : ∃ z, z = gset E10 (r + 6) (.inl (dA 6, 8, qrf (fun _ => none))) := ⟨_, rfl⟩
  rw [← eE11] at hG
  have hr : E11 r = some (.inr (1, [.ref (r + 1), .ref (r + 2), .ref (r + 3), .ref (r + 4), .ref (r + 5), .null, .null, .null, .null])) := Eq.trans (by rw [eE11, gset_ne (by omega)]) (hr)
  have h1 : E11 (r + 1) = some (.inl (dA 0, 7, .inl (fun _ => 0))) := Eq.trans (by rw [eE11, gset_ne (by omega)]) (h1)
  have h2 : E11 (r + 2) = some (.inl (dA 0, 192, .inl (fun _ => 0))) := Eq.trans (by rw [eE11, gset_ne (by omega)]) (h2)
  have h3 : E11 (r + 3) = some (.inl (dA 0, 26, .inl (fun _ => 0))) := Eq.trans (by rw [eE11, gset_ne (by omega)]) (h3)
  have h4 : E11 (r + 4) = some (.inl (dA 0, 4, .inl (fun _ => 0))) := Eq.trans (by rw [eE11, gset_ne (by omega)]) (h4)
  have h5 : E11 (r + 5) = some (.inl (dA 4, 24, qrf (fun _ => none))) := Eq.trans (by rw [eE11, gset_ne (by omega)]) (h5)
  have hlo : ∀ q : Nat, q < r → E11 q = E0 q := fun q hq => Eq.trans (by rw [eE11, gset_ne (by omega)]) (hlo q hq)
  have h6 : E11 (r + 6) = some (.inl (dA 6, 8, qrf (fun _ => none))) := by rw [eE11]; exact gset_eq
  have hG : gW D E11 (r + 7) H := hG
  refine gw_put (ci := 1) in_X1 tyX1 tyX1_ok nmX1 rfl C hK hG hS 5 (by decide) q231 rfl (Or.inr ⟨rfl, hin, rfl⟩) hr (by show 5 < 9; omega) (Nat.le_refl _) (tyX1_ok 5 (by decide)) rfl rfl dX1_init_51 (fun H locs hG hS => ?_)
  have hG : gW D (gset E11 r (.inr (1, [.ref (r + 1), .ref (r + 2), .ref (r + 3), .ref (r + 4), .ref (r + 5), .ref (r + 6), .null, .null, .null]))) (r + 7) H := hG
  obtain ⟨E12, eE12⟩ : ∃ z, z = gset E11 r (.inr (1, [.ref (r + 1), .ref (r + 2), .ref (r + 3), .ref (r + 4), .ref (r + 5), .ref (r + 6), .null, .null, .null])) := ⟨_, rfl⟩
  rw [← eE12] at hG
  have h1 : E12 (r + 1) = some (.inl (dA 0, 7, .inl (fun _ => 0))) := Eq.trans (by rw [eE12, gset_ne (by omega)]) (h1)
  have h2 : E12 (r + 2) = some (.inl (dA 0, 192, .inl (fun _ => 0))) := Eq.trans (by rw [eE12, gset_ne (by omega)]) (h2)
  have h3 : E12 (r + 3) = some (.inl (dA 0, 26, .inl (fun _ => 0))) := Eq.trans (by rw [eE12, gset_ne (by omega)]) (h3)
  have h4 : E12 (r + 4) = some (.inl (dA 0, 4, .inl (fun _ => 0))) := Eq.trans (by rw [eE12, gset_ne (by omega)]) (h4)
  have h5 : E12 (r + 5) = some (.inl (dA 4, 24, qrf (fun _ => none))) := Eq.trans (by rw [eE12, gset_ne (by omega)]) (h5)
  have h6 : E12 (r + 6) = some (.inl (dA 6, 8, qrf (fun _ => none))) := Eq.trans (by rw [eE12, gset_ne (by omega)]) (h6)
  have hlo : ∀ q : Nat, q < r → E12 q = E0 q := fun q hq => Eq.trans (by rw [eE12, gset_ne (by omega)]) (hlo q hq)
  have hr : E12 r = some (.inr (1, [.ref (r + 1), .ref (r + 2), .ref (r + 3), .ref (r + 4), .ref (r + 5), .ref (r + 6), .null, .null, .null])) := by rw [eE12]; exact gset_eq
  refine lv_aload_n hx hb dX1_init_54 rfl (lv_at hl 0 rfl) ?_
  refine lv_bipush (v := 12) hx hb dX1_init_55 (by decide) ?_
  refine lv_iconst (v := 3) hx hb dX1_init_57 (by decide) ?_
  refine gw_multi (nn := 12) (kn := 3) C hK hao hG hS (by omega) q212 (by decide) (by decide) (by decide) (by decide) (by decide) (by decide) ⟨Nat.le_of_ble_eq_true rfl, Nat.le_of_ble_eq_true rfl⟩ dX1_init_58 (fun H locs hG hS => ?_)
  obtain ⟨E13, eE13⟩ : ∃ z, z = gmul dA E12 (r + 7) 12 3 := ⟨_, rfl⟩
  rw [← eE13] at hG
  have hr : E13 r = some (.inr (1, [.ref (r + 1), .ref (r + 2), .ref (r + 3), .ref (r + 4), .ref (r + 5), .ref (r + 6), .null, .null, .null])) := Eq.trans (by rw [eE13, gmul_ne (by omega)]) (hr)
  have h1 : E13 (r + 1) = some (.inl (dA 0, 7, .inl (fun _ => 0))) := Eq.trans (by rw [eE13, gmul_ne (by omega)]) (h1)
  have h2 : E13 (r + 2) = some (.inl (dA 0, 192, .inl (fun _ => 0))) := Eq.trans (by rw [eE13, gmul_ne (by omega)]) (h2)
  have h3 : E13 (r + 3) = some (.inl (dA 0, 26, .inl (fun _ => 0))) := Eq.trans (by rw [eE13, gmul_ne (by omega)]) (h3)
  have h4 : E13 (r + 4) = some (.inl (dA 0, 4, .inl (fun _ => 0))) := Eq.trans (by rw [eE13, gmul_ne (by omega)]) (h4)
  have h5 : E13 (r + 5) = some (.inl (dA 4, 24, qrf (fun _ => none))) := Eq.trans (by rw [eE13, gmul_ne (by omega)]) (h5)
  have h6 : E13 (r + 6) = some (.inl (dA 6, 8, qrf (fun _ => none))) := Eq.trans (by rw [eE13, gmul_ne (by omega)]) (h6)
  have hlo : ∀ q : Nat, q < r → E13 q = E0 q := fun q hq => Eq.trans (by rw [eE13, gmul_ne (by omega)]) (hlo q hq)
  have h7 : E13 (r + 7) = some (.inl (dA 6, 12, qrf (fun j => some (r + 8 + j)))) := by rw [eE13]; unfold gmul; exact if_pos rfl
  have m8 : ∀ z, z < 12 → E13 (r + 8 + z) = some (.inl (dA 0, 3, .inl (fun _ => 0))) := fun z hz => by rw [eE13]; unfold gmul; rw [if_neg (by omega), if_pos (by omega)]
  have hG : gW D E13 (r + 20) H := hG
  refine gw_put (ci := 1) in_X1 tyX1 tyX1_ok nmX1 rfl C hK hG hS 6 (by decide) q233 rfl (Or.inr ⟨rfl, hin, rfl⟩) hr (by show 6 < 9; omega) (Nat.le_refl _) (tyX1_ok 6 (by decide)) rfl rfl dX1_init_62 (fun H locs hG hS => ?_)
  have hG : gW D (gset E13 r (.inr (1, [.ref (r + 1), .ref (r + 2), .ref (r + 3), .ref (r + 4), .ref (r + 5), .ref (r + 6), .ref (r + 7), .null, .null]))) (r + 20) H := hG
  obtain ⟨E14, eE14⟩ : ∃ z, z = gset E13 r (.inr (1, [.ref (r + 1), .ref (r + 2), .ref (r + 3), .ref (r + 4), .ref (r + 5), .ref (r + 6), .ref (r + 7), .null, .null])) := ⟨_, rfl⟩
  rw [← eE14] at hG
  have h1 : E14 (r + 1) = some (.inl (dA 0, 7, .inl (fun _ => 0))) := Eq.trans (by rw [eE14, gset_ne (by omega)]) (h1)
  have h2 : E14 (r + 2) = some (.inl (dA 0, 192, .inl (fun _ => 0))) := Eq.trans (by rw [eE14, gset_ne (by omega)]) (h2)
  have h3 : E14 (r + 3) = some (.inl (dA 0, 26, .inl (fun _ => 0))) := Eq.trans (by rw [eE14, gset_ne (by omega)]) (h3)
  have h4 : E14 (r + 4) = some (.inl (dA 0, 4, .inl (fun _ => 0))) := Eq.trans (by rw [eE14, gset_ne (by omega)]) (h4)
  have h5 : E14 (r + 5) = some (.inl (dA 4, 24, qrf (fun _ => none))) := Eq.trans (by rw [eE14, gset_ne (by omega)]) (h5)
  have h6 : E14 (r + 6) = some (.inl (dA 6, 8, qrf (fun _ => none))) := Eq.trans (by rw [eE14, gset_ne (by omega)]) (h6)
  have h7 : E14 (r + 7) = some (.inl (dA 6, 12, qrf (fun j => some (r + 8 + j)))) := Eq.trans (by rw [eE14, gset_ne (by omega)]) (h7)
  have m8 : ∀ z, z < 12 → E14 (r + 8 + z) = some (.inl (dA 0, 3, .inl (fun _ => 0))) := fun z hz => Eq.trans (by rw [eE14, gset_ne (by omega)]) (m8 z hz)
  have hlo : ∀ q : Nat, q < r → E14 q = E0 q := fun q hq => Eq.trans (by rw [eE14, gset_ne (by omega)]) (hlo q hq)
  have hr : E14 r = some (.inr (1, [.ref (r + 1), .ref (r + 2), .ref (r + 3), .ref (r + 4), .ref (r + 5), .ref (r + 6), .ref (r + 7), .null, .null])) := by rw [eE14]; exact gset_eq
  refine lv_aload_n hx hb dX1_init_65 rfl (lv_at hl 0 rfl) ?_
  refine lv_bipush (v := 30) hx hb dX1_init_66 (by decide) ?_
  refine lv_sipush (v := 192) hx hb dX1_init_68 (by decide) ?_
  refine gw_multi (nn := 30) (kn := 192) C hK hao hG hS (by omega) q212 (by decide) (by decide) (by decide) (by decide) (by decide) (by decide) ⟨Nat.le_of_ble_eq_true rfl, Nat.le_of_ble_eq_true rfl⟩ dX1_init_71 (fun H locs hG hS => ?_)
  obtain ⟨E15, eE15⟩ : ∃ z, z = gmul dA E14 (r + 20) 30 192 := ⟨_, rfl⟩
  rw [← eE15] at hG
  have hr : E15 r = some (.inr (1, [.ref (r + 1), .ref (r + 2), .ref (r + 3), .ref (r + 4), .ref (r + 5), .ref (r + 6), .ref (r + 7), .null, .null])) := Eq.trans (by rw [eE15, gmul_ne (by omega)]) (hr)
  have h1 : E15 (r + 1) = some (.inl (dA 0, 7, .inl (fun _ => 0))) := Eq.trans (by rw [eE15, gmul_ne (by omega)]) (h1)
  have h2 : E15 (r + 2) = some (.inl (dA 0, 192, .inl (fun _ => 0))) := Eq.trans (by rw [eE15, gmul_ne (by omega)]) (h2)
  have h3 : E15 (r + 3) = some (.inl (dA 0, 26, .inl (fun _ => 0))) := Eq.trans (by rw [eE15, gmul_ne (by omega)]) (h3)
  have h4 : E15 (r + 4) = some (.inl (dA 0, 4, .inl (fun _ => 0))) := Eq.trans (by rw [eE15, gmul_ne (by omega)]) (h4)
  have h5 : E15 (r + 5) = some (.inl (dA 4, 24, qrf (fun _ => none))) := Eq.trans (by rw [eE15, gmul_ne (by omega)]) (h5)
  have h6 : E15 (r + 6) = some (.inl (dA 6, 8, qrf (fun _ => none))) := Eq.trans (by rw [eE15, gmul_ne (by omega)]) (h6)
  have h7 : E15 (r + 7) = some (.inl (dA 6, 12, qrf (fun j => some (r + 8 + j)))) := Eq.trans (by rw [eE15, gmul_ne (by omega)]) (h7)
  have m8 : ∀ z, z < 12 → E15 (r + 8 + z) = some (.inl (dA 0, 3, .inl (fun _ => 0))) := fun z hz => Eq.trans (by rw [eE15, gmul_ne (by omega)]) (m8 z hz)
  have hlo : ∀ q : Nat, q < r → E15 q = E0 q := fun q hq => Eq.trans (by rw [eE15, gmul_ne (by omega)]) (hlo q hq)
  have h20 : E15 (r + 20) = some (.inl (dA 6, 30, qrf (fun j => some (r + 21 + j)))) := by rw [eE15]; unfold gmul; exact if_pos rfl
  have m21 : ∀ z, z < 30 → E15 (r + 21 + z) = some (.inl (dA 0, 192, .inl (fun _ => 0))) := fun z hz => by rw [eE15]; unfold gmul; rw [if_neg (by omega), if_pos (by omega)]
  have hG : gW D E15 (r + 51) H := hG
  refine gw_put (ci := 1) in_X1 tyX1 tyX1_ok nmX1 rfl C hK hG hS 7 (by decide) q235 rfl (Or.inr ⟨rfl, hin, rfl⟩) hr (by show 7 < 9; omega) (Nat.le_refl _) (tyX1_ok 7 (by decide)) rfl rfl dX1_init_75 (fun H locs hG hS => ?_)
  have hG : gW D (gset E15 r (.inr (1, [.ref (r + 1), .ref (r + 2), .ref (r + 3), .ref (r + 4), .ref (r + 5), .ref (r + 6), .ref (r + 7), .ref (r + 20), .null]))) (r + 51) H := hG
  obtain ⟨E16, eE16⟩ : ∃ z, z = gset E15 r (.inr (1, [.ref (r + 1), .ref (r + 2), .ref (r + 3), .ref (r + 4), .ref (r + 5), .ref (r + 6), .ref (r + 7), .ref (r + 20), .null])) := ⟨_, rfl⟩
  rw [← eE16] at hG
  have h1 : E16 (r + 1) = some (.inl (dA 0, 7, .inl (fun _ => 0))) := Eq.trans (by rw [eE16, gset_ne (by omega)]) (h1)
  have h2 : E16 (r + 2) = some (.inl (dA 0, 192, .inl (fun _ => 0))) := Eq.trans (by rw [eE16, gset_ne (by omega)]) (h2)
  have h3 : E16 (r + 3) = some (.inl (dA 0, 26, .inl (fun _ => 0))) := Eq.trans (by rw [eE16, gset_ne (by omega)]) (h3)
  have h4 : E16 (r + 4) = some (.inl (dA 0, 4, .inl (fun _ => 0))) := Eq.trans (by rw [eE16, gset_ne (by omega)]) (h4)
  have h5 : E16 (r + 5) = some (.inl (dA 4, 24, qrf (fun _ => none))) := Eq.trans (by rw [eE16, gset_ne (by omega)]) (h5)
  have h6 : E16 (r + 6) = some (.inl (dA 6, 8, qrf (fun _ => none))) := Eq.trans (by rw [eE16, gset_ne (by omega)]) (h6)
  have h7 : E16 (r + 7) = some (.inl (dA 6, 12, qrf (fun j => some (r + 8 + j)))) := Eq.trans (by rw [eE16, gset_ne (by omega)]) (h7)
  have h20 : E16 (r + 20) = some (.inl (dA 6, 30, qrf (fun j => some (r + 21 + j)))) := Eq.trans (by rw [eE16, gset_ne (by omega)]) (h20)
  have m8 : ∀ z, z < 12 → E16 (r + 8 + z) = some (.inl (dA 0, 3, .inl (fun _ => 0))) := fun z hz => Eq.trans (by rw [eE16, gset_ne (by omega)]) (m8 z hz)
  have m21 : ∀ z, z < 30 → E16 (r + 21 + z) = some (.inl (dA 0, 192, .inl (fun _ => 0))) := fun z hz => Eq.trans (by rw [eE16, gset_ne (by omega)]) (m21 z hz)
  have hlo : ∀ q : Nat, q < r → E16 q = E0 q := fun q hq => Eq.trans (by rw [eE16, gset_ne (by omega)]) (hlo q hq)
  have hr : E16 r = some (.inr (1, [.ref (r + 1), .ref (r + 2), .ref (r + 3), .ref (r + 4), .ref (r + 5), .ref (r + 6), .ref (r + 7), .ref (r + 20), .null])) := by rw [eE16]; exact gset_eq
  refine lv_aload_n hx hb dX1_init_78 rfl (lv_at hl 0 rfl) ?_
  refine lv_iconst (v := 4) hx hb dX1_init_79 (by decide) ?_
  refine gw_newC (jA := 5) (nn := 4) C hK (hX.2.2.2.1 "LettersOnStrike$Text" (by decide +kernel)) hG hS (by omega) rfl q213 (by decide) (by decide) (by decide) ⟨Nat.le_of_ble_eq_true rfl, Nat.le_of_ble_eq_true rfl⟩ dX1_init_80 (fun H hG hS => ?_)
  obtain ⟨E17, eE17⟩ : ∃ z, z = gset E16 (r + 51) (.inl (dA 5, 4, qrf (fun _ => none))) := ⟨_, rfl⟩
  rw [← eE17] at hG
  have hr : E17 r = some (.inr (1, [.ref (r + 1), .ref (r + 2), .ref (r + 3), .ref (r + 4), .ref (r + 5), .ref (r + 6), .ref (r + 7), .ref (r + 20), .null])) := Eq.trans (by rw [eE17, gset_ne (by omega)]) (hr)
  have h1 : E17 (r + 1) = some (.inl (dA 0, 7, .inl (fun _ => 0))) := Eq.trans (by rw [eE17, gset_ne (by omega)]) (h1)
  have h2 : E17 (r + 2) = some (.inl (dA 0, 192, .inl (fun _ => 0))) := Eq.trans (by rw [eE17, gset_ne (by omega)]) (h2)
  have h3 : E17 (r + 3) = some (.inl (dA 0, 26, .inl (fun _ => 0))) := Eq.trans (by rw [eE17, gset_ne (by omega)]) (h3)
  have h4 : E17 (r + 4) = some (.inl (dA 0, 4, .inl (fun _ => 0))) := Eq.trans (by rw [eE17, gset_ne (by omega)]) (h4)
  have h5 : E17 (r + 5) = some (.inl (dA 4, 24, qrf (fun _ => none))) := Eq.trans (by rw [eE17, gset_ne (by omega)]) (h5)
  have h6 : E17 (r + 6) = some (.inl (dA 6, 8, qrf (fun _ => none))) := Eq.trans (by rw [eE17, gset_ne (by omega)]) (h6)
  have h7 : E17 (r + 7) = some (.inl (dA 6, 12, qrf (fun j => some (r + 8 + j)))) := Eq.trans (by rw [eE17, gset_ne (by omega)]) (h7)
  have h20 : E17 (r + 20) = some (.inl (dA 6, 30, qrf (fun j => some (r + 21 + j)))) := Eq.trans (by rw [eE17, gset_ne (by omega)]) (h20)
  have m8 : ∀ z, z < 12 → E17 (r + 8 + z) = some (.inl (dA 0, 3, .inl (fun _ => 0))) := fun z hz => Eq.trans (by rw [eE17, gset_ne (by omega)]) (m8 z hz)
  have m21 : ∀ z, z < 30 → E17 (r + 21 + z) = some (.inl (dA 0, 192, .inl (fun _ => 0))) := fun z hz => Eq.trans (by rw [eE17, gset_ne (by omega)]) (m21 z hz)
  have hlo : ∀ q : Nat, q < r → E17 q = E0 q := fun q hq => Eq.trans (by rw [eE17, gset_ne (by omega)]) (hlo q hq)
  have h51 : E17 (r + 51) = some (.inl (dA 5, 4, qrf (fun _ => none))) := by rw [eE17]; exact gset_eq
  have hG : gW D E17 (r + 52) H := hG
  refine gw_put (ci := 1) in_X1 tyX1 tyX1_ok nmX1 rfl C hK hG hS 8 (by decide) q237 rfl (Or.inr ⟨rfl, hin, rfl⟩) hr (by show 8 < 9; omega) (Nat.le_refl _) (tyX1_ok 8 (by decide)) rfl rfl dX1_init_83 (fun H locs hG hS => ?_)
  have hG : gW D (gset E17 r (.inr (1, [.ref (r + 1), .ref (r + 2), .ref (r + 3), .ref (r + 4), .ref (r + 5), .ref (r + 6), .ref (r + 7), .ref (r + 20), .ref (r + 51)]))) (r + 52) H := hG
  obtain ⟨E18, eE18⟩ : ∃ z, z = gset E17 r (.inr (1, [.ref (r + 1), .ref (r + 2), .ref (r + 3), .ref (r + 4), .ref (r + 5), .ref (r + 6), .ref (r + 7), .ref (r + 20), .ref (r + 51)])) := ⟨_, rfl⟩
  rw [← eE18] at hG
  have h1 : E18 (r + 1) = some (.inl (dA 0, 7, .inl (fun _ => 0))) := Eq.trans (by rw [eE18, gset_ne (by omega)]) (h1)
  have h2 : E18 (r + 2) = some (.inl (dA 0, 192, .inl (fun _ => 0))) := Eq.trans (by rw [eE18, gset_ne (by omega)]) (h2)
  have h3 : E18 (r + 3) = some (.inl (dA 0, 26, .inl (fun _ => 0))) := Eq.trans (by rw [eE18, gset_ne (by omega)]) (h3)
  have h4 : E18 (r + 4) = some (.inl (dA 0, 4, .inl (fun _ => 0))) := Eq.trans (by rw [eE18, gset_ne (by omega)]) (h4)
  have h5 : E18 (r + 5) = some (.inl (dA 4, 24, qrf (fun _ => none))) := Eq.trans (by rw [eE18, gset_ne (by omega)]) (h5)
  have h6 : E18 (r + 6) = some (.inl (dA 6, 8, qrf (fun _ => none))) := Eq.trans (by rw [eE18, gset_ne (by omega)]) (h6)
  have h7 : E18 (r + 7) = some (.inl (dA 6, 12, qrf (fun j => some (r + 8 + j)))) := Eq.trans (by rw [eE18, gset_ne (by omega)]) (h7)
  have h20 : E18 (r + 20) = some (.inl (dA 6, 30, qrf (fun j => some (r + 21 + j)))) := Eq.trans (by rw [eE18, gset_ne (by omega)]) (h20)
  have h51 : E18 (r + 51) = some (.inl (dA 5, 4, qrf (fun _ => none))) := Eq.trans (by rw [eE18, gset_ne (by omega)]) (h51)
  have m8 : ∀ z, z < 12 → E18 (r + 8 + z) = some (.inl (dA 0, 3, .inl (fun _ => 0))) := fun z hz => Eq.trans (by rw [eE18, gset_ne (by omega)]) (m8 z hz)
  have m21 : ∀ z, z < 30 → E18 (r + 21 + z) = some (.inl (dA 0, 192, .inl (fun _ => 0))) := fun z hz => Eq.trans (by rw [eE18, gset_ne (by omega)]) (m21 z hz)
  have hlo : ∀ q : Nat, q < r → E18 q = E0 q := fun q hq => Eq.trans (by rw [eE18, gset_ne (by omega)]) (hlo q hq)
  have hr : E18 r = some (.inr (1, [.ref (r + 1), .ref (r + 2), .ref (r + 3), .ref (r + 4), .ref (r + 5), .ref (r + 6), .ref (r + 7), .ref (r + 20), .ref (r + 51)])) := by rw [eE18]; exact gset_eq
  refine lv_aload_n hx hb dX1_init_86 rfl (lv_at hl 0 rfl) ?_
  refine gw_get (ci := 1) in_X1 rfl C hK hG.1 0 (by decide) q221 rfl hr (v := .ref (r + 1)) rfl dX1_init_87 ?_
  refine lv_iconst (v := 3) hx hb dX1_init_90 (by decide) ?_
  refine lv_iconst (v := -1) hx hb dX1_init_91 (by decide) ?_
  refine gw_ist C hK hG hS h1 (by omega) (by unfold vp_in; decide) dX1_init_92 (fun H locs hG hS => ?_)
  obtain ⟨E19, eE19⟩ : ∃ z, z = gset E18 (r + 1) (.inl (dA 0, 7, .inl (upd (fun _ => 0) (3 : Int32).toNatClampNeg (-1)))) := ⟨_, rfl⟩
  rw [← eE19] at hG
  have hr : E19 r = some (.inr (1, [.ref (r + 1), .ref (r + 2), .ref (r + 3), .ref (r + 4), .ref (r + 5), .ref (r + 6), .ref (r + 7), .ref (r + 20), .ref (r + 51)])) := Eq.trans (by rw [eE19, gset_ne (by omega)]) (hr)
  have h2 : E19 (r + 2) = some (.inl (dA 0, 192, .inl (fun _ => 0))) := Eq.trans (by rw [eE19, gset_ne (by omega)]) (h2)
  have h3 : E19 (r + 3) = some (.inl (dA 0, 26, .inl (fun _ => 0))) := Eq.trans (by rw [eE19, gset_ne (by omega)]) (h3)
  have h4 : E19 (r + 4) = some (.inl (dA 0, 4, .inl (fun _ => 0))) := Eq.trans (by rw [eE19, gset_ne (by omega)]) (h4)
  have h5 : E19 (r + 5) = some (.inl (dA 4, 24, qrf (fun _ => none))) := Eq.trans (by rw [eE19, gset_ne (by omega)]) (h5)
  have h6 : E19 (r + 6) = some (.inl (dA 6, 8, qrf (fun _ => none))) := Eq.trans (by rw [eE19, gset_ne (by omega)]) (h6)
  have h7 : E19 (r + 7) = some (.inl (dA 6, 12, qrf (fun j => some (r + 8 + j)))) := Eq.trans (by rw [eE19, gset_ne (by omega)]) (h7)
  have h20 : E19 (r + 20) = some (.inl (dA 6, 30, qrf (fun j => some (r + 21 + j)))) := Eq.trans (by rw [eE19, gset_ne (by omega)]) (h20)
  have h51 : E19 (r + 51) = some (.inl (dA 5, 4, qrf (fun _ => none))) := Eq.trans (by rw [eE19, gset_ne (by omega)]) (h51)
  have m8 : ∀ z, z < 12 → E19 (r + 8 + z) = some (.inl (dA 0, 3, .inl (fun _ => 0))) := fun z hz => Eq.trans (by rw [eE19, gset_ne (by omega)]) (m8 z hz)
  have m21 : ∀ z, z < 30 → E19 (r + 21 + z) = some (.inl (dA 0, 192, .inl (fun _ => 0))) := fun z hz => Eq.trans (by rw [eE19, gset_ne (by omega)]) (m21 z hz)
  have hlo : ∀ q : Nat, q < r → E19 q = E0 q := fun q hq => Eq.trans (by rw [eE19, gset_ne (by omega)]) (hlo q hq)
  have h1 : E19 (r + 1) = some (.inl (dA 0, 7, .inl (upd (fun _ => 0) (3 : Int32).toNatClampNeg (-1)))) := by rw [eE19]; exact gset_eq
  refine lv_aload_n hx hb dX1_init_93 rfl (lv_at hl 0 rfl) ?_
  refine gw_get (ci := 1) in_X1 rfl C hK hG.1 1 (by decide) q223 rfl hr (v := .ref (r + 2)) rfl dX1_init_94 ?_
  refine lv_iconst (v := 2) hx hb dX1_init_97 (by decide) ?_
  refine lv_bipush (v := 17) hx hb dX1_init_98 (by decide) ?_
  refine gw_ist C hK hG hS h2 (by omega) (by unfold vp_in; decide) dX1_init_100 (fun H locs hG hS => ?_)
  obtain ⟨E20, eE20⟩ : ∃ z, z = gset E19 (r + 2) (.inl (dA 0, 192, .inl (upd (fun _ => 0) (2 : Int32).toNatClampNeg 17))) := ⟨_, rfl⟩
  rw [← eE20] at hG
  have hr : E20 r = some (.inr (1, [.ref (r + 1), .ref (r + 2), .ref (r + 3), .ref (r + 4), .ref (r + 5), .ref (r + 6), .ref (r + 7), .ref (r + 20), .ref (r + 51)])) := Eq.trans (by rw [eE20, gset_ne (by omega)]) (hr)
  have h1 : E20 (r + 1) = some (.inl (dA 0, 7, .inl (upd (fun _ => 0) (3 : Int32).toNatClampNeg (-1)))) := Eq.trans (by rw [eE20, gset_ne (by omega)]) (h1)
  have h3 : E20 (r + 3) = some (.inl (dA 0, 26, .inl (fun _ => 0))) := Eq.trans (by rw [eE20, gset_ne (by omega)]) (h3)
  have h4 : E20 (r + 4) = some (.inl (dA 0, 4, .inl (fun _ => 0))) := Eq.trans (by rw [eE20, gset_ne (by omega)]) (h4)
  have h5 : E20 (r + 5) = some (.inl (dA 4, 24, qrf (fun _ => none))) := Eq.trans (by rw [eE20, gset_ne (by omega)]) (h5)
  have h6 : E20 (r + 6) = some (.inl (dA 6, 8, qrf (fun _ => none))) := Eq.trans (by rw [eE20, gset_ne (by omega)]) (h6)
  have h7 : E20 (r + 7) = some (.inl (dA 6, 12, qrf (fun j => some (r + 8 + j)))) := Eq.trans (by rw [eE20, gset_ne (by omega)]) (h7)
  have h20 : E20 (r + 20) = some (.inl (dA 6, 30, qrf (fun j => some (r + 21 + j)))) := Eq.trans (by rw [eE20, gset_ne (by omega)]) (h20)
  have h51 : E20 (r + 51) = some (.inl (dA 5, 4, qrf (fun _ => none))) := Eq.trans (by rw [eE20, gset_ne (by omega)]) (h51)
  have m8 : ∀ z, z < 12 → E20 (r + 8 + z) = some (.inl (dA 0, 3, .inl (fun _ => 0))) := fun z hz => Eq.trans (by rw [eE20, gset_ne (by omega)]) (m8 z hz)
  have m21 : ∀ z, z < 30 → E20 (r + 21 + z) = some (.inl (dA 0, 192, .inl (fun _ => 0))) := fun z hz => Eq.trans (by rw [eE20, gset_ne (by omega)]) (m21 z hz)
  have hlo : ∀ q : Nat, q < r → E20 q = E0 q := fun q hq => Eq.trans (by rw [eE20, gset_ne (by omega)]) (hlo q hq)
  have h2 : E20 (r + 2) = some (.inl (dA 0, 192, .inl (upd (fun _ => 0) (2 : Int32).toNatClampNeg 17))) := by rw [eE20]; exact gset_eq
  refine lv_aload_n hx hb dX1_init_101 rfl (lv_at hl 0 rfl) ?_
  refine gw_get (ci := 1) in_X1 rfl C hK hG.1 1 (by decide) q223 rfl hr (v := .ref (r + 2)) rfl dX1_init_102 ?_
  refine lv_bipush (v := 29) hx hb dX1_init_105 (by decide) ?_
  refine lv_bipush (v := 55) hx hb dX1_init_107 (by decide) ?_
  refine lv_iconst (v := 1) hx hb dX1_init_109 (by decide) ?_
  refine W.eq (g2 := F0 m 110 ls [.int 1, .int (nI 55), .int (nI 29), .ref (r + 2)]) rfl ?_
  refine gw_fill C hK hG hS hl.1 h2 (by omega) (by decide) (by decide) (by decide) q215 ⟨Nat.le_of_ble_eq_true rfl, Nat.le_of_ble_eq_true rfl⟩ ⟨Nat.le_of_ble_eq_true rfl, Nat.le_of_ble_eq_true rfl⟩ (Nat.le_of_ble_eq_true rfl) dX1_init_110 (fun H locs hG hS => ?_)
  obtain ⟨E21, eE21⟩ : ∃ z, z = gset E20 (r + 2) (.inl (dA 0, 192, .inl (flf (upd (fun _ => 0) (2 : Int32).toNatClampNeg 17) 29 55 1))) := ⟨_, rfl⟩
  rw [← eE21] at hG
  have hr : E21 r = some (.inr (1, [.ref (r + 1), .ref (r + 2), .ref (r + 3), .ref (r + 4), .ref (r + 5), .ref (r + 6), .ref (r + 7), .ref (r + 20), .ref (r + 51)])) := Eq.trans (by rw [eE21, gset_ne (by omega)]) (hr)
  have h1 : E21 (r + 1) = some (.inl (dA 0, 7, .inl (upd (fun _ => 0) (3 : Int32).toNatClampNeg (-1)))) := Eq.trans (by rw [eE21, gset_ne (by omega)]) (h1)
  have h3 : E21 (r + 3) = some (.inl (dA 0, 26, .inl (fun _ => 0))) := Eq.trans (by rw [eE21, gset_ne (by omega)]) (h3)
  have h4 : E21 (r + 4) = some (.inl (dA 0, 4, .inl (fun _ => 0))) := Eq.trans (by rw [eE21, gset_ne (by omega)]) (h4)
  have h5 : E21 (r + 5) = some (.inl (dA 4, 24, qrf (fun _ => none))) := Eq.trans (by rw [eE21, gset_ne (by omega)]) (h5)
  have h6 : E21 (r + 6) = some (.inl (dA 6, 8, qrf (fun _ => none))) := Eq.trans (by rw [eE21, gset_ne (by omega)]) (h6)
  have h7 : E21 (r + 7) = some (.inl (dA 6, 12, qrf (fun j => some (r + 8 + j)))) := Eq.trans (by rw [eE21, gset_ne (by omega)]) (h7)
  have h20 : E21 (r + 20) = some (.inl (dA 6, 30, qrf (fun j => some (r + 21 + j)))) := Eq.trans (by rw [eE21, gset_ne (by omega)]) (h20)
  have h51 : E21 (r + 51) = some (.inl (dA 5, 4, qrf (fun _ => none))) := Eq.trans (by rw [eE21, gset_ne (by omega)]) (h51)
  have m8 : ∀ z, z < 12 → E21 (r + 8 + z) = some (.inl (dA 0, 3, .inl (fun _ => 0))) := fun z hz => Eq.trans (by rw [eE21, gset_ne (by omega)]) (m8 z hz)
  have m21 : ∀ z, z < 30 → E21 (r + 21 + z) = some (.inl (dA 0, 192, .inl (fun _ => 0))) := fun z hz => Eq.trans (by rw [eE21, gset_ne (by omega)]) (m21 z hz)
  have hlo : ∀ q : Nat, q < r → E21 q = E0 q := fun q hq => Eq.trans (by rw [eE21, gset_ne (by omega)]) (hlo q hq)
  have h2 : E21 (r + 2) = some (.inl (dA 0, 192, .inl (flf (upd (fun _ => 0) (2 : Int32).toNatClampNeg 17) 29 55 1))) := by rw [eE21]; exact gset_eq
  refine lv_aload_n hx hb dX1_init_113 rfl (lv_at hl 0 rfl) ?_
  refine gw_get (ci := 1) in_X1 rfl C hK hG.1 1 (by decide) q223 rfl hr (v := .ref (r + 2)) rfl dX1_init_114 ?_
  refine lv_bipush (v := 55) hx hb dX1_init_117 (by decide) ?_
  refine lv_bipush (v := 81) hx hb dX1_init_119 (by decide) ?_
  refine lv_iconst (v := -1) hx hb dX1_init_121 (by decide) ?_
  refine W.eq (g2 := F0 m 122 ls [.int (-1), .int (nI 81), .int (nI 55), .ref (r + 2)]) rfl ?_
  refine gw_fill C hK hG hS hl.1 h2 (by omega) (by decide) (by decide) (by decide) q215 ⟨Nat.le_of_ble_eq_true rfl, Nat.le_of_ble_eq_true rfl⟩ ⟨Nat.le_of_ble_eq_true rfl, Nat.le_of_ble_eq_true rfl⟩ (Nat.le_of_ble_eq_true rfl) dX1_init_122 (fun H locs hG hS => ?_)
  obtain ⟨E22, eE22⟩ : ∃ z, z = gset E21 (r + 2) (.inl (dA 0, 192, .inl (flf (flf (upd (fun _ => 0) (2 : Int32).toNatClampNeg 17) 29 55 1) 55 81 (-1)))) := ⟨_, rfl⟩
  rw [← eE22] at hG
  have hr : E22 r = some (.inr (1, [.ref (r + 1), .ref (r + 2), .ref (r + 3), .ref (r + 4), .ref (r + 5), .ref (r + 6), .ref (r + 7), .ref (r + 20), .ref (r + 51)])) := Eq.trans (by rw [eE22, gset_ne (by omega)]) (hr)
  have h1 : E22 (r + 1) = some (.inl (dA 0, 7, .inl (upd (fun _ => 0) (3 : Int32).toNatClampNeg (-1)))) := Eq.trans (by rw [eE22, gset_ne (by omega)]) (h1)
  have h3 : E22 (r + 3) = some (.inl (dA 0, 26, .inl (fun _ => 0))) := Eq.trans (by rw [eE22, gset_ne (by omega)]) (h3)
  have h4 : E22 (r + 4) = some (.inl (dA 0, 4, .inl (fun _ => 0))) := Eq.trans (by rw [eE22, gset_ne (by omega)]) (h4)
  have h5 : E22 (r + 5) = some (.inl (dA 4, 24, qrf (fun _ => none))) := Eq.trans (by rw [eE22, gset_ne (by omega)]) (h5)
  have h6 : E22 (r + 6) = some (.inl (dA 6, 8, qrf (fun _ => none))) := Eq.trans (by rw [eE22, gset_ne (by omega)]) (h6)
  have h7 : E22 (r + 7) = some (.inl (dA 6, 12, qrf (fun j => some (r + 8 + j)))) := Eq.trans (by rw [eE22, gset_ne (by omega)]) (h7)
  have h20 : E22 (r + 20) = some (.inl (dA 6, 30, qrf (fun j => some (r + 21 + j)))) := Eq.trans (by rw [eE22, gset_ne (by omega)]) (h20)
  have h51 : E22 (r + 51) = some (.inl (dA 5, 4, qrf (fun _ => none))) := Eq.trans (by rw [eE22, gset_ne (by omega)]) (h51)
  have m8 : ∀ z, z < 12 → E22 (r + 8 + z) = some (.inl (dA 0, 3, .inl (fun _ => 0))) := fun z hz => Eq.trans (by rw [eE22, gset_ne (by omega)]) (m8 z hz)
  have m21 : ∀ z, z < 30 → E22 (r + 21 + z) = some (.inl (dA 0, 192, .inl (fun _ => 0))) := fun z hz => Eq.trans (by rw [eE22, gset_ne (by omega)]) (m21 z hz)
  have hlo : ∀ q : Nat, q < r → E22 q = E0 q := fun q hq => Eq.trans (by rw [eE22, gset_ne (by omega)]) (hlo q hq)
  have h2 : E22 (r + 2) = some (.inl (dA 0, 192, .inl (flf (flf (upd (fun _ => 0) (2 : Int32).toNatClampNeg 17) 29 55 1) 55 81 (-1)))) := by rw [eE22]; exact gset_eq
  have z3 : (3 : Int32).toNatClampNeg = 3 := by decide
  have z2 : (2 : Int32).toNatClampNeg = 2 := by decide
  rw [z3] at h1
  rw [z2] at h2
  exact W.vret hx hb hr0 (fun u hu _ => ⟨rfl, by rw [hu]; exact ⟨hS.2.1, E22, hG, hlo, hr, h1, h2, h3, h4, h5, h6, h7, m8, h20, m21, h51⟩⟩) (fun x hx => ⟨(hS.2.2 x hx).1, Nat.lt_of_lt_of_eq (hS.2.2 x hx).2 hG.2.1⟩) dX1_init_125 hlocks
theorem mX1_be0 {E0 : CF} {r r1 : Nat} (h1 : stF dA E0 r) (h2 : stF dA E0 r1) : Met l yX1_be (ws_ yX1_be cX1_be 2 none) rmX1_be0 (va_Pc [.ref r1, .ref r] (btP D dA E0)) (hQ none (fun H0 H1 => H1 = H0)) 0 0 (fun q => r1 ≤ q ∧ q < r1 + 52) := by
  refine en_G (by decide +kernel) rfl (Nat.le_of_ble_eq_true rfl) (fun p e s m below meth c ls C hin hP hl => ?_)
  obtain ⟨hx, hb, hr0, hml, hown, hts, hlocks⟩ := id C
  obtain ⟨hK, hkG, hT⟩ := hP
  obtain ⟨a0, a1, a2, a3, a4, a5, a6, a7, a8, a9, a10, a11⟩ := id h1
  obtain ⟨b0, b1, b2, b3, b4, b5, b6, b7, b8, b9, b10, b11⟩ := id h2
  obtain ⟨k0, kA, w1, w2, w3, w4⟩ := id hkG
  obtain ⟨kW, cpW, v1, v2, v3, -⟩ := (hK.2 4 _ rfl).2
  obtain ⟨kT, cpT, y1, y2, y3, -⟩ := (hK.2 5 _ rfl).2
  have clW := (hK.1 3 _ rfl).2
  have clT := (hK.1 5 _ rfl).2
  have hcW : cpW = D.1 3 := Option.some.inj (v3.symm.trans clW.1)
  have hcT : cpT = D.1 5 := Option.some.inj (y3.symm.trans clT.1)
  subst hcW
  subst hcT
  obtain ⟨kEW, hkEW, -⟩ := clW.2
  obtain ⟨kET, hkET, -⟩ := clT.2
  have hL : ∀ x ∈ ([] : List Loc), r1 ≤ x.base ∧ x.base < r1 + 52 := fun x hx => absurd hx List.not_mem_nil
  refine lv_aload_n hx hb dX1_be_0 rfl (lv_at hl 1 rfl) ?_
  refine gw_get (ci := 1) in_X1 rfl C hK hT 0 (by decide) q221 rfl a0 (v := .ref (r + 1)) rfl dX1_be_1 ?_
  refine lv_aload_n hx hb dX1_be_4 rfl (lv_at hl 0 rfl) ?_
  refine gw_get (ci := 1) in_X1 rfl C hK hT 0 (by decide) q221 rfl b0 (v := .ref (r1 + 1)) rfl dX1_be_5 ?_
  refine ncw (fr := fun q => r1 ≤ q ∧ q < r1 + 52) (by decide) C hK hT hl.1 a1 b1 hL ⟨Nat.le_add_right _ _, Nat.add_lt_add_left (by decide) _⟩ q263 ⟨Nat.le_of_ble_eq_true rfl, Nat.le_of_ble_eq_true rfl⟩ ⟨Nat.le_refl _, Nat.le_refl _⟩ (Nat.le_of_ble_eq_true rfl) dX1_be_8 (fun locs hL => ?_)
  refine lv_aload_n hx hb dX1_be_11 rfl (lv_at hl 1 rfl) ?_
  refine gw_get (ci := 1) in_X1 rfl C hK hT 1 (by decide) q223 rfl a0 (v := .ref (r + 2)) rfl dX1_be_12 ?_
  refine lv_aload_n hx hb dX1_be_15 rfl (lv_at hl 0 rfl) ?_
  refine gw_get (ci := 1) in_X1 rfl C hK hT 1 (by decide) q223 rfl b0 (v := .ref (r1 + 2)) rfl dX1_be_16 ?_
  refine ncw (fr := fun q => r1 ≤ q ∧ q < r1 + 52) (by decide) C hK hT hl.1 a2 b2 hL ⟨Nat.le_add_right _ _, Nat.add_lt_add_left (by decide) _⟩ q263 ⟨Nat.le_of_ble_eq_true rfl, Nat.le_of_ble_eq_true rfl⟩ ⟨Nat.le_refl _, Nat.le_refl _⟩ (Nat.le_of_ble_eq_true rfl) dX1_be_19 (fun locs hL => ?_)
  refine lv_aload_n hx hb dX1_be_22 rfl (lv_at hl 1 rfl) ?_
  refine gw_get (ci := 1) in_X1 rfl C hK hT 2 (by decide) q225 rfl a0 (v := .ref (r + 3)) rfl dX1_be_23 ?_
  refine lv_aload_n hx hb dX1_be_26 rfl (lv_at hl 0 rfl) ?_
  refine gw_get (ci := 1) in_X1 rfl C hK hT 2 (by decide) q225 rfl b0 (v := .ref (r1 + 3)) rfl dX1_be_27 ?_
  refine ncw (fr := fun q => r1 ≤ q ∧ q < r1 + 52) (by decide) C hK hT hl.1 a3 b3 hL ⟨Nat.le_add_right _ _, Nat.add_lt_add_left (by decide) _⟩ q263 ⟨Nat.le_of_ble_eq_true rfl, Nat.le_of_ble_eq_true rfl⟩ ⟨Nat.le_refl _, Nat.le_refl _⟩ (Nat.le_of_ble_eq_true rfl) dX1_be_30 (fun locs hL => ?_)
  refine lv_aload_n hx hb dX1_be_33 rfl (lv_at hl 1 rfl) ?_
  refine gw_get (ci := 1) in_X1 rfl C hK hT 3 (by decide) q227 rfl a0 (v := .ref (r + 4)) rfl dX1_be_34 ?_
  refine lv_aload_n hx hb dX1_be_37 rfl (lv_at hl 0 rfl) ?_
  refine gw_get (ci := 1) in_X1 rfl C hK hT 3 (by decide) q227 rfl b0 (v := .ref (r1 + 4)) rfl dX1_be_38 ?_
  refine ncw (fr := fun q => r1 ≤ q ∧ q < r1 + 52) (by decide) C hK hT hl.1 a4 b4 hL ⟨Nat.le_add_right _ _, Nat.add_lt_add_left (by decide) _⟩ q263 ⟨Nat.le_of_ble_eq_true rfl, Nat.le_of_ble_eq_true rfl⟩ ⟨Nat.le_refl _, Nat.le_refl _⟩ (Nat.le_of_ble_eq_true rfl) dX1_be_41 (fun locs hL => ?_)
  refine lv_aload_n hx hb dX1_be_44 rfl (lv_at hl 1 rfl) ?_
  refine gw_get (ci := 1) in_X1 rfl C hK hT 4 (by decide) q229 rfl a0 (v := .ref (r + 5)) rfl dX1_be_45 ?_
  refine lv_iconst (v := 0) hx hb dX1_be_48 (by decide) ?_
  refine lv_aload_n hx hb dX1_be_49 rfl (lv_at hl 0 rfl) ?_
  refine gw_get (ci := 1) in_X1 rfl C hK hT 4 (by decide) q229 rfl b0 (v := .ref (r1 + 5)) rfl dX1_be_50 ?_
  refine lv_iconst (v := 0) hx hb dX1_be_53 (by decide) ?_
  refine lv_bipush (v := 24) hx hb dX1_be_54 (by decide) ?_
  refine ncq (fr := fun q => r1 ≤ q ∧ q < r1 + 52) (w := 4) C hK hT hl.1 rfl (Or.inr ⟨_, rfl⟩) v1 v2 hkEW a5 b5 hL ⟨Nat.le_add_right _ _, Nat.add_lt_add_left (by decide) _⟩ q266 (by decide) (by decide) ⟨Nat.le_of_ble_eq_true rfl, Nat.le_of_ble_eq_true rfl⟩ (Nat.le_of_ble_eq_true rfl) dX1_be_56 (fun locs hL => ?_)
  refine lv_aload_n hx hb dX1_be_59 rfl (lv_at hl 1 rfl) ?_
  refine gw_get (ci := 1) in_X1 rfl C hK hT 5 (by decide) q231 rfl a0 (v := .ref (r + 6)) rfl dX1_be_60 ?_
  refine lv_iconst (v := 0) hx hb dX1_be_63 (by decide) ?_
  refine lv_aload_n hx hb dX1_be_64 rfl (lv_at hl 0 rfl) ?_
  refine gw_get (ci := 1) in_X1 rfl C hK hT 5 (by decide) q231 rfl b0 (v := .ref (r1 + 6)) rfl dX1_be_65 ?_
  refine lv_iconst (v := 0) hx hb dX1_be_68 (by decide) ?_
  refine lv_bipush (v := 8) hx hb dX1_be_69 (by decide) ?_
  refine ncq (fr := fun q => r1 ≤ q ∧ q < r1 + 52) (w := 6) C hK hT hl.1 rfl (Or.inl rfl) w2 w3 w1 a6 b6 hL ⟨Nat.le_add_right _ _, Nat.add_lt_add_left (by decide) _⟩ q266 (by decide) (by decide) ⟨Nat.le_of_ble_eq_true rfl, Nat.le_of_ble_eq_true rfl⟩ (Nat.le_of_ble_eq_true rfl) dX1_be_71 (fun locs hL => ?_)
  refine lv_aload_n hx hb dX1_be_74 rfl (lv_at hl 1 rfl) ?_
  refine gw_get (ci := 1) in_X1 rfl C hK hT 6 (by decide) q233 rfl a0 (v := .ref (r + 7)) rfl dX1_be_75 ?_
  refine lv_aload_n hx hb dX1_be_78 rfl (lv_at hl 0 rfl) ?_
  refine gw_get (ci := 1) in_X1 rfl C hK hT 6 (by decide) q233 rfl b0 (v := .ref (r1 + 7)) rfl dX1_be_79 ?_
  refine ncw2 (fr := fun q => r1 ≤ q ∧ q < r1 + 52) (P := r + 8) (P1 := r1 + 8) (N := 12) (n := 3) (f := fun _ => 0) (by decide) (by decide) C hK hT hl.1 a7 b7 a8 b8 hL (fun q hq => ⟨Nat.le_trans (by omega) hq.1, Nat.lt_of_lt_of_le hq.2 (by omega)⟩) q269 ⟨Nat.le_of_ble_eq_true rfl, Nat.le_of_ble_eq_true rfl⟩ ⟨Nat.le_refl _, Nat.le_refl _⟩ (Nat.le_of_ble_eq_true rfl) dX1_be_82 (fun locs hL => ?_)
  refine lv_aload_n hx hb dX1_be_85 rfl (lv_at hl 1 rfl) ?_
  refine gw_get (ci := 1) in_X1 rfl C hK hT 7 (by decide) q235 rfl a0 (v := .ref (r + 20)) rfl dX1_be_86 ?_
  refine lv_aload_n hx hb dX1_be_89 rfl (lv_at hl 0 rfl) ?_
  refine gw_get (ci := 1) in_X1 rfl C hK hT 7 (by decide) q235 rfl b0 (v := .ref (r1 + 20)) rfl dX1_be_90 ?_
  refine ncw2 (fr := fun q => r1 ≤ q ∧ q < r1 + 52) (P := r + 21) (P1 := r1 + 21) (N := 30) (n := 192) (f := fun _ => 0) (by decide) (by decide) C hK hT hl.1 a9 b9 a10 b10 hL (fun q hq => ⟨Nat.le_trans (by omega) hq.1, Nat.lt_of_lt_of_le hq.2 (by omega)⟩) q269 ⟨Nat.le_of_ble_eq_true rfl, Nat.le_of_ble_eq_true rfl⟩ ⟨Nat.le_refl _, Nat.le_refl _⟩ (Nat.le_of_ble_eq_true rfl) dX1_be_93 (fun locs hL => ?_)
  refine lv_aload_n hx hb dX1_be_96 rfl (lv_at hl 1 rfl) ?_
  refine gw_get (ci := 1) in_X1 rfl C hK hT 8 (by decide) q237 rfl a0 (v := .ref (r + 51)) rfl dX1_be_97 ?_
  refine lv_iconst (v := 0) hx hb dX1_be_100 (by decide) ?_
  refine lv_aload_n hx hb dX1_be_101 rfl (lv_at hl 0 rfl) ?_
  refine gw_get (ci := 1) in_X1 rfl C hK hT 8 (by decide) q237 rfl b0 (v := .ref (r1 + 51)) rfl dX1_be_102 ?_
  refine lv_iconst (v := 0) hx hb dX1_be_105 (by decide) ?_
  refine lv_iconst (v := 4) hx hb dX1_be_106 (by decide) ?_
  refine ncq (fr := fun q => r1 ≤ q ∧ q < r1 + 52) (w := 5) C hK hT hl.1 rfl (Or.inr ⟨_, rfl⟩) y1 y2 hkET a11 b11 hL ⟨Nat.le_add_right _ _, Nat.add_lt_add_left (by decide) _⟩ q266 (by decide) (by decide) ⟨Nat.le_of_ble_eq_true rfl, Nat.le_of_ble_eq_true rfl⟩ (Nat.le_of_ble_eq_true rfl) dX1_be_107 (fun locs hL => ?_)
  exact W.vret hx hb hr0 (fun u hu _ => ⟨rfl, by rw [hu]⟩) hL dX1_be_110 hlocks
theorem ci0_fam {i : Nat} (h : (9 ≤ i ∧ i < 21) ∨ (22 ≤ i ∧ i < 52) ∨ (61 ≤ i ∧ i < 73) ∨ (74 ≤ i ∧ i < 104)) : ci0 i = fun _ => 0 := by
  unfold ci0
  split <;> first | rfl | (exfalso; omega)
theorem mX0_init {E0 : CF} {a : Nat} (hr : E0 a = some (.inr (0, [.null, .null, .null, .int 0, .int 0, .int 0, .null, .null, .null, .null, .null, .null, .int 0, .null, .null, .null, .int 0, .int 0, .int 0, .int 0]))) : Met l yX0_init (ws_ yX0_init cX0_init 1 none) rmX0_init (va_Pc [.ref a] (ctP D dA E0 (a + 1))) (hQ none (x0X D dA a)) 114 13634 (fun z => a ≤ z ∧ z < a + 115) := by
  refine en_G (by decide +kernel) rfl (Nat.le_of_ble_eq_true rfl) (fun p e s m below meth c ls C hin hP hl => ?_)
  obtain ⟨hx, hb, hr0, hml, hown, hts, hlocks⟩ := id C
  obtain ⟨hK, hX, hao, hkG, hG⟩ := hP
  have hS : gS a s.heap s.heap [] := gS.rf
  have hlo : ∀ q : Nat, q < a → E0 q = E0 q := fun _ _ => rfl
  have hG : gW D E0 (a + 1) s.heap := hG
  refine lv_aload_n hx hb dX0_init_0 rfl (lv_at hl 0 rfl) ?_
  refine W.objInit hx hb hown (hts _ q199) (hts _ q200) (hts _ q201) rfl (by rw [hml]; exact hl.1) rfl dX0_init_1 (Nat.le_of_ble_eq_true rfl) (Nat.le_of_ble_eq_true rfl) ?_
  refine W.eq (g2 := F0 m 4 ls []) rfl ?_
  refine lv_aload_n hx hb dX0_init_4 rfl (lv_at hl 0 rfl) ?_
  refine gw_new (ci := 1) (fs := [.null, .null, .null, .null, .null, .null, .null, .null, .null]) in_X1 tyX1 tyX1_ok rfl C hK hG hS (by omega) q202 q203 q159 (fun j hj => by match j, hj with | 0, _ => rfl | 1, _ => rfl | 2, _ => rfl | 3, _ => rfl | 4, _ => rfl | 5, _ => rfl | 6, _ => rfl | 7, _ => rfl | 8, _ => rfl | z + 9, h => exact absurd h (by omega)) ⟨Nat.le_of_ble_eq_true rfl, Nat.le_of_ble_eq_true rfl⟩ dX0_init_5 (fun H hG hS => ?_)
  obtain ⟨E1, eE1⟩ : ∃ z, z = gset E0 (a + 1) (.inr (1, [.null, .null, .null, .null, .null, .null, .null, .null, .null])) := ⟨_, rfl⟩
  rw [← eE1] at hG
  have hr : E1 a = some (.inr (0, [.null, .null, .null, .int 0, .int 0, .int 0, .null, .null, .null, .null, .null, .null, .int 0, .null, .null, .null, .int 0, .int 0, .int 0, .int 0])) := Eq.trans (by rw [eE1, gset_ne (by omega)]) (hr)
  have hlo : ∀ q : Nat, q < a → E1 q = E0 q := fun q hq => Eq.trans (by rw [eE1, gset_ne (by omega)]) (hlo q hq)
  have hN : E1 (a + 1) = some (.inr (1, [.null, .null, .null, .null, .null, .null, .null, .null, .null])) := by rw [eE1]; exact gset_eq
  have hG : gW D E1 ((a + 1) + 1) H := hG
  refine lv_dup hx hb dX0_init_8 rfl ?_
  refine rn_void (va_runI (As := []) (rest := [.ref (a + 1), .ref a]) ⟨hx, hb, hml, hown, hts⟩ (mX1_init hN) (cwI 0 hts (lw_meth q206) rfl rfl rfl (hts _ q159) (hts _ q204) (hts _ q205) rfl hdX1_init ⟨Nat.le_of_ble_eq_true rfl, Nat.le_of_ble_eq_true rfl⟩) ⟨fb_ct, fun U hU hW => ⟨rfl, ctP.warm hW (by rw [hU]; exact ⟨hK, hX, hao, hkG, hG⟩)⟩⟩ rfl rfl hl.1 rfl (lv_room (Nat.le_of_ble_eq_true rfl)) dX0_init_9 ⟨Nat.le_of_ble_eq_true rfl, Nat.le_of_ble_eq_true rfl⟩) (fun H1 L hXX hL => ?_)
  obtain ⟨hlow, E2, hG1, hlw, hs1⟩ := hXX
  replace hS := hS.run hG hlow hG1.2.1 (by omega) (by omega) hL
  replace hG := hG1
  have hr : E2 a = some (.inr (0, [.null, .null, .null, .int 0, .int 0, .int 0, .null, .null, .null, .null, .null, .null, .int 0, .null, .null, .null, .int 0, .int 0, .int 0, .int 0])) := (hlw _ (by omega)).trans (hr)
  have hlo : ∀ q : Nat, q < a → E2 q = E0 q := fun q hq => (hlw _ (by omega)).trans (hlo q hq)
  have hG : gW D E2 (a + 53) H1 := hG
  clear hlw hlow hN hL
  refine gw_put (ci := 0) in_X0 tyX0 tyX0_ok nmX0 rfl C hK hG hS 0 (by decide) q272 rfl (Or.inr ⟨rfl, hin, rfl⟩) hr (by show 0 < 20; omega) (Nat.le_refl _) (tyX0_ok 0 (by decide)) rfl rfl dX0_init_12 (fun H locs hG hS => ?_)
  have hG : gW D (gset E2 a (.inr (0, [.ref (a + 1), .null, .null, .int 0, .int 0, .int 0, .null, .null, .null, .null, .null, .null, .int 0, .null, .null, .null, .int 0, .int 0, .int 0, .int 0]))) (a + 53) H := hG
  obtain ⟨E3, eE3⟩ : ∃ z, z = gset E2 a (.inr (0, [.ref (a + 1), .null, .null, .int 0, .int 0, .int 0, .null, .null, .null, .null, .null, .null, .int 0, .null, .null, .null, .int 0, .int 0, .int 0, .int 0])) := ⟨_, rfl⟩
  rw [← eE3] at hG
  have hs1 : stF dA E3 (a + 1) := hs1.kept (fun q h1 h2 => Eq.trans (by rw [eE3, gset_ne (by omega)]) (rfl))
  have hlo : ∀ q : Nat, q < a → E3 q = E0 q := fun q hq => Eq.trans (by rw [eE3, gset_ne (by omega)]) (hlo q hq)
  have hr : E3 a = some (.inr (0, [.ref (a + 1), .null, .null, .int 0, .int 0, .int 0, .null, .null, .null, .null, .null, .null, .int 0, .null, .null, .null, .int 0, .int 0, .int 0, .int 0])) := by rw [eE3]; exact gset_eq
  refine lv_aload_n hx hb dX0_init_15 rfl (lv_at hl 0 rfl) ?_
  refine gw_new (ci := 1) (fs := [.null, .null, .null, .null, .null, .null, .null, .null, .null]) in_X1 tyX1 tyX1_ok rfl C hK hG hS (by omega) q202 q203 q159 (fun j hj => by match j, hj with | 0, _ => rfl | 1, _ => rfl | 2, _ => rfl | 3, _ => rfl | 4, _ => rfl | 5, _ => rfl | 6, _ => rfl | 7, _ => rfl | 8, _ => rfl | z + 9, h => exact absurd h (by omega)) ⟨Nat.le_of_ble_eq_true rfl, Nat.le_of_ble_eq_true rfl⟩ dX0_init_16 (fun H hG hS => ?_)
  obtain ⟨E4, eE4⟩ : ∃ z, z = gset E3 (a + 53) (.inr (1, [.null, .null, .null, .null, .null, .null, .null, .null, .null])) := ⟨_, rfl⟩
  rw [← eE4] at hG
  have hr : E4 a = some (.inr (0, [.ref (a + 1), .null, .null, .int 0, .int 0, .int 0, .null, .null, .null, .null, .null, .null, .int 0, .null, .null, .null, .int 0, .int 0, .int 0, .int 0])) := Eq.trans (by rw [eE4, gset_ne (by omega)]) (hr)
  have hs1 : stF dA E4 (a + 1) := hs1.kept (fun q h1 h2 => Eq.trans (by rw [eE4, gset_ne (by omega)]) (rfl))
  have hlo : ∀ q : Nat, q < a → E4 q = E0 q := fun q hq => Eq.trans (by rw [eE4, gset_ne (by omega)]) (hlo q hq)
  have hN : E4 (a + 53) = some (.inr (1, [.null, .null, .null, .null, .null, .null, .null, .null, .null])) := by rw [eE4]; exact gset_eq
  have hG : gW D E4 ((a + 53) + 1) H := hG
  refine lv_dup hx hb dX0_init_19 rfl ?_
  refine rn_void (va_runI (As := []) (rest := [.ref (a + 53), .ref a]) ⟨hx, hb, hml, hown, hts⟩ (mX1_init hN) (cwI 0 hts (lw_meth q206) rfl rfl rfl (hts _ q159) (hts _ q204) (hts _ q205) rfl hdX1_init ⟨Nat.le_of_ble_eq_true rfl, Nat.le_of_ble_eq_true rfl⟩) ⟨fb_ct, fun U hU hW => ⟨rfl, ctP.warm hW (by rw [hU]; exact ⟨hK, hX, hao, hkG, hG⟩)⟩⟩ rfl rfl hl.1 rfl (lv_room (Nat.le_of_ble_eq_true rfl)) dX0_init_20 ⟨Nat.le_of_ble_eq_true rfl, Nat.le_of_ble_eq_true rfl⟩) (fun H1 L hXX hL => ?_)
  obtain ⟨hlow, E5, hG1, hlw, hs53⟩ := hXX
  replace hS := hS.run hG hlow hG1.2.1 (by omega) (by omega) hL
  replace hG := hG1
  have hr : E5 a = some (.inr (0, [.ref (a + 1), .null, .null, .int 0, .int 0, .int 0, .null, .null, .null, .null, .null, .null, .int 0, .null, .null, .null, .int 0, .int 0, .int 0, .int 0])) := (hlw _ (by omega)).trans (hr)
  have hs1 : stF dA E5 (a + 1) := hs1.kept (fun q h1 h2 => (hlw _ (by omega)).trans (rfl))
  have hlo : ∀ q : Nat, q < a → E5 q = E0 q := fun q hq => (hlw _ (by omega)).trans (hlo q hq)
  have hG : gW D E5 (a + 105) H1 := hG
  clear hlw hlow hN hL
  refine gw_put (ci := 0) in_X0 tyX0 tyX0_ok nmX0 rfl C hK hG hS 1 (by decide) q273 rfl (Or.inr ⟨rfl, hin, rfl⟩) hr (by show 1 < 20; omega) (Nat.le_refl _) (tyX0_ok 1 (by decide)) rfl rfl dX0_init_23 (fun H locs hG hS => ?_)
  have hG : gW D (gset E5 a (.inr (0, [.ref (a + 1), .ref (a + 53), .null, .int 0, .int 0, .int 0, .null, .null, .null, .null, .null, .null, .int 0, .null, .null, .null, .int 0, .int 0, .int 0, .int 0]))) (a + 105) H := hG
  obtain ⟨E6, eE6⟩ : ∃ z, z = gset E5 a (.inr (0, [.ref (a + 1), .ref (a + 53), .null, .int 0, .int 0, .int 0, .null, .null, .null, .null, .null, .null, .int 0, .null, .null, .null, .int 0, .int 0, .int 0, .int 0])) := ⟨_, rfl⟩
  rw [← eE6] at hG
  have hs1 : stF dA E6 (a + 1) := hs1.kept (fun q h1 h2 => Eq.trans (by rw [eE6, gset_ne (by omega)]) (rfl))
  have hs53 : stF dA E6 (a + 53) := hs53.kept (fun q h1 h2 => Eq.trans (by rw [eE6, gset_ne (by omega)]) (rfl))
  have hlo : ∀ q : Nat, q < a → E6 q = E0 q := fun q hq => Eq.trans (by rw [eE6, gset_ne (by omega)]) (hlo q hq)
  have hr : E6 a = some (.inr (0, [.ref (a + 1), .ref (a + 53), .null, .int 0, .int 0, .int 0, .null, .null, .null, .null, .null, .null, .int 0, .null, .null, .null, .int 0, .int 0, .int 0, .int 0])) := by rw [eE6]; exact gset_eq
  refine lv_aload_n hx hb dX0_init_26 rfl (lv_at hl 0 rfl) ?_
  refine lv_sipush (v := 300) hx hb dX0_init_27 (by decide) ?_
  refine gw_newb (nn := 300) C hK hG hS (by omega) (by decide) (by decide) (by decide) ⟨Nat.le_of_ble_eq_true rfl, Nat.le_of_ble_eq_true rfl⟩ dX0_init_30 (fun H hG hS => ?_)
  obtain ⟨E7, eE7⟩ : ∃ z, z = gset E6 (a + 105) (.inl (dA 1, 300, .inl (fun _ => 0))) := ⟨_, rfl⟩
  rw [← eE7] at hG
  have hr : E7 a = some (.inr (0, [.ref (a + 1), .ref (a + 53), .null, .int 0, .int 0, .int 0, .null, .null, .null, .null, .null, .null, .int 0, .null, .null, .null, .int 0, .int 0, .int 0, .int 0])) := Eq.trans (by rw [eE7, gset_ne (by omega)]) (hr)
  have hs1 : stF dA E7 (a + 1) := hs1.kept (fun q h1 h2 => Eq.trans (by rw [eE7, gset_ne (by omega)]) (rfl))
  have hs53 : stF dA E7 (a + 53) := hs53.kept (fun q h1 h2 => Eq.trans (by rw [eE7, gset_ne (by omega)]) (rfl))
  have hlo : ∀ q : Nat, q < a → E7 q = E0 q := fun q hq => Eq.trans (by rw [eE7, gset_ne (by omega)]) (hlo q hq)
  have h105 : E7 (a + 105) = some (.inl (dA 1, 300, .inl (fun _ => 0))) := by rw [eE7]; exact gset_eq
  have hG : gW D E7 (a + 106) H := hG
  refine gw_put (ci := 0) in_X0 tyX0 tyX0_ok nmX0 rfl C hK hG hS 2 (by decide) q274 rfl (Or.inr ⟨rfl, hin, rfl⟩) hr (by show 2 < 20; omega) (Nat.le_refl _) (tyX0_ok 2 (by decide)) rfl rfl dX0_init_32 (fun H locs hG hS => ?_)
  have hG : gW D (gset E7 a (.inr (0, [.ref (a + 1), .ref (a + 53), .ref (a + 105), .int 0, .int 0, .int 0, .null, .null, .null, .null, .null, .null, .int 0, .null, .null, .null, .int 0, .int 0, .int 0, .int 0]))) (a + 106) H := hG
  obtain ⟨E8, eE8⟩ : ∃ z, z = gset E7 a (.inr (0, [.ref (a + 1), .ref (a + 53), .ref (a + 105), .int 0, .int 0, .int 0, .null, .null, .null, .null, .null, .null, .int 0, .null, .null, .null, .int 0, .int 0, .int 0, .int 0])) := ⟨_, rfl⟩
  rw [← eE8] at hG
  have h105 : E8 (a + 105) = some (.inl (dA 1, 300, .inl (fun _ => 0))) := Eq.trans (by rw [eE8, gset_ne (by omega)]) (h105)
  have hs1 : stF dA E8 (a + 1) := hs1.kept (fun q h1 h2 => Eq.trans (by rw [eE8, gset_ne (by omega)]) (rfl))
  have hs53 : stF dA E8 (a + 53) := hs53.kept (fun q h1 h2 => Eq.trans (by rw [eE8, gset_ne (by omega)]) (rfl))
  have hlo : ∀ q : Nat, q < a → E8 q = E0 q := fun q hq => Eq.trans (by rw [eE8, gset_ne (by omega)]) (hlo q hq)
  have hr : E8 a = some (.inr (0, [.ref (a + 1), .ref (a + 53), .ref (a + 105), .int 0, .int 0, .int 0, .null, .null, .null, .null, .null, .null, .int 0, .null, .null, .null, .int 0, .int 0, .int 0, .int 0])) := by rw [eE8]; exact gset_eq
  refine lv_aload_n hx hb dX0_init_35 rfl (lv_at hl 0 rfl) ?_
  refine lv_iconst (v := -1) hx hb dX0_init_36 (by decide) ?_
  refine gw_put (ci := 0) in_X0 tyX0 tyX0_ok nmX0 rfl C hK hG hS 4 (by decide) q276 rfl (Or.inl rfl) hr (by show 4 < 20; omega) (Nat.le_refl _) (tyX0_ok 4 (by decide)) rfl rfl dX0_init_37 (fun H locs hG hS => ?_)
  have hG : gW D (gset E8 a (.inr (0, [.ref (a + 1), .ref (a + 53), .ref (a + 105), .int 0, .int (-1), .int 0, .null, .null, .null, .null, .null, .null, .int 0, .null, .null, .null, .int 0, .int 0, .int 0, .int 0]))) (a + 106) H := hG
  obtain ⟨E9, eE9⟩ : ∃ z, z = gset E8 a (.inr (0, [.ref (a + 1), .ref (a + 53), .ref (a + 105), .int 0, .int (-1), .int 0, .null, .null, .null, .null, .null, .null, .int 0, .null, .null, .null, .int 0, .int 0, .int 0, .int 0])) := ⟨_, rfl⟩
  rw [← eE9] at hG
  have h105 : E9 (a + 105) = some (.inl (dA 1, 300, .inl (fun _ => 0))) := Eq.trans (by rw [eE9, gset_ne (by omega)]) (h105)
  have hs1 : stF dA E9 (a + 1) := hs1.kept (fun q h1 h2 => Eq.trans (by rw [eE9, gset_ne (by omega)]) (rfl))
  have hs53 : stF dA E9 (a + 53) := hs53.kept (fun q h1 h2 => Eq.trans (by rw [eE9, gset_ne (by omega)]) (rfl))
  have hlo : ∀ q : Nat, q < a → E9 q = E0 q := fun q hq => Eq.trans (by rw [eE9, gset_ne (by omega)]) (hlo q hq)
  have hr : E9 a = some (.inr (0, [.ref (a + 1), .ref (a + 53), .ref (a + 105), .int 0, .int (-1), .int 0, .null, .null, .null, .null, .null, .null, .int 0, .null, .null, .null, .int 0, .int 0, .int 0, .int 0])) := by rw [eE9]; exact gset_eq
  refine lv_aload_n hx hb dX0_init_40 rfl (lv_at hl 0 rfl) ?_
  refine lv_iconst (v := -1) hx hb dX0_init_41 (by decide) ?_
  refine gw_put (ci := 0) in_X0 tyX0 tyX0_ok nmX0 rfl C hK hG hS 5 (by decide) q277 rfl (Or.inl rfl) hr (by show 5 < 20; omega) (Nat.le_refl _) (tyX0_ok 5 (by decide)) rfl rfl dX0_init_42 (fun H locs hG hS => ?_)
  have hG : gW D (gset E9 a (.inr (0, [.ref (a + 1), .ref (a + 53), .ref (a + 105), .int 0, .int (-1), .int (-1), .null, .null, .null, .null, .null, .null, .int 0, .null, .null, .null, .int 0, .int 0, .int 0, .int 0]))) (a + 106) H := hG
  obtain ⟨E10, eE10⟩ : ∃ z, z = gset E9 a (.inr (0, [.ref (a + 1), .ref (a + 53), .ref (a + 105), .int 0, .int (-1), .int (-1), .null, .null, .null, .null, .null, .null, .int 0, .null, .null, .null, .int 0, .int 0, .int 0, .int 0])) := ⟨_, rfl⟩
  rw [← eE10] at hG
  have h105 : E10 (a + 105) = some (.inl (dA 1, 300, .inl (fun _ => 0))) := Eq.trans (by rw [eE10, gset_ne (by omega)]) (h105)
  have hs1 : stF dA E10 (a + 1) := hs1.kept (fun q h1 h2 => Eq.trans (by rw [eE10, gset_ne (by omega)]) (rfl))
  have hs53 : stF dA E10 (a + 53) := hs53.kept (fun q h1 h2 => Eq.trans (by rw [eE10, gset_ne (by omega)]) (rfl))
  have hlo : ∀ q : Nat, q < a → E10 q = E0 q := fun q hq => Eq.trans (by rw [eE10, gset_ne (by omega)]) (hlo q hq)
  have hr : E10 a = some (.inr (0, [.ref (a + 1), .ref (a + 53), .ref (a + 105), .int 0, .int (-1), .int (-1), .null, .null, .null, .null, .null, .null, .int 0, .null, .null, .null, .int 0, .int 0, .int 0, .int 0])) := by rw [eE10]; exact gset_eq
  refine lv_aload_n hx hb dX0_init_45 rfl (lv_at hl 0 rfl) ?_
  refine lv_bipush (v := 14) hx hb dX0_init_46 (by decide) ?_
  refine gw_newi (nn := 14) C hK hG hS (by omega) (by decide) (by decide) (by decide) ⟨Nat.le_of_ble_eq_true rfl, Nat.le_of_ble_eq_true rfl⟩ dX0_init_48 (fun H hG hS => ?_)
  obtain ⟨E11, eE11⟩ : ∃ z, z = gset E10 (a + 106) (.inl (dA 0, 14, .inl (fun _ => 0))) := ⟨_, rfl⟩
  rw [← eE11] at hG
  have hr : E11 a = some (.inr (0, [.ref (a + 1), .ref (a + 53), .ref (a + 105), .int 0, .int (-1), .int (-1), .null, .null, .null, .null, .null, .null, .int 0, .null, .null, .null, .int 0, .int 0, .int 0, .int 0])) := Eq.trans (by rw [eE11, gset_ne (by omega)]) (hr)
  have h105 : E11 (a + 105) = some (.inl (dA 1, 300, .inl (fun _ => 0))) := Eq.trans (by rw [eE11, gset_ne (by omega)]) (h105)
  have hs1 : stF dA E11 (a + 1) := hs1.kept (fun q h1 h2 => Eq.trans (by rw [eE11, gset_ne (by omega)]) (rfl))
  have hs53 : stF dA E11 (a + 53) := hs53.kept (fun q h1 h2 => Eq.trans (by rw [eE11, gset_ne (by omega)]) (rfl))
  have hlo : ∀ q : Nat, q < a → E11 q = E0 q := fun q hq => Eq.trans (by rw [eE11, gset_ne (by omega)]) (hlo q hq)
  have h106 : E11 (a + 106) = some (.inl (dA 0, 14, .inl (fun _ => 0))) := by rw [eE11]; exact gset_eq
  have hG : gW D E11 (a + 107) H := hG
  refine gw_put (ci := 0) in_X0 tyX0 tyX0_ok nmX0 rfl C hK hG hS 6 (by decide) q278 rfl (Or.inr ⟨rfl, hin, rfl⟩) hr (by show 6 < 20; omega) (Nat.le_refl _) (tyX0_ok 6 (by decide)) rfl rfl dX0_init_50 (fun H locs hG hS => ?_)
  have hG : gW D (gset E11 a (.inr (0, [.ref (a + 1), .ref (a + 53), .ref (a + 105), .int 0, .int (-1), .int (-1), .ref (a + 106), .null, .null, .null, .null, .null, .int 0, .null, .null, .null, .int 0, .int 0, .int 0, .int 0]))) (a + 107) H := hG
  obtain ⟨E12, eE12⟩ : ∃ z, z = gset E11 a (.inr (0, [.ref (a + 1), .ref (a + 53), .ref (a + 105), .int 0, .int (-1), .int (-1), .ref (a + 106), .null, .null, .null, .null, .null, .int 0, .null, .null, .null, .int 0, .int 0, .int 0, .int 0])) := ⟨_, rfl⟩
  rw [← eE12] at hG
  have h105 : E12 (a + 105) = some (.inl (dA 1, 300, .inl (fun _ => 0))) := Eq.trans (by rw [eE12, gset_ne (by omega)]) (h105)
  have h106 : E12 (a + 106) = some (.inl (dA 0, 14, .inl (fun _ => 0))) := Eq.trans (by rw [eE12, gset_ne (by omega)]) (h106)
  have hs1 : stF dA E12 (a + 1) := hs1.kept (fun q h1 h2 => Eq.trans (by rw [eE12, gset_ne (by omega)]) (rfl))
  have hs53 : stF dA E12 (a + 53) := hs53.kept (fun q h1 h2 => Eq.trans (by rw [eE12, gset_ne (by omega)]) (rfl))
  have hlo : ∀ q : Nat, q < a → E12 q = E0 q := fun q hq => Eq.trans (by rw [eE12, gset_ne (by omega)]) (hlo q hq)
  have hr : E12 a = some (.inr (0, [.ref (a + 1), .ref (a + 53), .ref (a + 105), .int 0, .int (-1), .int (-1), .ref (a + 106), .null, .null, .null, .null, .null, .int 0, .null, .null, .null, .int 0, .int 0, .int 0, .int 0])) := by rw [eE12]; exact gset_eq
  refine lv_aload_n hx hb dX0_init_53 rfl (lv_at hl 0 rfl) ?_
  refine lv_bipush (v := 8) hx hb dX0_init_54 (by decide) ?_
  refine gw_newi (nn := 8) C hK hG hS (by omega) (by decide) (by decide) (by decide) ⟨Nat.le_of_ble_eq_true rfl, Nat.le_of_ble_eq_true rfl⟩ dX0_init_56 (fun H hG hS => ?_)
  obtain ⟨E13, eE13⟩ : ∃ z, z = gset E12 (a + 107) (.inl (dA 0, 8, .inl (fun _ => 0))) := ⟨_, rfl⟩
  rw [← eE13] at hG
  have hr : E13 a = some (.inr (0, [.ref (a + 1), .ref (a + 53), .ref (a + 105), .int 0, .int (-1), .int (-1), .ref (a + 106), .null, .null, .null, .null, .null, .int 0, .null, .null, .null, .int 0, .int 0, .int 0, .int 0])) := Eq.trans (by rw [eE13, gset_ne (by omega)]) (hr)
  have h105 : E13 (a + 105) = some (.inl (dA 1, 300, .inl (fun _ => 0))) := Eq.trans (by rw [eE13, gset_ne (by omega)]) (h105)
  have h106 : E13 (a + 106) = some (.inl (dA 0, 14, .inl (fun _ => 0))) := Eq.trans (by rw [eE13, gset_ne (by omega)]) (h106)
  have hs1 : stF dA E13 (a + 1) := hs1.kept (fun q h1 h2 => Eq.trans (by rw [eE13, gset_ne (by omega)]) (rfl))
  have hs53 : stF dA E13 (a + 53) := hs53.kept (fun q h1 h2 => Eq.trans (by rw [eE13, gset_ne (by omega)]) (rfl))
  have hlo : ∀ q : Nat, q < a → E13 q = E0 q := fun q hq => Eq.trans (by rw [eE13, gset_ne (by omega)]) (hlo q hq)
  have h107 : E13 (a + 107) = some (.inl (dA 0, 8, .inl (fun _ => 0))) := by rw [eE13]; exact gset_eq
  have hG : gW D E13 (a + 108) H := hG
  refine gw_put (ci := 0) in_X0 tyX0 tyX0_ok nmX0 rfl C hK hG hS 7 (by decide) q279 rfl (Or.inr ⟨rfl, hin, rfl⟩) hr (by show 7 < 20; omega) (Nat.le_refl _) (tyX0_ok 7 (by decide)) rfl rfl dX0_init_58 (fun H locs hG hS => ?_)
  have hG : gW D (gset E13 a (.inr (0, [.ref (a + 1), .ref (a + 53), .ref (a + 105), .int 0, .int (-1), .int (-1), .ref (a + 106), .ref (a + 107), .null, .null, .null, .null, .int 0, .null, .null, .null, .int 0, .int 0, .int 0, .int 0]))) (a + 108) H := hG
  obtain ⟨E14, eE14⟩ : ∃ z, z = gset E13 a (.inr (0, [.ref (a + 1), .ref (a + 53), .ref (a + 105), .int 0, .int (-1), .int (-1), .ref (a + 106), .ref (a + 107), .null, .null, .null, .null, .int 0, .null, .null, .null, .int 0, .int 0, .int 0, .int 0])) := ⟨_, rfl⟩
  rw [← eE14] at hG
  have h105 : E14 (a + 105) = some (.inl (dA 1, 300, .inl (fun _ => 0))) := Eq.trans (by rw [eE14, gset_ne (by omega)]) (h105)
  have h106 : E14 (a + 106) = some (.inl (dA 0, 14, .inl (fun _ => 0))) := Eq.trans (by rw [eE14, gset_ne (by omega)]) (h106)
  have h107 : E14 (a + 107) = some (.inl (dA 0, 8, .inl (fun _ => 0))) := Eq.trans (by rw [eE14, gset_ne (by omega)]) (h107)
  have hs1 : stF dA E14 (a + 1) := hs1.kept (fun q h1 h2 => Eq.trans (by rw [eE14, gset_ne (by omega)]) (rfl))
  have hs53 : stF dA E14 (a + 53) := hs53.kept (fun q h1 h2 => Eq.trans (by rw [eE14, gset_ne (by omega)]) (rfl))
  have hlo : ∀ q : Nat, q < a → E14 q = E0 q := fun q hq => Eq.trans (by rw [eE14, gset_ne (by omega)]) (hlo q hq)
  have hr : E14 a = some (.inr (0, [.ref (a + 1), .ref (a + 53), .ref (a + 105), .int 0, .int (-1), .int (-1), .ref (a + 106), .ref (a + 107), .null, .null, .null, .null, .int 0, .null, .null, .null, .int 0, .int 0, .int 0, .int 0])) := by rw [eE14]; exact gset_eq
  refine lv_aload_n hx hb dX0_init_61 rfl (lv_at hl 0 rfl) ?_
  refine lv_iconst (v := 4) hx hb dX0_init_62 (by decide) ?_
  refine gw_newi (nn := 4) C hK hG hS (by omega) (by decide) (by decide) (by decide) ⟨Nat.le_of_ble_eq_true rfl, Nat.le_of_ble_eq_true rfl⟩ dX0_init_63 (fun H hG hS => ?_)
  obtain ⟨E15, eE15⟩ : ∃ z, z = gset E14 (a + 108) (.inl (dA 0, 4, .inl (fun _ => 0))) := ⟨_, rfl⟩
  rw [← eE15] at hG
  have hr : E15 a = some (.inr (0, [.ref (a + 1), .ref (a + 53), .ref (a + 105), .int 0, .int (-1), .int (-1), .ref (a + 106), .ref (a + 107), .null, .null, .null, .null, .int 0, .null, .null, .null, .int 0, .int 0, .int 0, .int 0])) := Eq.trans (by rw [eE15, gset_ne (by omega)]) (hr)
  have h105 : E15 (a + 105) = some (.inl (dA 1, 300, .inl (fun _ => 0))) := Eq.trans (by rw [eE15, gset_ne (by omega)]) (h105)
  have h106 : E15 (a + 106) = some (.inl (dA 0, 14, .inl (fun _ => 0))) := Eq.trans (by rw [eE15, gset_ne (by omega)]) (h106)
  have h107 : E15 (a + 107) = some (.inl (dA 0, 8, .inl (fun _ => 0))) := Eq.trans (by rw [eE15, gset_ne (by omega)]) (h107)
  have hs1 : stF dA E15 (a + 1) := hs1.kept (fun q h1 h2 => Eq.trans (by rw [eE15, gset_ne (by omega)]) (rfl))
  have hs53 : stF dA E15 (a + 53) := hs53.kept (fun q h1 h2 => Eq.trans (by rw [eE15, gset_ne (by omega)]) (rfl))
  have hlo : ∀ q : Nat, q < a → E15 q = E0 q := fun q hq => Eq.trans (by rw [eE15, gset_ne (by omega)]) (hlo q hq)
  have h108 : E15 (a + 108) = some (.inl (dA 0, 4, .inl (fun _ => 0))) := by rw [eE15]; exact gset_eq
  have hG : gW D E15 (a + 109) H := hG
  refine gw_put (ci := 0) in_X0 tyX0 tyX0_ok nmX0 rfl C hK hG hS 8 (by decide) q280 rfl (Or.inr ⟨rfl, hin, rfl⟩) hr (by show 8 < 20; omega) (Nat.le_refl _) (tyX0_ok 8 (by decide)) rfl rfl dX0_init_65 (fun H locs hG hS => ?_)
  have hG : gW D (gset E15 a (.inr (0, [.ref (a + 1), .ref (a + 53), .ref (a + 105), .int 0, .int (-1), .int (-1), .ref (a + 106), .ref (a + 107), .ref (a + 108), .null, .null, .null, .int 0, .null, .null, .null, .int 0, .int 0, .int 0, .int 0]))) (a + 109) H := hG
  obtain ⟨E16, eE16⟩ : ∃ z, z = gset E15 a (.inr (0, [.ref (a + 1), .ref (a + 53), .ref (a + 105), .int 0, .int (-1), .int (-1), .ref (a + 106), .ref (a + 107), .ref (a + 108), .null, .null, .null, .int 0, .null, .null, .null, .int 0, .int 0, .int 0, .int 0])) := ⟨_, rfl⟩
  rw [← eE16] at hG
  have h105 : E16 (a + 105) = some (.inl (dA 1, 300, .inl (fun _ => 0))) := Eq.trans (by rw [eE16, gset_ne (by omega)]) (h105)
  have h106 : E16 (a + 106) = some (.inl (dA 0, 14, .inl (fun _ => 0))) := Eq.trans (by rw [eE16, gset_ne (by omega)]) (h106)
  have h107 : E16 (a + 107) = some (.inl (dA 0, 8, .inl (fun _ => 0))) := Eq.trans (by rw [eE16, gset_ne (by omega)]) (h107)
  have h108 : E16 (a + 108) = some (.inl (dA 0, 4, .inl (fun _ => 0))) := Eq.trans (by rw [eE16, gset_ne (by omega)]) (h108)
  have hs1 : stF dA E16 (a + 1) := hs1.kept (fun q h1 h2 => Eq.trans (by rw [eE16, gset_ne (by omega)]) (rfl))
  have hs53 : stF dA E16 (a + 53) := hs53.kept (fun q h1 h2 => Eq.trans (by rw [eE16, gset_ne (by omega)]) (rfl))
  have hlo : ∀ q : Nat, q < a → E16 q = E0 q := fun q hq => Eq.trans (by rw [eE16, gset_ne (by omega)]) (hlo q hq)
  have hr : E16 a = some (.inr (0, [.ref (a + 1), .ref (a + 53), .ref (a + 105), .int 0, .int (-1), .int (-1), .ref (a + 106), .ref (a + 107), .ref (a + 108), .null, .null, .null, .int 0, .null, .null, .null, .int 0, .int 0, .int 0, .int 0])) := by rw [eE16]; exact gset_eq
  refine lv_aload_n hx hb dX0_init_68 rfl (lv_at hl 0 rfl) ?_
  refine lv_bipush (v := 16) hx hb dX0_init_69 (by decide) ?_
  refine gw_newi (nn := 16) C hK hG hS (by omega) (by decide) (by decide) (by decide) ⟨Nat.le_of_ble_eq_true rfl, Nat.le_of_ble_eq_true rfl⟩ dX0_init_71 (fun H hG hS => ?_)
  obtain ⟨E17, eE17⟩ : ∃ z, z = gset E16 (a + 109) (.inl (dA 0, 16, .inl (fun _ => 0))) := ⟨_, rfl⟩
  rw [← eE17] at hG
  have hr : E17 a = some (.inr (0, [.ref (a + 1), .ref (a + 53), .ref (a + 105), .int 0, .int (-1), .int (-1), .ref (a + 106), .ref (a + 107), .ref (a + 108), .null, .null, .null, .int 0, .null, .null, .null, .int 0, .int 0, .int 0, .int 0])) := Eq.trans (by rw [eE17, gset_ne (by omega)]) (hr)
  have h105 : E17 (a + 105) = some (.inl (dA 1, 300, .inl (fun _ => 0))) := Eq.trans (by rw [eE17, gset_ne (by omega)]) (h105)
  have h106 : E17 (a + 106) = some (.inl (dA 0, 14, .inl (fun _ => 0))) := Eq.trans (by rw [eE17, gset_ne (by omega)]) (h106)
  have h107 : E17 (a + 107) = some (.inl (dA 0, 8, .inl (fun _ => 0))) := Eq.trans (by rw [eE17, gset_ne (by omega)]) (h107)
  have h108 : E17 (a + 108) = some (.inl (dA 0, 4, .inl (fun _ => 0))) := Eq.trans (by rw [eE17, gset_ne (by omega)]) (h108)
  have hs1 : stF dA E17 (a + 1) := hs1.kept (fun q h1 h2 => Eq.trans (by rw [eE17, gset_ne (by omega)]) (rfl))
  have hs53 : stF dA E17 (a + 53) := hs53.kept (fun q h1 h2 => Eq.trans (by rw [eE17, gset_ne (by omega)]) (rfl))
  have hlo : ∀ q : Nat, q < a → E17 q = E0 q := fun q hq => Eq.trans (by rw [eE17, gset_ne (by omega)]) (hlo q hq)
  have h109 : E17 (a + 109) = some (.inl (dA 0, 16, .inl (fun _ => 0))) := by rw [eE17]; exact gset_eq
  have hG : gW D E17 (a + 110) H := hG
  refine gw_put (ci := 0) in_X0 tyX0 tyX0_ok nmX0 rfl C hK hG hS 9 (by decide) q281 rfl (Or.inr ⟨rfl, hin, rfl⟩) hr (by show 9 < 20; omega) (Nat.le_refl _) (tyX0_ok 9 (by decide)) rfl rfl dX0_init_73 (fun H locs hG hS => ?_)
  have hG : gW D (gset E17 a (.inr (0, [.ref (a + 1), .ref (a + 53), .ref (a + 105), .int 0, .int (-1), .int (-1), .ref (a + 106), .ref (a + 107), .ref (a + 108), .ref (a + 109), .null, .null, .int 0, .null, .null, .null, .int 0, .int 0, .int 0, .int 0]))) (a + 110) H := hG
  obtain ⟨E18, eE18⟩ : ∃ z, z = gset E17 a (.inr (0, [.ref (a + 1), .ref (a + 53), .ref (a + 105), .int 0, .int (-1), .int (-1), .ref (a + 106), .ref (a + 107), .ref (a + 108), .ref (a + 109), .null, .null, .int 0, .null, .null, .null, .int 0, .int 0, .int 0, .int 0])) := ⟨_, rfl⟩
  rw [← eE18] at hG
  have h105 : E18 (a + 105) = some (.inl (dA 1, 300, .inl (fun _ => 0))) := Eq.trans (by rw [eE18, gset_ne (by omega)]) (h105)
  have h106 : E18 (a + 106) = some (.inl (dA 0, 14, .inl (fun _ => 0))) := Eq.trans (by rw [eE18, gset_ne (by omega)]) (h106)
  have h107 : E18 (a + 107) = some (.inl (dA 0, 8, .inl (fun _ => 0))) := Eq.trans (by rw [eE18, gset_ne (by omega)]) (h107)
  have h108 : E18 (a + 108) = some (.inl (dA 0, 4, .inl (fun _ => 0))) := Eq.trans (by rw [eE18, gset_ne (by omega)]) (h108)
  have h109 : E18 (a + 109) = some (.inl (dA 0, 16, .inl (fun _ => 0))) := Eq.trans (by rw [eE18, gset_ne (by omega)]) (h109)
  have hs1 : stF dA E18 (a + 1) := hs1.kept (fun q h1 h2 => Eq.trans (by rw [eE18, gset_ne (by omega)]) (rfl))
  have hs53 : stF dA E18 (a + 53) := hs53.kept (fun q h1 h2 => Eq.trans (by rw [eE18, gset_ne (by omega)]) (rfl))
  have hlo : ∀ q : Nat, q < a → E18 q = E0 q := fun q hq => Eq.trans (by rw [eE18, gset_ne (by omega)]) (hlo q hq)
  have hr : E18 a = some (.inr (0, [.ref (a + 1), .ref (a + 53), .ref (a + 105), .int 0, .int (-1), .int (-1), .ref (a + 106), .ref (a + 107), .ref (a + 108), .ref (a + 109), .null, .null, .int 0, .null, .null, .null, .int 0, .int 0, .int 0, .int 0])) := by rw [eE18]; exact gset_eq
  refine lv_aload_n hx hb dX0_init_76 rfl (lv_at hl 0 rfl) ?_
  refine lv_sipush (v := 1024) hx hb dX0_init_77 (by decide) ?_
  refine gw_newb (nn := 1024) C hK hG hS (by omega) (by decide) (by decide) (by decide) ⟨Nat.le_of_ble_eq_true rfl, Nat.le_of_ble_eq_true rfl⟩ dX0_init_80 (fun H hG hS => ?_)
  obtain ⟨E19, eE19⟩ : ∃ z, z = gset E18 (a + 110) (.inl (dA 1, 1024, .inl (fun _ => 0))) := ⟨_, rfl⟩
  rw [← eE19] at hG
  have hr : E19 a = some (.inr (0, [.ref (a + 1), .ref (a + 53), .ref (a + 105), .int 0, .int (-1), .int (-1), .ref (a + 106), .ref (a + 107), .ref (a + 108), .ref (a + 109), .null, .null, .int 0, .null, .null, .null, .int 0, .int 0, .int 0, .int 0])) := Eq.trans (by rw [eE19, gset_ne (by omega)]) (hr)
  have h105 : E19 (a + 105) = some (.inl (dA 1, 300, .inl (fun _ => 0))) := Eq.trans (by rw [eE19, gset_ne (by omega)]) (h105)
  have h106 : E19 (a + 106) = some (.inl (dA 0, 14, .inl (fun _ => 0))) := Eq.trans (by rw [eE19, gset_ne (by omega)]) (h106)
  have h107 : E19 (a + 107) = some (.inl (dA 0, 8, .inl (fun _ => 0))) := Eq.trans (by rw [eE19, gset_ne (by omega)]) (h107)
  have h108 : E19 (a + 108) = some (.inl (dA 0, 4, .inl (fun _ => 0))) := Eq.trans (by rw [eE19, gset_ne (by omega)]) (h108)
  have h109 : E19 (a + 109) = some (.inl (dA 0, 16, .inl (fun _ => 0))) := Eq.trans (by rw [eE19, gset_ne (by omega)]) (h109)
  have hs1 : stF dA E19 (a + 1) := hs1.kept (fun q h1 h2 => Eq.trans (by rw [eE19, gset_ne (by omega)]) (rfl))
  have hs53 : stF dA E19 (a + 53) := hs53.kept (fun q h1 h2 => Eq.trans (by rw [eE19, gset_ne (by omega)]) (rfl))
  have hlo : ∀ q : Nat, q < a → E19 q = E0 q := fun q hq => Eq.trans (by rw [eE19, gset_ne (by omega)]) (hlo q hq)
  have h110 : E19 (a + 110) = some (.inl (dA 1, 1024, .inl (fun _ => 0))) := by rw [eE19]; exact gset_eq
  have hG : gW D E19 (a + 111) H := hG
  refine gw_put (ci := 0) in_X0 tyX0 tyX0_ok nmX0 rfl C hK hG hS 10 (by decide) q282 rfl (Or.inr ⟨rfl, hin, rfl⟩) hr (by show 10 < 20; omega) (Nat.le_refl _) (tyX0_ok 10 (by decide)) rfl rfl dX0_init_82 (fun H locs hG hS => ?_)
  have hG : gW D (gset E19 a (.inr (0, [.ref (a + 1), .ref (a + 53), .ref (a + 105), .int 0, .int (-1), .int (-1), .ref (a + 106), .ref (a + 107), .ref (a + 108), .ref (a + 109), .ref (a + 110), .null, .int 0, .null, .null, .null, .int 0, .int 0, .int 0, .int 0]))) (a + 111) H := hG
  obtain ⟨E20, eE20⟩ : ∃ z, z = gset E19 a (.inr (0, [.ref (a + 1), .ref (a + 53), .ref (a + 105), .int 0, .int (-1), .int (-1), .ref (a + 106), .ref (a + 107), .ref (a + 108), .ref (a + 109), .ref (a + 110), .null, .int 0, .null, .null, .null, .int 0, .int 0, .int 0, .int 0])) := ⟨_, rfl⟩
  rw [← eE20] at hG
  have h105 : E20 (a + 105) = some (.inl (dA 1, 300, .inl (fun _ => 0))) := Eq.trans (by rw [eE20, gset_ne (by omega)]) (h105)
  have h106 : E20 (a + 106) = some (.inl (dA 0, 14, .inl (fun _ => 0))) := Eq.trans (by rw [eE20, gset_ne (by omega)]) (h106)
  have h107 : E20 (a + 107) = some (.inl (dA 0, 8, .inl (fun _ => 0))) := Eq.trans (by rw [eE20, gset_ne (by omega)]) (h107)
  have h108 : E20 (a + 108) = some (.inl (dA 0, 4, .inl (fun _ => 0))) := Eq.trans (by rw [eE20, gset_ne (by omega)]) (h108)
  have h109 : E20 (a + 109) = some (.inl (dA 0, 16, .inl (fun _ => 0))) := Eq.trans (by rw [eE20, gset_ne (by omega)]) (h109)
  have h110 : E20 (a + 110) = some (.inl (dA 1, 1024, .inl (fun _ => 0))) := Eq.trans (by rw [eE20, gset_ne (by omega)]) (h110)
  have hs1 : stF dA E20 (a + 1) := hs1.kept (fun q h1 h2 => Eq.trans (by rw [eE20, gset_ne (by omega)]) (rfl))
  have hs53 : stF dA E20 (a + 53) := hs53.kept (fun q h1 h2 => Eq.trans (by rw [eE20, gset_ne (by omega)]) (rfl))
  have hlo : ∀ q : Nat, q < a → E20 q = E0 q := fun q hq => Eq.trans (by rw [eE20, gset_ne (by omega)]) (hlo q hq)
  have hr : E20 a = some (.inr (0, [.ref (a + 1), .ref (a + 53), .ref (a + 105), .int 0, .int (-1), .int (-1), .ref (a + 106), .ref (a + 107), .ref (a + 108), .ref (a + 109), .ref (a + 110), .null, .int 0, .null, .null, .null, .int 0, .int 0, .int 0, .int 0])) := by rw [eE20]; exact gset_eq
  refine lv_aload_n hx hb dX0_init_85 rfl (lv_at hl 0 rfl) ?_
  refine lv_bipush (v := 10) hx hb dX0_init_86 (by decide) ?_
  refine gw_newi (nn := 10) C hK hG hS (by omega) (by decide) (by decide) (by decide) ⟨Nat.le_of_ble_eq_true rfl, Nat.le_of_ble_eq_true rfl⟩ dX0_init_88 (fun H hG hS => ?_)
  obtain ⟨E21, eE21⟩ : ∃ z, z = gset E20 (a + 111) (.inl (dA 0, 10, .inl (fun _ => 0))) := ⟨_, rfl⟩
  rw [← eE21] at hG
  have hr : E21 a = some (.inr (0, [.ref (a + 1), .ref (a + 53), .ref (a + 105), .int 0, .int (-1), .int (-1), .ref (a + 106), .ref (a + 107), .ref (a + 108), .ref (a + 109), .ref (a + 110), .null, .int 0, .null, .null, .null, .int 0, .int 0, .int 0, .int 0])) := Eq.trans (by rw [eE21, gset_ne (by omega)]) (hr)
  have h105 : E21 (a + 105) = some (.inl (dA 1, 300, .inl (fun _ => 0))) := Eq.trans (by rw [eE21, gset_ne (by omega)]) (h105)
  have h106 : E21 (a + 106) = some (.inl (dA 0, 14, .inl (fun _ => 0))) := Eq.trans (by rw [eE21, gset_ne (by omega)]) (h106)
  have h107 : E21 (a + 107) = some (.inl (dA 0, 8, .inl (fun _ => 0))) := Eq.trans (by rw [eE21, gset_ne (by omega)]) (h107)
  have h108 : E21 (a + 108) = some (.inl (dA 0, 4, .inl (fun _ => 0))) := Eq.trans (by rw [eE21, gset_ne (by omega)]) (h108)
  have h109 : E21 (a + 109) = some (.inl (dA 0, 16, .inl (fun _ => 0))) := Eq.trans (by rw [eE21, gset_ne (by omega)]) (h109)
  have h110 : E21 (a + 110) = some (.inl (dA 1, 1024, .inl (fun _ => 0))) := Eq.trans (by rw [eE21, gset_ne (by omega)]) (h110)
  have hs1 : stF dA E21 (a + 1) := hs1.kept (fun q h1 h2 => Eq.trans (by rw [eE21, gset_ne (by omega)]) (rfl))
  have hs53 : stF dA E21 (a + 53) := hs53.kept (fun q h1 h2 => Eq.trans (by rw [eE21, gset_ne (by omega)]) (rfl))
  have hlo : ∀ q : Nat, q < a → E21 q = E0 q := fun q hq => Eq.trans (by rw [eE21, gset_ne (by omega)]) (hlo q hq)
  have h111 : E21 (a + 111) = some (.inl (dA 0, 10, .inl (fun _ => 0))) := by rw [eE21]; exact gset_eq
  have hG : gW D E21 (a + 112) H := hG
  refine gw_put (ci := 0) in_X0 tyX0 tyX0_ok nmX0 rfl C hK hG hS 11 (by decide) q283 rfl (Or.inr ⟨rfl, hin, rfl⟩) hr (by show 11 < 20; omega) (Nat.le_refl _) (tyX0_ok 11 (by decide)) rfl rfl dX0_init_90 (fun H locs hG hS => ?_)
  have hG : gW D (gset E21 a (.inr (0, [.ref (a + 1), .ref (a + 53), .ref (a + 105), .int 0, .int (-1), .int (-1), .ref (a + 106), .ref (a + 107), .ref (a + 108), .ref (a + 109), .ref (a + 110), .ref (a + 111), .int 0, .null, .null, .null, .int 0, .int 0, .int 0, .int 0]))) (a + 112) H := hG
  obtain ⟨E22, eE22⟩ : ∃ z, z = gset E21 a (.inr (0, [.ref (a + 1), .ref (a + 53), .ref (a + 105), .int 0, .int (-1), .int (-1), .ref (a + 106), .ref (a + 107), .ref (a + 108), .ref (a + 109), .ref (a + 110), .ref (a + 111), .int 0, .null, .null, .null, .int 0, .int 0, .int 0, .int 0])) := ⟨_, rfl⟩
  rw [← eE22] at hG
  have h105 : E22 (a + 105) = some (.inl (dA 1, 300, .inl (fun _ => 0))) := Eq.trans (by rw [eE22, gset_ne (by omega)]) (h105)
  have h106 : E22 (a + 106) = some (.inl (dA 0, 14, .inl (fun _ => 0))) := Eq.trans (by rw [eE22, gset_ne (by omega)]) (h106)
  have h107 : E22 (a + 107) = some (.inl (dA 0, 8, .inl (fun _ => 0))) := Eq.trans (by rw [eE22, gset_ne (by omega)]) (h107)
  have h108 : E22 (a + 108) = some (.inl (dA 0, 4, .inl (fun _ => 0))) := Eq.trans (by rw [eE22, gset_ne (by omega)]) (h108)
  have h109 : E22 (a + 109) = some (.inl (dA 0, 16, .inl (fun _ => 0))) := Eq.trans (by rw [eE22, gset_ne (by omega)]) (h109)
  have h110 : E22 (a + 110) = some (.inl (dA 1, 1024, .inl (fun _ => 0))) := Eq.trans (by rw [eE22, gset_ne (by omega)]) (h110)
  have h111 : E22 (a + 111) = some (.inl (dA 0, 10, .inl (fun _ => 0))) := Eq.trans (by rw [eE22, gset_ne (by omega)]) (h111)
  have hs1 : stF dA E22 (a + 1) := hs1.kept (fun q h1 h2 => Eq.trans (by rw [eE22, gset_ne (by omega)]) (rfl))
  have hs53 : stF dA E22 (a + 53) := hs53.kept (fun q h1 h2 => Eq.trans (by rw [eE22, gset_ne (by omega)]) (rfl))
  have hlo : ∀ q : Nat, q < a → E22 q = E0 q := fun q hq => Eq.trans (by rw [eE22, gset_ne (by omega)]) (hlo q hq)
  have hr : E22 a = some (.inr (0, [.ref (a + 1), .ref (a + 53), .ref (a + 105), .int 0, .int (-1), .int (-1), .ref (a + 106), .ref (a + 107), .ref (a + 108), .ref (a + 109), .ref (a + 110), .ref (a + 111), .int 0, .null, .null, .null, .int 0, .int 0, .int 0, .int 0])) := by rw [eE22]; exact gset_eq
  refine lv_aload_n hx hb dX0_init_93 rfl (lv_at hl 0 rfl) ?_
  refine lv_bipush (v := 26) hx hb dX0_init_94 (by decide) ?_
  refine gw_newi (nn := 26) C hK hG hS (by omega) (by decide) (by decide) (by decide) ⟨Nat.le_of_ble_eq_true rfl, Nat.le_of_ble_eq_true rfl⟩ dX0_init_96 (fun H hG hS => ?_)
  obtain ⟨E23, eE23⟩ : ∃ z, z = gset E22 (a + 112) (.inl (dA 0, 26, .inl (fun _ => 0))) := ⟨_, rfl⟩
  rw [← eE23] at hG
  have hr : E23 a = some (.inr (0, [.ref (a + 1), .ref (a + 53), .ref (a + 105), .int 0, .int (-1), .int (-1), .ref (a + 106), .ref (a + 107), .ref (a + 108), .ref (a + 109), .ref (a + 110), .ref (a + 111), .int 0, .null, .null, .null, .int 0, .int 0, .int 0, .int 0])) := Eq.trans (by rw [eE23, gset_ne (by omega)]) (hr)
  have h105 : E23 (a + 105) = some (.inl (dA 1, 300, .inl (fun _ => 0))) := Eq.trans (by rw [eE23, gset_ne (by omega)]) (h105)
  have h106 : E23 (a + 106) = some (.inl (dA 0, 14, .inl (fun _ => 0))) := Eq.trans (by rw [eE23, gset_ne (by omega)]) (h106)
  have h107 : E23 (a + 107) = some (.inl (dA 0, 8, .inl (fun _ => 0))) := Eq.trans (by rw [eE23, gset_ne (by omega)]) (h107)
  have h108 : E23 (a + 108) = some (.inl (dA 0, 4, .inl (fun _ => 0))) := Eq.trans (by rw [eE23, gset_ne (by omega)]) (h108)
  have h109 : E23 (a + 109) = some (.inl (dA 0, 16, .inl (fun _ => 0))) := Eq.trans (by rw [eE23, gset_ne (by omega)]) (h109)
  have h110 : E23 (a + 110) = some (.inl (dA 1, 1024, .inl (fun _ => 0))) := Eq.trans (by rw [eE23, gset_ne (by omega)]) (h110)
  have h111 : E23 (a + 111) = some (.inl (dA 0, 10, .inl (fun _ => 0))) := Eq.trans (by rw [eE23, gset_ne (by omega)]) (h111)
  have hs1 : stF dA E23 (a + 1) := hs1.kept (fun q h1 h2 => Eq.trans (by rw [eE23, gset_ne (by omega)]) (rfl))
  have hs53 : stF dA E23 (a + 53) := hs53.kept (fun q h1 h2 => Eq.trans (by rw [eE23, gset_ne (by omega)]) (rfl))
  have hlo : ∀ q : Nat, q < a → E23 q = E0 q := fun q hq => Eq.trans (by rw [eE23, gset_ne (by omega)]) (hlo q hq)
  have h112 : E23 (a + 112) = some (.inl (dA 0, 26, .inl (fun _ => 0))) := by rw [eE23]; exact gset_eq
  have hG : gW D E23 (a + 113) H := hG
  refine gw_put (ci := 0) in_X0 tyX0 tyX0_ok nmX0 rfl C hK hG hS 13 (by decide) q285 rfl (Or.inr ⟨rfl, hin, rfl⟩) hr (by show 13 < 20; omega) (Nat.le_refl _) (tyX0_ok 13 (by decide)) rfl rfl dX0_init_98 (fun H locs hG hS => ?_)
  have hG : gW D (gset E23 a (.inr (0, [.ref (a + 1), .ref (a + 53), .ref (a + 105), .int 0, .int (-1), .int (-1), .ref (a + 106), .ref (a + 107), .ref (a + 108), .ref (a + 109), .ref (a + 110), .ref (a + 111), .int 0, .ref (a + 112), .null, .null, .int 0, .int 0, .int 0, .int 0]))) (a + 113) H := hG
  obtain ⟨E24, eE24⟩ : ∃ z, z = gset E23 a (.inr (0, [.ref (a + 1), .ref (a + 53), .ref (a + 105), .int 0, .int (-1), .int (-1), .ref (a + 106), .ref (a + 107), .ref (a + 108), .ref (a + 109), .ref (a + 110), .ref (a + 111), .int 0, .ref (a + 112), .null, .null, .int 0, .int 0, .int 0, .int 0])) := ⟨_, rfl⟩
  rw [← eE24] at hG
  have h105 : E24 (a + 105) = some (.inl (dA 1, 300, .inl (fun _ => 0))) := Eq.trans (by rw [eE24, gset_ne (by omega)]) (h105)
  have h106 : E24 (a + 106) = some (.inl (dA 0, 14, .inl (fun _ => 0))) := Eq.trans (by rw [eE24, gset_ne (by omega)]) (h106)
  have h107 : E24 (a + 107) = some (.inl (dA 0, 8, .inl (fun _ => 0))) := Eq.trans (by rw [eE24, gset_ne (by omega)]) (h107)
  have h108 : E24 (a + 108) = some (.inl (dA 0, 4, .inl (fun _ => 0))) := Eq.trans (by rw [eE24, gset_ne (by omega)]) (h108)
  have h109 : E24 (a + 109) = some (.inl (dA 0, 16, .inl (fun _ => 0))) := Eq.trans (by rw [eE24, gset_ne (by omega)]) (h109)
  have h110 : E24 (a + 110) = some (.inl (dA 1, 1024, .inl (fun _ => 0))) := Eq.trans (by rw [eE24, gset_ne (by omega)]) (h110)
  have h111 : E24 (a + 111) = some (.inl (dA 0, 10, .inl (fun _ => 0))) := Eq.trans (by rw [eE24, gset_ne (by omega)]) (h111)
  have h112 : E24 (a + 112) = some (.inl (dA 0, 26, .inl (fun _ => 0))) := Eq.trans (by rw [eE24, gset_ne (by omega)]) (h112)
  have hs1 : stF dA E24 (a + 1) := hs1.kept (fun q h1 h2 => Eq.trans (by rw [eE24, gset_ne (by omega)]) (rfl))
  have hs53 : stF dA E24 (a + 53) := hs53.kept (fun q h1 h2 => Eq.trans (by rw [eE24, gset_ne (by omega)]) (rfl))
  have hlo : ∀ q : Nat, q < a → E24 q = E0 q := fun q hq => Eq.trans (by rw [eE24, gset_ne (by omega)]) (hlo q hq)
  have hr : E24 a = some (.inr (0, [.ref (a + 1), .ref (a + 53), .ref (a + 105), .int 0, .int (-1), .int (-1), .ref (a + 106), .ref (a + 107), .ref (a + 108), .ref (a + 109), .ref (a + 110), .ref (a + 111), .int 0, .ref (a + 112), .null, .null, .int 0, .int 0, .int 0, .int 0])) := by rw [eE24]; exact gset_eq
  refine lv_aload_n hx hb dX0_init_101 rfl (lv_at hl 0 rfl) ?_
  refine lv_iconst (v := 4) hx hb dX0_init_102 (by decide) ?_
  refine gw_newi (nn := 4) C hK hG hS (by omega) (by decide) (by decide) (by decide) ⟨Nat.le_of_ble_eq_true rfl, Nat.le_of_ble_eq_true rfl⟩ dX0_init_103 (fun H hG hS => ?_)
  obtain ⟨E25, eE25⟩ : ∃ z, z = gset E24 (a + 113) (.inl (dA 0, 4, .inl (fun _ => 0))) := ⟨_, rfl⟩
  rw [← eE25] at hG
  have hr : E25 a = some (.inr (0, [.ref (a + 1), .ref (a + 53), .ref (a + 105), .int 0, .int (-1), .int (-1), .ref (a + 106), .ref (a + 107), .ref (a + 108), .ref (a + 109), .ref (a + 110), .ref (a + 111), .int 0, .ref (a + 112), .null, .null, .int 0, .int 0, .int 0, .int 0])) := Eq.trans (by rw [eE25, gset_ne (by omega)]) (hr)
  have h105 : E25 (a + 105) = some (.inl (dA 1, 300, .inl (fun _ => 0))) := Eq.trans (by rw [eE25, gset_ne (by omega)]) (h105)
  have h106 : E25 (a + 106) = some (.inl (dA 0, 14, .inl (fun _ => 0))) := Eq.trans (by rw [eE25, gset_ne (by omega)]) (h106)
  have h107 : E25 (a + 107) = some (.inl (dA 0, 8, .inl (fun _ => 0))) := Eq.trans (by rw [eE25, gset_ne (by omega)]) (h107)
  have h108 : E25 (a + 108) = some (.inl (dA 0, 4, .inl (fun _ => 0))) := Eq.trans (by rw [eE25, gset_ne (by omega)]) (h108)
  have h109 : E25 (a + 109) = some (.inl (dA 0, 16, .inl (fun _ => 0))) := Eq.trans (by rw [eE25, gset_ne (by omega)]) (h109)
  have h110 : E25 (a + 110) = some (.inl (dA 1, 1024, .inl (fun _ => 0))) := Eq.trans (by rw [eE25, gset_ne (by omega)]) (h110)
  have h111 : E25 (a + 111) = some (.inl (dA 0, 10, .inl (fun _ => 0))) := Eq.trans (by rw [eE25, gset_ne (by omega)]) (h111)
  have h112 : E25 (a + 112) = some (.inl (dA 0, 26, .inl (fun _ => 0))) := Eq.trans (by rw [eE25, gset_ne (by omega)]) (h112)
  have hs1 : stF dA E25 (a + 1) := hs1.kept (fun q h1 h2 => Eq.trans (by rw [eE25, gset_ne (by omega)]) (rfl))
  have hs53 : stF dA E25 (a + 53) := hs53.kept (fun q h1 h2 => Eq.trans (by rw [eE25, gset_ne (by omega)]) (rfl))
  have hlo : ∀ q : Nat, q < a → E25 q = E0 q := fun q hq => Eq.trans (by rw [eE25, gset_ne (by omega)]) (hlo q hq)
  have h113 : E25 (a + 113) = some (.inl (dA 0, 4, .inl (fun _ => 0))) := by rw [eE25]; exact gset_eq
  have hG : gW D E25 (a + 114) H := hG
  refine gw_put (ci := 0) in_X0 tyX0 tyX0_ok nmX0 rfl C hK hG hS 14 (by decide) q286 rfl (Or.inr ⟨rfl, hin, rfl⟩) hr (by show 14 < 20; omega) (Nat.le_refl _) (tyX0_ok 14 (by decide)) rfl rfl dX0_init_105 (fun H locs hG hS => ?_)
  have hG : gW D (gset E25 a (.inr (0, [.ref (a + 1), .ref (a + 53), .ref (a + 105), .int 0, .int (-1), .int (-1), .ref (a + 106), .ref (a + 107), .ref (a + 108), .ref (a + 109), .ref (a + 110), .ref (a + 111), .int 0, .ref (a + 112), .ref (a + 113), .null, .int 0, .int 0, .int 0, .int 0]))) (a + 114) H := hG
  obtain ⟨E26, eE26⟩ : ∃ z, z = gset E25 a (.inr (0, [.ref (a + 1), .ref (a + 53), .ref (a + 105), .int 0, .int (-1), .int (-1), .ref (a + 106), .ref (a + 107), .ref (a + 108), .ref (a + 109), .ref (a + 110), .ref (a + 111), .int 0, .ref (a + 112), .ref (a + 113), .null, .int 0, .int 0, .int 0, .int 0])) := ⟨_, rfl⟩
  rw [← eE26] at hG
  have h105 : E26 (a + 105) = some (.inl (dA 1, 300, .inl (fun _ => 0))) := Eq.trans (by rw [eE26, gset_ne (by omega)]) (h105)
  have h106 : E26 (a + 106) = some (.inl (dA 0, 14, .inl (fun _ => 0))) := Eq.trans (by rw [eE26, gset_ne (by omega)]) (h106)
  have h107 : E26 (a + 107) = some (.inl (dA 0, 8, .inl (fun _ => 0))) := Eq.trans (by rw [eE26, gset_ne (by omega)]) (h107)
  have h108 : E26 (a + 108) = some (.inl (dA 0, 4, .inl (fun _ => 0))) := Eq.trans (by rw [eE26, gset_ne (by omega)]) (h108)
  have h109 : E26 (a + 109) = some (.inl (dA 0, 16, .inl (fun _ => 0))) := Eq.trans (by rw [eE26, gset_ne (by omega)]) (h109)
  have h110 : E26 (a + 110) = some (.inl (dA 1, 1024, .inl (fun _ => 0))) := Eq.trans (by rw [eE26, gset_ne (by omega)]) (h110)
  have h111 : E26 (a + 111) = some (.inl (dA 0, 10, .inl (fun _ => 0))) := Eq.trans (by rw [eE26, gset_ne (by omega)]) (h111)
  have h112 : E26 (a + 112) = some (.inl (dA 0, 26, .inl (fun _ => 0))) := Eq.trans (by rw [eE26, gset_ne (by omega)]) (h112)
  have h113 : E26 (a + 113) = some (.inl (dA 0, 4, .inl (fun _ => 0))) := Eq.trans (by rw [eE26, gset_ne (by omega)]) (h113)
  have hs1 : stF dA E26 (a + 1) := hs1.kept (fun q h1 h2 => Eq.trans (by rw [eE26, gset_ne (by omega)]) (rfl))
  have hs53 : stF dA E26 (a + 53) := hs53.kept (fun q h1 h2 => Eq.trans (by rw [eE26, gset_ne (by omega)]) (rfl))
  have hlo : ∀ q : Nat, q < a → E26 q = E0 q := fun q hq => Eq.trans (by rw [eE26, gset_ne (by omega)]) (hlo q hq)
  have hr : E26 a = some (.inr (0, [.ref (a + 1), .ref (a + 53), .ref (a + 105), .int 0, .int (-1), .int (-1), .ref (a + 106), .ref (a + 107), .ref (a + 108), .ref (a + 109), .ref (a + 110), .ref (a + 111), .int 0, .ref (a + 112), .ref (a + 113), .null, .int 0, .int 0, .int 0, .int 0])) := by rw [eE26]; exact gset_eq
  refine lv_aload_n hx hb dX0_init_108 rfl (lv_at hl 0 rfl) ?_
  refine lv_iconst (v := 4) hx hb dX0_init_109 (by decide) ?_
  refine gw_newi (nn := 4) C hK hG hS (by omega) (by decide) (by decide) (by decide) ⟨Nat.le_of_ble_eq_true rfl, Nat.le_of_ble_eq_true rfl⟩ dX0_init_110 (fun H hG hS => ?_)
  obtain ⟨E27, eE27⟩ : ∃ z, z = gset E26 (a + 114) (.inl (dA 0, 4, .inl (fun _ => 0))) := ⟨_, rfl⟩
  rw [← eE27] at hG
  have hr : E27 a = some (.inr (0, [.ref (a + 1), .ref (a + 53), .ref (a + 105), .int 0, .int (-1), .int (-1), .ref (a + 106), .ref (a + 107), .ref (a + 108), .ref (a + 109), .ref (a + 110), .ref (a + 111), .int 0, .ref (a + 112), .ref (a + 113), .null, .int 0, .int 0, .int 0, .int 0])) := Eq.trans (by rw [eE27, gset_ne (by omega)]) (hr)
  have h105 : E27 (a + 105) = some (.inl (dA 1, 300, .inl (fun _ => 0))) := Eq.trans (by rw [eE27, gset_ne (by omega)]) (h105)
  have h106 : E27 (a + 106) = some (.inl (dA 0, 14, .inl (fun _ => 0))) := Eq.trans (by rw [eE27, gset_ne (by omega)]) (h106)
  have h107 : E27 (a + 107) = some (.inl (dA 0, 8, .inl (fun _ => 0))) := Eq.trans (by rw [eE27, gset_ne (by omega)]) (h107)
  have h108 : E27 (a + 108) = some (.inl (dA 0, 4, .inl (fun _ => 0))) := Eq.trans (by rw [eE27, gset_ne (by omega)]) (h108)
  have h109 : E27 (a + 109) = some (.inl (dA 0, 16, .inl (fun _ => 0))) := Eq.trans (by rw [eE27, gset_ne (by omega)]) (h109)
  have h110 : E27 (a + 110) = some (.inl (dA 1, 1024, .inl (fun _ => 0))) := Eq.trans (by rw [eE27, gset_ne (by omega)]) (h110)
  have h111 : E27 (a + 111) = some (.inl (dA 0, 10, .inl (fun _ => 0))) := Eq.trans (by rw [eE27, gset_ne (by omega)]) (h111)
  have h112 : E27 (a + 112) = some (.inl (dA 0, 26, .inl (fun _ => 0))) := Eq.trans (by rw [eE27, gset_ne (by omega)]) (h112)
  have h113 : E27 (a + 113) = some (.inl (dA 0, 4, .inl (fun _ => 0))) := Eq.trans (by rw [eE27, gset_ne (by omega)]) (h113)
  have hs1 : stF dA E27 (a + 1) := hs1.kept (fun q h1 h2 => Eq.trans (by rw [eE27, gset_ne (by omega)]) (rfl))
  have hs53 : stF dA E27 (a + 53) := hs53.kept (fun q h1 h2 => Eq.trans (by rw [eE27, gset_ne (by omega)]) (rfl))
  have hlo : ∀ q : Nat, q < a → E27 q = E0 q := fun q hq => Eq.trans (by rw [eE27, gset_ne (by omega)]) (hlo q hq)
  have h114 : E27 (a + 114) = some (.inl (dA 0, 4, .inl (fun _ => 0))) := by rw [eE27]; exact gset_eq
  have hG : gW D E27 (a + 115) H := hG
  refine gw_put (ci := 0) in_X0 tyX0 tyX0_ok nmX0 rfl C hK hG hS 15 (by decide) q287 rfl (Or.inr ⟨rfl, hin, rfl⟩) hr (by show 15 < 20; omega) (Nat.le_refl _) (tyX0_ok 15 (by decide)) rfl rfl dX0_init_112 (fun H locs hG hS => ?_)
  have hG : gW D (gset E27 a (.inr (0, [.ref (a + 1), .ref (a + 53), .ref (a + 105), .int 0, .int (-1), .int (-1), .ref (a + 106), .ref (a + 107), .ref (a + 108), .ref (a + 109), .ref (a + 110), .ref (a + 111), .int 0, .ref (a + 112), .ref (a + 113), .ref (a + 114), .int 0, .int 0, .int 0, .int 0]))) (a + 115) H := hG
  obtain ⟨E28, eE28⟩ : ∃ z, z = gset E27 a (.inr (0, [.ref (a + 1), .ref (a + 53), .ref (a + 105), .int 0, .int (-1), .int (-1), .ref (a + 106), .ref (a + 107), .ref (a + 108), .ref (a + 109), .ref (a + 110), .ref (a + 111), .int 0, .ref (a + 112), .ref (a + 113), .ref (a + 114), .int 0, .int 0, .int 0, .int 0])) := ⟨_, rfl⟩
  rw [← eE28] at hG
  have h105 : E28 (a + 105) = some (.inl (dA 1, 300, .inl (fun _ => 0))) := Eq.trans (by rw [eE28, gset_ne (by omega)]) (h105)
  have h106 : E28 (a + 106) = some (.inl (dA 0, 14, .inl (fun _ => 0))) := Eq.trans (by rw [eE28, gset_ne (by omega)]) (h106)
  have h107 : E28 (a + 107) = some (.inl (dA 0, 8, .inl (fun _ => 0))) := Eq.trans (by rw [eE28, gset_ne (by omega)]) (h107)
  have h108 : E28 (a + 108) = some (.inl (dA 0, 4, .inl (fun _ => 0))) := Eq.trans (by rw [eE28, gset_ne (by omega)]) (h108)
  have h109 : E28 (a + 109) = some (.inl (dA 0, 16, .inl (fun _ => 0))) := Eq.trans (by rw [eE28, gset_ne (by omega)]) (h109)
  have h110 : E28 (a + 110) = some (.inl (dA 1, 1024, .inl (fun _ => 0))) := Eq.trans (by rw [eE28, gset_ne (by omega)]) (h110)
  have h111 : E28 (a + 111) = some (.inl (dA 0, 10, .inl (fun _ => 0))) := Eq.trans (by rw [eE28, gset_ne (by omega)]) (h111)
  have h112 : E28 (a + 112) = some (.inl (dA 0, 26, .inl (fun _ => 0))) := Eq.trans (by rw [eE28, gset_ne (by omega)]) (h112)
  have h113 : E28 (a + 113) = some (.inl (dA 0, 4, .inl (fun _ => 0))) := Eq.trans (by rw [eE28, gset_ne (by omega)]) (h113)
  have h114 : E28 (a + 114) = some (.inl (dA 0, 4, .inl (fun _ => 0))) := Eq.trans (by rw [eE28, gset_ne (by omega)]) (h114)
  have hs1 : stF dA E28 (a + 1) := hs1.kept (fun q h1 h2 => Eq.trans (by rw [eE28, gset_ne (by omega)]) (rfl))
  have hs53 : stF dA E28 (a + 53) := hs53.kept (fun q h1 h2 => Eq.trans (by rw [eE28, gset_ne (by omega)]) (rfl))
  have hlo : ∀ q : Nat, q < a → E28 q = E0 q := fun q hq => Eq.trans (by rw [eE28, gset_ne (by omega)]) (hlo q hq)
  have hr : E28 a = some (.inr (0, [.ref (a + 1), .ref (a + 53), .ref (a + 105), .int 0, .int (-1), .int (-1), .ref (a + 106), .ref (a + 107), .ref (a + 108), .ref (a + 109), .ref (a + 110), .ref (a + 111), .int 0, .ref (a + 112), .ref (a + 113), .ref (a + 114), .int 0, .int 0, .int 0, .int 0])) := by rw [eE28]; exact gset_eq
  refine lv_aload_n hx hb dX0_init_115 rfl (lv_at hl 0 rfl) ?_
  refine gw_get (ci := 0) in_X0 rfl C hK hG.1 1 (by decide) q273 rfl hr (v := .ref (a + 53)) rfl dX0_init_116 ?_
  refine lv_aload_n hx hb dX0_init_119 rfl (lv_at hl 0 rfl) ?_
  refine gw_get (ci := 0) in_X0 rfl C hK hG.1 0 (by decide) q272 rfl hr (v := .ref (a + 1)) rfl dX0_init_120 ?_
  refine rn_void (va_runV (As := [.ref (a + 1)]) (rest := []) ⟨hx, hb, hml, hown, hts⟩ (mX1_be0 hs1 hs53) (cwV 1 hts (lw_V q259 q260 q261 q159 q262) rfl rfl rfl hdX1_be0 ⟨Nat.le_of_ble_eq_true rfl, Nat.le_of_ble_eq_true rfl⟩) ⟨fb_bt, va_recv (ci := 1) (q0 := 0) (q := (RX1, TX1, 9)) hK (hG.1.one hs53.1) rfl rfl, fun U hU hW => ⟨rfl, hK.moved hW.alike, hkG.moved hW.alike, by rw [hU]; exact hG.1⟩⟩ rfl rfl hl.1 rfl (lv_room (Nat.le_of_ble_eq_true rfl)) dX0_init_123 ⟨Nat.le_of_ble_eq_true rfl, Nat.le_of_ble_eq_true rfl⟩) (fun H1 L hXX hL => ?_)
  subst hXX
  replace hS := hS.more hG (show a ≤ a + 53 by omega) (show a + 53 + 52 ≤ _ by omega) hL
  refine W.vret hx hb hr0 (fun u hu _ => ⟨rfl, ?_⟩) (fun x hx => ⟨(hS.2.2 x hx).1, Nat.lt_of_lt_of_eq (hS.2.2 x hx).2 hG.2.1⟩) dX0_init_126 hlocks
  rw [hu]
  refine ⟨hG.2.1, hS.2.1, fun i hi => hG.1 _ _ ?_⟩
  obtain ⟨a0, a1, a2, a3, a4, a5, a6, a7, a8, a9, a10, a11⟩ := hs1
  obtain ⟨b0, b1, b2, b3, b4, b5, b6, b7, b8, b9, b10, b11⟩ := hs53
  by_cases c9 : 9 ≤ i ∧ i < 21
  · obtain ⟨z, rfl⟩ : ∃ z, i = 9 + z := ⟨i - 9, by omega⟩
    have e1 : cwd dA a (9 + z) (ci0 (9 + z)) (fun _ => none) = .inl (dA 0, 3, .inl (fun _ => 0)) := by
      unfold cwd
      rw [if_pos (by omega)]
      have e2 : ci0 (9 + z) = fun _ => 0 := ci0_fam (by omega)
      rw [e2]
    rw [e1, show a + (9 + z) = a + 1 + 8 + z by omega]
    exact a8 z (by omega)
  by_cases c22 : 22 ≤ i ∧ i < 52
  · obtain ⟨z, rfl⟩ : ∃ z, i = 22 + z := ⟨i - 22, by omega⟩
    have e1 : cwd dA a (22 + z) (ci0 (22 + z)) (fun _ => none) = .inl (dA 0, 192, .inl (fun _ => 0)) := by
      unfold cwd
      rw [if_neg (by omega), if_pos (by omega)]
      have e2 : ci0 (22 + z) = fun _ => 0 := ci0_fam (by omega)
      rw [e2]
    rw [e1, show a + (22 + z) = a + 1 + 21 + z by omega]
    exact a10 z (by omega)
  by_cases c61 : 61 ≤ i ∧ i < 73
  · obtain ⟨z, rfl⟩ : ∃ z, i = 61 + z := ⟨i - 61, by omega⟩
    have e1 : cwd dA a (61 + z) (ci0 (61 + z)) (fun _ => none) = .inl (dA 0, 3, .inl (fun _ => 0)) := by
      unfold cwd
      rw [if_pos (by omega)]
      have e2 : ci0 (61 + z) = fun _ => 0 := ci0_fam (by omega)
      rw [e2]
    rw [e1, show a + (61 + z) = a + 53 + 8 + z by omega]
    exact b8 z (by omega)
  by_cases c74 : 74 ≤ i ∧ i < 104
  · obtain ⟨z, rfl⟩ : ∃ z, i = 74 + z := ⟨i - 74, by omega⟩
    have e1 : cwd dA a (74 + z) (ci0 (74 + z)) (fun _ => none) = .inl (dA 0, 192, .inl (fun _ => 0)) := by
      unfold cwd
      rw [if_neg (by omega), if_pos (by omega)]
      have e2 : ci0 (74 + z) = fun _ => 0 := ci0_fam (by omega)
      rw [e2]
    rw [e1, show a + (74 + z) = a + 53 + 21 + z by omega]
    exact b10 z (by omega)
  have hi2 : i = 0 ∨ i = 1 ∨ i = 2 ∨ i = 3 ∨ i = 4 ∨ i = 5 ∨ i = 6 ∨ i = 7 ∨ i = 8 ∨ i = 21 ∨ i = 52 ∨ i = 53 ∨ i = 54 ∨ i = 55 ∨ i = 56 ∨ i = 57 ∨ i = 58 ∨ i = 59 ∨ i = 60 ∨ i = 73 ∨ i = 104 ∨ i = 105 ∨ i = 106 ∨ i = 107 ∨ i = 108 ∨ i = 109 ∨ i = 110 ∨ i = 111 ∨ i = 112 ∨ i = 113 ∨ i = 114 := by omega
  rcases hi2 with rfl | rfl | rfl | rfl | rfl | rfl | rfl | rfl | rfl | rfl | rfl | rfl | rfl | rfl | rfl | rfl | rfl | rfl | rfl | rfl | rfl | rfl | rfl | rfl | rfl | rfl | rfl | rfl | rfl | rfl | rfl
  · exact hr
  · exact a0
  · exact a1
  · exact a2
  · exact a3
  · exact a4
  · exact a5
  · exact a6
  · exact a7.trans (congrArg some (by rw [show (fun j => some (a + 1 + 8 + j)) = (fun j => some (a + (9 + j))) from funext fun j => congrArg some (by omega)]; rfl))
  · exact a9.trans (congrArg some (by rw [show (fun j => some (a + 1 + 21 + j)) = (fun j => some (a + (22 + j))) from funext fun j => congrArg some (by omega)]; rfl))
  · exact a11
  · exact b0
  · exact b1
  · exact b2
  · exact b3
  · exact b4
  · exact b5
  · exact b6
  · exact b7.trans (congrArg some (by rw [show (fun j => some (a + 53 + 8 + j)) = (fun j => some (a + (61 + j))) from funext fun j => congrArg some (by omega)]; rfl))
  · exact b9.trans (congrArg some (by rw [show (fun j => some (a + 53 + 21 + j)) = (fun j => some (a + (74 + j))) from funext fun j => congrArg some (by omega)]; rfl))
  · exact b11
  · exact h105
  · exact h106
  · exact h107
  · exact h108
  · exact h109
  · exact h110
  · exact h111
  · exact h112
  · exact h113
  · exact h114
/-- what the constructor of the reference leaves -/
def glx (l j : Nat) : Int32 := if j = 3 then 17 else if j = 5 then -1 else if 12 ≤ j ∧ j < 12 + l then 1 else if 64 ≤ j ∧ j < 64 + l then -1 else 0
def tlx (l : Nat) : TS := (fun k j => if k = 0 then glx l j else if k = 9 ∨ k = 10 then -1 else 0, fun _ _ => 0)
def tini : TS := sa (tlx 26) 1 ((tlx 26).1 0)
def tz2 : TS := (fun k _ => if k = 9 ∨ k = 10 then -1 else 0, fun _ _ => 0)
theorem tlx_0 : si (si tz2 0 3 17) 0 5 (-1) = tlx 0 := by
  refine Prod.ext ?_ rfl
  funext k j
  show (if k = 0 then (if j = 5 then (-1 : Int32) else (if k = 0 then (if j = 3 then (17 : Int32) else tz2.1 k j) else tz2.1 k j)) else (if k = 0 then (if j = 3 then (17 : Int32) else tz2.1 k j) else tz2.1 k j)) = if k = 0 then glx 0 j else if k = 9 ∨ k = 10 then -1 else 0
  unfold glx tz2
  by_cases hk : k = 0
  · subst hk
    simp only [if_true]
    repeat' split
    all_goals first | rfl | (exfalso; omega)
  · simp only [hk, if_false]
theorem tlx_s {l : Nat} (h : l < 26) : si (si (tlx l) 0 (12 + l) 1) 0 (64 + l) (-1) = tlx (l + 1) := by
  refine Prod.ext ?_ rfl
  funext k j
  show (if k = 0 then (if j = 64 + l then (-1 : Int32) else (if k = 0 then (if j = 12 + l then (1 : Int32) else (tlx l).1 k j) else (tlx l).1 k j)) else (if k = 0 then (if j = 12 + l then (1 : Int32) else (tlx l).1 k j) else (tlx l).1 k j)) = if k = 0 then glx (l + 1) j else if k = 9 ∨ k = 10 then -1 else 0
  unfold tlx
  by_cases hk : k = 0
  · subst hk
    simp only [if_true]
    unfold glx
    repeat' split
    all_goals first | rfl | (exfalso; omega)
  · simp only [hk, if_false]
def x2X (D : va_G) (dA : Nat → ClassId) (b : Nat) (H0 H1 : Heap) : Prop := H1.size = b + 19 ∧ (∀ q : Nat, q < b → H1[q]? = H0[q]?) ∧ wd D (tw dA b tini) H1
abbrev rmX2_init : Room := { frames := 2, cells := 18, slots := 12853, locals := 80 }
theorem hdX2_init : yX2_init.cls ≠ "java/lang/invoke/MethodHandle" ∧ yX2_init.cls ≠ "java/lang/invoke/VarHandle" ∧ (parseMethodDescriptor yX2_init.desc).map (fun d => d.parameters.length) = some 0 := by decide +kernel
theorem x2_loop {b : Nat} {H0 : Heap} (C : cx p s m args meth c cX2_init RX2 2 none) (hK : kk D dA s) (hz : H0.size = b + 19) (hlow : ∀ q : Nat, q < b → H0[q]? = s.heap[q]?) (hcs : cells ≤ rmX2_init.cells ∧ slots ≤ rmX2_init.slots) :
    ∀ (k i : Nat), i ≤ 26 → 26 < i + k → ∀ (t : TS) (H : Heap) (locs : List Loc) (ls : Array Slot), t = tlx i → wd D (tw dA b t) H → tS b H0 H locs → lv_has ls 2 [(1, .int (nI i)), (0, .ref b)] → W p l e rmX2_init s m args below meth c H locs cells slots (MQ below (hQ none (x2X D dA b)) args s cells slots (ta b)) (F0 m 182 ls []) := by
  obtain ⟨hx, hb, hr0, hml, hown, hts, hlocks⟩ := id C
  intro k
  induction k with
  | zero => intro i h1 h2; omega
  | succ k ih =>
    intro i h1 h2 t H locs ls ht hT hS hl
    refine lv_iload_n hx hb dX2_init_182 rfl (lv_at hl 0 rfl) ?_
    refine lv_bipush (v := 26) hx hb dX2_init_183 (by decide) ?_
    refine lv_icmp_ge (tgt := 214) hx hb dX2_init_185 (by decide) (fun c => ?_) (fun c => ?_)
    · have hi : i = 26 := by
        have h3 : nI 26 ≤ nI i := c
        have := (nI_leI (a := 26) (b := i) (by omega) (by omega)).mp h3
        omega
      subst hi
      subst ht
      refine lv_aload_n hx hb dX2_init_214 rfl (lv_at hl 1 rfl) ?_
      refine tg0 C hK hT dX2_init_215 ?_
      refine lv_aload_n hx hb dX2_init_218 rfl (lv_at hl 1 rfl) ?_
      refine tg1 C hK hT dX2_init_219 ?_
      refine copy_0_1 C hK hT hS dX2_init_222 ⟨Nat.le_of_ble_eq_true rfl, Nat.le_of_ble_eq_true rfl⟩ hcs (Nat.le_of_ble_eq_true rfl) hl.1 (fun t1 H locs e1 hT hS => ?_)
      subst e1
      exact W.vret hx hb hr0 (fun u hu _ => ⟨rfl, by rw [hu]; exact ⟨hS.1.trans hz, fun q hq => (hS.2.1 q (fun h => by have := h.1; omega)).trans (hlow q hq), hT⟩⟩) hS.2.2 dX2_init_225 hlocks
    · have hi : i < 26 := by
        rcases Nat.lt_or_ge i 26 with z | z
        · exact z
        · exact absurd ((nI_leI (a := 26) (b := i) (by omega) (by omega)).mpr z) c
      refine lv_aload_n hx hb dX2_init_188 rfl (lv_at hl 1 rfl) ?_
      refine tg0 C hK hT dX2_init_189 ?_
      refine lv_bipush (v := 12) hx hb dX2_init_192 (by decide) ?_
      refine lv_iload_n hx hb dX2_init_194 rfl (lv_at hl 0 rfl) ?_
      refine lv_iadd hx hb dX2_init_195 ?_
      refine lv_iconst (v := 1) hx hb dX2_init_196 (by decide) ?_
      have e12 : (12 : Int32) + nI i = nI (12 + i) := nI_add 12 i
      have e64 : (64 : Int32) + nI i = nI (64 + i) := nI_add 64 i
      rw [e12]
      refine ts0 C hK hT hS (vp_in_nI (by omega) (by omega)) dX2_init_197 (fun t1 H locs e1 hT hS => ?_)
      refine lv_aload_n hx hb dX2_init_198 rfl (lv_at hl 1 rfl) ?_
      refine tg0 C hK hT dX2_init_199 ?_
      refine lv_bipush (v := 64) hx hb dX2_init_202 (by decide) ?_
      refine lv_iload_n hx hb dX2_init_204 rfl (lv_at hl 0 rfl) ?_
      refine lv_iadd hx hb dX2_init_205 ?_
      refine lv_iconst (v := (-1)) hx hb dX2_init_206 (by decide) ?_
      rw [e64]
      refine ts0 C hK hT hS (vp_in_nI (by omega) (by omega)) dX2_init_207 (fun t2 H locs e2 hT hS => ?_)
      refine lv_iinc (v := nI (i + 1)) (lv' := [(1, .int (nI (i + 1))), (0, .ref b)]) hx hb dX2_init_208 hl (k := 0) rfl (by rw [← nI_1]; rfl) (by decide) rfl (fun ls hl => ?_)
      refine lv_goto (tgt := 182) hx hb dX2_init_211 (by decide) ?_
      exact ih (i + 1) (by omega) (by omega) t2 H locs ls (by rw [e2, e1, ht, nI_clamp (by omega), nI_clamp (by omega)]; exact tlx_s hi) hT hS hl
theorem mX2_init {E0 : CF} {b : Nat} (hr : E0 b = some (.inr (2, [.null, .null, .null, .null, .int 0, .null, .int 0, .null, .int 0, .int 0, .int 0, .int 0, .int 0, .int 0, .int 0, .long 0, .int 0, .int 0, .int 0, .int 0, .null, .int 0, .int 0, .int 0, .int 0, .int 0, .null, .null, .null, .null, .null, .null, .null, .int 0, .null, .null, .null, .null, .int 0, .int 0]))) : Met l yX2_init (ws_ yX2_init cX2_init 2 none) rmX2_init (va_Pc [.ref b] (ctP D dA E0 (b + 1))) (hQ none (x2X D dA b)) 18 12853 (ta b) := by
  refine en_G (by decide +kernel) rfl (Nat.le_of_ble_eq_true rfl) (fun p e s m below meth c ls C hin hP hl => ?_)
  obtain ⟨hx, hb, hr0, hml, hown, hts, hlocks⟩ := id C
  obtain ⟨hK, hX, hao, hkG, hG⟩ := hP
  have hS : gS b s.heap s.heap [] := gS.rf
  have hlo : ∀ q : Nat, q < b → E0 q = E0 q := fun _ _ => rfl
  have hG : gW D E0 (b + 1) s.heap := hG
  refine lv_aload_n hx hb dX2_init_0 rfl (lv_at hl 0 rfl) ?_
  refine W.objInit hx hb hown (hts _ q1524) (hts _ q200) (hts _ q201) rfl (by rw [hml]; exact hl.1) rfl dX2_init_1 (Nat.le_of_ble_eq_true rfl) (Nat.le_of_ble_eq_true rfl) ?_
  refine W.eq (g2 := F0 m 4 ls []) rfl ?_
  refine lv_aload_n hx hb dX2_init_4 rfl (lv_at hl 0 rfl) ?_
  refine lv_sipush (v := 3038) hx hb dX2_init_5 (by decide) ?_
  refine gw_newi (nn := 3038) C hK hG hS (by omega) (by decide) (by decide) (by decide) ⟨Nat.le_of_ble_eq_true rfl, Nat.le_of_ble_eq_true rfl⟩ dX2_init_8 (fun H hG hS => ?_)
  obtain ⟨E1, eE1⟩ : ∃ z, z = gset E0 (b + 1) (.inl (dA 0, 3038, .inl (fun _ => 0))) := ⟨_, rfl⟩
  rw [← eE1] at hG
  have hr : E1 b = some (.inr (2, [.null, .null, .null, .null, .int 0, .null, .int 0, .null, .int 0, .int 0, .int 0, .int 0, .int 0, .int 0, .int 0, .long 0, .int 0, .int 0, .int 0, .int 0, .null, .int 0, .int 0, .int 0, .int 0, .int 0, .null, .null, .null, .null, .null, .null, .null, .int 0, .null, .null, .null, .null, .int 0, .int 0])) := Eq.trans (by rw [eE1, gset_ne (by omega)]) (hr)
  have hlo : ∀ q : Nat, q < b → E1 q = E0 q := fun q hq => Eq.trans (by rw [eE1, gset_ne (by omega)]) (hlo q hq)
  have h1 : E1 (b + 1) = some (.inl (dA 0, 3038, .inl (fun _ => 0))) := by rw [eE1]; exact gset_eq
  have hG : gW D E1 (b + 2) H := hG
  refine gw_put (ci := 2) in_X2 tyX2 tyX2_ok nmX2 rfl C hK hG hS 0 (by decide) q1528 rfl (Or.inr ⟨rfl, hin, rfl⟩) hr (by show 0 < 40; omega) (Nat.le_refl _) (tyX2_ok 0 (by decide)) rfl rfl dX2_init_10 (fun H locs hG hS => ?_)
  have hG : gW D (gset E1 b (.inr (2, [.ref (b + 1), .null, .null, .null, .int 0, .null, .int 0, .null, .int 0, .int 0, .int 0, .int 0, .int 0, .int 0, .int 0, .long 0, .int 0, .int 0, .int 0, .int 0, .null, .int 0, .int 0, .int 0, .int 0, .int 0, .null, .null, .null, .null, .null, .null, .null, .int 0, .null, .null, .null, .null, .int 0, .int 0]))) (b + 2) H := hG
  obtain ⟨E2, eE2⟩ : ∃ z, z = gset E1 b (.inr (2, [.ref (b + 1), .null, .null, .null, .int 0, .null, .int 0, .null, .int 0, .int 0, .int 0, .int 0, .int 0, .int 0, .int 0, .long 0, .int 0, .int 0, .int 0, .int 0, .null, .int 0, .int 0, .int 0, .int 0, .int 0, .null, .null, .null, .null, .null, .null, .null, .int 0, .null, .null, .null, .null, .int 0, .int 0])) := ⟨_, rfl⟩
  rw [← eE2] at hG
  have h1 : E2 (b + 1) = some (.inl (dA 0, 3038, .inl (fun _ => 0))) := Eq.trans (by rw [eE2, gset_ne (by omega)]) (h1)
  have hlo : ∀ q : Nat, q < b → E2 q = E0 q := fun q hq => Eq.trans (by rw [eE2, gset_ne (by omega)]) (hlo q hq)
  have hr : E2 b = some (.inr (2, [.ref (b + 1), .null, .null, .null, .int 0, .null, .int 0, .null, .int 0, .int 0, .int 0, .int 0, .int 0, .int 0, .int 0, .long 0, .int 0, .int 0, .int 0, .int 0, .null, .int 0, .int 0, .int 0, .int 0, .int 0, .null, .null, .null, .null, .null, .null, .null, .int 0, .null, .null, .null, .null, .int 0, .int 0])) := by rw [eE2]; exact gset_eq
  refine lv_aload_n hx hb dX2_init_13 rfl (lv_at hl 0 rfl) ?_
  refine lv_sipush (v := 3038) hx hb dX2_init_14 (by decide) ?_
  refine gw_newi (nn := 3038) C hK hG hS (by omega) (by decide) (by decide) (by decide) ⟨Nat.le_of_ble_eq_true rfl, Nat.le_of_ble_eq_true rfl⟩ dX2_init_17 (fun H hG hS => ?_)
  obtain ⟨E3, eE3⟩ : ∃ z, z = gset E2 (b + 2) (.inl (dA 0, 3038, .inl (fun _ => 0))) := ⟨_, rfl⟩
  rw [← eE3] at hG
  have hr : E3 b = some (.inr (2, [.ref (b + 1), .null, .null, .null, .int 0, .null, .int 0, .null, .int 0, .int 0, .int 0, .int 0, .int 0, .int 0, .int 0, .long 0, .int 0, .int 0, .int 0, .int 0, .null, .int 0, .int 0, .int 0, .int 0, .int 0, .null, .null, .null, .null, .null, .null, .null, .int 0, .null, .null, .null, .null, .int 0, .int 0])) := Eq.trans (by rw [eE3, gset_ne (by omega)]) (hr)
  have h1 : E3 (b + 1) = some (.inl (dA 0, 3038, .inl (fun _ => 0))) := Eq.trans (by rw [eE3, gset_ne (by omega)]) (h1)
  have hlo : ∀ q : Nat, q < b → E3 q = E0 q := fun q hq => Eq.trans (by rw [eE3, gset_ne (by omega)]) (hlo q hq)
  have h2 : E3 (b + 2) = some (.inl (dA 0, 3038, .inl (fun _ => 0))) := by rw [eE3]; exact gset_eq
  have hG : gW D E3 (b + 3) H := hG
  refine gw_put (ci := 2) in_X2 tyX2 tyX2_ok nmX2 rfl C hK hG hS 1 (by decide) q1529 rfl (Or.inr ⟨rfl, hin, rfl⟩) hr (by show 1 < 40; omega) (Nat.le_refl _) (tyX2_ok 1 (by decide)) rfl rfl dX2_init_19 (fun H locs hG hS => ?_)
  have hG : gW D (gset E3 b (.inr (2, [.ref (b + 1), .ref (b + 2), .null, .null, .int 0, .null, .int 0, .null, .int 0, .int 0, .int 0, .int 0, .int 0, .int 0, .int 0, .long 0, .int 0, .int 0, .int 0, .int 0, .null, .int 0, .int 0, .int 0, .int 0, .int 0, .null, .null, .null, .null, .null, .null, .null, .int 0, .null, .null, .null, .null, .int 0, .int 0]))) (b + 3) H := hG
  obtain ⟨E4, eE4⟩ : ∃ z, z = gset E3 b (.inr (2, [.ref (b + 1), .ref (b + 2), .null, .null, .int 0, .null, .int 0, .null, .int 0, .int 0, .int 0, .int 0, .int 0, .int 0, .int 0, .long 0, .int 0, .int 0, .int 0, .int 0, .null, .int 0, .int 0, .int 0, .int 0, .int 0, .null, .null, .null, .null, .null, .null, .null, .int 0, .null, .null, .null, .null, .int 0, .int 0])) := ⟨_, rfl⟩
  rw [← eE4] at hG
  have h1 : E4 (b + 1) = some (.inl (dA 0, 3038, .inl (fun _ => 0))) := Eq.trans (by rw [eE4, gset_ne (by omega)]) (h1)
  have h2 : E4 (b + 2) = some (.inl (dA 0, 3038, .inl (fun _ => 0))) := Eq.trans (by rw [eE4, gset_ne (by omega)]) (h2)
  have hlo : ∀ q : Nat, q < b → E4 q = E0 q := fun q hq => Eq.trans (by rw [eE4, gset_ne (by omega)]) (hlo q hq)
  have hr : E4 b = some (.inr (2, [.ref (b + 1), .ref (b + 2), .null, .null, .int 0, .null, .int 0, .null, .int 0, .int 0, .int 0, .int 0, .int 0, .int 0, .int 0, .long 0, .int 0, .int 0, .int 0, .int 0, .null, .int 0, .int 0, .int 0, .int 0, .int 0, .null, .null, .null, .null, .null, .null, .null, .int 0, .null, .null, .null, .null, .int 0, .int 0])) := by rw [eE4]; exact gset_eq
  refine lv_aload_n hx hb dX2_init_22 rfl (lv_at hl 0 rfl) ?_
  refine lv_sipush (v := 3492) hx hb dX2_init_23 (by decide) ?_
  refine gw_newi (nn := 3492) C hK hG hS (by omega) (by decide) (by decide) (by decide) ⟨Nat.le_of_ble_eq_true rfl, Nat.le_of_ble_eq_true rfl⟩ dX2_init_26 (fun H hG hS => ?_)
  obtain ⟨E5, eE5⟩ : ∃ z, z = gset E4 (b + 3) (.inl (dA 0, 3492, .inl (fun _ => 0))) := ⟨_, rfl⟩
  rw [← eE5] at hG
  have hr : E5 b = some (.inr (2, [.ref (b + 1), .ref (b + 2), .null, .null, .int 0, .null, .int 0, .null, .int 0, .int 0, .int 0, .int 0, .int 0, .int 0, .int 0, .long 0, .int 0, .int 0, .int 0, .int 0, .null, .int 0, .int 0, .int 0, .int 0, .int 0, .null, .null, .null, .null, .null, .null, .null, .int 0, .null, .null, .null, .null, .int 0, .int 0])) := Eq.trans (by rw [eE5, gset_ne (by omega)]) (hr)
  have h1 : E5 (b + 1) = some (.inl (dA 0, 3038, .inl (fun _ => 0))) := Eq.trans (by rw [eE5, gset_ne (by omega)]) (h1)
  have h2 : E5 (b + 2) = some (.inl (dA 0, 3038, .inl (fun _ => 0))) := Eq.trans (by rw [eE5, gset_ne (by omega)]) (h2)
  have hlo : ∀ q : Nat, q < b → E5 q = E0 q := fun q hq => Eq.trans (by rw [eE5, gset_ne (by omega)]) (hlo q hq)
  have h3 : E5 (b + 3) = some (.inl (dA 0, 3492, .inl (fun _ => 0))) := by rw [eE5]; exact gset_eq
  have hG : gW D E5 (b + 4) H := hG
  refine gw_put (ci := 2) in_X2 tyX2 tyX2_ok nmX2 rfl C hK hG hS 2 (by decide) q1530 rfl (Or.inr ⟨rfl, hin, rfl⟩) hr (by show 2 < 40; omega) (Nat.le_refl _) (tyX2_ok 2 (by decide)) rfl rfl dX2_init_28 (fun H locs hG hS => ?_)
  have hG : gW D (gset E5 b (.inr (2, [.ref (b + 1), .ref (b + 2), .ref (b + 3), .null, .int 0, .null, .int 0, .null, .int 0, .int 0, .int 0, .int 0, .int 0, .int 0, .int 0, .long 0, .int 0, .int 0, .int 0, .int 0, .null, .int 0, .int 0, .int 0, .int 0, .int 0, .null, .null, .null, .null, .null, .null, .null, .int 0, .null, .null, .null, .null, .int 0, .int 0]))) (b + 4) H := hG
  obtain ⟨E6, eE6⟩ : ∃ z, z = gset E5 b (.inr (2, [.ref (b + 1), .ref (b + 2), .ref (b + 3), .null, .int 0, .null, .int 0, .null, .int 0, .int 0, .int 0, .int 0, .int 0, .int 0, .int 0, .long 0, .int 0, .int 0, .int 0, .int 0, .null, .int 0, .int 0, .int 0, .int 0, .int 0, .null, .null, .null, .null, .null, .null, .null, .int 0, .null, .null, .null, .null, .int 0, .int 0])) := ⟨_, rfl⟩
  rw [← eE6] at hG
  have h1 : E6 (b + 1) = some (.inl (dA 0, 3038, .inl (fun _ => 0))) := Eq.trans (by rw [eE6, gset_ne (by omega)]) (h1)
  have h2 : E6 (b + 2) = some (.inl (dA 0, 3038, .inl (fun _ => 0))) := Eq.trans (by rw [eE6, gset_ne (by omega)]) (h2)
  have h3 : E6 (b + 3) = some (.inl (dA 0, 3492, .inl (fun _ => 0))) := Eq.trans (by rw [eE6, gset_ne (by omega)]) (h3)
  have hlo : ∀ q : Nat, q < b → E6 q = E0 q := fun q hq => Eq.trans (by rw [eE6, gset_ne (by omega)]) (hlo q hq)
  have hr : E6 b = some (.inr (2, [.ref (b + 1), .ref (b + 2), .ref (b + 3), .null, .int 0, .null, .int 0, .null, .int 0, .int 0, .int 0, .int 0, .int 0, .int 0, .int 0, .long 0, .int 0, .int 0, .int 0, .int 0, .null, .int 0, .int 0, .int 0, .int 0, .int 0, .null, .null, .null, .null, .null, .null, .null, .int 0, .null, .null, .null, .null, .int 0, .int 0])) := by rw [eE6]; exact gset_eq
  refine lv_aload_n hx hb dX2_init_31 rfl (lv_at hl 0 rfl) ?_
  refine lv_bipush (v := 8) hx hb dX2_init_32 (by decide) ?_
  refine gw_newi (nn := 8) C hK hG hS (by omega) (by decide) (by decide) (by decide) ⟨Nat.le_of_ble_eq_true rfl, Nat.le_of_ble_eq_true rfl⟩ dX2_init_34 (fun H hG hS => ?_)
  obtain ⟨E7, eE7⟩ : ∃ z, z = gset E6 (b + 4) (.inl (dA 0, 8, .inl (fun _ => 0))) := ⟨_, rfl⟩
  rw [← eE7] at hG
  have hr : E7 b = some (.inr (2, [.ref (b + 1), .ref (b + 2), .ref (b + 3), .null, .int 0, .null, .int 0, .null, .int 0, .int 0, .int 0, .int 0, .int 0, .int 0, .int 0, .long 0, .int 0, .int 0, .int 0, .int 0, .null, .int 0, .int 0, .int 0, .int 0, .int 0, .null, .null, .null, .null, .null, .null, .null, .int 0, .null, .null, .null, .null, .int 0, .int 0])) := Eq.trans (by rw [eE7, gset_ne (by omega)]) (hr)
  have h1 : E7 (b + 1) = some (.inl (dA 0, 3038, .inl (fun _ => 0))) := Eq.trans (by rw [eE7, gset_ne (by omega)]) (h1)
  have h2 : E7 (b + 2) = some (.inl (dA 0, 3038, .inl (fun _ => 0))) := Eq.trans (by rw [eE7, gset_ne (by omega)]) (h2)
  have h3 : E7 (b + 3) = some (.inl (dA 0, 3492, .inl (fun _ => 0))) := Eq.trans (by rw [eE7, gset_ne (by omega)]) (h3)
  have hlo : ∀ q : Nat, q < b → E7 q = E0 q := fun q hq => Eq.trans (by rw [eE7, gset_ne (by omega)]) (hlo q hq)
  have h4 : E7 (b + 4) = some (.inl (dA 0, 8, .inl (fun _ => 0))) := by rw [eE7]; exact gset_eq
  have hG : gW D E7 (b + 5) H := hG
  refine gw_put (ci := 2) in_X2 tyX2 tyX2_ok nmX2 rfl C hK hG hS 3 (by decide) q1531 rfl (Or.inr ⟨rfl, hin, rfl⟩) hr (by show 3 < 40; omega) (Nat.le_refl _) (tyX2_ok 3 (by decide)) rfl rfl dX2_init_36 (fun H locs hG hS => ?_)
  have hG : gW D (gset E7 b (.inr (2, [.ref (b + 1), .ref (b + 2), .ref (b + 3), .ref (b + 4), .int 0, .null, .int 0, .null, .int 0, .int 0, .int 0, .int 0, .int 0, .int 0, .int 0, .long 0, .int 0, .int 0, .int 0, .int 0, .null, .int 0, .int 0, .int 0, .int 0, .int 0, .null, .null, .null, .null, .null, .null, .null, .int 0, .null, .null, .null, .null, .int 0, .int 0]))) (b + 5) H := hG
  obtain ⟨E8, eE8⟩ : ∃ z, z = gset E7 b (.inr (2, [.ref (b + 1), .ref (b + 2), .ref (b + 3), .ref (b + 4), .int 0, .null, .int 0, .null, .int 0, .int 0, .int 0, .int 0, .int 0, .int 0, .int 0, .long 0, .int 0, .int 0, .int 0, .int 0, .null, .int 0, .int 0, .int 0, .int 0, .int 0, .null, .null, .null, .null, .null, .null, .null, .int 0, .null, .null, .null, .null, .int 0, .int 0])) := ⟨_, rfl⟩
  rw [← eE8] at hG
  have h1 : E8 (b + 1) = some (.inl (dA 0, 3038, .inl (fun _ => 0))) := Eq.trans (by rw [eE8, gset_ne (by omega)]) (h1)
  have h2 : E8 (b + 2) = some (.inl (dA 0, 3038, .inl (fun _ => 0))) := Eq.trans (by rw [eE8, gset_ne (by omega)]) (h2)
  have h3 : E8 (b + 3) = some (.inl (dA 0, 3492, .inl (fun _ => 0))) := Eq.trans (by rw [eE8, gset_ne (by omega)]) (h3)
  have h4 : E8 (b + 4) = some (.inl (dA 0, 8, .inl (fun _ => 0))) := Eq.trans (by rw [eE8, gset_ne (by omega)]) (h4)
  have hlo : ∀ q : Nat, q < b → E8 q = E0 q := fun q hq => Eq.trans (by rw [eE8, gset_ne (by omega)]) (hlo q hq)
  have hr : E8 b = some (.inr (2, [.ref (b + 1), .ref (b + 2), .ref (b + 3), .ref (b + 4), .int 0, .null, .int 0, .null, .int 0, .int 0, .int 0, .int 0, .int 0, .int 0, .int 0, .long 0, .int 0, .int 0, .int 0, .int 0, .null, .int 0, .int 0, .int 0, .int 0, .int 0, .null, .null, .null, .null, .null, .null, .null, .int 0, .null, .null, .null, .null, .int 0, .int 0])) := by rw [eE8]; exact gset_eq
  refine lv_aload_n hx hb dX2_init_39 rfl (lv_at hl 0 rfl) ?_
  refine lv_bipush (v := 9) hx hb dX2_init_40 (by decide) ?_
  refine gw_newi (nn := 9) C hK hG hS (by omega) (by decide) (by decide) (by decide) ⟨Nat.le_of_ble_eq_true rfl, Nat.le_of_ble_eq_true rfl⟩ dX2_init_42 (fun H hG hS => ?_)
  obtain ⟨E9, eE9⟩ : ∃ z, z = gset E8 (b + 5) (.inl (dA 0, 9, .inl (fun _ => 0))) := ⟨_, rfl⟩
  rw [← eE9] at hG
  have hr : E9 b = some (.inr (2, [.ref (b + 1), .ref (b + 2), .ref (b + 3), .ref (b + 4), .int 0, .null, .int 0, .null, .int 0, .int 0, .int 0, .int 0, .int 0, .int 0, .int 0, .long 0, .int 0, .int 0, .int 0, .int 0, .null, .int 0, .int 0, .int 0, .int 0, .int 0, .null, .null, .null, .null, .null, .null, .null, .int 0, .null, .null, .null, .null, .int 0, .int 0])) := Eq.trans (by rw [eE9, gset_ne (by omega)]) (hr)
  have h1 : E9 (b + 1) = some (.inl (dA 0, 3038, .inl (fun _ => 0))) := Eq.trans (by rw [eE9, gset_ne (by omega)]) (h1)
  have h2 : E9 (b + 2) = some (.inl (dA 0, 3038, .inl (fun _ => 0))) := Eq.trans (by rw [eE9, gset_ne (by omega)]) (h2)
  have h3 : E9 (b + 3) = some (.inl (dA 0, 3492, .inl (fun _ => 0))) := Eq.trans (by rw [eE9, gset_ne (by omega)]) (h3)
  have h4 : E9 (b + 4) = some (.inl (dA 0, 8, .inl (fun _ => 0))) := Eq.trans (by rw [eE9, gset_ne (by omega)]) (h4)
  have hlo : ∀ q : Nat, q < b → E9 q = E0 q := fun q hq => Eq.trans (by rw [eE9, gset_ne (by omega)]) (hlo q hq)
  have h5 : E9 (b + 5) = some (.inl (dA 0, 9, .inl (fun _ => 0))) := by rw [eE9]; exact gset_eq
  have hG : gW D E9 (b + 6) H := hG
  refine gw_put (ci := 2) in_X2 tyX2 tyX2_ok nmX2 rfl C hK hG hS 5 (by decide) q1533 rfl (Or.inr ⟨rfl, hin, rfl⟩) hr (by show 5 < 40; omega) (Nat.le_refl _) (tyX2_ok 5 (by decide)) rfl rfl dX2_init_44 (fun H locs hG hS => ?_)
  have hG : gW D (gset E9 b (.inr (2, [.ref (b + 1), .ref (b + 2), .ref (b + 3), .ref (b + 4), .int 0, .ref (b + 5), .int 0, .null, .int 0, .int 0, .int 0, .int 0, .int 0, .int 0, .int 0, .long 0, .int 0, .int 0, .int 0, .int 0, .null, .int 0, .int 0, .int 0, .int 0, .int 0, .null, .null, .null, .null, .null, .null, .null, .int 0, .null, .null, .null, .null, .int 0, .int 0]))) (b + 6) H := hG
  obtain ⟨E10, eE10⟩ : ∃ z, z = gset E9 b (.inr (2, [.ref (b + 1), .ref (b + 2), .ref (b + 3), .ref (b + 4), .int 0, .ref (b + 5), .int 0, .null, .int 0, .int 0, .int 0, .int 0, .int 0, .int 0, .int 0, .long 0, .int 0, .int 0, .int 0, .int 0, .null, .int 0, .int 0, .int 0, .int 0, .int 0, .null, .null, .null, .null, .null, .null, .null, .int 0, .null, .null, .null, .null, .int 0, .int 0])) := ⟨_, rfl⟩
  rw [← eE10] at hG
  have h1 : E10 (b + 1) = some (.inl (dA 0, 3038, .inl (fun _ => 0))) := Eq.trans (by rw [eE10, gset_ne (by omega)]) (h1)
  have h2 : E10 (b + 2) = some (.inl (dA 0, 3038, .inl (fun _ => 0))) := Eq.trans (by rw [eE10, gset_ne (by omega)]) (h2)
  have h3 : E10 (b + 3) = some (.inl (dA 0, 3492, .inl (fun _ => 0))) := Eq.trans (by rw [eE10, gset_ne (by omega)]) (h3)
  have h4 : E10 (b + 4) = some (.inl (dA 0, 8, .inl (fun _ => 0))) := Eq.trans (by rw [eE10, gset_ne (by omega)]) (h4)
  have h5 : E10 (b + 5) = some (.inl (dA 0, 9, .inl (fun _ => 0))) := Eq.trans (by rw [eE10, gset_ne (by omega)]) (h5)
  have hlo : ∀ q : Nat, q < b → E10 q = E0 q := fun q hq => Eq.trans (by rw [eE10, gset_ne (by omega)]) (hlo q hq)
  have hr : E10 b = some (.inr (2, [.ref (b + 1), .ref (b + 2), .ref (b + 3), .ref (b + 4), .int 0, .ref (b + 5), .int 0, .null, .int 0, .int 0, .int 0, .int 0, .int 0, .int 0, .int 0, .long 0, .int 0, .int 0, .int 0, .int 0, .null, .int 0, .int 0, .int 0, .int 0, .int 0, .null, .null, .null, .null, .null, .null, .null, .int 0, .null, .null, .null, .null, .int 0, .int 0])) := by rw [eE10]; exact gset_eq
  refine lv_aload_n hx hb dX2_init_47 rfl (lv_at hl 0 rfl) ?_
  refine lv_sipush (v := 300) hx hb dX2_init_48 (by decide) ?_
  refine gw_newi (nn := 300) C hK hG hS (by omega) (by decide) (by decide) (by decide) ⟨Nat.le_of_ble_eq_true rfl, Nat.le_of_ble_eq_true rfl⟩ dX2_init_51 (fun H hG hS => ?_)
  obtain ⟨E11, eE11⟩ : ∃ z, z = gset E10 (b + 6) (.inl (dA 0, 300, .inl (fun _ => 0))) := ⟨_, rfl⟩
  rw [← eE11] at hG
  have hr : E11 b = some (.inr (2, [.ref (b + 1), .ref (b + 2), .ref (b + 3), .ref (b + 4), .int 0, .ref (b + 5), .int 0, .null, .int 0, .int 0, .int 0, .int 0, .int 0, .int 0, .int 0, .long 0, .int 0, .int 0, .int 0, .int 0, .null, .int 0, .int 0, .int 0, .int 0, .int 0, .null, .null, .null, .null, .null, .null, .null, .int 0, .null, .null, .null, .null, .int 0, .int 0])) := Eq.trans (by rw [eE11, gset_ne (by omega)]) (hr)
  have h1 : E11 (b + 1) = some (.inl (dA 0, 3038, .inl (fun _ => 0))) := Eq.trans (by rw [eE11, gset_ne (by omega)]) (h1)
  have h2 : E11 (b + 2) = some (.inl (dA 0, 3038, .inl (fun _ => 0))) := Eq.trans (by rw [eE11, gset_ne (by omega)]) (h2)
  have h3 : E11 (b + 3) = some (.inl (dA 0, 3492, .inl (fun _ => 0))) := Eq.trans (by rw [eE11, gset_ne (by omega)]) (h3)
  have h4 : E11 (b + 4) = some (.inl (dA 0, 8, .inl (fun _ => 0))) := Eq.trans (by rw [eE11, gset_ne (by omega)]) (h4)
  have h5 : E11 (b + 5) = some (.inl (dA 0, 9, .inl (fun _ => 0))) := Eq.trans (by rw [eE11, gset_ne (by omega)]) (h5)
  have hlo : ∀ q : Nat, q < b → E11 q = E0 q := fun q hq => Eq.trans (by rw [eE11, gset_ne (by omega)]) (hlo q hq)
  have h6 : E11 (b + 6) = some (.inl (dA 0, 300, .inl (fun _ => 0))) := by rw [eE11]; exact gset_eq
  have hG : gW D E11 (b + 7) H := hG
  refine gw_put (ci := 2) in_X2 tyX2 tyX2_ok nmX2 rfl C hK hG hS 7 (by decide) q1535 rfl (Or.inr ⟨rfl, hin, rfl⟩) hr (by show 7 < 40; omega) (Nat.le_refl _) (tyX2_ok 7 (by decide)) rfl rfl dX2_init_53 (fun H locs hG hS => ?_)
  have hG : gW D (gset E11 b (.inr (2, [.ref (b + 1), .ref (b + 2), .ref (b + 3), .ref (b + 4), .int 0, .ref (b + 5), .int 0, .ref (b + 6), .int 0, .int 0, .int 0, .int 0, .int 0, .int 0, .int 0, .long 0, .int 0, .int 0, .int 0, .int 0, .null, .int 0, .int 0, .int 0, .int 0, .int 0, .null, .null, .null, .null, .null, .null, .null, .int 0, .null, .null, .null, .null, .int 0, .int 0]))) (b + 7) H := hG
  obtain ⟨E12, eE12⟩ : ∃ z, z = gset E11 b (.inr (2, [.ref (b + 1), .ref (b + 2), .ref (b + 3), .ref (b + 4), .int 0, .ref (b + 5), .int 0, .ref (b + 6), .int 0, .int 0, .int 0, .int 0, .int 0, .int 0, .int 0, .long 0, .int 0, .int 0, .int 0, .int 0, .null, .int 0, .int 0, .int 0, .int 0, .int 0, .null, .null, .null, .null, .null, .null, .null, .int 0, .null, .null, .null, .null, .int 0, .int 0])) := ⟨_, rfl⟩
  rw [← eE12] at hG
  have h1 : E12 (b + 1) = some (.inl (dA 0, 3038, .inl (fun _ => 0))) := Eq.trans (by rw [eE12, gset_ne (by omega)]) (h1)
  have h2 : E12 (b + 2) = some (.inl (dA 0, 3038, .inl (fun _ => 0))) := Eq.trans (by rw [eE12, gset_ne (by omega)]) (h2)
  have h3 : E12 (b + 3) = some (.inl (dA 0, 3492, .inl (fun _ => 0))) := Eq.trans (by rw [eE12, gset_ne (by omega)]) (h3)
  have h4 : E12 (b + 4) = some (.inl (dA 0, 8, .inl (fun _ => 0))) := Eq.trans (by rw [eE12, gset_ne (by omega)]) (h4)
  have h5 : E12 (b + 5) = some (.inl (dA 0, 9, .inl (fun _ => 0))) := Eq.trans (by rw [eE12, gset_ne (by omega)]) (h5)
  have h6 : E12 (b + 6) = some (.inl (dA 0, 300, .inl (fun _ => 0))) := Eq.trans (by rw [eE12, gset_ne (by omega)]) (h6)
  have hlo : ∀ q : Nat, q < b → E12 q = E0 q := fun q hq => Eq.trans (by rw [eE12, gset_ne (by omega)]) (hlo q hq)
  have hr : E12 b = some (.inr (2, [.ref (b + 1), .ref (b + 2), .ref (b + 3), .ref (b + 4), .int 0, .ref (b + 5), .int 0, .ref (b + 6), .int 0, .int 0, .int 0, .int 0, .int 0, .int 0, .int 0, .long 0, .int 0, .int 0, .int 0, .int 0, .null, .int 0, .int 0, .int 0, .int 0, .int 0, .null, .null, .null, .null, .null, .null, .null, .int 0, .null, .null, .null, .null, .int 0, .int 0])) := by rw [eE12]; exact gset_eq
  refine lv_aload_n hx hb dX2_init_56 rfl (lv_at hl 0 rfl) ?_
  refine lv_iconst (v := -1) hx hb dX2_init_57 (by decide) ?_
  refine gw_put (ci := 2) in_X2 tyX2 tyX2_ok nmX2 rfl C hK hG hS 9 (by decide) q1537 rfl (Or.inl rfl) hr (by show 9 < 40; omega) (Nat.le_refl _) (tyX2_ok 9 (by decide)) rfl rfl dX2_init_58 (fun H locs hG hS => ?_)
  have hG : gW D (gset E12 b (.inr (2, [.ref (b + 1), .ref (b + 2), .ref (b + 3), .ref (b + 4), .int 0, .ref (b + 5), .int 0, .ref (b + 6), .int 0, .int (-1), .int 0, .int 0, .int 0, .int 0, .int 0, .long 0, .int 0, .int 0, .int 0, .int 0, .null, .int 0, .int 0, .int 0, .int 0, .int 0, .null, .null, .null, .null, .null, .null, .null, .int 0, .null, .null, .null, .null, .int 0, .int 0]))) (b + 7) H := hG
  obtain ⟨E13, eE13⟩ : ∃ z, z = gset E12 b (.inr (2, [.ref (b + 1), .ref (b + 2), .ref (b + 3), .ref (b + 4), .int 0, .ref (b + 5), .int 0, .ref (b + 6), .int 0, .int (-1), .int 0, .int 0, .int 0, .int 0, .int 0, .long 0, .int 0, .int 0, .int 0, .int 0, .null, .int 0, .int 0, .int 0, .int 0, .int 0, .null, .null, .null, .null, .null, .null, .null, .int 0, .null, .null, .null, .null, .int 0, .int 0])) := ⟨_, rfl⟩
  rw [← eE13] at hG
  have h1 : E13 (b + 1) = some (.inl (dA 0, 3038, .inl (fun _ => 0))) := Eq.trans (by rw [eE13, gset_ne (by omega)]) (h1)
  have h2 : E13 (b + 2) = some (.inl (dA 0, 3038, .inl (fun _ => 0))) := Eq.trans (by rw [eE13, gset_ne (by omega)]) (h2)
  have h3 : E13 (b + 3) = some (.inl (dA 0, 3492, .inl (fun _ => 0))) := Eq.trans (by rw [eE13, gset_ne (by omega)]) (h3)
  have h4 : E13 (b + 4) = some (.inl (dA 0, 8, .inl (fun _ => 0))) := Eq.trans (by rw [eE13, gset_ne (by omega)]) (h4)
  have h5 : E13 (b + 5) = some (.inl (dA 0, 9, .inl (fun _ => 0))) := Eq.trans (by rw [eE13, gset_ne (by omega)]) (h5)
  have h6 : E13 (b + 6) = some (.inl (dA 0, 300, .inl (fun _ => 0))) := Eq.trans (by rw [eE13, gset_ne (by omega)]) (h6)
  have hlo : ∀ q : Nat, q < b → E13 q = E0 q := fun q hq => Eq.trans (by rw [eE13, gset_ne (by omega)]) (hlo q hq)
  have hr : E13 b = some (.inr (2, [.ref (b + 1), .ref (b + 2), .ref (b + 3), .ref (b + 4), .int 0, .ref (b + 5), .int 0, .ref (b + 6), .int 0, .int (-1), .int 0, .int 0, .int 0, .int 0, .int 0, .long 0, .int 0, .int 0, .int 0, .int 0, .null, .int 0, .int 0, .int 0, .int 0, .int 0, .null, .null, .null, .null, .null, .null, .null, .int 0, .null, .null, .null, .null, .int 0, .int 0])) := by rw [eE13]; exact gset_eq
  refine lv_aload_n hx hb dX2_init_61 rfl (lv_at hl 0 rfl) ?_
  refine lv_iconst (v := -1) hx hb dX2_init_62 (by decide) ?_
  refine gw_put (ci := 2) in_X2 tyX2 tyX2_ok nmX2 rfl C hK hG hS 10 (by decide) q1538 rfl (Or.inl rfl) hr (by show 10 < 40; omega) (Nat.le_refl _) (tyX2_ok 10 (by decide)) rfl rfl dX2_init_63 (fun H locs hG hS => ?_)
  have hG : gW D (gset E13 b (.inr (2, [.ref (b + 1), .ref (b + 2), .ref (b + 3), .ref (b + 4), .int 0, .ref (b + 5), .int 0, .ref (b + 6), .int 0, .int (-1), .int (-1), .int 0, .int 0, .int 0, .int 0, .long 0, .int 0, .int 0, .int 0, .int 0, .null, .int 0, .int 0, .int 0, .int 0, .int 0, .null, .null, .null, .null, .null, .null, .null, .int 0, .null, .null, .null, .null, .int 0, .int 0]))) (b + 7) H := hG
  obtain ⟨E14, eE14⟩ : ∃ z, z = gset E13 b (.inr (2, [.ref (b + 1), .ref (b + 2), .ref (b + 3), .ref (b + 4), .int 0, .ref (b + 5), .int 0, .ref (b + 6), .int 0, .int (-1), .int (-1), .int 0, .int 0, .int 0, .int 0, .long 0, .int 0, .int 0, .int 0, .int 0, .null, .int 0, .int 0, .int 0, .int 0, .int 0, .null, .null, .null, .null, .null, .null, .null, .int 0, .null, .null, .null, .null, .int 0, .int 0])) := ⟨_, rfl⟩
  rw [← eE14] at hG
  have h1 : E14 (b + 1) = some (.inl (dA 0, 3038, .inl (fun _ => 0))) := Eq.trans (by rw [eE14, gset_ne (by omega)]) (h1)
  have h2 : E14 (b + 2) = some (.inl (dA 0, 3038, .inl (fun _ => 0))) := Eq.trans (by rw [eE14, gset_ne (by omega)]) (h2)
  have h3 : E14 (b + 3) = some (.inl (dA 0, 3492, .inl (fun _ => 0))) := Eq.trans (by rw [eE14, gset_ne (by omega)]) (h3)
  have h4 : E14 (b + 4) = some (.inl (dA 0, 8, .inl (fun _ => 0))) := Eq.trans (by rw [eE14, gset_ne (by omega)]) (h4)
  have h5 : E14 (b + 5) = some (.inl (dA 0, 9, .inl (fun _ => 0))) := Eq.trans (by rw [eE14, gset_ne (by omega)]) (h5)
  have h6 : E14 (b + 6) = some (.inl (dA 0, 300, .inl (fun _ => 0))) := Eq.trans (by rw [eE14, gset_ne (by omega)]) (h6)
  have hlo : ∀ q : Nat, q < b → E14 q = E0 q := fun q hq => Eq.trans (by rw [eE14, gset_ne (by omega)]) (hlo q hq)
  have hr : E14 b = some (.inr (2, [.ref (b + 1), .ref (b + 2), .ref (b + 3), .ref (b + 4), .int 0, .ref (b + 5), .int 0, .ref (b + 6), .int 0, .int (-1), .int (-1), .int 0, .int 0, .int 0, .int 0, .long 0, .int 0, .int 0, .int 0, .int 0, .null, .int 0, .int 0, .int 0, .int 0, .int 0, .null, .null, .null, .null, .null, .null, .null, .int 0, .null, .null, .null, .null, .int 0, .int 0])) := by rw [eE14]; exact gset_eq
  refine lv_aload_n hx hb dX2_init_66 rfl (lv_at hl 0 rfl) ?_
  refine lv_sipush (v := 160) hx hb dX2_init_67 (by decide) ?_
  refine gw_newi (nn := 160) C hK hG hS (by omega) (by decide) (by decide) (by decide) ⟨Nat.le_of_ble_eq_true rfl, Nat.le_of_ble_eq_true rfl⟩ dX2_init_70 (fun H hG hS => ?_)
  obtain ⟨E15, eE15⟩ : ∃ z, z = gset E14 (b + 7) (.inl (dA 0, 160, .inl (fun _ => 0))) := ⟨_, rfl⟩
  rw [← eE15] at hG
  have hr : E15 b = some (.inr (2, [.ref (b + 1), .ref (b + 2), .ref (b + 3), .ref (b + 4), .int 0, .ref (b + 5), .int 0, .ref (b + 6), .int 0, .int (-1), .int (-1), .int 0, .int 0, .int 0, .int 0, .long 0, .int 0, .int 0, .int 0, .int 0, .null, .int 0, .int 0, .int 0, .int 0, .int 0, .null, .null, .null, .null, .null, .null, .null, .int 0, .null, .null, .null, .null, .int 0, .int 0])) := Eq.trans (by rw [eE15, gset_ne (by omega)]) (hr)
  have h1 : E15 (b + 1) = some (.inl (dA 0, 3038, .inl (fun _ => 0))) := Eq.trans (by rw [eE15, gset_ne (by omega)]) (h1)
  have h2 : E15 (b + 2) = some (.inl (dA 0, 3038, .inl (fun _ => 0))) := Eq.trans (by rw [eE15, gset_ne (by omega)]) (h2)
  have h3 : E15 (b + 3) = some (.inl (dA 0, 3492, .inl (fun _ => 0))) := Eq.trans (by rw [eE15, gset_ne (by omega)]) (h3)
  have h4 : E15 (b + 4) = some (.inl (dA 0, 8, .inl (fun _ => 0))) := Eq.trans (by rw [eE15, gset_ne (by omega)]) (h4)
  have h5 : E15 (b + 5) = some (.inl (dA 0, 9, .inl (fun _ => 0))) := Eq.trans (by rw [eE15, gset_ne (by omega)]) (h5)
  have h6 : E15 (b + 6) = some (.inl (dA 0, 300, .inl (fun _ => 0))) := Eq.trans (by rw [eE15, gset_ne (by omega)]) (h6)
  have hlo : ∀ q : Nat, q < b → E15 q = E0 q := fun q hq => Eq.trans (by rw [eE15, gset_ne (by omega)]) (hlo q hq)
  have h7 : E15 (b + 7) = some (.inl (dA 0, 160, .inl (fun _ => 0))) := by rw [eE15]; exact gset_eq
  have hG : gW D E15 (b + 8) H := hG
  refine gw_put (ci := 2) in_X2 tyX2 tyX2_ok nmX2 rfl C hK hG hS 20 (by decide) q1546 rfl (Or.inr ⟨rfl, hin, rfl⟩) hr (by show 20 < 40; omega) (Nat.le_refl _) (tyX2_ok 20 (by decide)) rfl rfl dX2_init_72 (fun H locs hG hS => ?_)
  have hG : gW D (gset E15 b (.inr (2, [.ref (b + 1), .ref (b + 2), .ref (b + 3), .ref (b + 4), .int 0, .ref (b + 5), .int 0, .ref (b + 6), .int 0, .int (-1), .int (-1), .int 0, .int 0, .int 0, .int 0, .long 0, .int 0, .int 0, .int 0, .int 0, .ref (b + 7), .int 0, .int 0, .int 0, .int 0, .int 0, .null, .null, .null, .null, .null, .null, .null, .int 0, .null, .null, .null, .null, .int 0, .int 0]))) (b + 8) H := hG
  obtain ⟨E16, eE16⟩ : ∃ z, z = gset E15 b (.inr (2, [.ref (b + 1), .ref (b + 2), .ref (b + 3), .ref (b + 4), .int 0, .ref (b + 5), .int 0, .ref (b + 6), .int 0, .int (-1), .int (-1), .int 0, .int 0, .int 0, .int 0, .long 0, .int 0, .int 0, .int 0, .int 0, .ref (b + 7), .int 0, .int 0, .int 0, .int 0, .int 0, .null, .null, .null, .null, .null, .null, .null, .int 0, .null, .null, .null, .null, .int 0, .int 0])) := ⟨_, rfl⟩
  rw [← eE16] at hG
  have h1 : E16 (b + 1) = some (.inl (dA 0, 3038, .inl (fun _ => 0))) := Eq.trans (by rw [eE16, gset_ne (by omega)]) (h1)
  have h2 : E16 (b + 2) = some (.inl (dA 0, 3038, .inl (fun _ => 0))) := Eq.trans (by rw [eE16, gset_ne (by omega)]) (h2)
  have h3 : E16 (b + 3) = some (.inl (dA 0, 3492, .inl (fun _ => 0))) := Eq.trans (by rw [eE16, gset_ne (by omega)]) (h3)
  have h4 : E16 (b + 4) = some (.inl (dA 0, 8, .inl (fun _ => 0))) := Eq.trans (by rw [eE16, gset_ne (by omega)]) (h4)
  have h5 : E16 (b + 5) = some (.inl (dA 0, 9, .inl (fun _ => 0))) := Eq.trans (by rw [eE16, gset_ne (by omega)]) (h5)
  have h6 : E16 (b + 6) = some (.inl (dA 0, 300, .inl (fun _ => 0))) := Eq.trans (by rw [eE16, gset_ne (by omega)]) (h6)
  have h7 : E16 (b + 7) = some (.inl (dA 0, 160, .inl (fun _ => 0))) := Eq.trans (by rw [eE16, gset_ne (by omega)]) (h7)
  have hlo : ∀ q : Nat, q < b → E16 q = E0 q := fun q hq => Eq.trans (by rw [eE16, gset_ne (by omega)]) (hlo q hq)
  have hr : E16 b = some (.inr (2, [.ref (b + 1), .ref (b + 2), .ref (b + 3), .ref (b + 4), .int 0, .ref (b + 5), .int 0, .ref (b + 6), .int 0, .int (-1), .int (-1), .int 0, .int 0, .int 0, .int 0, .long 0, .int 0, .int 0, .int 0, .int 0, .ref (b + 7), .int 0, .int 0, .int 0, .int 0, .int 0, .null, .null, .null, .null, .null, .null, .null, .int 0, .null, .null, .null, .null, .int 0, .int 0])) := by rw [eE16]; exact gset_eq
  refine lv_aload_n hx hb dX2_init_75 rfl (lv_at hl 0 rfl) ?_
  refine lv_bipush (v := 14) hx hb dX2_init_76 (by decide) ?_
  refine gw_newi (nn := 14) C hK hG hS (by omega) (by decide) (by decide) (by decide) ⟨Nat.le_of_ble_eq_true rfl, Nat.le_of_ble_eq_true rfl⟩ dX2_init_78 (fun H hG hS => ?_)
  obtain ⟨E17, eE17⟩ : ∃ z, z = gset E16 (b + 8) (.inl (dA 0, 14, .inl (fun _ => 0))) := ⟨_, rfl⟩
  rw [← eE17] at hG
  have hr : E17 b = some (.inr (2, [.ref (b + 1), .ref (b + 2), .ref (b + 3), .ref (b + 4), .int 0, .ref (b + 5), .int 0, .ref (b + 6), .int 0, .int (-1), .int (-1), .int 0, .int 0, .int 0, .int 0, .long 0, .int 0, .int 0, .int 0, .int 0, .ref (b + 7), .int 0, .int 0, .int 0, .int 0, .int 0, .null, .null, .null, .null, .null, .null, .null, .int 0, .null, .null, .null, .null, .int 0, .int 0])) := Eq.trans (by rw [eE17, gset_ne (by omega)]) (hr)
  have h1 : E17 (b + 1) = some (.inl (dA 0, 3038, .inl (fun _ => 0))) := Eq.trans (by rw [eE17, gset_ne (by omega)]) (h1)
  have h2 : E17 (b + 2) = some (.inl (dA 0, 3038, .inl (fun _ => 0))) := Eq.trans (by rw [eE17, gset_ne (by omega)]) (h2)
  have h3 : E17 (b + 3) = some (.inl (dA 0, 3492, .inl (fun _ => 0))) := Eq.trans (by rw [eE17, gset_ne (by omega)]) (h3)
  have h4 : E17 (b + 4) = some (.inl (dA 0, 8, .inl (fun _ => 0))) := Eq.trans (by rw [eE17, gset_ne (by omega)]) (h4)
  have h5 : E17 (b + 5) = some (.inl (dA 0, 9, .inl (fun _ => 0))) := Eq.trans (by rw [eE17, gset_ne (by omega)]) (h5)
  have h6 : E17 (b + 6) = some (.inl (dA 0, 300, .inl (fun _ => 0))) := Eq.trans (by rw [eE17, gset_ne (by omega)]) (h6)
  have h7 : E17 (b + 7) = some (.inl (dA 0, 160, .inl (fun _ => 0))) := Eq.trans (by rw [eE17, gset_ne (by omega)]) (h7)
  have hlo : ∀ q : Nat, q < b → E17 q = E0 q := fun q hq => Eq.trans (by rw [eE17, gset_ne (by omega)]) (hlo q hq)
  have h8 : E17 (b + 8) = some (.inl (dA 0, 14, .inl (fun _ => 0))) := by rw [eE17]; exact gset_eq
  have hG : gW D E17 (b + 9) H := hG
  refine gw_put (ci := 2) in_X2 tyX2 tyX2_ok nmX2 rfl C hK hG hS 26 (by decide) q1552 rfl (Or.inr ⟨rfl, hin, rfl⟩) hr (by show 26 < 40; omega) (Nat.le_refl _) (tyX2_ok 26 (by decide)) rfl rfl dX2_init_80 (fun H locs hG hS => ?_)
  have hG : gW D (gset E17 b (.inr (2, [.ref (b + 1), .ref (b + 2), .ref (b + 3), .ref (b + 4), .int 0, .ref (b + 5), .int 0, .ref (b + 6), .int 0, .int (-1), .int (-1), .int 0, .int 0, .int 0, .int 0, .long 0, .int 0, .int 0, .int 0, .int 0, .ref (b + 7), .int 0, .int 0, .int 0, .int 0, .int 0, .ref (b + 8), .null, .null, .null, .null, .null, .null, .int 0, .null, .null, .null, .null, .int 0, .int 0]))) (b + 9) H := hG
  obtain ⟨E18, eE18⟩ : ∃ z, z = gset E17 b (.inr (2, [.ref (b + 1), .ref (b + 2), .ref (b + 3), .ref (b + 4), .int 0, .ref (b + 5), .int 0, .ref (b + 6), .int 0, .int (-1), .int (-1), .int 0, .int 0, .int 0, .int 0, .long 0, .int 0, .int 0, .int 0, .int 0, .ref (b + 7), .int 0, .int 0, .int 0, .int 0, .int 0, .ref (b + 8), .null, .null, .null, .null, .null, .null, .int 0, .null, .null, .null, .null, .int 0, .int 0])) := ⟨_, rfl⟩
  rw [← eE18] at hG
  have h1 : E18 (b + 1) = some (.inl (dA 0, 3038, .inl (fun _ => 0))) := Eq.trans (by rw [eE18, gset_ne (by omega)]) (h1)
  have h2 : E18 (b + 2) = some (.inl (dA 0, 3038, .inl (fun _ => 0))) := Eq.trans (by rw [eE18, gset_ne (by omega)]) (h2)
  have h3 : E18 (b + 3) = some (.inl (dA 0, 3492, .inl (fun _ => 0))) := Eq.trans (by rw [eE18, gset_ne (by omega)]) (h3)
  have h4 : E18 (b + 4) = some (.inl (dA 0, 8, .inl (fun _ => 0))) := Eq.trans (by rw [eE18, gset_ne (by omega)]) (h4)
  have h5 : E18 (b + 5) = some (.inl (dA 0, 9, .inl (fun _ => 0))) := Eq.trans (by rw [eE18, gset_ne (by omega)]) (h5)
  have h6 : E18 (b + 6) = some (.inl (dA 0, 300, .inl (fun _ => 0))) := Eq.trans (by rw [eE18, gset_ne (by omega)]) (h6)
  have h7 : E18 (b + 7) = some (.inl (dA 0, 160, .inl (fun _ => 0))) := Eq.trans (by rw [eE18, gset_ne (by omega)]) (h7)
  have h8 : E18 (b + 8) = some (.inl (dA 0, 14, .inl (fun _ => 0))) := Eq.trans (by rw [eE18, gset_ne (by omega)]) (h8)
  have hlo : ∀ q : Nat, q < b → E18 q = E0 q := fun q hq => Eq.trans (by rw [eE18, gset_ne (by omega)]) (hlo q hq)
  have hr : E18 b = some (.inr (2, [.ref (b + 1), .ref (b + 2), .ref (b + 3), .ref (b + 4), .int 0, .ref (b + 5), .int 0, .ref (b + 6), .int 0, .int (-1), .int (-1), .int 0, .int 0, .int 0, .int 0, .long 0, .int 0, .int 0, .int 0, .int 0, .ref (b + 7), .int 0, .int 0, .int 0, .int 0, .int 0, .ref (b + 8), .null, .null, .null, .null, .null, .null, .int 0, .null, .null, .null, .null, .int 0, .int 0])) := by rw [eE18]; exact gset_eq
  refine lv_aload_n hx hb dX2_init_83 rfl (lv_at hl 0 rfl) ?_
  refine lv_sipush (v := 330) hx hb dX2_init_84 (by decide) ?_
  refine gw_newl (nn := 330) C hK hG hS (by omega) (by decide) (by decide) (by decide) ⟨Nat.le_of_ble_eq_true rfl, Nat.le_of_ble_eq_true rfl⟩ dX2_init_87 (fun H hG hS => ?_)
  obtain ⟨E19, eE19⟩ : ∃ z, z = gset E18 (b + 9) (.inl (dA 3, 330, .inr (.inl (fun _ => 0)))) := ⟨_, rfl⟩
  rw [← eE19] at hG
  have hr : E19 b = some (.inr (2, [.ref (b + 1), .ref (b + 2), .ref (b + 3), .ref (b + 4), .int 0, .ref (b + 5), .int 0, .ref (b + 6), .int 0, .int (-1), .int (-1), .int 0, .int 0, .int 0, .int 0, .long 0, .int 0, .int 0, .int 0, .int 0, .ref (b + 7), .int 0, .int 0, .int 0, .int 0, .int 0, .ref (b + 8), .null, .null, .null, .null, .null, .null, .int 0, .null, .null, .null, .null, .int 0, .int 0])) := Eq.trans (by rw [eE19, gset_ne (by omega)]) (hr)
  have h1 : E19 (b + 1) = some (.inl (dA 0, 3038, .inl (fun _ => 0))) := Eq.trans (by rw [eE19, gset_ne (by omega)]) (h1)
  have h2 : E19 (b + 2) = some (.inl (dA 0, 3038, .inl (fun _ => 0))) := Eq.trans (by rw [eE19, gset_ne (by omega)]) (h2)
  have h3 : E19 (b + 3) = some (.inl (dA 0, 3492, .inl (fun _ => 0))) := Eq.trans (by rw [eE19, gset_ne (by omega)]) (h3)
  have h4 : E19 (b + 4) = some (.inl (dA 0, 8, .inl (fun _ => 0))) := Eq.trans (by rw [eE19, gset_ne (by omega)]) (h4)
  have h5 : E19 (b + 5) = some (.inl (dA 0, 9, .inl (fun _ => 0))) := Eq.trans (by rw [eE19, gset_ne (by omega)]) (h5)
  have h6 : E19 (b + 6) = some (.inl (dA 0, 300, .inl (fun _ => 0))) := Eq.trans (by rw [eE19, gset_ne (by omega)]) (h6)
  have h7 : E19 (b + 7) = some (.inl (dA 0, 160, .inl (fun _ => 0))) := Eq.trans (by rw [eE19, gset_ne (by omega)]) (h7)
  have h8 : E19 (b + 8) = some (.inl (dA 0, 14, .inl (fun _ => 0))) := Eq.trans (by rw [eE19, gset_ne (by omega)]) (h8)
  have hlo : ∀ q : Nat, q < b → E19 q = E0 q := fun q hq => Eq.trans (by rw [eE19, gset_ne (by omega)]) (hlo q hq)
  have h9 : E19 (b + 9) = some (.inl (dA 3, 330, .inr (.inl (fun _ => 0)))) := by rw [eE19]; exact gset_eq
  have hG : gW D E19 (b + 10) H := hG
  refine gw_put (ci := 2) in_X2 tyX2 tyX2_ok nmX2 rfl C hK hG hS 27 (by decide) q1553 rfl (Or.inr ⟨rfl, hin, rfl⟩) hr (by show 27 < 40; omega) (Nat.le_refl _) (tyX2_ok 27 (by decide)) rfl rfl dX2_init_89 (fun H locs hG hS => ?_)
  have hG : gW D (gset E19 b (.inr (2, [.ref (b + 1), .ref (b + 2), .ref (b + 3), .ref (b + 4), .int 0, .ref (b + 5), .int 0, .ref (b + 6), .int 0, .int (-1), .int (-1), .int 0, .int 0, .int 0, .int 0, .long 0, .int 0, .int 0, .int 0, .int 0, .ref (b + 7), .int 0, .int 0, .int 0, .int 0, .int 0, .ref (b + 8), .ref (b + 9), .null, .null, .null, .null, .null, .int 0, .null, .null, .null, .null, .int 0, .int 0]))) (b + 10) H := hG
  obtain ⟨E20, eE20⟩ : ∃ z, z = gset E19 b (.inr (2, [.ref (b + 1), .ref (b + 2), .ref (b + 3), .ref (b + 4), .int 0, .ref (b + 5), .int 0, .ref (b + 6), .int 0, .int (-1), .int (-1), .int 0, .int 0, .int 0, .int 0, .long 0, .int 0, .int 0, .int 0, .int 0, .ref (b + 7), .int 0, .int 0, .int 0, .int 0, .int 0, .ref (b + 8), .ref (b + 9), .null, .null, .null, .null, .null, .int 0, .null, .null, .null, .null, .int 0, .int 0])) := ⟨_, rfl⟩
  rw [← eE20] at hG
  have h1 : E20 (b + 1) = some (.inl (dA 0, 3038, .inl (fun _ => 0))) := Eq.trans (by rw [eE20, gset_ne (by omega)]) (h1)
  have h2 : E20 (b + 2) = some (.inl (dA 0, 3038, .inl (fun _ => 0))) := Eq.trans (by rw [eE20, gset_ne (by omega)]) (h2)
  have h3 : E20 (b + 3) = some (.inl (dA 0, 3492, .inl (fun _ => 0))) := Eq.trans (by rw [eE20, gset_ne (by omega)]) (h3)
  have h4 : E20 (b + 4) = some (.inl (dA 0, 8, .inl (fun _ => 0))) := Eq.trans (by rw [eE20, gset_ne (by omega)]) (h4)
  have h5 : E20 (b + 5) = some (.inl (dA 0, 9, .inl (fun _ => 0))) := Eq.trans (by rw [eE20, gset_ne (by omega)]) (h5)
  have h6 : E20 (b + 6) = some (.inl (dA 0, 300, .inl (fun _ => 0))) := Eq.trans (by rw [eE20, gset_ne (by omega)]) (h6)
  have h7 : E20 (b + 7) = some (.inl (dA 0, 160, .inl (fun _ => 0))) := Eq.trans (by rw [eE20, gset_ne (by omega)]) (h7)
  have h8 : E20 (b + 8) = some (.inl (dA 0, 14, .inl (fun _ => 0))) := Eq.trans (by rw [eE20, gset_ne (by omega)]) (h8)
  have h9 : E20 (b + 9) = some (.inl (dA 3, 330, .inr (.inl (fun _ => 0)))) := Eq.trans (by rw [eE20, gset_ne (by omega)]) (h9)
  have hlo : ∀ q : Nat, q < b → E20 q = E0 q := fun q hq => Eq.trans (by rw [eE20, gset_ne (by omega)]) (hlo q hq)
  have hr : E20 b = some (.inr (2, [.ref (b + 1), .ref (b + 2), .ref (b + 3), .ref (b + 4), .int 0, .ref (b + 5), .int 0, .ref (b + 6), .int 0, .int (-1), .int (-1), .int 0, .int 0, .int 0, .int 0, .long 0, .int 0, .int 0, .int 0, .int 0, .ref (b + 7), .int 0, .int 0, .int 0, .int 0, .int 0, .ref (b + 8), .ref (b + 9), .null, .null, .null, .null, .null, .int 0, .null, .null, .null, .null, .int 0, .int 0])) := by rw [eE20]; exact gset_eq
  refine lv_aload_n hx hb dX2_init_92 rfl (lv_at hl 0 rfl) ?_
  refine lv_sipush (v := 330) hx hb dX2_init_93 (by decide) ?_
  refine gw_newz (nn := 330) C hK hG hS (by omega) (by decide) (by decide) (by decide) ⟨Nat.le_of_ble_eq_true rfl, Nat.le_of_ble_eq_true rfl⟩ dX2_init_96 (fun H hG hS => ?_)
  obtain ⟨E21, eE21⟩ : ∃ z, z = gset E20 (b + 10) (.inl (dA 2, 330, .inl (fun _ => 0))) := ⟨_, rfl⟩
  rw [← eE21] at hG
  have hr : E21 b = some (.inr (2, [.ref (b + 1), .ref (b + 2), .ref (b + 3), .ref (b + 4), .int 0, .ref (b + 5), .int 0, .ref (b + 6), .int 0, .int (-1), .int (-1), .int 0, .int 0, .int 0, .int 0, .long 0, .int 0, .int 0, .int 0, .int 0, .ref (b + 7), .int 0, .int 0, .int 0, .int 0, .int 0, .ref (b + 8), .ref (b + 9), .null, .null, .null, .null, .null, .int 0, .null, .null, .null, .null, .int 0, .int 0])) := Eq.trans (by rw [eE21, gset_ne (by omega)]) (hr)
  have h1 : E21 (b + 1) = some (.inl (dA 0, 3038, .inl (fun _ => 0))) := Eq.trans (by rw [eE21, gset_ne (by omega)]) (h1)
  have h2 : E21 (b + 2) = some (.inl (dA 0, 3038, .inl (fun _ => 0))) := Eq.trans (by rw [eE21, gset_ne (by omega)]) (h2)
  have h3 : E21 (b + 3) = some (.inl (dA 0, 3492, .inl (fun _ => 0))) := Eq.trans (by rw [eE21, gset_ne (by omega)]) (h3)
  have h4 : E21 (b + 4) = some (.inl (dA 0, 8, .inl (fun _ => 0))) := Eq.trans (by rw [eE21, gset_ne (by omega)]) (h4)
  have h5 : E21 (b + 5) = some (.inl (dA 0, 9, .inl (fun _ => 0))) := Eq.trans (by rw [eE21, gset_ne (by omega)]) (h5)
  have h6 : E21 (b + 6) = some (.inl (dA 0, 300, .inl (fun _ => 0))) := Eq.trans (by rw [eE21, gset_ne (by omega)]) (h6)
  have h7 : E21 (b + 7) = some (.inl (dA 0, 160, .inl (fun _ => 0))) := Eq.trans (by rw [eE21, gset_ne (by omega)]) (h7)
  have h8 : E21 (b + 8) = some (.inl (dA 0, 14, .inl (fun _ => 0))) := Eq.trans (by rw [eE21, gset_ne (by omega)]) (h8)
  have h9 : E21 (b + 9) = some (.inl (dA 3, 330, .inr (.inl (fun _ => 0)))) := Eq.trans (by rw [eE21, gset_ne (by omega)]) (h9)
  have hlo : ∀ q : Nat, q < b → E21 q = E0 q := fun q hq => Eq.trans (by rw [eE21, gset_ne (by omega)]) (hlo q hq)
  have h10 : E21 (b + 10) = some (.inl (dA 2, 330, .inl (fun _ => 0))) := by rw [eE21]; exact gset_eq
  have hG : gW D E21 (b + 11) H := hG
  refine gw_put (ci := 2) in_X2 tyX2 tyX2_ok nmX2 rfl C hK hG hS 28 (by decide) q1554 rfl (Or.inr ⟨rfl, hin, rfl⟩) hr (by show 28 < 40; omega) (Nat.le_refl _) (tyX2_ok 28 (by decide)) rfl rfl dX2_init_98 (fun H locs hG hS => ?_)
  have hG : gW D (gset E21 b (.inr (2, [.ref (b + 1), .ref (b + 2), .ref (b + 3), .ref (b + 4), .int 0, .ref (b + 5), .int 0, .ref (b + 6), .int 0, .int (-1), .int (-1), .int 0, .int 0, .int 0, .int 0, .long 0, .int 0, .int 0, .int 0, .int 0, .ref (b + 7), .int 0, .int 0, .int 0, .int 0, .int 0, .ref (b + 8), .ref (b + 9), .ref (b + 10), .null, .null, .null, .null, .int 0, .null, .null, .null, .null, .int 0, .int 0]))) (b + 11) H := hG
  obtain ⟨E22, eE22⟩ : ∃ z, z = gset E21 b (.inr (2, [.ref (b + 1), .ref (b + 2), .ref (b + 3), .ref (b + 4), .int 0, .ref (b + 5), .int 0, .ref (b + 6), .int 0, .int (-1), .int (-1), .int 0, .int 0, .int 0, .int 0, .long 0, .int 0, .int 0, .int 0, .int 0, .ref (b + 7), .int 0, .int 0, .int 0, .int 0, .int 0, .ref (b + 8), .ref (b + 9), .ref (b + 10), .null, .null, .null, .null, .int 0, .null, .null, .null, .null, .int 0, .int 0])) := ⟨_, rfl⟩
  rw [← eE22] at hG
  have h1 : E22 (b + 1) = some (.inl (dA 0, 3038, .inl (fun _ => 0))) := Eq.trans (by rw [eE22, gset_ne (by omega)]) (h1)
  have h2 : E22 (b + 2) = some (.inl (dA 0, 3038, .inl (fun _ => 0))) := Eq.trans (by rw [eE22, gset_ne (by omega)]) (h2)
  have h3 : E22 (b + 3) = some (.inl (dA 0, 3492, .inl (fun _ => 0))) := Eq.trans (by rw [eE22, gset_ne (by omega)]) (h3)
  have h4 : E22 (b + 4) = some (.inl (dA 0, 8, .inl (fun _ => 0))) := Eq.trans (by rw [eE22, gset_ne (by omega)]) (h4)
  have h5 : E22 (b + 5) = some (.inl (dA 0, 9, .inl (fun _ => 0))) := Eq.trans (by rw [eE22, gset_ne (by omega)]) (h5)
  have h6 : E22 (b + 6) = some (.inl (dA 0, 300, .inl (fun _ => 0))) := Eq.trans (by rw [eE22, gset_ne (by omega)]) (h6)
  have h7 : E22 (b + 7) = some (.inl (dA 0, 160, .inl (fun _ => 0))) := Eq.trans (by rw [eE22, gset_ne (by omega)]) (h7)
  have h8 : E22 (b + 8) = some (.inl (dA 0, 14, .inl (fun _ => 0))) := Eq.trans (by rw [eE22, gset_ne (by omega)]) (h8)
  have h9 : E22 (b + 9) = some (.inl (dA 3, 330, .inr (.inl (fun _ => 0)))) := Eq.trans (by rw [eE22, gset_ne (by omega)]) (h9)
  have h10 : E22 (b + 10) = some (.inl (dA 2, 330, .inl (fun _ => 0))) := Eq.trans (by rw [eE22, gset_ne (by omega)]) (h10)
  have hlo : ∀ q : Nat, q < b → E22 q = E0 q := fun q hq => Eq.trans (by rw [eE22, gset_ne (by omega)]) (hlo q hq)
  have hr : E22 b = some (.inr (2, [.ref (b + 1), .ref (b + 2), .ref (b + 3), .ref (b + 4), .int 0, .ref (b + 5), .int 0, .ref (b + 6), .int 0, .int (-1), .int (-1), .int 0, .int 0, .int 0, .int 0, .long 0, .int 0, .int 0, .int 0, .int 0, .ref (b + 7), .int 0, .int 0, .int 0, .int 0, .int 0, .ref (b + 8), .ref (b + 9), .ref (b + 10), .null, .null, .null, .null, .int 0, .null, .null, .null, .null, .int 0, .int 0])) := by rw [eE22]; exact gset_eq
  refine lv_aload_n hx hb dX2_init_101 rfl (lv_at hl 0 rfl) ?_
  refine lv_bipush (v := 10) hx hb dX2_init_102 (by decide) ?_
  refine gw_newi (nn := 10) C hK hG hS (by omega) (by decide) (by decide) (by decide) ⟨Nat.le_of_ble_eq_true rfl, Nat.le_of_ble_eq_true rfl⟩ dX2_init_104 (fun H hG hS => ?_)
  obtain ⟨E23, eE23⟩ : ∃ z, z = gset E22 (b + 11) (.inl (dA 0, 10, .inl (fun _ => 0))) := ⟨_, rfl⟩
  rw [← eE23] at hG
  have hr : E23 b = some (.inr (2, [.ref (b + 1), .ref (b + 2), .ref (b + 3), .ref (b + 4), .int 0, .ref (b + 5), .int 0, .ref (b + 6), .int 0, .int (-1), .int (-1), .int 0, .int 0, .int 0, .int 0, .long 0, .int 0, .int 0, .int 0, .int 0, .ref (b + 7), .int 0, .int 0, .int 0, .int 0, .int 0, .ref (b + 8), .ref (b + 9), .ref (b + 10), .null, .null, .null, .null, .int 0, .null, .null, .null, .null, .int 0, .int 0])) := Eq.trans (by rw [eE23, gset_ne (by omega)]) (hr)
  have h1 : E23 (b + 1) = some (.inl (dA 0, 3038, .inl (fun _ => 0))) := Eq.trans (by rw [eE23, gset_ne (by omega)]) (h1)
  have h2 : E23 (b + 2) = some (.inl (dA 0, 3038, .inl (fun _ => 0))) := Eq.trans (by rw [eE23, gset_ne (by omega)]) (h2)
  have h3 : E23 (b + 3) = some (.inl (dA 0, 3492, .inl (fun _ => 0))) := Eq.trans (by rw [eE23, gset_ne (by omega)]) (h3)
  have h4 : E23 (b + 4) = some (.inl (dA 0, 8, .inl (fun _ => 0))) := Eq.trans (by rw [eE23, gset_ne (by omega)]) (h4)
  have h5 : E23 (b + 5) = some (.inl (dA 0, 9, .inl (fun _ => 0))) := Eq.trans (by rw [eE23, gset_ne (by omega)]) (h5)
  have h6 : E23 (b + 6) = some (.inl (dA 0, 300, .inl (fun _ => 0))) := Eq.trans (by rw [eE23, gset_ne (by omega)]) (h6)
  have h7 : E23 (b + 7) = some (.inl (dA 0, 160, .inl (fun _ => 0))) := Eq.trans (by rw [eE23, gset_ne (by omega)]) (h7)
  have h8 : E23 (b + 8) = some (.inl (dA 0, 14, .inl (fun _ => 0))) := Eq.trans (by rw [eE23, gset_ne (by omega)]) (h8)
  have h9 : E23 (b + 9) = some (.inl (dA 3, 330, .inr (.inl (fun _ => 0)))) := Eq.trans (by rw [eE23, gset_ne (by omega)]) (h9)
  have h10 : E23 (b + 10) = some (.inl (dA 2, 330, .inl (fun _ => 0))) := Eq.trans (by rw [eE23, gset_ne (by omega)]) (h10)
  have hlo : ∀ q : Nat, q < b → E23 q = E0 q := fun q hq => Eq.trans (by rw [eE23, gset_ne (by omega)]) (hlo q hq)
  have h11 : E23 (b + 11) = some (.inl (dA 0, 10, .inl (fun _ => 0))) := by rw [eE23]; exact gset_eq
  have hG : gW D E23 (b + 12) H := hG
  refine gw_put (ci := 2) in_X2 tyX2 tyX2_ok nmX2 rfl C hK hG hS 29 (by decide) q1555 rfl (Or.inr ⟨rfl, hin, rfl⟩) hr (by show 29 < 40; omega) (Nat.le_refl _) (tyX2_ok 29 (by decide)) rfl rfl dX2_init_106 (fun H locs hG hS => ?_)
  have hG : gW D (gset E23 b (.inr (2, [.ref (b + 1), .ref (b + 2), .ref (b + 3), .ref (b + 4), .int 0, .ref (b + 5), .int 0, .ref (b + 6), .int 0, .int (-1), .int (-1), .int 0, .int 0, .int 0, .int 0, .long 0, .int 0, .int 0, .int 0, .int 0, .ref (b + 7), .int 0, .int 0, .int 0, .int 0, .int 0, .ref (b + 8), .ref (b + 9), .ref (b + 10), .ref (b + 11), .null, .null, .null, .int 0, .null, .null, .null, .null, .int 0, .int 0]))) (b + 12) H := hG
  obtain ⟨E24, eE24⟩ : ∃ z, z = gset E23 b (.inr (2, [.ref (b + 1), .ref (b + 2), .ref (b + 3), .ref (b + 4), .int 0, .ref (b + 5), .int 0, .ref (b + 6), .int 0, .int (-1), .int (-1), .int 0, .int 0, .int 0, .int 0, .long 0, .int 0, .int 0, .int 0, .int 0, .ref (b + 7), .int 0, .int 0, .int 0, .int 0, .int 0, .ref (b + 8), .ref (b + 9), .ref (b + 10), .ref (b + 11), .null, .null, .null, .int 0, .null, .null, .null, .null, .int 0, .int 0])) := ⟨_, rfl⟩
  rw [← eE24] at hG
  have h1 : E24 (b + 1) = some (.inl (dA 0, 3038, .inl (fun _ => 0))) := Eq.trans (by rw [eE24, gset_ne (by omega)]) (h1)
  have h2 : E24 (b + 2) = some (.inl (dA 0, 3038, .inl (fun _ => 0))) := Eq.trans (by rw [eE24, gset_ne (by omega)]) (h2)
  have h3 : E24 (b + 3) = some (.inl (dA 0, 3492, .inl (fun _ => 0))) := Eq.trans (by rw [eE24, gset_ne (by omega)]) (h3)
  have h4 : E24 (b + 4) = some (.inl (dA 0, 8, .inl (fun _ => 0))) := Eq.trans (by rw [eE24, gset_ne (by omega)]) (h4)
  have h5 : E24 (b + 5) = some (.inl (dA 0, 9, .inl (fun _ => 0))) := Eq.trans (by rw [eE24, gset_ne (by omega)]) (h5)
  have h6 : E24 (b + 6) = some (.inl (dA 0, 300, .inl (fun _ => 0))) := Eq.trans (by rw [eE24, gset_ne (by omega)]) (h6)
  have h7 : E24 (b + 7) = some (.inl (dA 0, 160, .inl (fun _ => 0))) := Eq.trans (by rw [eE24, gset_ne (by omega)]) (h7)
  have h8 : E24 (b + 8) = some (.inl (dA 0, 14, .inl (fun _ => 0))) := Eq.trans (by rw [eE24, gset_ne (by omega)]) (h8)
  have h9 : E24 (b + 9) = some (.inl (dA 3, 330, .inr (.inl (fun _ => 0)))) := Eq.trans (by rw [eE24, gset_ne (by omega)]) (h9)
  have h10 : E24 (b + 10) = some (.inl (dA 2, 330, .inl (fun _ => 0))) := Eq.trans (by rw [eE24, gset_ne (by omega)]) (h10)
  have h11 : E24 (b + 11) = some (.inl (dA 0, 10, .inl (fun _ => 0))) := Eq.trans (by rw [eE24, gset_ne (by omega)]) (h11)
  have hlo : ∀ q : Nat, q < b → E24 q = E0 q := fun q hq => Eq.trans (by rw [eE24, gset_ne (by omega)]) (hlo q hq)
  have hr : E24 b = some (.inr (2, [.ref (b + 1), .ref (b + 2), .ref (b + 3), .ref (b + 4), .int 0, .ref (b + 5), .int 0, .ref (b + 6), .int 0, .int (-1), .int (-1), .int 0, .int 0, .int 0, .int 0, .long 0, .int 0, .int 0, .int 0, .int 0, .ref (b + 7), .int 0, .int 0, .int 0, .int 0, .int 0, .ref (b + 8), .ref (b + 9), .ref (b + 10), .ref (b + 11), .null, .null, .null, .int 0, .null, .null, .null, .null, .int 0, .int 0])) := by rw [eE24]; exact gset_eq
  refine lv_aload_n hx hb dX2_init_109 rfl (lv_at hl 0 rfl) ?_
  refine lv_bipush (v := 26) hx hb dX2_init_110 (by decide) ?_
  refine gw_newi (nn := 26) C hK hG hS (by omega) (by decide) (by decide) (by decide) ⟨Nat.le_of_ble_eq_true rfl, Nat.le_of_ble_eq_true rfl⟩ dX2_init_112 (fun H hG hS => ?_)
  obtain ⟨E25, eE25⟩ : ∃ z, z = gset E24 (b + 12) (.inl (dA 0, 26, .inl (fun _ => 0))) := ⟨_, rfl⟩
  rw [← eE25] at hG
  have hr : E25 b = some (.inr (2, [.ref (b + 1), .ref (b + 2), .ref (b + 3), .ref (b + 4), .int 0, .ref (b + 5), .int 0, .ref (b + 6), .int 0, .int (-1), .int (-1), .int 0, .int 0, .int 0, .int 0, .long 0, .int 0, .int 0, .int 0, .int 0, .ref (b + 7), .int 0, .int 0, .int 0, .int 0, .int 0, .ref (b + 8), .ref (b + 9), .ref (b + 10), .ref (b + 11), .null, .null, .null, .int 0, .null, .null, .null, .null, .int 0, .int 0])) := Eq.trans (by rw [eE25, gset_ne (by omega)]) (hr)
  have h1 : E25 (b + 1) = some (.inl (dA 0, 3038, .inl (fun _ => 0))) := Eq.trans (by rw [eE25, gset_ne (by omega)]) (h1)
  have h2 : E25 (b + 2) = some (.inl (dA 0, 3038, .inl (fun _ => 0))) := Eq.trans (by rw [eE25, gset_ne (by omega)]) (h2)
  have h3 : E25 (b + 3) = some (.inl (dA 0, 3492, .inl (fun _ => 0))) := Eq.trans (by rw [eE25, gset_ne (by omega)]) (h3)
  have h4 : E25 (b + 4) = some (.inl (dA 0, 8, .inl (fun _ => 0))) := Eq.trans (by rw [eE25, gset_ne (by omega)]) (h4)
  have h5 : E25 (b + 5) = some (.inl (dA 0, 9, .inl (fun _ => 0))) := Eq.trans (by rw [eE25, gset_ne (by omega)]) (h5)
  have h6 : E25 (b + 6) = some (.inl (dA 0, 300, .inl (fun _ => 0))) := Eq.trans (by rw [eE25, gset_ne (by omega)]) (h6)
  have h7 : E25 (b + 7) = some (.inl (dA 0, 160, .inl (fun _ => 0))) := Eq.trans (by rw [eE25, gset_ne (by omega)]) (h7)
  have h8 : E25 (b + 8) = some (.inl (dA 0, 14, .inl (fun _ => 0))) := Eq.trans (by rw [eE25, gset_ne (by omega)]) (h8)
  have h9 : E25 (b + 9) = some (.inl (dA 3, 330, .inr (.inl (fun _ => 0)))) := Eq.trans (by rw [eE25, gset_ne (by omega)]) (h9)
  have h10 : E25 (b + 10) = some (.inl (dA 2, 330, .inl (fun _ => 0))) := Eq.trans (by rw [eE25, gset_ne (by omega)]) (h10)
  have h11 : E25 (b + 11) = some (.inl (dA 0, 10, .inl (fun _ => 0))) := Eq.trans (by rw [eE25, gset_ne (by omega)]) (h11)
  have hlo : ∀ q : Nat, q < b → E25 q = E0 q := fun q hq => Eq.trans (by rw [eE25, gset_ne (by omega)]) (hlo q hq)
  have h12 : E25 (b + 12) = some (.inl (dA 0, 26, .inl (fun _ => 0))) := by rw [eE25]; exact gset_eq
  have hG : gW D E25 (b + 13) H := hG
  refine gw_put (ci := 2) in_X2 tyX2 tyX2_ok nmX2 rfl C hK hG hS 30 (by decide) q1556 rfl (Or.inr ⟨rfl, hin, rfl⟩) hr (by show 30 < 40; omega) (Nat.le_refl _) (tyX2_ok 30 (by decide)) rfl rfl dX2_init_114 (fun H locs hG hS => ?_)
  have hG : gW D (gset E25 b (.inr (2, [.ref (b + 1), .ref (b + 2), .ref (b + 3), .ref (b + 4), .int 0, .ref (b + 5), .int 0, .ref (b + 6), .int 0, .int (-1), .int (-1), .int 0, .int 0, .int 0, .int 0, .long 0, .int 0, .int 0, .int 0, .int 0, .ref (b + 7), .int 0, .int 0, .int 0, .int 0, .int 0, .ref (b + 8), .ref (b + 9), .ref (b + 10), .ref (b + 11), .ref (b + 12), .null, .null, .int 0, .null, .null, .null, .null, .int 0, .int 0]))) (b + 13) H := hG
  obtain ⟨E26, eE26⟩ : ∃ z, z = gset E25 b (.inr (2, [.ref (b + 1), .ref (b + 2), .ref (b + 3), .ref (b + 4), .int 0, .ref (b + 5), .int 0, .ref (b + 6), .int 0, .int (-1), .int (-1), .int 0, .int 0, .int 0, .int 0, .long 0, .int 0, .int 0, .int 0, .int 0, .ref (b + 7), .int 0, .int 0, .int 0, .int 0, .int 0, .ref (b + 8), .ref (b + 9), .ref (b + 10), .ref (b + 11), .ref (b + 12), .null, .null, .int 0, .null, .null, .null, .null, .int 0, .int 0])) := ⟨_, rfl⟩
  rw [← eE26] at hG
  have h1 : E26 (b + 1) = some (.inl (dA 0, 3038, .inl (fun _ => 0))) := Eq.trans (by rw [eE26, gset_ne (by omega)]) (h1)
  have h2 : E26 (b + 2) = some (.inl (dA 0, 3038, .inl (fun _ => 0))) := Eq.trans (by rw [eE26, gset_ne (by omega)]) (h2)
  have h3 : E26 (b + 3) = some (.inl (dA 0, 3492, .inl (fun _ => 0))) := Eq.trans (by rw [eE26, gset_ne (by omega)]) (h3)
  have h4 : E26 (b + 4) = some (.inl (dA 0, 8, .inl (fun _ => 0))) := Eq.trans (by rw [eE26, gset_ne (by omega)]) (h4)
  have h5 : E26 (b + 5) = some (.inl (dA 0, 9, .inl (fun _ => 0))) := Eq.trans (by rw [eE26, gset_ne (by omega)]) (h5)
  have h6 : E26 (b + 6) = some (.inl (dA 0, 300, .inl (fun _ => 0))) := Eq.trans (by rw [eE26, gset_ne (by omega)]) (h6)
  have h7 : E26 (b + 7) = some (.inl (dA 0, 160, .inl (fun _ => 0))) := Eq.trans (by rw [eE26, gset_ne (by omega)]) (h7)
  have h8 : E26 (b + 8) = some (.inl (dA 0, 14, .inl (fun _ => 0))) := Eq.trans (by rw [eE26, gset_ne (by omega)]) (h8)
  have h9 : E26 (b + 9) = some (.inl (dA 3, 330, .inr (.inl (fun _ => 0)))) := Eq.trans (by rw [eE26, gset_ne (by omega)]) (h9)
  have h10 : E26 (b + 10) = some (.inl (dA 2, 330, .inl (fun _ => 0))) := Eq.trans (by rw [eE26, gset_ne (by omega)]) (h10)
  have h11 : E26 (b + 11) = some (.inl (dA 0, 10, .inl (fun _ => 0))) := Eq.trans (by rw [eE26, gset_ne (by omega)]) (h11)
  have h12 : E26 (b + 12) = some (.inl (dA 0, 26, .inl (fun _ => 0))) := Eq.trans (by rw [eE26, gset_ne (by omega)]) (h12)
  have hlo : ∀ q : Nat, q < b → E26 q = E0 q := fun q hq => Eq.trans (by rw [eE26, gset_ne (by omega)]) (hlo q hq)
  have hr : E26 b = some (.inr (2, [.ref (b + 1), .ref (b + 2), .ref (b + 3), .ref (b + 4), .int 0, .ref (b + 5), .int 0, .ref (b + 6), .int 0, .int (-1), .int (-1), .int 0, .int 0, .int 0, .int 0, .long 0, .int 0, .int 0, .int 0, .int 0, .ref (b + 7), .int 0, .int 0, .int 0, .int 0, .int 0, .ref (b + 8), .ref (b + 9), .ref (b + 10), .ref (b + 11), .ref (b + 12), .null, .null, .int 0, .null, .null, .null, .null, .int 0, .int 0])) := by rw [eE26]; exact gset_eq
  refine lv_aload_n hx hb dX2_init_117 rfl (lv_at hl 0 rfl) ?_
  refine lv_sipush (v := 1024) hx hb dX2_init_118 (by decide) ?_
  refine gw_newz (nn := 1024) C hK hG hS (by omega) (by decide) (by decide) (by decide) ⟨Nat.le_of_ble_eq_true rfl, Nat.le_of_ble_eq_true rfl⟩ dX2_init_121 (fun H hG hS => ?_)
  obtain ⟨E27, eE27⟩ : ∃ z, z = gset E26 (b + 13) (.inl (dA 2, 1024, .inl (fun _ => 0))) := ⟨_, rfl⟩
  rw [← eE27] at hG
  have hr : E27 b = some (.inr (2, [.ref (b + 1), .ref (b + 2), .ref (b + 3), .ref (b + 4), .int 0, .ref (b + 5), .int 0, .ref (b + 6), .int 0, .int (-1), .int (-1), .int 0, .int 0, .int 0, .int 0, .long 0, .int 0, .int 0, .int 0, .int 0, .ref (b + 7), .int 0, .int 0, .int 0, .int 0, .int 0, .ref (b + 8), .ref (b + 9), .ref (b + 10), .ref (b + 11), .ref (b + 12), .null, .null, .int 0, .null, .null, .null, .null, .int 0, .int 0])) := Eq.trans (by rw [eE27, gset_ne (by omega)]) (hr)
  have h1 : E27 (b + 1) = some (.inl (dA 0, 3038, .inl (fun _ => 0))) := Eq.trans (by rw [eE27, gset_ne (by omega)]) (h1)
  have h2 : E27 (b + 2) = some (.inl (dA 0, 3038, .inl (fun _ => 0))) := Eq.trans (by rw [eE27, gset_ne (by omega)]) (h2)
  have h3 : E27 (b + 3) = some (.inl (dA 0, 3492, .inl (fun _ => 0))) := Eq.trans (by rw [eE27, gset_ne (by omega)]) (h3)
  have h4 : E27 (b + 4) = some (.inl (dA 0, 8, .inl (fun _ => 0))) := Eq.trans (by rw [eE27, gset_ne (by omega)]) (h4)
  have h5 : E27 (b + 5) = some (.inl (dA 0, 9, .inl (fun _ => 0))) := Eq.trans (by rw [eE27, gset_ne (by omega)]) (h5)
  have h6 : E27 (b + 6) = some (.inl (dA 0, 300, .inl (fun _ => 0))) := Eq.trans (by rw [eE27, gset_ne (by omega)]) (h6)
  have h7 : E27 (b + 7) = some (.inl (dA 0, 160, .inl (fun _ => 0))) := Eq.trans (by rw [eE27, gset_ne (by omega)]) (h7)
  have h8 : E27 (b + 8) = some (.inl (dA 0, 14, .inl (fun _ => 0))) := Eq.trans (by rw [eE27, gset_ne (by omega)]) (h8)
  have h9 : E27 (b + 9) = some (.inl (dA 3, 330, .inr (.inl (fun _ => 0)))) := Eq.trans (by rw [eE27, gset_ne (by omega)]) (h9)
  have h10 : E27 (b + 10) = some (.inl (dA 2, 330, .inl (fun _ => 0))) := Eq.trans (by rw [eE27, gset_ne (by omega)]) (h10)
  have h11 : E27 (b + 11) = some (.inl (dA 0, 10, .inl (fun _ => 0))) := Eq.trans (by rw [eE27, gset_ne (by omega)]) (h11)
  have h12 : E27 (b + 12) = some (.inl (dA 0, 26, .inl (fun _ => 0))) := Eq.trans (by rw [eE27, gset_ne (by omega)]) (h12)
  have hlo : ∀ q : Nat, q < b → E27 q = E0 q := fun q hq => Eq.trans (by rw [eE27, gset_ne (by omega)]) (hlo q hq)
  have h13 : E27 (b + 13) = some (.inl (dA 2, 1024, .inl (fun _ => 0))) := by rw [eE27]; exact gset_eq
  have hG : gW D E27 (b + 14) H := hG
  refine gw_put (ci := 2) in_X2 tyX2 tyX2_ok nmX2 rfl C hK hG hS 31 (by decide) q1557 rfl (Or.inr ⟨rfl, hin, rfl⟩) hr (by show 31 < 40; omega) (Nat.le_refl _) (tyX2_ok 31 (by decide)) rfl rfl dX2_init_123 (fun H locs hG hS => ?_)
  have hG : gW D (gset E27 b (.inr (2, [.ref (b + 1), .ref (b + 2), .ref (b + 3), .ref (b + 4), .int 0, .ref (b + 5), .int 0, .ref (b + 6), .int 0, .int (-1), .int (-1), .int 0, .int 0, .int 0, .int 0, .long 0, .int 0, .int 0, .int 0, .int 0, .ref (b + 7), .int 0, .int 0, .int 0, .int 0, .int 0, .ref (b + 8), .ref (b + 9), .ref (b + 10), .ref (b + 11), .ref (b + 12), .ref (b + 13), .null, .int 0, .null, .null, .null, .null, .int 0, .int 0]))) (b + 14) H := hG
  obtain ⟨E28, eE28⟩ : ∃ z, z = gset E27 b (.inr (2, [.ref (b + 1), .ref (b + 2), .ref (b + 3), .ref (b + 4), .int 0, .ref (b + 5), .int 0, .ref (b + 6), .int 0, .int (-1), .int (-1), .int 0, .int 0, .int 0, .int 0, .long 0, .int 0, .int 0, .int 0, .int 0, .ref (b + 7), .int 0, .int 0, .int 0, .int 0, .int 0, .ref (b + 8), .ref (b + 9), .ref (b + 10), .ref (b + 11), .ref (b + 12), .ref (b + 13), .null, .int 0, .null, .null, .null, .null, .int 0, .int 0])) := ⟨_, rfl⟩
  rw [← eE28] at hG
  have h1 : E28 (b + 1) = some (.inl (dA 0, 3038, .inl (fun _ => 0))) := Eq.trans (by rw [eE28, gset_ne (by omega)]) (h1)
  have h2 : E28 (b + 2) = some (.inl (dA 0, 3038, .inl (fun _ => 0))) := Eq.trans (by rw [eE28, gset_ne (by omega)]) (h2)
  have h3 : E28 (b + 3) = some (.inl (dA 0, 3492, .inl (fun _ => 0))) := Eq.trans (by rw [eE28, gset_ne (by omega)]) (h3)
  have h4 : E28 (b + 4) = some (.inl (dA 0, 8, .inl (fun _ => 0))) := Eq.trans (by rw [eE28, gset_ne (by omega)]) (h4)
  have h5 : E28 (b + 5) = some (.inl (dA 0, 9, .inl (fun _ => 0))) := Eq.trans (by rw [eE28, gset_ne (by omega)]) (h5)
  have h6 : E28 (b + 6) = some (.inl (dA 0, 300, .inl (fun _ => 0))) := Eq.trans (by rw [eE28, gset_ne (by omega)]) (h6)
  have h7 : E28 (b + 7) = some (.inl (dA 0, 160, .inl (fun _ => 0))) := Eq.trans (by rw [eE28, gset_ne (by omega)]) (h7)
  have h8 : E28 (b + 8) = some (.inl (dA 0, 14, .inl (fun _ => 0))) := Eq.trans (by rw [eE28, gset_ne (by omega)]) (h8)
  have h9 : E28 (b + 9) = some (.inl (dA 3, 330, .inr (.inl (fun _ => 0)))) := Eq.trans (by rw [eE28, gset_ne (by omega)]) (h9)
  have h10 : E28 (b + 10) = some (.inl (dA 2, 330, .inl (fun _ => 0))) := Eq.trans (by rw [eE28, gset_ne (by omega)]) (h10)
  have h11 : E28 (b + 11) = some (.inl (dA 0, 10, .inl (fun _ => 0))) := Eq.trans (by rw [eE28, gset_ne (by omega)]) (h11)
  have h12 : E28 (b + 12) = some (.inl (dA 0, 26, .inl (fun _ => 0))) := Eq.trans (by rw [eE28, gset_ne (by omega)]) (h12)
  have h13 : E28 (b + 13) = some (.inl (dA 2, 1024, .inl (fun _ => 0))) := Eq.trans (by rw [eE28, gset_ne (by omega)]) (h13)
  have hlo : ∀ q : Nat, q < b → E28 q = E0 q := fun q hq => Eq.trans (by rw [eE28, gset_ne (by omega)]) (hlo q hq)
  have hr : E28 b = some (.inr (2, [.ref (b + 1), .ref (b + 2), .ref (b + 3), .ref (b + 4), .int 0, .ref (b + 5), .int 0, .ref (b + 6), .int 0, .int (-1), .int (-1), .int 0, .int 0, .int 0, .int 0, .long 0, .int 0, .int 0, .int 0, .int 0, .ref (b + 7), .int 0, .int 0, .int 0, .int 0, .int 0, .ref (b + 8), .ref (b + 9), .ref (b + 10), .ref (b + 11), .ref (b + 12), .ref (b + 13), .null, .int 0, .null, .null, .null, .null, .int 0, .int 0])) := by rw [eE28]; exact gset_eq
  refine lv_aload_n hx hb dX2_init_126 rfl (lv_at hl 0 rfl) ?_
  refine lv_sipush (v := 1024) hx hb dX2_init_127 (by decide) ?_
  refine gw_newz (nn := 1024) C hK hG hS (by omega) (by decide) (by decide) (by decide) ⟨Nat.le_of_ble_eq_true rfl, Nat.le_of_ble_eq_true rfl⟩ dX2_init_130 (fun H hG hS => ?_)
  obtain ⟨E29, eE29⟩ : ∃ z, z = gset E28 (b + 14) (.inl (dA 2, 1024, .inl (fun _ => 0))) := ⟨_, rfl⟩
  rw [← eE29] at hG
  have hr : E29 b = some (.inr (2, [.ref (b + 1), .ref (b + 2), .ref (b + 3), .ref (b + 4), .int 0, .ref (b + 5), .int 0, .ref (b + 6), .int 0, .int (-1), .int (-1), .int 0, .int 0, .int 0, .int 0, .long 0, .int 0, .int 0, .int 0, .int 0, .ref (b + 7), .int 0, .int 0, .int 0, .int 0, .int 0, .ref (b + 8), .ref (b + 9), .ref (b + 10), .ref (b + 11), .ref (b + 12), .ref (b + 13), .null, .int 0, .null, .null, .null, .null, .int 0, .int 0])) := Eq.trans (by rw [eE29, gset_ne (by omega)]) (hr)
  have h1 : E29 (b + 1) = some (.inl (dA 0, 3038, .inl (fun _ => 0))) := Eq.trans (by rw [eE29, gset_ne (by omega)]) (h1)
  have h2 : E29 (b + 2) = some (.inl (dA 0, 3038, .inl (fun _ => 0))) := Eq.trans (by rw [eE29, gset_ne (by omega)]) (h2)
  have h3 : E29 (b + 3) = some (.inl (dA 0, 3492, .inl (fun _ => 0))) := Eq.trans (by rw [eE29, gset_ne (by omega)]) (h3)
  have h4 : E29 (b + 4) = some (.inl (dA 0, 8, .inl (fun _ => 0))) := Eq.trans (by rw [eE29, gset_ne (by omega)]) (h4)
  have h5 : E29 (b + 5) = some (.inl (dA 0, 9, .inl (fun _ => 0))) := Eq.trans (by rw [eE29, gset_ne (by omega)]) (h5)
  have h6 : E29 (b + 6) = some (.inl (dA 0, 300, .inl (fun _ => 0))) := Eq.trans (by rw [eE29, gset_ne (by omega)]) (h6)
  have h7 : E29 (b + 7) = some (.inl (dA 0, 160, .inl (fun _ => 0))) := Eq.trans (by rw [eE29, gset_ne (by omega)]) (h7)
  have h8 : E29 (b + 8) = some (.inl (dA 0, 14, .inl (fun _ => 0))) := Eq.trans (by rw [eE29, gset_ne (by omega)]) (h8)
  have h9 : E29 (b + 9) = some (.inl (dA 3, 330, .inr (.inl (fun _ => 0)))) := Eq.trans (by rw [eE29, gset_ne (by omega)]) (h9)
  have h10 : E29 (b + 10) = some (.inl (dA 2, 330, .inl (fun _ => 0))) := Eq.trans (by rw [eE29, gset_ne (by omega)]) (h10)
  have h11 : E29 (b + 11) = some (.inl (dA 0, 10, .inl (fun _ => 0))) := Eq.trans (by rw [eE29, gset_ne (by omega)]) (h11)
  have h12 : E29 (b + 12) = some (.inl (dA 0, 26, .inl (fun _ => 0))) := Eq.trans (by rw [eE29, gset_ne (by omega)]) (h12)
  have h13 : E29 (b + 13) = some (.inl (dA 2, 1024, .inl (fun _ => 0))) := Eq.trans (by rw [eE29, gset_ne (by omega)]) (h13)
  have hlo : ∀ q : Nat, q < b → E29 q = E0 q := fun q hq => Eq.trans (by rw [eE29, gset_ne (by omega)]) (hlo q hq)
  have h14 : E29 (b + 14) = some (.inl (dA 2, 1024, .inl (fun _ => 0))) := by rw [eE29]; exact gset_eq
  have hG : gW D E29 (b + 15) H := hG
  refine gw_put (ci := 2) in_X2 tyX2 tyX2_ok nmX2 rfl C hK hG hS 32 (by decide) q1558 rfl (Or.inr ⟨rfl, hin, rfl⟩) hr (by show 32 < 40; omega) (Nat.le_refl _) (tyX2_ok 32 (by decide)) rfl rfl dX2_init_132 (fun H locs hG hS => ?_)
  have hG : gW D (gset E29 b (.inr (2, [.ref (b + 1), .ref (b + 2), .ref (b + 3), .ref (b + 4), .int 0, .ref (b + 5), .int 0, .ref (b + 6), .int 0, .int (-1), .int (-1), .int 0, .int 0, .int 0, .int 0, .long 0, .int 0, .int 0, .int 0, .int 0, .ref (b + 7), .int 0, .int 0, .int 0, .int 0, .int 0, .ref (b + 8), .ref (b + 9), .ref (b + 10), .ref (b + 11), .ref (b + 12), .ref (b + 13), .ref (b + 14), .int 0, .null, .null, .null, .null, .int 0, .int 0]))) (b + 15) H := hG
  obtain ⟨E30, eE30⟩ : ∃ z, z = gset E29 b (.inr (2, [.ref (b + 1), .ref (b + 2), .ref (b + 3), .ref (b + 4), .int 0, .ref (b + 5), .int 0, .ref (b + 6), .int 0, .int (-1), .int (-1), .int 0, .int 0, .int 0, .int 0, .long 0, .int 0, .int 0, .int 0, .int 0, .ref (b + 7), .int 0, .int 0, .int 0, .int 0, .int 0, .ref (b + 8), .ref (b + 9), .ref (b + 10), .ref (b + 11), .ref (b + 12), .ref (b + 13), .ref (b + 14), .int 0, .null, .null, .null, .null, .int 0, .int 0])) := ⟨_, rfl⟩
  rw [← eE30] at hG
  have h1 : E30 (b + 1) = some (.inl (dA 0, 3038, .inl (fun _ => 0))) := Eq.trans (by rw [eE30, gset_ne (by omega)]) (h1)
  have h2 : E30 (b + 2) = some (.inl (dA 0, 3038, .inl (fun _ => 0))) := Eq.trans (by rw [eE30, gset_ne (by omega)]) (h2)
  have h3 : E30 (b + 3) = some (.inl (dA 0, 3492, .inl (fun _ => 0))) := Eq.trans (by rw [eE30, gset_ne (by omega)]) (h3)
  have h4 : E30 (b + 4) = some (.inl (dA 0, 8, .inl (fun _ => 0))) := Eq.trans (by rw [eE30, gset_ne (by omega)]) (h4)
  have h5 : E30 (b + 5) = some (.inl (dA 0, 9, .inl (fun _ => 0))) := Eq.trans (by rw [eE30, gset_ne (by omega)]) (h5)
  have h6 : E30 (b + 6) = some (.inl (dA 0, 300, .inl (fun _ => 0))) := Eq.trans (by rw [eE30, gset_ne (by omega)]) (h6)
  have h7 : E30 (b + 7) = some (.inl (dA 0, 160, .inl (fun _ => 0))) := Eq.trans (by rw [eE30, gset_ne (by omega)]) (h7)
  have h8 : E30 (b + 8) = some (.inl (dA 0, 14, .inl (fun _ => 0))) := Eq.trans (by rw [eE30, gset_ne (by omega)]) (h8)
  have h9 : E30 (b + 9) = some (.inl (dA 3, 330, .inr (.inl (fun _ => 0)))) := Eq.trans (by rw [eE30, gset_ne (by omega)]) (h9)
  have h10 : E30 (b + 10) = some (.inl (dA 2, 330, .inl (fun _ => 0))) := Eq.trans (by rw [eE30, gset_ne (by omega)]) (h10)
  have h11 : E30 (b + 11) = some (.inl (dA 0, 10, .inl (fun _ => 0))) := Eq.trans (by rw [eE30, gset_ne (by omega)]) (h11)
  have h12 : E30 (b + 12) = some (.inl (dA 0, 26, .inl (fun _ => 0))) := Eq.trans (by rw [eE30, gset_ne (by omega)]) (h12)
  have h13 : E30 (b + 13) = some (.inl (dA 2, 1024, .inl (fun _ => 0))) := Eq.trans (by rw [eE30, gset_ne (by omega)]) (h13)
  have h14 : E30 (b + 14) = some (.inl (dA 2, 1024, .inl (fun _ => 0))) := Eq.trans (by rw [eE30, gset_ne (by omega)]) (h14)
  have hlo : ∀ q : Nat, q < b → E30 q = E0 q := fun q hq => Eq.trans (by rw [eE30, gset_ne (by omega)]) (hlo q hq)
  have hr : E30 b = some (.inr (2, [.ref (b + 1), .ref (b + 2), .ref (b + 3), .ref (b + 4), .int 0, .ref (b + 5), .int 0, .ref (b + 6), .int 0, .int (-1), .int (-1), .int 0, .int 0, .int 0, .int 0, .long 0, .int 0, .int 0, .int 0, .int 0, .ref (b + 7), .int 0, .int 0, .int 0, .int 0, .int 0, .ref (b + 8), .ref (b + 9), .ref (b + 10), .ref (b + 11), .ref (b + 12), .ref (b + 13), .ref (b + 14), .int 0, .null, .null, .null, .null, .int 0, .int 0])) := by rw [eE30]; exact gset_eq
  refine lv_aload_n hx hb dX2_init_135 rfl (lv_at hl 0 rfl) ?_
  refine lv_iconst (v := 4) hx hb dX2_init_136 (by decide) ?_
  refine gw_newi (nn := 4) C hK hG hS (by omega) (by decide) (by decide) (by decide) ⟨Nat.le_of_ble_eq_true rfl, Nat.le_of_ble_eq_true rfl⟩ dX2_init_137 (fun H hG hS => ?_)
  obtain ⟨E31, eE31⟩ : ∃ z, z = gset E30 (b + 15) (.inl (dA 0, 4, .inl (fun _ => 0))) := ⟨_, rfl⟩
  rw [← eE31] at hG
  have hr : E31 b = some (.inr (2, [.ref (b + 1), .ref (b + 2), .ref (b + 3), .ref (b + 4), .int 0, .ref (b + 5), .int 0, .ref (b + 6), .int 0, .int (-1), .int (-1), .int 0, .int 0, .int 0, .int 0, .long 0, .int 0, .int 0, .int 0, .int 0, .ref (b + 7), .int 0, .int 0, .int 0, .int 0, .int 0, .ref (b + 8), .ref (b + 9), .ref (b + 10), .ref (b + 11), .ref (b + 12), .ref (b + 13), .ref (b + 14), .int 0, .null, .null, .null, .null, .int 0, .int 0])) := Eq.trans (by rw [eE31, gset_ne (by omega)]) (hr)
  have h1 : E31 (b + 1) = some (.inl (dA 0, 3038, .inl (fun _ => 0))) := Eq.trans (by rw [eE31, gset_ne (by omega)]) (h1)
  have h2 : E31 (b + 2) = some (.inl (dA 0, 3038, .inl (fun _ => 0))) := Eq.trans (by rw [eE31, gset_ne (by omega)]) (h2)
  have h3 : E31 (b + 3) = some (.inl (dA 0, 3492, .inl (fun _ => 0))) := Eq.trans (by rw [eE31, gset_ne (by omega)]) (h3)
  have h4 : E31 (b + 4) = some (.inl (dA 0, 8, .inl (fun _ => 0))) := Eq.trans (by rw [eE31, gset_ne (by omega)]) (h4)
  have h5 : E31 (b + 5) = some (.inl (dA 0, 9, .inl (fun _ => 0))) := Eq.trans (by rw [eE31, gset_ne (by omega)]) (h5)
  have h6 : E31 (b + 6) = some (.inl (dA 0, 300, .inl (fun _ => 0))) := Eq.trans (by rw [eE31, gset_ne (by omega)]) (h6)
  have h7 : E31 (b + 7) = some (.inl (dA 0, 160, .inl (fun _ => 0))) := Eq.trans (by rw [eE31, gset_ne (by omega)]) (h7)
  have h8 : E31 (b + 8) = some (.inl (dA 0, 14, .inl (fun _ => 0))) := Eq.trans (by rw [eE31, gset_ne (by omega)]) (h8)
  have h9 : E31 (b + 9) = some (.inl (dA 3, 330, .inr (.inl (fun _ => 0)))) := Eq.trans (by rw [eE31, gset_ne (by omega)]) (h9)
  have h10 : E31 (b + 10) = some (.inl (dA 2, 330, .inl (fun _ => 0))) := Eq.trans (by rw [eE31, gset_ne (by omega)]) (h10)
  have h11 : E31 (b + 11) = some (.inl (dA 0, 10, .inl (fun _ => 0))) := Eq.trans (by rw [eE31, gset_ne (by omega)]) (h11)
  have h12 : E31 (b + 12) = some (.inl (dA 0, 26, .inl (fun _ => 0))) := Eq.trans (by rw [eE31, gset_ne (by omega)]) (h12)
  have h13 : E31 (b + 13) = some (.inl (dA 2, 1024, .inl (fun _ => 0))) := Eq.trans (by rw [eE31, gset_ne (by omega)]) (h13)
  have h14 : E31 (b + 14) = some (.inl (dA 2, 1024, .inl (fun _ => 0))) := Eq.trans (by rw [eE31, gset_ne (by omega)]) (h14)
  have hlo : ∀ q : Nat, q < b → E31 q = E0 q := fun q hq => Eq.trans (by rw [eE31, gset_ne (by omega)]) (hlo q hq)
  have h15 : E31 (b + 15) = some (.inl (dA 0, 4, .inl (fun _ => 0))) := by rw [eE31]; exact gset_eq
  have hG : gW D E31 (b + 16) H := hG
  refine gw_put (ci := 2) in_X2 tyX2 tyX2_ok nmX2 rfl C hK hG hS 34 (by decide) q1560 rfl (Or.inr ⟨rfl, hin, rfl⟩) hr (by show 34 < 40; omega) (Nat.le_refl _) (tyX2_ok 34 (by decide)) rfl rfl dX2_init_139 (fun H locs hG hS => ?_)
  have hG : gW D (gset E31 b (.inr (2, [.ref (b + 1), .ref (b + 2), .ref (b + 3), .ref (b + 4), .int 0, .ref (b + 5), .int 0, .ref (b + 6), .int 0, .int (-1), .int (-1), .int 0, .int 0, .int 0, .int 0, .long 0, .int 0, .int 0, .int 0, .int 0, .ref (b + 7), .int 0, .int 0, .int 0, .int 0, .int 0, .ref (b + 8), .ref (b + 9), .ref (b + 10), .ref (b + 11), .ref (b + 12), .ref (b + 13), .ref (b + 14), .int 0, .ref (b + 15), .null, .null, .null, .int 0, .int 0]))) (b + 16) H := hG
  obtain ⟨E32, eE32⟩ : ∃ z, z = gset E31 b (.inr (2, [.ref (b + 1), .ref (b + 2), .ref (b + 3), .ref (b + 4), .int 0, .ref (b + 5), .int 0, .ref (b + 6), .int 0, .int (-1), .int (-1), .int 0, .int 0, .int 0, .int 0, .long 0, .int 0, .int 0, .int 0, .int 0, .ref (b + 7), .int 0, .int 0, .int 0, .int 0, .int 0, .ref (b + 8), .ref (b + 9), .ref (b + 10), .ref (b + 11), .ref (b + 12), .ref (b + 13), .ref (b + 14), .int 0, .ref (b + 15), .null, .null, .null, .int 0, .int 0])) := ⟨_, rfl⟩
  rw [← eE32] at hG
  have h1 : E32 (b + 1) = some (.inl (dA 0, 3038, .inl (fun _ => 0))) := Eq.trans (by rw [eE32, gset_ne (by omega)]) (h1)
  have h2 : E32 (b + 2) = some (.inl (dA 0, 3038, .inl (fun _ => 0))) := Eq.trans (by rw [eE32, gset_ne (by omega)]) (h2)
  have h3 : E32 (b + 3) = some (.inl (dA 0, 3492, .inl (fun _ => 0))) := Eq.trans (by rw [eE32, gset_ne (by omega)]) (h3)
  have h4 : E32 (b + 4) = some (.inl (dA 0, 8, .inl (fun _ => 0))) := Eq.trans (by rw [eE32, gset_ne (by omega)]) (h4)
  have h5 : E32 (b + 5) = some (.inl (dA 0, 9, .inl (fun _ => 0))) := Eq.trans (by rw [eE32, gset_ne (by omega)]) (h5)
  have h6 : E32 (b + 6) = some (.inl (dA 0, 300, .inl (fun _ => 0))) := Eq.trans (by rw [eE32, gset_ne (by omega)]) (h6)
  have h7 : E32 (b + 7) = some (.inl (dA 0, 160, .inl (fun _ => 0))) := Eq.trans (by rw [eE32, gset_ne (by omega)]) (h7)
  have h8 : E32 (b + 8) = some (.inl (dA 0, 14, .inl (fun _ => 0))) := Eq.trans (by rw [eE32, gset_ne (by omega)]) (h8)
  have h9 : E32 (b + 9) = some (.inl (dA 3, 330, .inr (.inl (fun _ => 0)))) := Eq.trans (by rw [eE32, gset_ne (by omega)]) (h9)
  have h10 : E32 (b + 10) = some (.inl (dA 2, 330, .inl (fun _ => 0))) := Eq.trans (by rw [eE32, gset_ne (by omega)]) (h10)
  have h11 : E32 (b + 11) = some (.inl (dA 0, 10, .inl (fun _ => 0))) := Eq.trans (by rw [eE32, gset_ne (by omega)]) (h11)
  have h12 : E32 (b + 12) = some (.inl (dA 0, 26, .inl (fun _ => 0))) := Eq.trans (by rw [eE32, gset_ne (by omega)]) (h12)
  have h13 : E32 (b + 13) = some (.inl (dA 2, 1024, .inl (fun _ => 0))) := Eq.trans (by rw [eE32, gset_ne (by omega)]) (h13)
  have h14 : E32 (b + 14) = some (.inl (dA 2, 1024, .inl (fun _ => 0))) := Eq.trans (by rw [eE32, gset_ne (by omega)]) (h14)
  have h15 : E32 (b + 15) = some (.inl (dA 0, 4, .inl (fun _ => 0))) := Eq.trans (by rw [eE32, gset_ne (by omega)]) (h15)
  have hlo : ∀ q : Nat, q < b → E32 q = E0 q := fun q hq => Eq.trans (by rw [eE32, gset_ne (by omega)]) (hlo q hq)
  have hr : E32 b = some (.inr (2, [.ref (b + 1), .ref (b + 2), .ref (b + 3), .ref (b + 4), .int 0, .ref (b + 5), .int 0, .ref (b + 6), .int 0, .int (-1), .int (-1), .int 0, .int 0, .int 0, .int 0, .long 0, .int 0, .int 0, .int 0, .int 0, .ref (b + 7), .int 0, .int 0, .int 0, .int 0, .int 0, .ref (b + 8), .ref (b + 9), .ref (b + 10), .ref (b + 11), .ref (b + 12), .ref (b + 13), .ref (b + 14), .int 0, .ref (b + 15), .null, .null, .null, .int 0, .int 0])) := by rw [eE32]; exact gset_eq
  refine lv_aload_n hx hb dX2_init_142 rfl (lv_at hl 0 rfl) ?_
  refine lv_bipush (v := 16) hx hb dX2_init_143 (by decide) ?_
  refine gw_newi (nn := 16) C hK hG hS (by omega) (by decide) (by decide) (by decide) ⟨Nat.le_of_ble_eq_true rfl, Nat.le_of_ble_eq_true rfl⟩ dX2_init_145 (fun H hG hS => ?_)
  obtain ⟨E33, eE33⟩ : ∃ z, z = gset E32 (b + 16) (.inl (dA 0, 16, .inl (fun _ => 0))) := ⟨_, rfl⟩
  rw [← eE33] at hG
  have hr : E33 b = some (.inr (2, [.ref (b + 1), .ref (b + 2), .ref (b + 3), .ref (b + 4), .int 0, .ref (b + 5), .int 0, .ref (b + 6), .int 0, .int (-1), .int (-1), .int 0, .int 0, .int 0, .int 0, .long 0, .int 0, .int 0, .int 0, .int 0, .ref (b + 7), .int 0, .int 0, .int 0, .int 0, .int 0, .ref (b + 8), .ref (b + 9), .ref (b + 10), .ref (b + 11), .ref (b + 12), .ref (b + 13), .ref (b + 14), .int 0, .ref (b + 15), .null, .null, .null, .int 0, .int 0])) := Eq.trans (by rw [eE33, gset_ne (by omega)]) (hr)
  have h1 : E33 (b + 1) = some (.inl (dA 0, 3038, .inl (fun _ => 0))) := Eq.trans (by rw [eE33, gset_ne (by omega)]) (h1)
  have h2 : E33 (b + 2) = some (.inl (dA 0, 3038, .inl (fun _ => 0))) := Eq.trans (by rw [eE33, gset_ne (by omega)]) (h2)
  have h3 : E33 (b + 3) = some (.inl (dA 0, 3492, .inl (fun _ => 0))) := Eq.trans (by rw [eE33, gset_ne (by omega)]) (h3)
  have h4 : E33 (b + 4) = some (.inl (dA 0, 8, .inl (fun _ => 0))) := Eq.trans (by rw [eE33, gset_ne (by omega)]) (h4)
  have h5 : E33 (b + 5) = some (.inl (dA 0, 9, .inl (fun _ => 0))) := Eq.trans (by rw [eE33, gset_ne (by omega)]) (h5)
  have h6 : E33 (b + 6) = some (.inl (dA 0, 300, .inl (fun _ => 0))) := Eq.trans (by rw [eE33, gset_ne (by omega)]) (h6)
  have h7 : E33 (b + 7) = some (.inl (dA 0, 160, .inl (fun _ => 0))) := Eq.trans (by rw [eE33, gset_ne (by omega)]) (h7)
  have h8 : E33 (b + 8) = some (.inl (dA 0, 14, .inl (fun _ => 0))) := Eq.trans (by rw [eE33, gset_ne (by omega)]) (h8)
  have h9 : E33 (b + 9) = some (.inl (dA 3, 330, .inr (.inl (fun _ => 0)))) := Eq.trans (by rw [eE33, gset_ne (by omega)]) (h9)
  have h10 : E33 (b + 10) = some (.inl (dA 2, 330, .inl (fun _ => 0))) := Eq.trans (by rw [eE33, gset_ne (by omega)]) (h10)
  have h11 : E33 (b + 11) = some (.inl (dA 0, 10, .inl (fun _ => 0))) := Eq.trans (by rw [eE33, gset_ne (by omega)]) (h11)
  have h12 : E33 (b + 12) = some (.inl (dA 0, 26, .inl (fun _ => 0))) := Eq.trans (by rw [eE33, gset_ne (by omega)]) (h12)
  have h13 : E33 (b + 13) = some (.inl (dA 2, 1024, .inl (fun _ => 0))) := Eq.trans (by rw [eE33, gset_ne (by omega)]) (h13)
  have h14 : E33 (b + 14) = some (.inl (dA 2, 1024, .inl (fun _ => 0))) := Eq.trans (by rw [eE33, gset_ne (by omega)]) (h14)
  have h15 : E33 (b + 15) = some (.inl (dA 0, 4, .inl (fun _ => 0))) := Eq.trans (by rw [eE33, gset_ne (by omega)]) (h15)
  have hlo : ∀ q : Nat, q < b → E33 q = E0 q := fun q hq => Eq.trans (by rw [eE33, gset_ne (by omega)]) (hlo q hq)
  have h16 : E33 (b + 16) = some (.inl (dA 0, 16, .inl (fun _ => 0))) := by rw [eE33]; exact gset_eq
  have hG : gW D E33 (b + 17) H := hG
  refine gw_put (ci := 2) in_X2 tyX2 tyX2_ok nmX2 rfl C hK hG hS 35 (by decide) q1561 rfl (Or.inr ⟨rfl, hin, rfl⟩) hr (by show 35 < 40; omega) (Nat.le_refl _) (tyX2_ok 35 (by decide)) rfl rfl dX2_init_147 (fun H locs hG hS => ?_)
  have hG : gW D (gset E33 b (.inr (2, [.ref (b + 1), .ref (b + 2), .ref (b + 3), .ref (b + 4), .int 0, .ref (b + 5), .int 0, .ref (b + 6), .int 0, .int (-1), .int (-1), .int 0, .int 0, .int 0, .int 0, .long 0, .int 0, .int 0, .int 0, .int 0, .ref (b + 7), .int 0, .int 0, .int 0, .int 0, .int 0, .ref (b + 8), .ref (b + 9), .ref (b + 10), .ref (b + 11), .ref (b + 12), .ref (b + 13), .ref (b + 14), .int 0, .ref (b + 15), .ref (b + 16), .null, .null, .int 0, .int 0]))) (b + 17) H := hG
  obtain ⟨E34, eE34⟩ : ∃ z, z = gset E33 b (.inr (2, [.ref (b + 1), .ref (b + 2), .ref (b + 3), .ref (b + 4), .int 0, .ref (b + 5), .int 0, .ref (b + 6), .int 0, .int (-1), .int (-1), .int 0, .int 0, .int 0, .int 0, .long 0, .int 0, .int 0, .int 0, .int 0, .ref (b + 7), .int 0, .int 0, .int 0, .int 0, .int 0, .ref (b + 8), .ref (b + 9), .ref (b + 10), .ref (b + 11), .ref (b + 12), .ref (b + 13), .ref (b + 14), .int 0, .ref (b + 15), .ref (b + 16), .null, .null, .int 0, .int 0])) := ⟨_, rfl⟩
  rw [← eE34] at hG
  have h1 : E34 (b + 1) = some (.inl (dA 0, 3038, .inl (fun _ => 0))) := Eq.trans (by rw [eE34, gset_ne (by omega)]) (h1)
  have h2 : E34 (b + 2) = some (.inl (dA 0, 3038, .inl (fun _ => 0))) := Eq.trans (by rw [eE34, gset_ne (by omega)]) (h2)
  have h3 : E34 (b + 3) = some (.inl (dA 0, 3492, .inl (fun _ => 0))) := Eq.trans (by rw [eE34, gset_ne (by omega)]) (h3)
  have h4 : E34 (b + 4) = some (.inl (dA 0, 8, .inl (fun _ => 0))) := Eq.trans (by rw [eE34, gset_ne (by omega)]) (h4)
  have h5 : E34 (b + 5) = some (.inl (dA 0, 9, .inl (fun _ => 0))) := Eq.trans (by rw [eE34, gset_ne (by omega)]) (h5)
  have h6 : E34 (b + 6) = some (.inl (dA 0, 300, .inl (fun _ => 0))) := Eq.trans (by rw [eE34, gset_ne (by omega)]) (h6)
  have h7 : E34 (b + 7) = some (.inl (dA 0, 160, .inl (fun _ => 0))) := Eq.trans (by rw [eE34, gset_ne (by omega)]) (h7)
  have h8 : E34 (b + 8) = some (.inl (dA 0, 14, .inl (fun _ => 0))) := Eq.trans (by rw [eE34, gset_ne (by omega)]) (h8)
  have h9 : E34 (b + 9) = some (.inl (dA 3, 330, .inr (.inl (fun _ => 0)))) := Eq.trans (by rw [eE34, gset_ne (by omega)]) (h9)
  have h10 : E34 (b + 10) = some (.inl (dA 2, 330, .inl (fun _ => 0))) := Eq.trans (by rw [eE34, gset_ne (by omega)]) (h10)
  have h11 : E34 (b + 11) = some (.inl (dA 0, 10, .inl (fun _ => 0))) := Eq.trans (by rw [eE34, gset_ne (by omega)]) (h11)
  have h12 : E34 (b + 12) = some (.inl (dA 0, 26, .inl (fun _ => 0))) := Eq.trans (by rw [eE34, gset_ne (by omega)]) (h12)
  have h13 : E34 (b + 13) = some (.inl (dA 2, 1024, .inl (fun _ => 0))) := Eq.trans (by rw [eE34, gset_ne (by omega)]) (h13)
  have h14 : E34 (b + 14) = some (.inl (dA 2, 1024, .inl (fun _ => 0))) := Eq.trans (by rw [eE34, gset_ne (by omega)]) (h14)
  have h15 : E34 (b + 15) = some (.inl (dA 0, 4, .inl (fun _ => 0))) := Eq.trans (by rw [eE34, gset_ne (by omega)]) (h15)
  have h16 : E34 (b + 16) = some (.inl (dA 0, 16, .inl (fun _ => 0))) := Eq.trans (by rw [eE34, gset_ne (by omega)]) (h16)
  have hlo : ∀ q : Nat, q < b → E34 q = E0 q := fun q hq => Eq.trans (by rw [eE34, gset_ne (by omega)]) (hlo q hq)
  have hr : E34 b = some (.inr (2, [.ref (b + 1), .ref (b + 2), .ref (b + 3), .ref (b + 4), .int 0, .ref (b + 5), .int 0, .ref (b + 6), .int 0, .int (-1), .int (-1), .int 0, .int 0, .int 0, .int 0, .long 0, .int 0, .int 0, .int 0, .int 0, .ref (b + 7), .int 0, .int 0, .int 0, .int 0, .int 0, .ref (b + 8), .ref (b + 9), .ref (b + 10), .ref (b + 11), .ref (b + 12), .ref (b + 13), .ref (b + 14), .int 0, .ref (b + 15), .ref (b + 16), .null, .null, .int 0, .int 0])) := by rw [eE34]; exact gset_eq
  refine lv_aload_n hx hb dX2_init_150 rfl (lv_at hl 0 rfl) ?_
  refine lv_bipush (v := 26) hx hb dX2_init_151 (by decide) ?_
  refine gw_newi (nn := 26) C hK hG hS (by omega) (by decide) (by decide) (by decide) ⟨Nat.le_of_ble_eq_true rfl, Nat.le_of_ble_eq_true rfl⟩ dX2_init_153 (fun H hG hS => ?_)
  obtain ⟨E35, eE35⟩ : ∃ z, z = gset E34 (b + 17) (.inl (dA 0, 26, .inl (fun _ => 0))) := ⟨_, rfl⟩
  rw [← eE35] at hG
  have hr : E35 b = some (.inr (2, [.ref (b + 1), .ref (b + 2), .ref (b + 3), .ref (b + 4), .int 0, .ref (b + 5), .int 0, .ref (b + 6), .int 0, .int (-1), .int (-1), .int 0, .int 0, .int 0, .int 0, .long 0, .int 0, .int 0, .int 0, .int 0, .ref (b + 7), .int 0, .int 0, .int 0, .int 0, .int 0, .ref (b + 8), .ref (b + 9), .ref (b + 10), .ref (b + 11), .ref (b + 12), .ref (b + 13), .ref (b + 14), .int 0, .ref (b + 15), .ref (b + 16), .null, .null, .int 0, .int 0])) := Eq.trans (by rw [eE35, gset_ne (by omega)]) (hr)
  have h1 : E35 (b + 1) = some (.inl (dA 0, 3038, .inl (fun _ => 0))) := Eq.trans (by rw [eE35, gset_ne (by omega)]) (h1)
  have h2 : E35 (b + 2) = some (.inl (dA 0, 3038, .inl (fun _ => 0))) := Eq.trans (by rw [eE35, gset_ne (by omega)]) (h2)
  have h3 : E35 (b + 3) = some (.inl (dA 0, 3492, .inl (fun _ => 0))) := Eq.trans (by rw [eE35, gset_ne (by omega)]) (h3)
  have h4 : E35 (b + 4) = some (.inl (dA 0, 8, .inl (fun _ => 0))) := Eq.trans (by rw [eE35, gset_ne (by omega)]) (h4)
  have h5 : E35 (b + 5) = some (.inl (dA 0, 9, .inl (fun _ => 0))) := Eq.trans (by rw [eE35, gset_ne (by omega)]) (h5)
  have h6 : E35 (b + 6) = some (.inl (dA 0, 300, .inl (fun _ => 0))) := Eq.trans (by rw [eE35, gset_ne (by omega)]) (h6)
  have h7 : E35 (b + 7) = some (.inl (dA 0, 160, .inl (fun _ => 0))) := Eq.trans (by rw [eE35, gset_ne (by omega)]) (h7)
  have h8 : E35 (b + 8) = some (.inl (dA 0, 14, .inl (fun _ => 0))) := Eq.trans (by rw [eE35, gset_ne (by omega)]) (h8)
  have h9 : E35 (b + 9) = some (.inl (dA 3, 330, .inr (.inl (fun _ => 0)))) := Eq.trans (by rw [eE35, gset_ne (by omega)]) (h9)
  have h10 : E35 (b + 10) = some (.inl (dA 2, 330, .inl (fun _ => 0))) := Eq.trans (by rw [eE35, gset_ne (by omega)]) (h10)
  have h11 : E35 (b + 11) = some (.inl (dA 0, 10, .inl (fun _ => 0))) := Eq.trans (by rw [eE35, gset_ne (by omega)]) (h11)
  have h12 : E35 (b + 12) = some (.inl (dA 0, 26, .inl (fun _ => 0))) := Eq.trans (by rw [eE35, gset_ne (by omega)]) (h12)
  have h13 : E35 (b + 13) = some (.inl (dA 2, 1024, .inl (fun _ => 0))) := Eq.trans (by rw [eE35, gset_ne (by omega)]) (h13)
  have h14 : E35 (b + 14) = some (.inl (dA 2, 1024, .inl (fun _ => 0))) := Eq.trans (by rw [eE35, gset_ne (by omega)]) (h14)
  have h15 : E35 (b + 15) = some (.inl (dA 0, 4, .inl (fun _ => 0))) := Eq.trans (by rw [eE35, gset_ne (by omega)]) (h15)
  have h16 : E35 (b + 16) = some (.inl (dA 0, 16, .inl (fun _ => 0))) := Eq.trans (by rw [eE35, gset_ne (by omega)]) (h16)
  have hlo : ∀ q : Nat, q < b → E35 q = E0 q := fun q hq => Eq.trans (by rw [eE35, gset_ne (by omega)]) (hlo q hq)
  have h17 : E35 (b + 17) = some (.inl (dA 0, 26, .inl (fun _ => 0))) := by rw [eE35]; exact gset_eq
  have hG : gW D E35 (b + 18) H := hG
  refine gw_put (ci := 2) in_X2 tyX2 tyX2_ok nmX2 rfl C hK hG hS 36 (by decide) q1562 rfl (Or.inr ⟨rfl, hin, rfl⟩) hr (by show 36 < 40; omega) (Nat.le_refl _) (tyX2_ok 36 (by decide)) rfl rfl dX2_init_155 (fun H locs hG hS => ?_)
  have hG : gW D (gset E35 b (.inr (2, [.ref (b + 1), .ref (b + 2), .ref (b + 3), .ref (b + 4), .int 0, .ref (b + 5), .int 0, .ref (b + 6), .int 0, .int (-1), .int (-1), .int 0, .int 0, .int 0, .int 0, .long 0, .int 0, .int 0, .int 0, .int 0, .ref (b + 7), .int 0, .int 0, .int 0, .int 0, .int 0, .ref (b + 8), .ref (b + 9), .ref (b + 10), .ref (b + 11), .ref (b + 12), .ref (b + 13), .ref (b + 14), .int 0, .ref (b + 15), .ref (b + 16), .ref (b + 17), .null, .int 0, .int 0]))) (b + 18) H := hG
  obtain ⟨E36, eE36⟩ : ∃ z, z = gset E35 b (.inr (2, [.ref (b + 1), .ref (b + 2), .ref (b + 3), .ref (b + 4), .int 0, .ref (b + 5), .int 0, .ref (b + 6), .int 0, .int (-1), .int (-1), .int 0, .int 0, .int 0, .int 0, .long 0, .int 0, .int 0, .int 0, .int 0, .ref (b + 7), .int 0, .int 0, .int 0, .int 0, .int 0, .ref (b + 8), .ref (b + 9), .ref (b + 10), .ref (b + 11), .ref (b + 12), .ref (b + 13), .ref (b + 14), .int 0, .ref (b + 15), .ref (b + 16), .ref (b + 17), .null, .int 0, .int 0])) := ⟨_, rfl⟩
  rw [← eE36] at hG
  have h1 : E36 (b + 1) = some (.inl (dA 0, 3038, .inl (fun _ => 0))) := Eq.trans (by rw [eE36, gset_ne (by omega)]) (h1)
  have h2 : E36 (b + 2) = some (.inl (dA 0, 3038, .inl (fun _ => 0))) := Eq.trans (by rw [eE36, gset_ne (by omega)]) (h2)
  have h3 : E36 (b + 3) = some (.inl (dA 0, 3492, .inl (fun _ => 0))) := Eq.trans (by rw [eE36, gset_ne (by omega)]) (h3)
  have h4 : E36 (b + 4) = some (.inl (dA 0, 8, .inl (fun _ => 0))) := Eq.trans (by rw [eE36, gset_ne (by omega)]) (h4)
  have h5 : E36 (b + 5) = some (.inl (dA 0, 9, .inl (fun _ => 0))) := Eq.trans (by rw [eE36, gset_ne (by omega)]) (h5)
  have h6 : E36 (b + 6) = some (.inl (dA 0, 300, .inl (fun _ => 0))) := Eq.trans (by rw [eE36, gset_ne (by omega)]) (h6)
  have h7 : E36 (b + 7) = some (.inl (dA 0, 160, .inl (fun _ => 0))) := Eq.trans (by rw [eE36, gset_ne (by omega)]) (h7)
  have h8 : E36 (b + 8) = some (.inl (dA 0, 14, .inl (fun _ => 0))) := Eq.trans (by rw [eE36, gset_ne (by omega)]) (h8)
  have h9 : E36 (b + 9) = some (.inl (dA 3, 330, .inr (.inl (fun _ => 0)))) := Eq.trans (by rw [eE36, gset_ne (by omega)]) (h9)
  have h10 : E36 (b + 10) = some (.inl (dA 2, 330, .inl (fun _ => 0))) := Eq.trans (by rw [eE36, gset_ne (by omega)]) (h10)
  have h11 : E36 (b + 11) = some (.inl (dA 0, 10, .inl (fun _ => 0))) := Eq.trans (by rw [eE36, gset_ne (by omega)]) (h11)
  have h12 : E36 (b + 12) = some (.inl (dA 0, 26, .inl (fun _ => 0))) := Eq.trans (by rw [eE36, gset_ne (by omega)]) (h12)
  have h13 : E36 (b + 13) = some (.inl (dA 2, 1024, .inl (fun _ => 0))) := Eq.trans (by rw [eE36, gset_ne (by omega)]) (h13)
  have h14 : E36 (b + 14) = some (.inl (dA 2, 1024, .inl (fun _ => 0))) := Eq.trans (by rw [eE36, gset_ne (by omega)]) (h14)
  have h15 : E36 (b + 15) = some (.inl (dA 0, 4, .inl (fun _ => 0))) := Eq.trans (by rw [eE36, gset_ne (by omega)]) (h15)
  have h16 : E36 (b + 16) = some (.inl (dA 0, 16, .inl (fun _ => 0))) := Eq.trans (by rw [eE36, gset_ne (by omega)]) (h16)
  have h17 : E36 (b + 17) = some (.inl (dA 0, 26, .inl (fun _ => 0))) := Eq.trans (by rw [eE36, gset_ne (by omega)]) (h17)
  have hlo : ∀ q : Nat, q < b → E36 q = E0 q := fun q hq => Eq.trans (by rw [eE36, gset_ne (by omega)]) (hlo q hq)
  have hr : E36 b = some (.inr (2, [.ref (b + 1), .ref (b + 2), .ref (b + 3), .ref (b + 4), .int 0, .ref (b + 5), .int 0, .ref (b + 6), .int 0, .int (-1), .int (-1), .int 0, .int 0, .int 0, .int 0, .long 0, .int 0, .int 0, .int 0, .int 0, .ref (b + 7), .int 0, .int 0, .int 0, .int 0, .int 0, .ref (b + 8), .ref (b + 9), .ref (b + 10), .ref (b + 11), .ref (b + 12), .ref (b + 13), .ref (b + 14), .int 0, .ref (b + 15), .ref (b + 16), .ref (b + 17), .null, .int 0, .int 0])) := by rw [eE36]; exact gset_eq
  refine lv_aload_n hx hb dX2_init_158 rfl (lv_at hl 0 rfl) ?_
  refine lv_iconst (v := 4) hx hb dX2_init_159 (by decide) ?_
  refine gw_newi (nn := 4) C hK hG hS (by omega) (by decide) (by decide) (by decide) ⟨Nat.le_of_ble_eq_true rfl, Nat.le_of_ble_eq_true rfl⟩ dX2_init_160 (fun H hG hS => ?_)
  obtain ⟨E37, eE37⟩ : ∃ z, z = gset E36 (b + 18) (.inl (dA 0, 4, .inl (fun _ => 0))) := ⟨_, rfl⟩
  rw [← eE37] at hG
  have hr : E37 b = some (.inr (2, [.ref (b + 1), .ref (b + 2), .ref (b + 3), .ref (b + 4), .int 0, .ref (b + 5), .int 0, .ref (b + 6), .int 0, .int (-1), .int (-1), .int 0, .int 0, .int 0, .int 0, .long 0, .int 0, .int 0, .int 0, .int 0, .ref (b + 7), .int 0, .int 0, .int 0, .int 0, .int 0, .ref (b + 8), .ref (b + 9), .ref (b + 10), .ref (b + 11), .ref (b + 12), .ref (b + 13), .ref (b + 14), .int 0, .ref (b + 15), .ref (b + 16), .ref (b + 17), .null, .int 0, .int 0])) := Eq.trans (by rw [eE37, gset_ne (by omega)]) (hr)
  have h1 : E37 (b + 1) = some (.inl (dA 0, 3038, .inl (fun _ => 0))) := Eq.trans (by rw [eE37, gset_ne (by omega)]) (h1)
  have h2 : E37 (b + 2) = some (.inl (dA 0, 3038, .inl (fun _ => 0))) := Eq.trans (by rw [eE37, gset_ne (by omega)]) (h2)
  have h3 : E37 (b + 3) = some (.inl (dA 0, 3492, .inl (fun _ => 0))) := Eq.trans (by rw [eE37, gset_ne (by omega)]) (h3)
  have h4 : E37 (b + 4) = some (.inl (dA 0, 8, .inl (fun _ => 0))) := Eq.trans (by rw [eE37, gset_ne (by omega)]) (h4)
  have h5 : E37 (b + 5) = some (.inl (dA 0, 9, .inl (fun _ => 0))) := Eq.trans (by rw [eE37, gset_ne (by omega)]) (h5)
  have h6 : E37 (b + 6) = some (.inl (dA 0, 300, .inl (fun _ => 0))) := Eq.trans (by rw [eE37, gset_ne (by omega)]) (h6)
  have h7 : E37 (b + 7) = some (.inl (dA 0, 160, .inl (fun _ => 0))) := Eq.trans (by rw [eE37, gset_ne (by omega)]) (h7)
  have h8 : E37 (b + 8) = some (.inl (dA 0, 14, .inl (fun _ => 0))) := Eq.trans (by rw [eE37, gset_ne (by omega)]) (h8)
  have h9 : E37 (b + 9) = some (.inl (dA 3, 330, .inr (.inl (fun _ => 0)))) := Eq.trans (by rw [eE37, gset_ne (by omega)]) (h9)
  have h10 : E37 (b + 10) = some (.inl (dA 2, 330, .inl (fun _ => 0))) := Eq.trans (by rw [eE37, gset_ne (by omega)]) (h10)
  have h11 : E37 (b + 11) = some (.inl (dA 0, 10, .inl (fun _ => 0))) := Eq.trans (by rw [eE37, gset_ne (by omega)]) (h11)
  have h12 : E37 (b + 12) = some (.inl (dA 0, 26, .inl (fun _ => 0))) := Eq.trans (by rw [eE37, gset_ne (by omega)]) (h12)
  have h13 : E37 (b + 13) = some (.inl (dA 2, 1024, .inl (fun _ => 0))) := Eq.trans (by rw [eE37, gset_ne (by omega)]) (h13)
  have h14 : E37 (b + 14) = some (.inl (dA 2, 1024, .inl (fun _ => 0))) := Eq.trans (by rw [eE37, gset_ne (by omega)]) (h14)
  have h15 : E37 (b + 15) = some (.inl (dA 0, 4, .inl (fun _ => 0))) := Eq.trans (by rw [eE37, gset_ne (by omega)]) (h15)
  have h16 : E37 (b + 16) = some (.inl (dA 0, 16, .inl (fun _ => 0))) := Eq.trans (by rw [eE37, gset_ne (by omega)]) (h16)
  have h17 : E37 (b + 17) = some (.inl (dA 0, 26, .inl (fun _ => 0))) := Eq.trans (by rw [eE37, gset_ne (by omega)]) (h17)
  have hlo : ∀ q : Nat, q < b → E37 q = E0 q := fun q hq => Eq.trans (by rw [eE37, gset_ne (by omega)]) (hlo q hq)
  have h18 : E37 (b + 18) = some (.inl (dA 0, 4, .inl (fun _ => 0))) := by rw [eE37]; exact gset_eq
  have hG : gW D E37 (b + 19) H := hG
  refine gw_put (ci := 2) in_X2 tyX2 tyX2_ok nmX2 rfl C hK hG hS 37 (by decide) q1563 rfl (Or.inr ⟨rfl, hin, rfl⟩) hr (by show 37 < 40; omega) (Nat.le_refl _) (tyX2_ok 37 (by decide)) rfl rfl dX2_init_162 (fun H locs hG hS => ?_)
  have hG : gW D (gset E37 b (.inr (2, [.ref (b + 1), .ref (b + 2), .ref (b + 3), .ref (b + 4), .int 0, .ref (b + 5), .int 0, .ref (b + 6), .int 0, .int (-1), .int (-1), .int 0, .int 0, .int 0, .int 0, .long 0, .int 0, .int 0, .int 0, .int 0, .ref (b + 7), .int 0, .int 0, .int 0, .int 0, .int 0, .ref (b + 8), .ref (b + 9), .ref (b + 10), .ref (b + 11), .ref (b + 12), .ref (b + 13), .ref (b + 14), .int 0, .ref (b + 15), .ref (b + 16), .ref (b + 17), .ref (b + 18), .int 0, .int 0]))) (b + 19) H := hG
  obtain ⟨E38, eE38⟩ : ∃ z, z = gset E37 b (.inr (2, [.ref (b + 1), .ref (b + 2), .ref (b + 3), .ref (b + 4), .int 0, .ref (b + 5), .int 0, .ref (b + 6), .int 0, .int (-1), .int (-1), .int 0, .int 0, .int 0, .int 0, .long 0, .int 0, .int 0, .int 0, .int 0, .ref (b + 7), .int 0, .int 0, .int 0, .int 0, .int 0, .ref (b + 8), .ref (b + 9), .ref (b + 10), .ref (b + 11), .ref (b + 12), .ref (b + 13), .ref (b + 14), .int 0, .ref (b + 15), .ref (b + 16), .ref (b + 17), .ref (b + 18), .int 0, .int 0])) := ⟨_, rfl⟩
  rw [← eE38] at hG
  have h1 : E38 (b + 1) = some (.inl (dA 0, 3038, .inl (fun _ => 0))) := Eq.trans (by rw [eE38, gset_ne (by omega)]) (h1)
  have h2 : E38 (b + 2) = some (.inl (dA 0, 3038, .inl (fun _ => 0))) := Eq.trans (by rw [eE38, gset_ne (by omega)]) (h2)
  have h3 : E38 (b + 3) = some (.inl (dA 0, 3492, .inl (fun _ => 0))) := Eq.trans (by rw [eE38, gset_ne (by omega)]) (h3)
  have h4 : E38 (b + 4) = some (.inl (dA 0, 8, .inl (fun _ => 0))) := Eq.trans (by rw [eE38, gset_ne (by omega)]) (h4)
  have h5 : E38 (b + 5) = some (.inl (dA 0, 9, .inl (fun _ => 0))) := Eq.trans (by rw [eE38, gset_ne (by omega)]) (h5)
  have h6 : E38 (b + 6) = some (.inl (dA 0, 300, .inl (fun _ => 0))) := Eq.trans (by rw [eE38, gset_ne (by omega)]) (h6)
  have h7 : E38 (b + 7) = some (.inl (dA 0, 160, .inl (fun _ => 0))) := Eq.trans (by rw [eE38, gset_ne (by omega)]) (h7)
  have h8 : E38 (b + 8) = some (.inl (dA 0, 14, .inl (fun _ => 0))) := Eq.trans (by rw [eE38, gset_ne (by omega)]) (h8)
  have h9 : E38 (b + 9) = some (.inl (dA 3, 330, .inr (.inl (fun _ => 0)))) := Eq.trans (by rw [eE38, gset_ne (by omega)]) (h9)
  have h10 : E38 (b + 10) = some (.inl (dA 2, 330, .inl (fun _ => 0))) := Eq.trans (by rw [eE38, gset_ne (by omega)]) (h10)
  have h11 : E38 (b + 11) = some (.inl (dA 0, 10, .inl (fun _ => 0))) := Eq.trans (by rw [eE38, gset_ne (by omega)]) (h11)
  have h12 : E38 (b + 12) = some (.inl (dA 0, 26, .inl (fun _ => 0))) := Eq.trans (by rw [eE38, gset_ne (by omega)]) (h12)
  have h13 : E38 (b + 13) = some (.inl (dA 2, 1024, .inl (fun _ => 0))) := Eq.trans (by rw [eE38, gset_ne (by omega)]) (h13)
  have h14 : E38 (b + 14) = some (.inl (dA 2, 1024, .inl (fun _ => 0))) := Eq.trans (by rw [eE38, gset_ne (by omega)]) (h14)
  have h15 : E38 (b + 15) = some (.inl (dA 0, 4, .inl (fun _ => 0))) := Eq.trans (by rw [eE38, gset_ne (by omega)]) (h15)
  have h16 : E38 (b + 16) = some (.inl (dA 0, 16, .inl (fun _ => 0))) := Eq.trans (by rw [eE38, gset_ne (by omega)]) (h16)
  have h17 : E38 (b + 17) = some (.inl (dA 0, 26, .inl (fun _ => 0))) := Eq.trans (by rw [eE38, gset_ne (by omega)]) (h17)
  have h18 : E38 (b + 18) = some (.inl (dA 0, 4, .inl (fun _ => 0))) := Eq.trans (by rw [eE38, gset_ne (by omega)]) (h18)
  have hlo : ∀ q : Nat, q < b → E38 q = E0 q := fun q hq => Eq.trans (by rw [eE38, gset_ne (by omega)]) (hlo q hq)
  have hr : E38 b = some (.inr (2, [.ref (b + 1), .ref (b + 2), .ref (b + 3), .ref (b + 4), .int 0, .ref (b + 5), .int 0, .ref (b + 6), .int 0, .int (-1), .int (-1), .int 0, .int 0, .int 0, .int 0, .long 0, .int 0, .int 0, .int 0, .int 0, .ref (b + 7), .int 0, .int 0, .int 0, .int 0, .int 0, .ref (b + 8), .ref (b + 9), .ref (b + 10), .ref (b + 11), .ref (b + 12), .ref (b + 13), .ref (b + 14), .int 0, .ref (b + 15), .ref (b + 16), .ref (b + 17), .ref (b + 18), .int 0, .int 0])) := by rw [eE38]; exact gset_eq
  have hT : wd D (tw dA b tz2) H := fun q y hy => by
    unfold tw at hy
    split at hy
    · rename_i hq
      obtain ⟨i, rfl⟩ : ∃ i, q = b + i := ⟨q - b, by omega⟩
      rw [Nat.add_sub_cancel_left] at hy
      cases hy
      refine hG.1 _ _ ?_
      have hi2 : i = 0 ∨ i = 1 ∨ i = 2 ∨ i = 3 ∨ i = 4 ∨ i = 5 ∨ i = 6 ∨ i = 7 ∨ i = 8 ∨ i = 9 ∨ i = 10 ∨ i = 11 ∨ i = 12 ∨ i = 13 ∨ i = 14 ∨ i = 15 ∨ i = 16 ∨ i = 17 ∨ i = 18 := by omega
      rcases hi2 with rfl | rfl | rfl | rfl | rfl | rfl | rfl | rfl | rfl | rfl | rfl | rfl | rfl | rfl | rfl | rfl | rfl | rfl | rfl
      · exact hr
      · exact h1
      · exact h2
      · exact h3
      · exact h4
      · exact h5
      · exact h6
      · exact h7
      · exact h8
      · exact h9
      · exact h10
      · exact h11
      · exact h12
      · exact h13
      · exact h14
      · exact h15
      · exact h16
      · exact h17
      · exact h18
    · cases hy
  have hT2 : tS b H H locs := ⟨rfl, fun _ _ => rfl, fun x hx => ⟨(hS.2.2 x hx).1, Nat.lt_of_lt_of_eq (hS.2.2 x hx).2 hG.2.1⟩⟩
  have hT2 : tS b H H locs := ⟨rfl, fun _ _ => rfl, fun x hx => ⟨(hS.2.2 x hx).1, Nat.lt_of_lt_of_eq (hS.2.2 x hx).2 hG.2.1⟩⟩
  have hlow := hS.2.1
  have hz := hG.2.1
  refine lv_aload_n hx hb dX2_init_165 rfl (lv_at hl 0 rfl) ?_
  refine tg0 C hK hT dX2_init_166 ?_
  refine lv_iconst (v := 3) hx hb dX2_init_169 (by decide) ?_
  refine lv_bipush (v := 17) hx hb dX2_init_170 (by decide) ?_
  refine ts0 C hK hT hT2 (by unfold vp_in; decide) dX2_init_172 (fun t1 H1 locs e1 hT hT2 => ?_)
  refine lv_aload_n hx hb dX2_init_173 rfl (lv_at hl 0 rfl) ?_
  refine tg0 C hK hT dX2_init_174 ?_
  refine lv_iconst (v := 5) hx hb dX2_init_177 (by decide) ?_
  refine lv_iconst (v := (-1)) hx hb dX2_init_178 (by decide) ?_
  refine ts0 C hK hT hT2 (by unfold vp_in; decide) dX2_init_179 (fun t2 H2 locs e2 hT hT2 => ?_)
  refine lv_iconst (v := 0) hx hb dX2_init_180 (by decide) ?_
  refine lv_istore_n (lv' := [(1, .int (nI 0)), (0, .ref b)]) hx hb dX2_init_181 rfl hl (by decide) rfl (fun ls hl => ?_)
  have z3 : (3 : Int32).toNatClampNeg = 3 := by decide
  have z5 : (5 : Int32).toNatClampNeg = 5 := by decide
  exact x2_loop C hK hz hlow ⟨Nat.le_of_ble_eq_true rfl, Nat.le_of_ble_eq_true rfl⟩ 27 0 (Nat.zero_le _) (by omega) t2 H2 locs ls (by rw [e2, e1, z3, z5]; exact tlx_0) hT hT2 hl
end CG3
