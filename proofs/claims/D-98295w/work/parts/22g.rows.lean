/-! java.util.Arrays.equals(int[], int[]): what it answers (its contract is proved last) -/
def J_equals (t : CS) (x y : Nat) : Option Int32 := match t.2.2.1 x, t.2.2.1 y with
  | some (.inl (0, n, .inl f)), some (.inl (0, m, .inl g)) => if n ≤ 8 ∧ m ≤ 8 then some (if n = m ∧ ∀ j, j < n → f j = g j then 1 else 0) else none
  | _, _ => none
abbrev rmJ_equals : Room := { frames := 12, cells := 0, slots := 0, locals := 600 }
theorem hdJ_equals : yJ0_equals.cls ≠ "java/lang/invoke/MethodHandle" ∧ yJ0_equals.cls ≠ "java/lang/invoke/VarHandle" ∧ (parseMethodDescriptor yJ0_equals.desc).map (fun d => d.parameters.length) = some 2 := by decide +kernel
theorem mJ_equals {l : Launch} {D : va_G} {dA : Nat → ClassId} {a : Nat} {k : KP a} {t : CS} {x y : Nat} {r : Int32} (h : J_equals t x y = some r) : Met l yJ0_equals (ws_ yJ0_equals cJ0_equals 3 (some .boolean)) rmJ_equals (cPc D dA a k t [.ref x, .ref y]) (rQi r) 0 0 nof := sorry
