/-! plain laws: words for the pure functions of both sides -/
theorem p_lit (n : Nat) : (OfNat.ofNat n : Int32) = nI n := Int32.toBitVec_inj.mp rfl
theorem p_mul (a b : Nat) : nI a * nI b = nI (a * b) := (Int32.ofNat_mul a b).symm
theorem p_sub {a b : Nat} (h : b ≤ a) : nI a - nI b = nI (a - b) := by
  have e : nI a = nI (a - b) + nI b := by rw [nI_add]; congr 1; omega
  rw [e]
  exact Int32.add_sub_cancel _ _
theorem p_ck {α : Type} {k n : Nat} {x : Option α} (h : k < n) (hn : n < 2147483648) : ck (nI k) n x = x := by
  unfold ck
  exact if_neg (nI_in h hn)
theorem p_b1 {α β : Type} (v : α) (f : α → Option β) : bd1 (some v) f = f v := id rfl
theorem p_b2 {α β γ : Type} (v : α) (w : β) (f : α → β → Option γ) : bd2 (some (v, w)) f = f v w := id rfl
theorem p_l1 {α β : Type} (x : α) (f : α → β) : lt1 x f = f x := id rfl
theorem p_cl {n : Nat} (h : n < 2147483648) : (nI n).toNatClampNeg = n := nI_clamp h
theorem p_le {a b : Nat} (ha : a < 2147483648) (hb : b < 2147483648) : (nI a ≤ nI b) = (a ≤ b) := propext (nI_leI ha hb)
theorem p_lt {a b : Nat} (ha : a < 2147483648) (hb : b < 2147483648) : (nI a < nI b) = (a < b) := propext (nI_ltI ha hb)
theorem p_eq {a b : Nat} (ha : a < 2147483648) (hb : b < 2147483648) : (nI a = nI b) = (a = b) := propext (nI_eq ha hb)
theorem p_inj {a b : Nat} (ha : a < 2147483648) (hb : b < 2147483648) (h : nI a = nI b) : a = b := (nI_eq ha hb).mp h
/-- truth as a number -/
def bI (b : Bool) : Int32 := if b then 1 else 0
theorem p_bt : bI true = nI 1 := rfl
theorem p_bf : bI false = nI 0 := rfl
theorem p_b0 (b : Bool) : (bI b = nI 0) = (b = false) := by cases b <;> simp [bI] <;> decide
theorem p_b1' (b : Bool) : (bI b = nI 1) = (b = true) := by cases b <;> simp [bI] <;> decide
theorem p_zr {α : Type} (b : Bool) (x : Option α) : zr (bI b) x = x := by cases b <;> rfl
theorem p_zr0 {α : Type} (x : Option α) : zr (nI 0) x = x := rfl
theorem p_zr1 {α : Type} (x : Option α) : zr (nI 1) x = x := rfl
theorem p_ite (b : Bool) : (if b = true then (1 : Int32) else 0) = bI b := rfl
theorem p_m1 {n : Nat} (h : n < 2147483648) : (nI n = (-1 : Int32)) = False := by
  refine eq_false (fun e => ?_)
  have := congrArg Int32.toInt e
  rw [nI_toInt h] at this
  have h2 : ((-1 : Int32)).toInt = -1 := by decide +kernel
  omega
theorem p_m1' {n : Nat} (h : n < 2147483648) : ((-1 : Int32) = nI n) = False := by
  exact propext ⟨fun e => (p_m1 h).mp e.symm, False.elim⟩
theorem p_m0 {n : Nat} (h : n < 2147483648) : (nI n < nI 0) = False := eq_false (nI_pos h)
theorem p_ge0 {n : Nat} (h : n < 2147483648) : (nI 0 ≤ nI n) = True := eq_true (nI_pos' h)
/-- a number of a row -/
def nA (A : Nat → Int32) (i : Nat) : Nat := (A i).toNatClampNeg
def IvN (A : Nat → Int32) (i m : Nat) : Prop := A i = nI (nA A i) ∧ nA A i ≤ m
theorem IvN.mk {A : Nat → Int32} {i m v : Nat} (h : A i = nI v) (hv : v ≤ m) (hm : m < 2147483648) : IvN A i m := by
  have e : nA A i = v := by unfold nA; rw [h]; exact nI_clamp (by omega)
  exact ⟨by rw [e]; exact h, by rw [e]; exact hv⟩
theorem nA_of {A : Nat → Int32} {i v : Nat} (h : A i = nI v) (hv : v < 2147483648) : nA A i = v := by unfold nA; rw [h]; exact nI_clamp hv
/-- in, as a truth -/
theorem p_in (x l h : Int32) : C_in x l h = some (bI (decide (l ≤ x) && decide (x ≤ h))) := by
  unfold C_in
  by_cases h1 : x < l
  · rw [if_pos h1]
    have : ¬ l ≤ x := by rw [Int32.not_le]; exact h1
    simp [this, bI]
  · rw [if_neg h1]
    have h1' : l ≤ x := by rw [← Int32.not_lt]; exact h1
    by_cases h2 : h < x
    · rw [if_pos h2]
      have : ¬ x ≤ h := by rw [Int32.not_le]; exact h2
      simp [this, bI]
    · rw [if_neg h2]
      have h2' : x ≤ h := by rw [← Int32.not_lt]; exact h2
      simp [h1', h2', bI]
theorem p_isIn (x l h : Int32) : T_isIn x l h = some (bI (decide (l ≤ x) && decide (x ≤ h))) := p_in x l h
/-- a bit -/
theorem p_tb (s k : Nat) : s.testBit k = decide (s / 2 ^ k % 2 = 1) := by
  rw [Nat.testBit, Nat.shiftRight_eq_div_pow, Nat.and_comm, Nat.and_one_is_mod]
  by_cases h : s / 2 ^ k % 2 = 1
  · rw [h]; decide
  · have h2 : s / 2 ^ k % 2 = 0 := by omega
    rw [h2]; decide
theorem p_s31 : ∀ k, k < 31 → ((nI k &&& (31 : Int32)).toBitVec.smod 32).toNat = k := by decide +kernel
theorem p_bit {s k : Nat} (hs : s < 2147483648) (hk : k < 31) : (((nI s) >>> (nI k &&& (31 : Int32))) &&& (1 : Int32)) = nI (s / 2 ^ k % 2) := by
  rw [pk_shrN hs _ k (p_s31 k hk)]
  have hd : s / 2 ^ k ≤ s := Nat.div_le_self _ _
  exact pk_andN (m := 1) (by omega) 1 rfl
theorem p_has {s k : Nat} (hs : s < 2147483648) (hk : k < 31) : C_has (nI s) (nI k) = some (bI (s.testBit k)) := by
  unfold C_has
  rw [p_bit hs hk, p_tb]
  by_cases h : s / 2 ^ k % 2 = 1
  · rw [if_pos (by rw [h]; rfl)]
    simp [h, bI]
  · refine (if_neg (fun e => h (p_inj (by omega) (by omega) (show nI _ = nI 1 from e)))).trans ?_
    simp [h, bI]
theorem p_hasT {s k : Nat} (hs : s < 2147483648) (hk : k < 31) : T_has (nI s) (nI k) = some (bI (s.testBit k)) := p_has hs hk
theorem p_shl {k : Nat} (hk : k < 31) : (1 : Int32) <<< (nI k &&& (31 : Int32)) = nI (2 ^ k) := by
  have h : ∀ k, k < 31 → (1 : Int32) <<< (nI k &&& (31 : Int32)) = nI (2 ^ k) := by decide +kernel
  exact h k hk
theorem p_or (a b : Nat) : nI a ||| nI b = nI (a ||| b) := by
  apply Int32.toBitVec_inj.mp
  show BitVec.ofNat 32 a ||| BitVec.ofNat 32 b = BitVec.ofNat 32 (a ||| b)
  apply BitVec.eq_of_toNat_eq
  simp only [BitVec.toNat_or, BitVec.toNat_ofNat]
  exact Nat.or_mod_two_pow.symm
theorem p_and (a b : Nat) : nI a &&& nI b = nI (a &&& b) := by
  apply Int32.toBitVec_inj.mp
  show BitVec.ofNat 32 a &&& BitVec.ofNat 32 b = BitVec.ofNat 32 (a &&& b)
  apply BitVec.eq_of_toNat_eq
  simp only [BitVec.toNat_and, BitVec.toNat_ofNat]
  exact Nat.and_mod_two_pow.symm
theorem p_xor (a b : Nat) : nI a ^^^ nI b = nI (a ^^^ b) := by
  apply Int32.toBitVec_inj.mp
  show BitVec.ofNat 32 a ^^^ BitVec.ofNat 32 b = BitVec.ofNat 32 (a ^^^ b)
  apply BitVec.eq_of_toNat_eq
  simp only [BitVec.toNat_xor, BitVec.toNat_ofNat]
  exact Nat.xor_mod_two_pow.symm
theorem p_shlN {k : Nat} (hk : k < 31) : nI 1 <<< nI (k &&& 31) = nI (2 ^ k) := by
  rw [← p_and]
  exact p_shl hk
theorem p_shrN {s k : Nat} (hs : s < 2147483648) (hk : k < 31) : nI s >>> nI (k &&& 31) = nI (s / 2 ^ k) := by
  rw [← p_and]
  exact pk_shrN hs _ k (p_s31 k hk)
