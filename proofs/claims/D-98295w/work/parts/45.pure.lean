/-! power -/
set_option maxRecDepth 20000
def fctN : Nat → Nat
  | 0 => 1
  | n + 1 => (n + 1) * fctN n
theorem fct_T : ∀ n, n < 11 → T_factorial (nI n) = some (lN (fctN n)) := by decide +kernel
theorem fct_C : ∀ n, n < 11 → C_orders 64 (nI n) = some (nI (fctN n)) := by decide +kernel
theorem fct_le : ∀ n, n < 11 → 1 ≤ fctN n ∧ fctN n ≤ 3628800 := by decide +kernel
theorem fct_le9 : ∀ n, n < 10 → ∀ m, m < 10 → n + m < 10 → fctN n * fctN m ≤ 362880 := by decide +kernel
theorem p_nzl {α : Type} {b : Nat} {x : Option α} (h : 0 < b) (hb : b < 9223372036854775808) : nzl (lN b) x = x := by
  unfold nzl
  refine if_neg fun e => ?_
  have := congrArg Int64.toInt e
  rw [pk_lT (by omega)] at this
  have e0 : (0 : Int64).toInt = 0 := by decide
  omega
theorem p_nzi {α : Type} {b : Nat} {x : Option α} (h : 0 < b) (hb : b < 2147483648) : nz (nI b) x = x := if_neg (nI_ne0 h hb)
theorem p_cmpE (x y : Int64) : (lg_cmp x y = 0) = (x = y) := by
  apply propext
  unfold lg_cmp
  by_cases h : x > y
  · rw [if_pos h]
    exact ⟨fun e => absurd e (by decide), fun e => by subst e; exact absurd h Int64.lt_irrefl⟩
  · rw [if_neg h]
    by_cases h2 : x = y
    · rw [if_pos h2]; exact ⟨fun _ => h2, fun _ => rfl⟩
    · rw [if_neg h2]; exact ⟨fun e => absurd e (by decide), fun e => absurd e h2⟩
theorem p_lN0 {b : Nat} (hb : b < 9223372036854775808) : (lN b = 0) = (b = 0) := by
  apply propext
  constructor
  · intro e
    have := congrArg Int64.toInt e
    rw [pk_lT (by omega)] at this
    have e0 : (0 : Int64).toInt = 0 := by decide
    omega
  · rintro rfl; rfl
theorem T_common_1 {f a b : Nat} (ha : a < 4611686018427387904) (hb : b < 4611686018427387904) : T_common_6 (f + 1) (lN a) (lN b) = if b = 0 then some (lN a) else T_common_6 f (lN b) (lN (a % b)) := by
  conv => lhs; unfold T_common_6
  simp only [p_cmpE, p_lN0 (show b < 9223372036854775808 by omega)]
  by_cases h : b = 0
  · rw [if_pos h, if_pos h]
  · rw [if_neg h, if_neg h, p_nzl (by omega) (by omega), pk_lRem (by omega) (by omega) (by omega)]
    rfl
theorem C_common_1 {f a b : Nat} (ha : a < 2147483648) (hb : b < 2147483648) : C_common (f + 1) (nI a) (nI b) = if b = 0 then some (nI a) else C_common f (nI b) (nI (a % b)) := by
  conv => lhs; unfold C_common C_common_b
  by_cases h : b = 0
  · subst h
    rw [if_pos (show nI 0 = 0 from rfl), if_pos rfl]
  · rw [if_neg (nI_ne0 (by omega) (by omega)), if_neg h, p_nzi (by omega) (by omega), pk_rem (by omega) (by omega) (by omega)]
    cases C_common f (nI b) (nI (a % b)) <;> rfl
theorem gcd_lp {α : Type} {F : Nat → Nat → Nat → Option α} {G : Nat → α} {M : Nat} (h1 : ∀ f a b, a < M → b < M → F (f + 1) a b = if b = 0 then some (G a) else F f b (a % b)) : ∀ k f a b, b < 2 ^ k → a < M → b < M → 2 * k + 1 ≤ f → F f a b = some (G (Nat.gcd a b)) := by
  intro k
  induction k with
  | zero =>
    intro f a b hb ha hbM hf
    obtain ⟨f, rfl⟩ : ∃ m, f = m + 1 := ⟨f - 1, by omega⟩
    obtain rfl : b = 0 := by rw [Nat.pow_zero] at hb; omega
    rw [h1 f a 0 ha hbM, if_pos rfl, Nat.gcd_zero_right]
  | succ k ih =>
    intro f a b hb ha hbM hf
    obtain ⟨f, rfl⟩ : ∃ m, f = m + 2 := ⟨f - 2, by omega⟩
    rw [h1 (f + 1) a b ha hbM]
    by_cases hb0 : b = 0
    · subst hb0; rw [if_pos rfl, Nat.gcd_zero_right]
    · rw [if_neg hb0]
      have hr : a % b < b := Nat.mod_lt _ (by omega)
      rw [h1 f b (a % b) hbM (by omega)]
      have e1 : Nat.gcd a b = Nat.gcd b (a % b) := by rw [Nat.gcd_comm a b, Nat.gcd_rec b a, Nat.gcd_comm]
      by_cases hr0 : a % b = 0
      · rw [if_pos hr0, e1, hr0, Nat.gcd_zero_right]
      · rw [if_neg hr0]
        have hs : b % (a % b) < a % b := Nat.mod_lt _ (by omega)
        have hd := Nat.div_add_mod b (a % b)
        have hq : 1 ≤ b / (a % b) := Nat.div_pos (by omega) (by omega)
        have hm : a % b * 1 ≤ a % b * (b / (a % b)) := Nat.mul_le_mul_left _ hq
        have hp : 2 ^ (k + 1) = 2 * 2 ^ k := by rw [Nat.pow_succ]; omega
        have e2 : Nat.gcd b (a % b) = Nat.gcd (a % b) (b % (a % b)) := by rw [Nat.gcd_comm b (a % b), Nat.gcd_rec (a % b) b, Nat.gcd_comm]
        rw [ih f (a % b) (b % (a % b)) (by omega) (by omega) (by omega) (by omega), e1, e2]
theorem T_common_s {a b : Nat} (ha : a < 4611686018427387904) (hb : b < 2147483648) : T_common (lN a) (lN b) = some (lN (Nat.gcd a b)) := by
  unfold T_common
  exact gcd_lp (F := fun f a b => T_common_6 f (lN a) (lN b)) (G := lN) (M := 4611686018427387904) (fun f a b h1 h2 => T_common_1 h1 h2) 31 fu a b (by omega) (by omega) (by omega) (by unfold fu; omega)
theorem C_common_s {a b : Nat} (ha : a < 2147483648) (hb : b < 1073741824) : C_common 64 (nI a) (nI b) = some (nI (Nat.gcd a b)) :=
  gcd_lp (F := fun f a b => C_common f (nI a) (nI b)) (G := nI) (M := 2147483648) (fun f a b h1 h2 => C_common_1 h1 h2) 30 64 a b (by omega) (by omega) (by omega) (by omega)
/-- what the last one of a part brings -/
def pwG (A : Nat → Int32) (s n l y : Nat) : Nat := if saC A y s && !saC A (y ||| 2 ^ l) s then fctN (cnt1 y) * fctN (n - 1 - cnt1 y) else 0
def pwF (A : Nat → Int32) (s n l y : Nat) : Nat := if y.testBit l then 0 else pwG A s n l y
def pwT (A : Nat → Int32) (s U n l p : Nat) : Nat := pwF A s n l (dpo U p)
theorem pw_sum {A : Nat → Int32} {s U n l : Nat} (hl : l < 26) (hb : U.testBit l = true) (hU : U < 67108864) : smN (pwT A s U n l) (2 ^ rk U 26) = smN (fun q => pwG A s n l (dpo (U &&& (2 ^ l ^^^ 4294967295)) q)) (2 ^ rk (U &&& (2 ^ l ^^^ 4294967295)) 26) := by
  have h1 := sum_dpo (U := U) 26 (pwF A s n l)
  have h2 := sum_dpo (U := U &&& (2 ^ l ^^^ 4294967295)) 26 (pwG A s n l)
  refine h1.symm.trans (Eq.trans (smN_cong _ fun y hy => ?_) h2)
  have hV : ∀ i, (U &&& (2 ^ l ^^^ 4294967295)).testBit i = true ↔ U.testBit i = true ∧ i ≠ l := by
    intro i
    rw [Nat.testBit_and, Nat.testBit_xor, Bool.and_eq_true, Nat.testBit_two_pow]
    constructor
    · rintro ⟨h3, h4⟩
      refine ⟨h3, fun e => ?_⟩
      subst e
      rw [decide_eq_true rfl, show (4294967295 : Nat) = 2 ^ 32 - 1 from rfl, Nat.testBit_two_pow_sub_one, decide_eq_true (by omega)] at h4
      cases h4
    · rintro ⟨h3, h4⟩
      refine ⟨h3, ?_⟩
      have hi : i < 26 := by
        apply Classical.byContradiction
        intro h
        rw [p_big (m := 26) hU (by omega)] at h3; cases h3
      rw [decide_eq_false (fun e => h4 e.symm), show (4294967295 : Nat) = 2 ^ 32 - 1 from rfl, Nat.testBit_two_pow_sub_one, decide_eq_true (by omega)]
      rfl
  unfold pwF
  cases hyl : y.testBit l
  · have : sub (U &&& (2 ^ l ^^^ 4294967295)) y = sub U y := by
      rw [Bool.eq_iff_iff, sub_iff, sub_iff]
      constructor
      · intro h i hi; exact ((hV i).mp (h i hi)).1
      · intro h i hi
        refine (hV i).mpr ⟨h i hi, fun e => ?_⟩
        subst e
        rw [hyl] at hi; cases hi
    rw [this]; rfl
  · have : sub (U &&& (2 ^ l ^^^ 4294967295)) y = false := by
      cases e : sub (U &&& (2 ^ l ^^^ 4294967295)) y with
      | false => rfl
      | true => exact absurd rfl ((hV l).mp (sub_iff.mp e l hyl)).2
    rw [this]
    show (if sub U y = true then (if true = true then 0 else _) else 0) = 0
    rw [if_pos rfl]
    split <;> rfl
theorem pwG_le {A : Nat → Int32} {s n l y : Nat} (hn : n ≤ 10) (h1 : 1 ≤ n) (hy : cnt1 y ≤ n - 1) : pwG A s n l y ≤ 362880 := by
  unfold pwG
  split
  · exact fct_le9 _ (by omega) _ (by omega) (by omega)
  · omega
