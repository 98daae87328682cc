/-! PURE 1: whole numbers as Int32 and Int64 -/
def i32 (z : Int) : Int32 := Int32.ofInt z
def i64 (z : Int) : Int64 := Int64.ofInt z
theorem i32_add (a b : Int) : i32 a + i32 b = i32 (a + b) := (Int32.ofInt_add ..).symm
theorem i32_sub (a b : Int) : i32 a - i32 b = i32 (a - b) := (Int32.ofInt_sub ..).symm
theorem i32_mul (a b : Int) : i32 a * i32 b = i32 (a * b) := (Int32.ofInt_mul ..).symm
theorem i32_neg (a : Int) : -(i32 a) = i32 (-a) := (Int32.ofInt_neg ..).symm
theorem i64_add (a b : Int) : i64 a + i64 b = i64 (a + b) := (Int64.ofInt_add ..).symm
theorem i64_sub (a b : Int) : i64 a - i64 b = i64 (a - b) := (Int64.ofInt_sub ..).symm
theorem i64_mul (a b : Int) : i64 a * i64 b = i64 (a * b) := (Int64.ofInt_mul ..).symm
theorem i64_neg (a : Int) : -(i64 a) = i64 (-a) := (Int64.ofInt_neg ..).symm
theorem i32_toInt {a : Int} (h1 : -2147483648 ≤ a) (h2 : a < 2147483648) : (i32 a).toInt = a := Int32.toInt_ofInt_of_le h1 h2
theorem i64_toInt {a : Int} (h1 : -9223372036854775808 ≤ a) (h2 : a < 9223372036854775808) : (i64 a).toInt = a := Int64.toInt_ofInt_of_le h1 h2
theorem i32_lt {a b : Int} (h1 : -2147483648 ≤ a ∧ a < 2147483648) (h2 : -2147483648 ≤ b ∧ b < 2147483648) : i32 a < i32 b ↔ a < b := by
  rw [Int32.lt_iff_toInt_lt, i32_toInt h1.1 h1.2, i32_toInt h2.1 h2.2]
theorem i32_le {a b : Int} (h1 : -2147483648 ≤ a ∧ a < 2147483648) (h2 : -2147483648 ≤ b ∧ b < 2147483648) : i32 a ≤ i32 b ↔ a ≤ b := by
  rw [Int32.le_iff_toInt_le, i32_toInt h1.1 h1.2, i32_toInt h2.1 h2.2]
theorem i32_eq {a b : Int} (h1 : -2147483648 ≤ a ∧ a < 2147483648) (h2 : -2147483648 ≤ b ∧ b < 2147483648) : i32 a = i32 b ↔ a = b := by
  rw [← Int32.toInt_inj, i32_toInt h1.1 h1.2, i32_toInt h2.1 h2.2]
theorem i64_lt {a b : Int} (h1 : -9223372036854775808 ≤ a ∧ a < 9223372036854775808) (h2 : -9223372036854775808 ≤ b ∧ b < 9223372036854775808) : i64 a < i64 b ↔ a < b := by
  rw [Int64.lt_iff_toInt_lt, i64_toInt h1.1 h1.2, i64_toInt h2.1 h2.2]
theorem i64_le {a b : Int} (h1 : -9223372036854775808 ≤ a ∧ a < 9223372036854775808) (h2 : -9223372036854775808 ≤ b ∧ b < 9223372036854775808) : i64 a ≤ i64 b ↔ a ≤ b := by
  rw [Int64.le_iff_toInt_le, i64_toInt h1.1 h1.2, i64_toInt h2.1 h2.2]
theorem i64_eq {a b : Int} (h1 : -9223372036854775808 ≤ a ∧ a < 9223372036854775808) (h2 : -9223372036854775808 ≤ b ∧ b < 9223372036854775808) : i64 a = i64 b ↔ a = b := by
  rw [← Int64.toInt_inj, i64_toInt h1.1 h1.2, i64_toInt h2.1 h2.2]
theorem i32_to64 {a : Int} (h1 : -2147483648 ≤ a ∧ a < 2147483648) : (i32 a).toInt64 = i64 a := by
  rw [← Int64.toInt_inj, Int32.toInt_toInt64, i32_toInt h1.1 h1.2, i64_toInt (by omega) (by omega)]
theorem i64_to32 (a : Int) : (i64 a).toInt32 = i32 a := Int64.toInt32_ofInt ..
theorem i32_of (x : Int32) : i32 x.toInt = x := Int32.ofInt_toInt x
theorem i64_of (x : Int64) : i64 x.toInt = x := Int64.ofInt_toInt x
theorem i32_ex (x : Int32) : ∃ z : Int, -2147483648 ≤ z ∧ z < 2147483648 ∧ x = i32 z := ⟨x.toInt, Int32.le_toInt x, Int32.toInt_lt x, (i32_of x).symm⟩
theorem i64_div {a b : Int} (h1 : -9223372036854775808 ≤ a ∧ a < 9223372036854775808) (h2 : -9223372036854775808 ≤ b ∧ b < 9223372036854775808) : i64 a / i64 b = i64 (a.tdiv b) :=
  (Int64.ofInt_tdiv (by show (-9223372036854775808 : Int) ≤ _; omega) (by show _ ≤ (9223372036854775807 : Int); omega) (by show (-9223372036854775808 : Int) ≤ _; omega) (by show _ ≤ (9223372036854775807 : Int); omega)).symm
theorem i32_clamp {a : Int} (h1 : -2147483648 ≤ a ∧ a < 2147483648) : (i32 a).toNatClampNeg = a.toNat := by
  show (i32 a).toInt.toNat = _
  rw [i32_toInt h1.1 h1.2]
theorem ck_i {α : Type} {z : Int} {n : Nat} {k : Nat → Option α} (h : 0 ≤ z ∧ z < n) (hn : n < 2147483648) : ck (i32 z) n k = k z.toNat := by
  unfold ck
  rw [i32_clamp (by omega), if_neg]
  rintro (h1 | h1)
  · rw [show (0 : Int32) = i32 0 from rfl, i32_lt (by omega) (by omega)] at h1; omega
  · omega

/-! bounds of sums and products -/
def bn (x : Int) (n : Nat) : Prop := x.natAbs ≤ n
theorem bn_add {x y : Int} {n m : Nat} (h1 : bn x n) (h2 : bn y m) : bn (x + y) (n + m) := by unfold bn at *; omega
theorem bn_sub {x y : Int} {n m : Nat} (h1 : bn x n) (h2 : bn y m) : bn (x - y) (n + m) := by unfold bn at *; omega
theorem bn_mul {x y : Int} {n m : Nat} (h1 : bn x n) (h2 : bn y m) : bn (x * y) (n * m) := by unfold bn at *; rw [Int.natAbs_mul]; exact Nat.mul_le_mul h1 h2
theorem bn_neg {x : Int} {n : Nat} (h1 : bn x n) : bn (-x) n := by unfold bn at *; omega
theorem bn_le {x : Int} {n m : Nat} (h1 : bn x n) (h : n ≤ m) : bn x m := Nat.le_trans h1 h
theorem bn_of {x : Int} {n : Nat} (h : -(n : Int) ≤ x ∧ x ≤ n) : bn x n := by unfold bn; omega
theorem bn_64 {x : Int} {n : Nat} (h : bn x n) (hn : n < 9223372036854775808) : -9223372036854775808 ≤ x ∧ x < 9223372036854775808 := by unfold bn at h; omega
theorem bn_32 {x : Int} {n : Nat} (h : bn x n) (hn : n < 2147483648) : -2147483648 ≤ x ∧ x < 2147483648 := by unfold bn at h; omega
/-! Euclid -/
theorem eu_step {a b : Nat} (hb : 0 < b) (h : 0 < a % b) : b % (a % b) < b - b / 2 ∧ b % (a % b) ≤ b / 2 := by
  have h1 : a % b < b := Nat.mod_lt _ hb
  have h2 : b % (a % b) < a % b := Nat.mod_lt _ h
  have h3 : b % (a % b) + (a % b) ≤ b := by
    have := Nat.mod_add_div b (a % b)
    have h4 : 1 ≤ b / (a % b) := (Nat.one_le_div_iff h).mpr (Nat.le_of_lt h1)
    have h5 : (a % b) * 1 ≤ (a % b) * (b / (a % b)) := Nat.mul_le_mul_left _ h4
    omega
  omega
theorem i64_mod {a b : Nat} (ha : a < 9223372036854775808) (hb : b < 9223372036854775808) : i64 (a : Int) - i64 (a : Int) / i64 (b : Int) * i64 (b : Int) = i64 ((a % b : Nat) : Int) := by
  rw [i64_div (by omega) (by omega), i64_mul, i64_sub]
  congr 1
  have : (a : Int).tdiv (b : Int) = ((a / b : Nat) : Int) := by rw [Int.ofNat_tdiv]
  rw [this]
  have h2 := Nat.mod_add_div a b
  have : ((a % b : Nat) : Int) + (b : Int) * ((a / b : Nat) : Int) = (a : Int) := by exact_mod_cast h2
  have h3 : (b : Int) * ((a / b : Nat) : Int) = ((a / b : Nat) : Int) * (b : Int) := Int.mul_comm ..
  omega
theorem i64_zero {a : Nat} (ha : a < 9223372036854775808) : i64 (a : Int) = 0 ↔ a = 0 := by
  rw [show (0 : Int64) = i64 0 from rfl, i64_eq (by omega) (by omega)]; omega
theorem common_e (k : Nat) : ∀ (n a b : Nat), b < 2 ^ k → 2 * k + 1 ≤ n → a < 9223372036854775808 → b < 9223372036854775808 → F_common n (i64 (a : Int)) (i64 (b : Int)) = some (i64 ((Nat.gcd a b : Nat) : Int)) := by
  induction k with
  | zero =>
    intro n a b hb hn ha hb'
    obtain ⟨n, rfl⟩ : ∃ m, n = m + 1 := ⟨n - 1, by omega⟩
    have : b = 0 := by simpa using hb
    subst this
    rw [F_common, if_pos (show i64 ((0 : Nat) : Int) = 0 from rfl), Nat.gcd_zero_right]
  | succ k ih =>
    intro n a b hb hn ha hb'
    obtain ⟨n, rfl⟩ : ∃ m, n = m + 2 := ⟨n - 2, by omega⟩
    rw [F_common]
    by_cases h0 : b = 0
    · subst h0; rw [if_pos (show i64 ((0 : Nat) : Int) = 0 from rfl), Nat.gcd_zero_right]
    · rw [if_neg (fun h => h0 ((i64_zero hb').mp h)), i64_mod ha hb']
      unfold dz
      rw [if_neg (fun h => h0 ((i64_zero hb').mp h))]
      have hm : a % b < b := Nat.mod_lt _ (by omega)
      rw [F_common]
      by_cases h1 : a % b = 0
      · rw [h1, if_pos (show i64 ((0 : Nat) : Int) = 0 from rfl)]
        congr 3
        rw [Nat.gcd_comm, Nat.gcd_rec, h1, Nat.gcd_zero_left]
      · rw [if_neg (fun h => h1 ((i64_zero (by omega)).mp h)), i64_mod hb' (by omega)]
        unfold dz
        rw [if_neg (fun h => h1 ((i64_zero (by omega)).mp h))]
        have hs := (eu_step (a := a) (b := b) (by omega) (by omega)).2
        rw [ih n (a % b) (b % (a % b)) (by rw [Nat.pow_succ] at hb; omega) (by omega) (by omega) (by omega)]
        congr 3
        rw [Nat.gcd_comm a b, Nat.gcd_rec b a, Nat.gcd_rec (a % b) b, Nat.gcd_comm]
