/-! PURE 2: fractions as Rat -/
theorem ite_ii {α : Type} {c d : Prop} [ic : Decidable c] [id' : Decidable d] {a b : α} (h : c ↔ d) : (if c then a else b) = if d then a else b := by
  by_cases z : c
  · rw [if_pos z, if_pos (h.mp z)]
  · rw [if_neg z, if_neg (fun w => z (h.mpr w))]
def rf (q : Rat) : Fr := (i64 q.num, i64 (q.den : Int))
theorem rf_inj {p q : Rat} (h1 : bn p.num 4611686018427387904) (h2 : bn q.num 4611686018427387904) (h3 : p.den < 4611686018427387904) (h4 : q.den < 4611686018427387904) (h : rf p = rf q) : p = q := by
  unfold rf at h
  injection h with a b
  rw [i64_eq (bn_64 h1 (by decide)) (bn_64 h2 (by decide))] at a
  rw [i64_eq (by omega) (by omega)] at b
  exact Rat.ext a (by omega)
theorem jabs_e {a : Int} (h : bn a 9223372036854775807) : jabs (i64 a) = i64 (a.natAbs : Int) := by
  unfold jabs
  have := bn_64 h (by decide)
  rw [show (0 : Int64) = i64 0 from rfl, ite_ii (i64_lt (by omega) (by omega)), i64_neg]
  unfold bn at h
  by_cases h0 : 0 < a
  · rw [if_pos h0]; congr 1; omega
  · rw [if_neg h0]; congr 1; omega
theorem X7_L16 (k : Nat) (a0 b0 : Int64) : ∀ (n a b : Nat), b < 2 ^ k → 2 * k + 1 ≤ n → a < 9223372036854775808 → b < 9223372036854775808 → F_X7_init_L16 n a0 b0 (i64 (a : Int)) (i64 (b : Int)) = F_X7_init_e a0 b0 (i64 ((Nat.gcd a b : Nat) : Int)) := by
  induction k with
  | zero =>
    intro n a b hb hn ha hb'
    obtain ⟨n, rfl⟩ : ∃ m, n = m + 1 := ⟨n - 1, by omega⟩
    have : b = 0 := by simpa using hb
    subst this
    rw [F_X7_init_L16, if_pos (show i64 ((0 : Nat) : Int) = 0 from rfl), Nat.gcd_zero_right]
  | succ k ih =>
    intro n a b hb hn ha hb'
    obtain ⟨n, rfl⟩ : ∃ m, n = m + 2 := ⟨n - 2, by omega⟩
    rw [F_X7_init_L16]
    by_cases h0 : b = 0
    · subst h0; rw [if_pos (show i64 ((0 : Nat) : Int) = 0 from rfl), Nat.gcd_zero_right]
    · rw [if_neg (fun h => h0 ((i64_zero hb').mp h)), i64_mod ha hb']
      unfold dz
      rw [if_neg (fun h => h0 ((i64_zero hb').mp h))]
      have hm : a % b < b := Nat.mod_lt _ (by omega)
      rw [F_X7_init_L16]
      by_cases h1 : a % b = 0
      · rw [h1, if_pos (show i64 ((0 : Nat) : Int) = 0 from rfl)]
        congr 3
        rw [Nat.gcd_comm, Nat.gcd_rec, h1, Nat.gcd_zero_left]
      · rw [if_neg (fun h => h1 ((i64_zero (by omega)).mp h)), i64_mod hb' (by omega)]
        unfold dz
        rw [if_neg (fun h => h1 ((i64_zero (by omega)).mp h))]
        have hs := (eu_step (a := a) (b := b) (by omega) (by omega)).2
        rw [ih n (a % b) (b % (a % b)) (by rw [Nat.pow_succ] at hb; omega) (by omega) (by omega) (by omega)]
        congr 3
        rw [Nat.gcd_comm a b, Nat.gcd_rec b a, Nat.gcd_rec (a % b) b, Nat.gcd_comm]
theorem X7_init_e {a b : Int} {N k : Nat} (ha : bn a 4611686018427387904) (hb : b ≠ 0) (hb2 : b.natAbs < 2 ^ k) (hk : k ≤ 62) (hN : 2 * k + 1 ≤ N) : F_X7_init N (i64 a) (i64 b) = some (rf (Rat.divInt a b)) := by
  have hb3 : b.natAbs < 4611686018427387904 := Nat.lt_of_lt_of_le hb2 (Nat.pow_le_pow_right (by decide) hk)
  have ha3 : a.natAbs ≤ 4611686018427387904 := ha
  unfold F_X7_init
  rw [jabs_e (bn_le ha (by decide)), jabs_e (show bn b 9223372036854775807 from Nat.le_trans (Nat.le_of_lt hb3) (by decide)), X7_L16 k _ _ N _ _ hb2 hN (by omega) (by omega)]
  have hg : 0 < Nat.gcd a.natAbs b.natAbs := Nat.gcd_pos_of_pos_right _ (by omega)
  have hgb : Nat.gcd a.natAbs b.natAbs ≤ b.natAbs := Nat.gcd_le_right _ (by omega)
  have hda : ((Nat.gcd a.natAbs b.natAbs : Nat) : Int) ∣ a := by
    have := Nat.gcd_dvd_left a.natAbs b.natAbs
    exact Int.ofNat_dvd_left.mpr this
  have hdb : Nat.gcd a.natAbs b.natAbs ∣ b.natAbs := Nat.gcd_dvd_right _ _
  unfold rf
  rw [Rat.num_divInt, Rat.den_divInt, if_neg hb]
  have hgg : b.gcd a = Nat.gcd a.natAbs b.natAbs := by unfold Int.gcd; exact Nat.gcd_comm _ _
  rw [hgg]
  generalize hG : Nat.gcd a.natAbs b.natAbs = g at *
  have hz : ¬ i64 (g : Int) = 0 := fun h => by rw [i64_zero (by omega)] at h; omega
  have e2 : jabs (i64 b) / i64 (g : Int) = i64 ((b.natAbs / g : Nat) : Int) := by
    rw [jabs_e (show bn b 9223372036854775807 from Nat.le_trans (Nat.le_of_lt hb3) (by decide)), i64_div (by omega) (by omega), Int.ofNat_tdiv]
  unfold F_X7_init_e F_X7_init_b60
  rw [show (0 : Int64) = i64 0 from rfl, ite_ii (i64_le (by omega) (by omega))]
  by_cases h0 : 0 ≤ b
  · rw [if_pos h0]
    unfold dz
    rw [if_neg hz, if_neg hz, e2, i64_div (by omega) (by omega), Int.sign_eq_one_of_pos (by omega), Int.one_mul, Int.tdiv_eq_ediv_of_dvd hda]
  · rw [if_neg h0]
    unfold dz
    rw [if_neg hz, if_neg hz, e2, i64_neg, i64_div (by omega) (by omega), Int.sign_eq_neg_one_of_neg (by omega), Int.tdiv_eq_ediv_of_dvd (Int.dvd_neg.mpr hda)]
    simp
theorem cmp_lt {p q : Rat} : p < q ↔ p.num * q.den < q.num * p.den := Rat.lt_iff p q
theorem cmp_eq {p q : Rat} : p = q ↔ p.num * q.den = q.num * p.den := by
  constructor
  · rintro rfl; rfl
  · intro h
    have h1 : ¬ p < q := fun z => by have := cmp_lt.mp z; omega
    have h2 : ¬ q < p := fun z => by have := cmp_lt.mp z; omega
    exact Rat.le_antisymm (Rat.not_lt.mp h2) (Rat.not_lt.mp h1)
/-- how two compare: -1, 0, 1 -/
def sg (p q : Rat) : Int := if p < q then -1 else if p = q then 0 else 1
/-- a fraction's size -/
def fb (q : Rat) (n m : Nat) : Prop := bn q.num n ∧ q.den ≤ m
theorem compareTo_e {N : Nat} {p q : Rat} {n m n' m' : Nat} (h1 : fb p n m) (h2 : fb q n' m') (hb : n * m' < 9223372036854775808) (hb' : n' * m < 9223372036854775808) : F_X7_compareTo N (rf p) (rf q) = some (i32 (sg p q)) := by
  have b1 : bn (p.num * (q.den : Int)) (n * m') := bn_mul h1.1 (by unfold bn; simpa using h2.2)
  have b2 : bn (q.num * (p.den : Int)) (n' * m) := bn_mul h2.1 (by unfold bn; simpa using h1.2)
  have c1 := bn_64 b1 hb
  have c2 := bn_64 b2 hb'
  unfold F_X7_compareTo
  simp only [rf, i64_mul]
  rw [ite_ii (i64_le c2 c1), ite_ii (i64_eq c1 c2)]
  have l1 := @cmp_lt p q
  have l2 := @cmp_eq p q
  unfold sg
  by_cases h : p < q
  · have := l1.mp h
    rw [if_pos h, if_neg (by omega)]; rfl
  · rw [if_neg h, if_pos (Int.not_lt.mp fun z => h (l1.mpr z))]
    by_cases h' : p = q
    · rw [if_pos h', if_pos (l2.mp h')]; rfl
    · rw [if_neg h', if_neg (fun z => h' (l2.mpr z))]; rfl
theorem sg_r (p q : Rat) : -1 ≤ sg p q ∧ sg p q ≤ 1 := by unfold sg; split <;> (try split) <;> omega
theorem sg_lt {p q : Rat} : sg p q < 0 ↔ p < q := by
  unfold sg
  by_cases h : p < q
  · simp [h]
  · rw [if_neg h]; constructor
    · intro z; split at z <;> omega
    · intro z; exact absurd z h
theorem sg_eq {p q : Rat} : sg p q = 0 ↔ p = q := by
  unfold sg
  by_cases h : p < q
  · rw [if_pos h]; constructor
    · intro z; omega
    · intro z; exact absurd (z ▸ h) (Rat.lt_irrefl)
  · rw [if_neg h]; split <;> simp_all
theorem sg_gt {p q : Rat} : 0 < sg p q ↔ q < p := by
  unfold sg
  constructor
  · intro z
    split at z
    · omega
    · split at z
      · omega
      · grind
  · intro z
    rw [if_neg (by grind), if_neg (by grind)]
    omega
theorem isLike_e {N : Nat} {p q : Rat} {n m n' m' : Nat} (h1 : fb p n m) (h2 : fb q n' m') (hb : n * m' < 9223372036854775808) (hb' : n' * m < 9223372036854775808) : F_X7_isLike N (rf p) (rf q) = some (if p = q then 1 else 0) := by
  unfold F_X7_isLike
  have := sg_r p q
  rw [compareTo_e h1 h2 hb hb', Option.bind_some, show (0 : Int32) = i32 0 from rfl, ite_ii (i32_eq (by omega) (by omega)), ite_ii sg_eq]
  split <;> rfl
theorem isLess_e {N : Nat} {p q : Rat} {n m n' m' : Nat} (h1 : fb p n m) (h2 : fb q n' m') (hb : n * m' < 9223372036854775808) (hb' : n' * m < 9223372036854775808) : F_X7_isLess N (rf p) (rf q) = some (if p < q then 1 else 0) := by
  unfold F_X7_isLess
  have := sg_r p q
  have l1 := @sg_lt p q
  rw [compareTo_e h1 h2 hb hb', Option.bind_some, show (0 : Int32) = i32 0 from rfl, ite_ii (i32_le (by omega) (by omega))]
  by_cases h : p < q
  · have := l1.mpr h
    rw [if_pos h, if_neg (by omega)]
  · rw [if_neg h, if_pos (Int.not_lt.mp fun z => h (l1.mp z))]
