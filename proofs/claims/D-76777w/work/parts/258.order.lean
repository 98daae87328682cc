/-! ORDER: lines at an x from low to high, put in one by one -/
set_option maxRecDepth 100000
/-- a goes ahead of b -/
def ahB (x : Rat) (a b : Sg) : Bool := decide (yv a x < yv b x) || (decide (yv a x = yv b x) && decide (slp a < slp b))
theorem slp_i (s : Sg) : slp s = ((s.2.2.2 - s.2.1 : Int) : Rat) / ((s.2.2.1 - s.1 : Int) : Rat) := by
  unfold slp ddx
  rw [Rat.intCast_sub, Rat.intCast_sub]
theorem slp_lt {a b : Sg} (sa : isSl a) (sb : isSl b) : sgi ((a.2.2.2 - a.2.1) * (b.2.2.1 - b.1) - (b.2.2.2 - b.2.1) * (a.2.2.1 - a.1)) = sg (slp a) (slp b) := by
  unfold isSl at sa sb
  rw [slp_i, slp_i, sgi_q (by omega) (by omega)]
theorem sgi_3 (z : Int) : (sgi z < 0 ↔ z < 0) ∧ (sgi z = 0 ↔ z = 0) := by
  unfold sgi
  split
  · omega
  · split <;> omega
theorem aheadC_e {N : Nat} {a b : Sg} (ha : sgOk a) (hb : sgOk b) (sa : isSl a) (sb : isSl b) {x : Rat} (hx : mq x) : F_X1_isAhead N (lnOf a) (lnOf b) (rf x) = some (bi (ahB x a b)) := by
  unfold F_X1_isAhead F_X4_dx F_X4_dy
  rw [cmpAt_e ha hb sa sb hx]
  have r := sg_r (yv a x) (yv b x)
  have sl := slp_lt sa sb
  have q := sgi_3 ((a.2.2.2 - a.2.1) * (b.2.2.1 - b.1) - (b.2.2.2 - b.2.1) * (a.2.2.1 - a.1))
  rw [sl] at q
  obtain ⟨a1, a2, a3, a4, a5⟩ := ha
  obtain ⟨b1, b2, b3, b4, b5⟩ := hb
  have w1 : bn ((b.2.2.2 - b.2.1) * (a.2.2.1 - a.1)) (40 * 40) := bn_mul (bn_of (by omega)) (bn_of (by omega))
  have w2 : bn ((a.2.2.2 - a.2.1) * (b.2.2.1 - b.1)) (40 * 40) := bn_mul (bn_of (by omega)) (bn_of (by omega))
  simp only [Option.bind_some]
  rw [i32_0 (by omega), i32_nn (by omega)]
  show (if sg (yv a x) (yv b x) = 0 then (if ((i32 b.2.2.2 - i32 b.2.1).toInt64 * (i32 a.2.2.1 - i32 a.1).toInt64) ≤ ((i32 a.2.2.2 - i32 a.2.1).toInt64 * (i32 b.2.2.1 - i32 b.1).toInt64) then some (0 : Int32) else some 1) else if 0 ≤ sg (yv a x) (yv b x) then some (0 : Int32) else some 1) = _
  rw [i32_sub, i32_sub, i32_sub, i32_sub, i32_to64 (a := b.2.2.2 - b.2.1) (by omega), i32_to64 (a := a.2.2.1 - a.1) (by omega), i32_to64 (a := a.2.2.2 - a.2.1) (by omega), i32_to64 (a := b.2.2.1 - b.1) (by omega), i64_mul, i64_mul, ite_ii (i64_le (bn_64 w1 (by decide)) (bn_64 w2 (by decide)))]
  unfold ahB bi
  by_cases c : yv a x = yv b x
  · have n1 : ¬ yv a x < yv b x := by rw [c]; exact Rat.lt_irrefl
    rw [if_pos (sg_eq.mpr c), decide_eq_false n1, decide_eq_true c]
    by_cases d : slp a < slp b
    · rw [decide_eq_true d, if_neg (by have := q.1.mp (sg_lt.mpr d); omega)]; rfl
    · rw [decide_eq_false d, if_pos (Classical.byContradiction fun w => d (sg_lt.mp (q.1.mpr (by omega))))]; rfl
  · rw [if_neg (fun w => c (sg_eq.mp w)), decide_eq_false c]
    by_cases d : yv a x < yv b x
    · rw [decide_eq_true d, if_neg (Int.not_le.mpr (sg_lt.mpr d))]; rfl
    · rw [decide_eq_false d, if_pos (Int.not_lt.mp fun w => d (sg_lt.mp w))]; rfl
theorem aheadM_e {N n : Nat} {L : Nat → Sg} {μ : MSt} (h : MLn μ n L) (hL : LOk n L) {a b : Nat} (ha : a < n) (hba : b < a) (sa : isSl (L a)) (sb : isSl (L b)) {X B : Int} (hX : bn X 256000) (hB : 0 < B) (hB2 : B ≤ 4000) : F_isAhead N μ (i32 (a : Int)) (i32 (b : Int)) (i64 X) (i64 B) = some (bi (ahB ((X : Rat) / (B : Rat)) (L a) (L b))) := by
  have hn10 := hL.1
  have hb : b < n := by omega
  generalize hx : (X : Rat) / (B : Rat) = x
  obtain ⟨y1, y2⟩ := yAb_e (N := N) h hL ha X B
  obtain ⟨z1, z2⟩ := yAb_e (N := N) h hL hb X B
  have ag := yAg_e (N := N) h hL ha hb sa sb hX hB hB2
  rw [hx] at ag
  have A : ∀ {α : Type} (f : Nat → Option α), ck (i32 (a : Int)) 10 f = f a := fun f => ck_n (by omega) (by decide) f
  have Bb : ∀ {α : Type} (f : Nat → Option α), ck (i32 (b : Int)) 10 f = f b := fun f => ck_n (by omega) (by decide) f
  obtain ⟨p1, p2, p3, p4⟩ := h.2 a ha
  obtain ⟨q1, q2, q3, q4⟩ := h.2 b hb
  have r := sg_r (yv (L a) x) (yv (L b) x)
  have sl := slp_lt sa sb
  have r2 := sg_r (slp (L a)) (slp (L b))
  obtain ⟨a1, a2, a3, a4, a5⟩ := hL.2 a ha
  obtain ⟨b1, b2, b3, b4, b5⟩ := hL.2 b hb
  have w1 : bn (((L b).2.2.2 - (L b).2.1) * ((L a).2.2.1 - (L a).1)) (40 * 40) := bn_mul (bn_of (by omega)) (bn_of (by omega))
  have w2 : bn (((L a).2.2.2 - (L a).2.1) * ((L b).2.2.1 - (L b).1)) (40 * 40) := bn_mul (bn_of (by omega)) (bn_of (by omega))
  have ag2 := against_e (N := N) (bn_le w2 (by decide)) (bn_le w1 (by decide))
  rw [sl] at ag2
  unfold F_isAhead
  rw [y1, y2, z1, z2]
  simp only [Option.bind_some]
  rw [ag]
  simp only [Option.bind_some, A, Bb, p1, p2, p3, p4, q1, q2, q3, q4, i32_sub, i32_to64 (a := (L a).2.2.2 - (L a).2.1) (by omega), i32_to64 (a := (L a).2.2.1 - (L a).1) (by omega), i32_to64 (a := (L b).2.2.2 - (L b).2.1) (by omega), i32_to64 (a := (L b).2.2.1 - (L b).1) (by omega), ag2]
  rw [i32_0 (z := sg (yv (L a) x) (yv (L b) x)) (by omega), i32_nn (z := sg (yv (L a) x) (yv (L b) x)) (by omega), i32_0 (z := sg (slp (L a)) (slp (L b))) (by omega), i32_nn (z := sg (slp (L a)) (slp (L b))) (by omega), if_pos (show i32 (b : Int) ≤ i32 (a : Int) from (i32_le (by omega) (by omega)).mpr (by omega))]
  unfold ahB bi
  by_cases c : yv (L a) x = yv (L b) x
  · have n1 : ¬ yv (L a) x < yv (L b) x := by rw [c]; exact Rat.lt_irrefl
    rw [if_pos (sg_eq.mpr c), decide_eq_false n1, decide_eq_true c]
    by_cases d : slp (L a) < slp (L b)
    · have := sg_lt.mpr d
      rw [decide_eq_true d, if_neg (by omega), if_neg (by omega)]; rfl
    · have : ¬ sg (slp (L a)) (slp (L b)) < 0 := fun w => d (sg_lt.mp w)
      rw [decide_eq_false d]
      by_cases e : sg (slp (L a)) (slp (L b)) = 0
      · rw [if_pos e]; rfl
      · rw [if_neg e, if_pos (by omega)]; rfl
  · rw [if_neg (fun w => c (sg_eq.mp w)), decide_eq_false c]
    by_cases d : yv (L a) x < yv (L b) x
    · rw [decide_eq_true d, if_neg (Int.not_le.mpr (sg_lt.mpr d))]; rfl
    · rw [decide_eq_false d, if_pos (Int.not_lt.mp fun w => d (sg_lt.mp w))]; rfl
/-- where k is put among the first v -/
def posO (x : Rat) (L : Nat → Sg) (f : Nat → Nat) (k : Nat) : Nat → Nat
  | 0 => 0
  | v + 1 => if ahB x (L k) (L (f v)) then posO x L f k v else v + 1
def insO (x : Rat) (L : Nat → Sg) (y : Nat × (Nat → Nat)) (k : Nat) : Nat × (Nat → Nat) := (y.1 + 1, fun j => if j < posO x L y.2 k y.1 then y.2 j else if j = posO x L y.2 k y.1 then k else y.2 (j - 1))
/-- a line that is there at x -/
def inO (x : Rat) (L : Nat → Sg) (o : Int) (l : Nat) : Bool := !decide ((l : Int) = o) && (slB (L l) && (decide (((L l).1 : Rat) ≤ x) && decide (x ≤ ((L l).2.2.1 : Rat))))
def ordF (x : Rat) (L : Nat → Sg) (o : Int) : Nat → Nat × (Nat → Nat)
  | 0 => (0, fun _ => 0)
  | k + 1 => if inO x L o k then insO x L (ordF x L o k) k else ordF x L o k
theorem posO_le (x : Rat) (L : Nat → Sg) (f : Nat → Nat) (k : Nat) : ∀ v, posO x L f k v ≤ v := by
  intro v
  induction v with
  | zero => exact Nat.le_refl _
  | succ v ih =>
    unfold posO
    split
    · omega
    · exact Nat.le_refl _
theorem ordF_G (x : Rat) (L : Nat → Sg) (o : Int) : ∀ k, (ordF x L o k).1 ≤ k ∧ ∀ j, j < (ordF x L o k).1 → (ordF x L o k).2 j < k ∧ inO x L o ((ordF x L o k).2 j) = true := by
  intro k
  induction k with
  | zero => exact ⟨Nat.le_refl _, fun j hj => absurd hj (Nat.not_lt_zero _)⟩
  | succ k ih =>
    obtain ⟨h1, h2⟩ := ih
    unfold ordF
    by_cases c : inO x L o k = true
    · rw [if_pos c]
      refine ⟨by show (ordF x L o k).1 + 1 ≤ _; omega, fun j hj => ?_⟩
      have hj : j < (ordF x L o k).1 + 1 := hj
      have pl := posO_le x L (ordF x L o k).2 k (ordF x L o k).1
      show (if j < posO x L (ordF x L o k).2 k (ordF x L o k).1 then (ordF x L o k).2 j else if j = posO x L (ordF x L o k).2 k (ordF x L o k).1 then k else (ordF x L o k).2 (j - 1)) < k + 1 ∧ inO x L o (if j < posO x L (ordF x L o k).2 k (ordF x L o k).1 then (ordF x L o k).2 j else if j = posO x L (ordF x L o k).2 k (ordF x L o k).1 then k else (ordF x L o k).2 (j - 1)) = true
      by_cases w : j < posO x L (ordF x L o k).2 k (ordF x L o k).1
      · rw [if_pos w]
        have := h2 j (by omega)
        exact ⟨by omega, this.2⟩
      · rw [if_neg w]
        by_cases v : j = posO x L (ordF x L o k).2 k (ordF x L o k).1
        · rw [if_pos v]; exact ⟨by omega, c⟩
        · rw [if_neg v]
          have := h2 (j - 1) (by omega)
          exact ⟨by omega, this.2⟩
    · rw [if_neg c]
      exact ⟨by omega, fun j hj => ⟨by have := (h2 j hj).1; omega, (h2 j hj).2⟩⟩
theorem inO_e {x : Rat} {L : Nat → Sg} {o : Int} {l : Nat} : inO x L o l = true ↔ (l : Int) ≠ o ∧ isSl (L l) ∧ ((L l).1 : Rat) ≤ x ∧ x ≤ ((L l).2.2.1 : Rat) := by
  unfold inO slB isSl
  rw [Bool.and_eq_true, Bool.and_eq_true, Bool.and_eq_true, decide_eq_true_iff, decide_eq_true_iff, decide_eq_true_iff]
  simp
