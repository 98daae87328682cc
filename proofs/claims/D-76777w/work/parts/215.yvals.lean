/-! WHAT A SLANTED LINE HAS AT AN X; comparing two -/
set_option maxRecDepth 100000
def isSl (s : Sg) : Prop := s.1 < s.2.2.1
def slB (s : Sg) : Bool := decide (s.1 < s.2.2.1)
def ddx (s : Sg) : Rat := (s.2.2.1 : Rat) - (s.1 : Rat)
def yv (s : Sg) (x : Rat) : Rat := (s.2.1 : Rat) + (x - (s.1 : Rat)) * ((s.2.2.2 : Rat) - (s.2.1 : Rat)) / ddx s
def Ab (s : Sg) (X B : Int) : Int := s.2.1 * (s.2.2.1 - s.1) * B + (X - s.1 * B) * (s.2.2.2 - s.2.1)
theorem ddx_p {s : Sg} (h : isSl s) : 0 < ddx s := by
  have := Rat.intCast_lt_intCast.mpr h
  unfold ddx; grind
theorem rne {x : Rat} (h : 0 < x) : x ≠ 0 := fun z => by rw [z] at h; exact Rat.lt_irrefl h
theorem yv_m {s : Sg} (h : isSl s) (x : Rat) : yv s x * ddx s = (s.2.1 : Rat) * ddx s + (x - (s.1 : Rat)) * ((s.2.2.2 : Rat) - (s.2.1 : Rat)) := by
  unfold yv
  have := Rat.div_mul_cancel (a := (x - (s.1 : Rat)) * ((s.2.2.2 : Rat) - (s.2.1 : Rat))) (rne (ddx_p h))
  grind
theorem mul_inj {a b c : Rat} (hc : 0 < c) (h : a * c = b * c) : a = b := by
  have := Rat.mul_div_cancel (a := a) (rne hc)
  rw [h, Rat.mul_div_cancel (rne hc)] at this
  exact this.symm
theorem onB_sl {s : Sg} (hs : sgOk s) (h : isSl s) {x y : Rat} : onB s (x, y) = true ↔ (s.1 : Rat) ≤ x ∧ x ≤ (s.2.2.1 : Rat) ∧ y = yv s x := by
  have p := ddx_p h
  have m := yv_m h x
  have k : sd s (x, y) = 0 ↔ y = yv s x := by
    unfold sd
    unfold ddx at *
    constructor
    · intro z
      exact mul_inj p (by grind)
    · intro z
      simp only at *
      grind
  rw [onB_iff, k]
  have m1 := yv_m h (s.1 : Rat)
  have m2 := yv_m h (s.2.2.1 : Rat)
  have e1 : yv s (s.1 : Rat) = (s.2.1 : Rat) := mul_inj p (by rw [m1]; grind)
  have e2 : yv s (s.2.2.1 : Rat) = (s.2.2.2 : Rat) := mul_inj p (by rw [m2]; unfold ddx; grind)
  constructor
  · rintro ⟨h1, h2, h3⟩
    exact ⟨by grind, by grind, h1⟩
  · rintro ⟨h1, h2, h3⟩
    refine ⟨h3, ?_, ?_⟩
    · rintro (w | ⟨w, w'⟩)
      · grind
      · simp only at w w'; rw [h3, w, e1] at w'; exact Rat.lt_irrefl w'
    · rintro (w | ⟨w, w'⟩)
      · grind
      · simp only at w w'; rw [h3, ← w, e2] at w'; exact Rat.lt_irrefl w'
theorem onB_up {s : Sg} (hs : sgOk s) (h : ¬ isSl s) {x y : Rat} : onB s (x, y) = true ↔ x = (s.1 : Rat) ∧ (s.2.1 : Rat) ≤ y ∧ y ≤ (s.2.2.2 : Rat) := by
  have h5 := hs.2.2.2.2
  have e : s.2.2.1 = s.1 := by unfold isSl at h; omega
  have l : (s.2.1 : Rat) < (s.2.2.2 : Rat) := Rat.intCast_lt_intCast.mpr (by omega)
  rw [onB_iff]
  unfold sd
  rw [e]
  simp only
  constructor
  · rintro ⟨h1, h2, h3⟩
    have z : ((s.2.2.2 : Rat) - (s.2.1 : Rat)) * (x - (s.1 : Rat)) = 0 := by grind
    rcases Rat.mul_eq_zero.mp z with w | w
    · grind
    · grind
  · rintro ⟨h1, h2, h3⟩
    refine ⟨by rw [h1]; grind, by grind, by grind⟩
theorem Ab_bd {s : Sg} (hs : sgOk s) {X B : Int} {n m : Nat} (hX : bn X n) (hB : bn B m) : bn (Ab s X B) (40 * 40 * m + (n + 40 * m) * 40) := by
  obtain ⟨h1, h2, h3, h4, -⟩ := hs
  exact bn_add (bn_mul (bn_mul (bn_of (by omega)) (bn_of (by omega))) hB) (bn_mul (bn_sub hX (bn_mul (bn_of (by omega)) hB)) (bn_of (by omega)))
theorem Ab_q {s : Sg} (h : isSl s) {X B : Int} (hB : 0 < B) : (Ab s X B : Rat) / (((s.2.2.1 - s.1) * B : Int) : Rat) = yv s ((X : Rat) / (B : Rat)) := by
  have p := ddx_p h
  have hB' : (0 : Rat) < (B : Rat) := Rat.intCast_pos.mpr hB
  have e := Rat.div_mul_cancel (a := (X : Rat)) (rne hB')
  have m := yv_m h ((X : Rat) / (B : Rat))
  have q : (((s.2.2.1 - s.1) * B : Int) : Rat) = ddx s * (B : Rat) := by rw [Rat.intCast_mul, Rat.intCast_sub]; rfl
  have pq' : (0 : Rat) < ddx s * (B : Rat) := Rat.mul_pos p hB'
  refine mul_inj pq' ?_
  rw [q, Rat.div_mul_cancel (rne pq')]
  unfold Ab
  simp only [Rat.intCast_add, Rat.intCast_mul, Rat.intCast_sub]
  generalize (X : Rat) / (B : Rat) = x at *
  unfold ddx at *
  grind
theorem kd_sl {s : Sg} (hs : sgOk s) : (lnOf s).1 = 0 ↔ ¬ isSl s := by
  have := hs.2.2.2.2
  show kdS s = 0 ↔ _
  unfold kdS isSl
  by_cases c : s.1 = s.2.2.1
  · rw [if_pos c]; simp; omega
  · rw [if_neg c]
    split <;> simp <;> omega
theorem above_e {N : Nat} {s : Sg} (hs : sgOk s) (h : isSl s) {x : Rat} : F_Sl_above N (lnOf s) (rf x) = some (i64 (Ab s x.num (x.den : Int))) := by
  obtain ⟨h1, h2, h3, h4, h5⟩ := hs
  have t1 := i32_to64 (a := s.2.2.1 - s.1) (by omega)
  have t2 := i32_to64 (a := s.2.2.2 - s.2.1) (by omega)
  have t3 := i32_to64 (a := s.1) (by omega)
  have t4 := i32_to64 (a := s.2.1) (by omega)
  unfold F_Sl_above F_X9_above F_X8_above F_X4_dx F_X4_dy
  by_cases c : (lnOf s).1 = 2
  · rw [if_pos c]
    have e : s.2.2.2 - s.2.1 = 0 := by
      have c : kdS s = 2 := c
      unfold kdS at c
      split at c
      · cases c
      · split at c
        · omega
        · cases c
    simp only [lnOf, rf, i32_sub, Option.bind_some, t1, t4, i64_mul]
    congr 2
    unfold Ab
    rw [e, Int.mul_zero, Int.add_zero]
  · rw [if_neg c]
    simp only [lnOf, rf, i32_sub, Option.bind_some, t1, t2, t3, t4, i64_mul, i64_sub, i64_add]
    congr 2
    unfold Ab
    rw [Int.mul_comm (s.2.2.2 - s.2.1)]
/-- the size of the middles between x's -/
def mq (x : Rat) : Prop := fb x 2100000000 33000000
theorem cmpAt_e {N : Nat} {s t : Sg} (hs : sgOk s) (ht : sgOk t) (h : isSl s) (h' : isSl t) {x : Rat} (hx : mq x) : F_X8_compareAt N (lnOf s) (lnOf t) (rf x) = some (i32 (sg (yv s x) (yv t x))) := by
  have xd : bn (x.den : Int) 33000000 := by have := hx.2; unfold bn; omega
  have xp : 0 < (x.den : Int) := by have := x.den_pos; omega
  have b1 := Ab_bd hs hx.1 xd
  have b2 := Ab_bd ht hx.1 xd
  obtain ⟨s1, s2, s3, s4, s5⟩ := hs
  obtain ⟨u1, u2, u3, u4, u5⟩ := ht
  have d1 : bn (s.2.2.1 - s.1) 40 := bn_of (by omega)
  have d2 : bn (t.2.2.1 - t.1) 40 := bn_of (by omega)
  have r1 := bn_64 (bn_mul b1 d2) (by decide)
  have r2 := bn_64 (bn_mul b2 d1) (by decide)
  have t1 := i32_to64 (a := s.2.2.1 - s.1) (by omega)
  have t2 := i32_to64 (a := t.2.2.1 - t.1) (by omega)
  have e0 : F_X8_compareAt N (lnOf s) (lnOf t) (rf x) = if i64 (Ab t x.num (x.den : Int) * (s.2.2.1 - s.1)) ≤ i64 (Ab s x.num (x.den : Int) * (t.2.2.1 - t.1)) then if i64 (Ab s x.num (x.den : Int) * (t.2.2.1 - t.1)) = i64 (Ab t x.num (x.den : Int) * (s.2.2.1 - s.1)) then some 0 else some 1 else some (-1) := by
    unfold F_X8_compareAt F_X4_dx
    rw [above_e ⟨s1, s2, s3, s4, s5⟩ h, above_e ⟨u1, u2, u3, u4, u5⟩ h']
    simp only [Option.bind_some, lnOf, i32_sub, t1, t2, i64_mul]
  rw [e0, ite_ii (i64_le r2 r1), ite_ii (i64_eq r1 r2)]
  have q := sgi_q (a := Ab s x.num (x.den : Int)) (b := (s.2.2.1 - s.1) * (x.den : Int)) (c := Ab t x.num (x.den : Int)) (d := (t.2.2.1 - t.1) * (x.den : Int)) (Int.mul_pos (by unfold isSl at h; omega) xp) (Int.mul_pos (by unfold isSl at h'; omega) xp)
  rw [Ab_q h xp, Ab_q h' xp, rat_q] at q
  rw [← q]
  have e1 : Ab s x.num (x.den : Int) * ((t.2.2.1 - t.1) * (x.den : Int)) - Ab t x.num (x.den : Int) * ((s.2.2.1 - s.1) * (x.den : Int)) = (Ab s x.num (x.den : Int) * (t.2.2.1 - t.1) - Ab t x.num (x.den : Int) * (s.2.2.1 - s.1)) * (x.den : Int) := by grind
  rw [e1]
  generalize Ab s x.num (x.den : Int) * (t.2.2.1 - t.1) = A at *
  generalize Ab t x.num (x.den : Int) * (s.2.2.1 - s.1) = B at *
  generalize (x.den : Int) = d at *
  have g1 := ps_mul (x := A - B) xp
  have g2 := ps_mul (x := B - A) xp
  have g3 : (B - A) * d = -((A - B) * d) := by grind
  rw [g3] at g2
  unfold sgi
  by_cases c1 : B ≤ A
  · rw [if_pos c1]
    by_cases c2 : A = B
    · have z : (A - B) * d = 0 := by rw [c2, Int.sub_self, Int.zero_mul]
      rw [if_pos c2, z]; rfl
    · have z : 0 < (A - B) * d := by omega
      rw [if_neg c2, if_neg (by omega), if_neg (by omega)]; rfl
  · have z : (A - B) * d < 0 := by omega
    rw [if_neg c1, if_pos z]; rfl
theorem slat_e {N : Nat} (hN : 100 ≤ N) {s : Sg} (hs : sgOk s) (h : isSl s) {x : Rat} (hx : fb x 256000 4000) : F_Sl_at N (lnOf s) (rf x) = some (rf (yv s x)) := by
  have xd : bn (x.den : Int) 4000 := by have := hx.2; unfold bn; omega
  have xp : 0 < (x.den : Int) := by have := x.den_pos; omega
  have b1 := Ab_bd hs hx.1 xd
  obtain ⟨h1, h2, h3, h4, h5⟩ := hs
  have t1 := i32_to64 (a := s.2.2.1 - s.1) (by omega)
  have t2 := i32_to64 (a := s.2.2.2 - s.2.1) (by omega)
  have t3 := i32_to64 (a := s.1) (by omega)
  have t4 := i32_to64 (a := s.2.1) (by omega)
  have q := Ab_q h xp (X := x.num)
  rw [rat_q] at q
  unfold F_Sl_at F_X9_at F_X8_at F_X4_dx F_X4_dy
  by_cases c : (lnOf s).1 = 2
  · rw [if_pos c]
    have e : s.2.2.2 - s.2.1 = 0 := by
      have c : kdS s = 2 := c
      unfold kdS at c
      split at c
      · cases c
      · split at c
        · omega
        · cases c
    simp only [lnOf, t4]
    rw [fr_1 (by omega) (bn_of (by omega)), Option.bind_some]
    congr 2
    unfold yv
    have e' : (s.2.2.2 : Rat) - (s.2.1 : Rat) = 0 := by rw [← Rat.intCast_sub, e]; rfl
    rw [e', Rat.mul_zero, Rat.div_def, Rat.zero_mul]
    grind
  · rw [if_neg c]
    simp only [lnOf, rf, i32_sub, Option.bind_some, t1, t2, t3, t4, i64_mul, i64_sub, i64_add]
    have f := X7_init_e (N := N) (k := 18) (a := Ab s x.num (x.den : Int)) (b := (s.2.2.1 - s.1) * (x.den : Int)) (bn_le b1 (by decide)) (by have := Int.mul_pos (show 0 < s.2.2.1 - s.1 by unfold isSl at h; omega) xp; omega) (by
      have := bn_mul (show bn (s.2.2.1 - s.1) 40 from bn_of (by omega)) xd
      unfold bn at this; omega) (by decide) (by omega)
    have eA : s.2.1 * (s.2.2.1 - s.1) * (x.den : Int) + (s.2.2.2 - s.2.1) * (x.num - s.1 * (x.den : Int)) = Ab s x.num (x.den : Int) := by unfold Ab; rw [Int.mul_comm (s.2.2.2 - s.2.1)]
    rw [eA, f, Option.bind_some, Rat.divInt_eq_div, q]
    rfl
/-- the size of what lines have at x's -/
def yq (y : Rat) : Prop := fb y 24000000 160000
theorem yv_yq {s : Sg} (hs : sgOk s) (h : isSl s) {x : Rat} (hx : fb x 256000 4000) : yq (yv s x) := by
  have xd : bn (x.den : Int) 4000 := by have := hx.2; unfold bn; omega
  have xp : 0 < (x.den : Int) := by have := x.den_pos; omega
  have b1 := Ab_bd hs hx.1 xd
  have q := Ab_q h xp (X := x.num)
  rw [rat_q, ← Rat.divInt_eq_div] at q
  rw [← q]
  have f := fb_div (Ab s x.num (x.den : Int)) ((s.2.2.1 - s.1) * (x.den : Int))
  have b2 := bn_mul (show bn (s.2.2.1 - s.1) 40 from bn_of (by have := hs.1; have := hs.2.2.1; omega)) xd
  unfold bn at b1 b2
  exact ⟨Nat.le_trans f.1 (by omega), Nat.le_trans f.2 (by omega)⟩
theorem spans_e {N : Nat} {s : Sg} (hs : sgOk s) {x : Rat} (hx : mq x) : F_X4_spans N (lnOf s) (rf x) = some (bi (decide ((s.1 : Rat) ≤ x) && decide (x ≤ (s.2.2.1 : Rat)))) := by
  obtain ⟨h1, h2, h3, h4, h5⟩ := hs
  have f1 : fb (s.1 : Rat) 40 1 := ⟨bn_of (by rw [Rat.num_intCast]; omega), Nat.le_refl _⟩
  have f2 : fb (s.2.2.1 : Rat) 40 1 := ⟨bn_of (by rw [Rat.num_intCast]; omega), Nat.le_refl _⟩
  have c1 : F_X7_compareTo N (lnOf s).2.2.2.2.2.1.1 (rf x) = some (i32 (sg (s.1 : Rat) x)) := compareTo_e f1 hx (by decide) (by decide)
  have c2 : F_X7_compareTo N (rf x) (lnOf s).2.2.2.2.2.2.1 = some (i32 (sg x (s.2.2.1 : Rat))) := compareTo_e hx f2 (by decide) (by decide)
  have r1 := sg_r (s.1 : Rat) x
  have r2 := sg_r x (s.2.2.1 : Rat)
  have g1 := @sg_gt (s.1 : Rat) x
  have g2 := @sg_gt x (s.2.2.1 : Rat)
  unfold F_X4_spans
  rw [c1, c2, Option.bind_some, Option.bind_some, i32_p (by omega), i32_p (by omega)]
  unfold bi
  by_cases d1 : 0 < sg (s.1 : Rat) x
  · rw [if_pos d1, decide_eq_false (Rat.not_le.mpr (g1.mp d1))]; rfl
  · rw [if_neg d1, decide_eq_true (Rat.not_lt.mp fun w => d1 (g1.mpr w))]
    by_cases d2 : 0 < sg x (s.2.2.1 : Rat)
    · rw [if_pos d2, decide_eq_false (Rat.not_le.mpr (g2.mp d2))]; rfl
    · rw [if_neg d2, decide_eq_true (Rat.not_lt.mp fun w => d2 (g2.mpr w))]; rfl
/-! the model -/
theorem yAb_e {N : Nat} {σ : MSt} {n : Nat} {L : Nat → Sg} (h : MLn σ n L) (hL : LOk n L) {l : Nat} (hl : l < n) (X B : Int) : F_yAbove N σ (i32 (l : Int)) (i64 X) (i64 B) = some (i64 (Ab (L l) X B)) ∧ F_yBelow N σ (i32 (l : Int)) (i64 B) = some (i64 (((L l).2.2.1 - (L l).1) * B)) := by
  have A : ∀ {α : Type} (f : Nat → Option α), ck (i32 (l : Int)) 10 f = f l := fun f => ck_n (by have := hL.1; omega) (by decide) f
  obtain ⟨p1, p2, p3, p4⟩ := h.2 l hl
  obtain ⟨h1, h2, h3, h4, h5⟩ := hL.2 l hl
  have t1 := i32_to64 (a := (L l).2.2.1 - (L l).1) (by omega)
  have t2 := i32_to64 (a := (L l).2.2.2 - (L l).2.1) (by omega)
  have t3 := i32_to64 (a := (L l).1) (by omega)
  have t4 := i32_to64 (a := (L l).2.1) (by omega)
  unfold F_yAbove F_yBelow
  simp only [A, p1, p2, p3, p4, i32_sub, t1, t2, t3, t4, i64_mul, i64_sub, i64_add]
  exact ⟨rfl, trivial⟩
theorem yAg_e {N : Nat} {σ : MSt} {n : Nat} {L : Nat → Sg} (h : MLn σ n L) (hL : LOk n L) {a b : Nat} (ha : a < n) (hb : b < n) (sa : isSl (L a)) (sb : isSl (L b)) {X B : Int} (hX : bn X 256000) (hB : 0 < B) (hB2 : B ≤ 4000) : F_against N (i64 (Ab (L a) X B)) (i64 (((L a).2.2.1 - (L a).1) * B)) (i64 (Ab (L b) X B)) (i64 (((L b).2.2.1 - (L b).1) * B)) = some (i32 (sg (yv (L a) ((X : Rat) / (B : Rat))) (yv (L b) ((X : Rat) / (B : Rat))))) := by
  have bB : bn B 4000 := bn_of (by omega)
  have b1 := Ab_bd (hL.2 a ha) hX bB
  have b2 := Ab_bd (hL.2 b hb) hX bB
  have d1 : bn ((L a).2.2.1 - (L a).1) 40 := bn_of (by have := (hL.2 a ha).1; have := (hL.2 a ha).2.2.1; omega)
  have d2 : bn ((L b).2.2.1 - (L b).1) 40 := bn_of (by have := (hL.2 b hb).1; have := (hL.2 b hb).2.2.1; omega)
  rw [against_e (bn_le (bn_mul b1 (bn_mul d2 bB)) (by decide)) (bn_le (bn_mul b2 (bn_mul d1 bB)) (by decide)), sgi_q (Int.mul_pos (by unfold isSl at sa; omega) hB) (Int.mul_pos (by unfold isSl at sb; omega) hB), Ab_q sa hB, Ab_q sb hB]
