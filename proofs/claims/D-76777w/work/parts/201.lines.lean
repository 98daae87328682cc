/-! LINES: segments of whole numbers, places as pairs of fractions; what a line's methods answer -/
set_option maxRecDepth 100000
abbrev Sg : Type := Int × Int × Int × Int
abbrev Pt : Type := Rat × Rat
def sgOk (s : Sg) : Prop := (0 ≤ s.1 ∧ s.1 ≤ 40) ∧ (0 ≤ s.2.1 ∧ s.2.1 ≤ 40) ∧ (0 ≤ s.2.2.1 ∧ s.2.2.1 ≤ 40) ∧ (0 ≤ s.2.2.2 ∧ s.2.2.2 ≤ 40) ∧ (s.1 < s.2.2.1 ∨ s.1 = s.2.2.1 ∧ s.2.1 < s.2.2.2)
def mkSg (x y X Y : Int) : Sg := if x < X ∨ (x = X ∧ y < Y) then (x, y, X, Y) else (X, Y, x, y)
def ptA (s : Sg) : Pt := ((s.1 : Rat), (s.2.1 : Rat))
def ptB (s : Sg) : Pt := ((s.2.2.1 : Rat), (s.2.2.2 : Rat))
def rfP (p : Pt) : Pl := (rf p.1, rf p.2)
def kdS (s : Sg) : Nat := if s.1 = s.2.2.1 then 0 else if s.2.1 = s.2.2.2 then 2 else 1
def lnOf (s : Sg) : Ln := (kdS s, i32 s.1, i32 s.2.1, i32 s.2.2.1, i32 s.2.2.2, rfP (ptA s), rfP (ptB s))
def bi (b : Bool) : Int32 := if b then 1 else 0
theorem bi_0 {α : Type} (b : Bool) (x y : α) : (if bi b = 0 then x else y) = if b then y else x := by cases b <;> rfl
theorem i32_0 {α : Type} {z : Int} (h : -2147483648 ≤ z ∧ z < 2147483648) (x y : α) : (if i32 z = 0 then x else y) = if z = 0 then x else y := ite_ii (show i32 z = i32 0 ↔ z = 0 from i32_eq h (by omega))
theorem i32_p {α : Type} {z : Int} (h : -2147483648 ≤ z ∧ z < 2147483648) (x y : α) : (if 0 < i32 z then x else y) = if 0 < z then x else y := ite_ii (show i32 0 < i32 z ↔ 0 < z from i32_lt (by omega) h)
theorem i32_nn {α : Type} {z : Int} (h : -2147483648 ≤ z ∧ z < 2147483648) (x y : α) : (if 0 ≤ i32 z then x else y) = if 0 ≤ z then x else y := ite_ii (show i32 0 ≤ i32 z ↔ 0 ≤ z from i32_le (by omega) h)
theorem sgOk.mk {x y X Y : Int} (h1 : 0 ≤ x ∧ x ≤ 40) (h2 : 0 ≤ y ∧ y ≤ 40) (h3 : 0 ≤ X ∧ X ≤ 40) (h4 : 0 ≤ Y ∧ Y ≤ 40) (hne : ¬ (x = X ∧ y = Y)) : sgOk (mkSg x y X Y) := by
  unfold sgOk mkSg
  split
  · exact ⟨h1, h2, h3, h4, by show x < X ∨ _; omega⟩
  · exact ⟨h3, h4, h1, h2, by show X < x ∨ X = x ∧ Y < y; omega⟩
theorem fr_1 {N : Nat} (hN : 3 ≤ N) {z : Int} (h : bn z 4611686018427387904) : F_X7_init N (i64 z) 1 = some (rf (z : Rat)) := by
  have := X7_init_e (a := z) (b := 1) (N := N) (k := 1) h (by decide) (by decide) (by decide) (by omega)
  rw [show (1 : Int64) = i64 1 from rfl, this]
  congr 2
  apply Rat.ext
  · simp [Rat.num_divInt]
  · simp [Rat.den_divInt]
theorem pl_1 {N : Nat} (hN : 3 ≤ N) {x y : Int} (hx : 0 ≤ x ∧ x ≤ 40) (hy : 0 ≤ y ∧ y ≤ 40) : F_X6_init N (i32 x) (i32 y) = some (rfP ((x : Rat), (y : Rat))) := by
  unfold F_X6_init
  rw [i32_to64 (by omega), i32_to64 (by omega), fr_1 hN (bn_of (by omega)), Option.bind_some, fr_1 hN (bn_of (by omega)), Option.bind_some]
  rfl
theorem ln_1 {N kd : Nat} (hN : 3 ≤ N) {x y X Y : Int} (h1 : 0 ≤ x ∧ x ≤ 40) (h2 : 0 ≤ y ∧ y ≤ 40) (h3 : 0 ≤ X ∧ X ≤ 40) (h4 : 0 ≤ Y ∧ Y ≤ 40) : F_X4_init N kd (i32 x) (i32 y) (i32 X) (i32 Y) = some (kd, i32 x, i32 y, i32 X, i32 Y, rfP ((x : Rat), (y : Rat)), rfP ((X : Rat), (Y : Rat))) := by
  unfold F_X4_init
  rw [pl_1 hN h1 h2, Option.bind_some, pl_1 hN h3 h4, Option.bind_some]
theorem made_k {N : Nat} (hN : 3 ≤ N) {x y X Y : Int} (h1 : 0 ≤ x ∧ x ≤ 40) (h2 : 0 ≤ y ∧ y ≤ 40) (h3 : 0 ≤ X ∧ X ≤ 40) (h4 : 0 ≤ Y ∧ Y ≤ 40) : F_X0_made_b68 N (i32 x) (i32 y) (i32 X) (i32 Y) = some (lnOf (x, y, X, Y)) := by
  unfold F_X0_made_b68 F_X0_made_b131 F_X5_init F_X9_init F_X8_init
  rw [ite_ii (i32_eq (a := x) (b := X) (by omega) (by omega)), ite_ii (i32_eq (a := y) (b := Y) (by omega) (by omega))]
  unfold lnOf kdS
  by_cases e : x = X
  · subst e
    rw [if_pos rfl, ln_1 hN h1 h2 h1 h4, Option.bind_some]
    simp [ptA, ptB]
  · rw [if_neg e]
    by_cases e' : y = Y
    · subst e'
      rw [if_pos rfl, ln_1 hN h1 h2 h3 h2, Option.bind_some]
      simp [ptA, ptB, e]
    · rw [if_neg e', ln_1 hN h1 h2 h3 h4, Option.bind_some]
      simp [ptA, ptB, e, e']
theorem made_e {N : Nat} (hN : 3 ≤ N) {x y X Y : Int} (h1 : 0 ≤ x ∧ x ≤ 40) (h2 : 0 ≤ y ∧ y ≤ 40) (h3 : 0 ≤ X ∧ X ≤ 40) (h4 : 0 ≤ Y ∧ Y ≤ 40) : F_X0_made N (i32 x) (i32 y) (i32 X) (i32 Y) = some (lnOf (mkSg x y X Y)) := by
  have t1 : F_X0_made_b20 N (i32 x) (i32 y) (i32 X) (i32 Y) 1 = some (lnOf (x, y, X, Y)) := by
    unfold F_X0_made_b20 F_X0_made_b32 F_X0_made_b44 F_X0_made_b56
    rw [if_neg (by decide), if_neg (by decide), if_neg (by decide), if_neg (by decide)]
    exact made_k hN h1 h2 h3 h4
  have t0 : F_X0_made_b19 N (i32 x) (i32 y) (i32 X) (i32 Y) = some (lnOf (X, Y, x, y)) := by
    unfold F_X0_made_b19 F_X0_made_b20 F_X0_made_b32 F_X0_made_b44 F_X0_made_b56
    rw [if_pos rfl, if_pos rfl, if_pos rfl, if_pos rfl]
    exact made_k hN h3 h4 h1 h2
  unfold F_X0_made
  rw [t1, t0, ite_ii (i32_lt (a := x) (b := X) (by omega) (by omega)), ite_ii (i32_eq (a := x) (b := X) (by omega) (by omega)), ite_ii (i32_le (a := Y) (b := y) (by omega) (by omega))]
  unfold mkSg
  by_cases c1 : x < X
  · rw [if_pos c1, if_pos (Or.inl c1)]
  · rw [if_neg c1]
    by_cases c2 : x = X
    · rw [if_pos c2]
      by_cases c3 : Y ≤ y
      · rw [if_pos c3, if_neg (by omega)]
      · rw [if_neg c3, if_pos (by omega)]
    · rw [if_neg c2, if_neg (by omega)]
/-- a place of the size that lines give -/
def pq (p : Pt) : Prop := fb p.1 256000 4000 ∧ fb p.2 256000 4000
theorem fb_i {z : Int} (h : bn z 256000) : fb (z : Rat) 256000 4000 := ⟨h, by show (1 : Nat) ≤ 4000; decide⟩
theorem pq_A {s : Sg} (h : sgOk s) : pq (ptA s) := ⟨fb_i (bn_of (by have := h.1; omega)), fb_i (bn_of (by have := h.2.1; omega))⟩
theorem pq_B {s : Sg} (h : sgOk s) : pq (ptB s) := ⟨fb_i (bn_of (by have := h.2.2.1; omega)), fb_i (bn_of (by have := h.2.2.2.1; omega))⟩
theorem rat_num (q : Rat) : (q.num : Rat) = q * (q.den : Rat) := by
  have h := Rat.num_divInt_den q
  rw [Rat.divInt_eq_div] at h
  have hd : ((q.den : Int) : Rat) ≠ 0 := by
    rw [Rat.intCast_natCast]
    intro z
    have := (Rat.natCast_eq_zero_iff (a := q.den)).mp z
    exact q.den_nz this
  have h2 := Rat.div_mul_cancel (a := (q.num : Rat)) hd
  rw [h, Rat.intCast_natCast] at h2
  exact h2.symm
theorem rat_den (q : Rat) : (0 : Rat) < (q.den : Rat) := Rat.natCast_pos.mpr q.den_pos
theorem sg_int {z : Int} {q c : Rat} (h : (z : Rat) = q * c) (hc : 0 < c) : (z < 0 ↔ q < 0) ∧ (z = 0 ↔ q = 0) := by
  constructor
  · rw [← Rat.mul_neg_iff_of_pos_right hc, ← h]
    exact Rat.intCast_neg_iff.symm
  · rw [← Rat.intCast_eq_zero_iff, h, Rat.mul_eq_zero]
    constructor
    · rintro (h | h)
      · exact h
      · rw [h] at hc; exact absurd hc Rat.lt_irrefl
    · exact Or.inl
theorem if_64 {z : Int} {q : Rat} (hz : -9223372036854775808 ≤ z ∧ z < 9223372036854775808) (h1 : z < 0 ↔ q < 0) (h2 : z = 0 ↔ q = 0) : (if (0 : Int64) ≤ i64 z then if i64 z = 0 then some (0 : Int32) else some 1 else some (-1)) = some (i32 (sg q 0)) := by
  rw [show (0 : Int64) = i64 0 from rfl, ite_ii (i64_le (by omega) hz), ite_ii (i64_eq hz (by omega))]
  unfold sg
  by_cases c : q < 0
  · have := h1.mpr c
    rw [if_pos c, if_neg (by omega)]; rfl
  · rw [if_neg c, if_pos (Int.not_lt.mp fun w => c (h1.mp w))]
    by_cases d : q = 0
    · rw [if_pos d, if_pos (h2.mpr d)]; rfl
    · rw [if_neg d, if_neg (fun w => d (h2.mp w))]; rfl
/-- on which side a place lies -/
def sd (s : Sg) (p : Pt) : Rat := ((s.2.2.1 : Rat) - (s.1 : Rat)) * (p.2 - (s.2.1 : Rat)) - ((s.2.2.2 : Rat) - (s.2.1 : Rat)) * (p.1 - (s.1 : Rat))
def lxc (p q : Pt) : Int := if sg p.1 q.1 = 0 then sg p.2 q.2 else sg p.1 q.1
theorem lxc_r (p q : Pt) : -1 ≤ lxc p q ∧ lxc p q ≤ 1 := by unfold lxc; split <;> exact sg_r _ _
theorem lxc_lt {p q : Pt} : lxc p q < 0 ↔ p.1 < q.1 ∨ (p.1 = q.1 ∧ p.2 < q.2) := by
  unfold lxc
  have a := @sg_lt p.1 q.1
  have b := @sg_eq p.1 q.1
  have c := @sg_lt p.2 q.2
  by_cases h : sg p.1 q.1 = 0
  · rw [if_pos h, c]
    have := b.mp h
    constructor
    · intro w; exact Or.inr ⟨this, w⟩
    · rintro (w | w)
      · rw [this] at w; exact absurd w Rat.lt_irrefl
      · exact w.2
  · rw [if_neg h, a]
    constructor
    · exact Or.inl
    · rintro (w | w)
      · exact w
      · exact absurd (b.mpr w.1) h
theorem lxc_eq {p q : Pt} : lxc p q = 0 ↔ p = q := by
  unfold lxc
  have b := @sg_eq p.1 q.1
  have c := @sg_eq p.2 q.2
  by_cases h : sg p.1 q.1 = 0
  · rw [if_pos h, c]
    have := b.mp h
    exact ⟨fun w => Prod.ext this w, fun w => by rw [w]⟩
  · rw [if_neg h]
    exact ⟨fun w => absurd w h, fun w => absurd (b.mpr (by rw [w])) h⟩
theorem sg_neg (p q : Rat) : sg q p = - sg p q := by
  have a := @sg_lt p q
  have b := @sg_eq p q
  have c := @sg_gt p q
  unfold sg
  by_cases h : p < q
  · rw [if_pos h, if_neg (fun z => Rat.not_le.mpr h (Rat.le_of_lt z)), if_neg (fun z => by rw [z] at h; exact Rat.lt_irrefl h)]
    rfl
  · rw [if_neg h]
    by_cases h' : p = q
    · rw [if_pos h', if_pos h'.symm, if_neg (by rw [h']; exact Rat.lt_irrefl)]; rfl
    · rw [if_neg h', if_pos (Rat.lt_of_le_of_ne (Rat.not_lt.mp h) (fun z => h' z.symm))]
theorem lxc_neg (p q : Pt) : lxc q p = - lxc p q := by
  unfold lxc
  have a := sg_neg p.1 q.1
  have b := sg_neg p.2 q.2
  by_cases h : sg p.1 q.1 = 0
  · rw [if_pos h, if_pos (by omega), b]
  · rw [if_neg h, if_neg (by omega), a]
theorem lxc_e {N : Nat} {p q : Pt} {n m n' m' : Nat} (h1 : fb p.1 n m ∧ fb p.2 n m) (h2 : fb q.1 n' m' ∧ fb q.2 n' m') (hb : n * m' < 9223372036854775808) (hb' : n' * m < 9223372036854775808) : F_X6_compareTo N (rfP p) (rfP q) = some (i32 (lxc p q)) := by
  unfold F_X6_compareTo lxc
  have r := sg_r p.1 q.1
  have e1 : F_X7_compareTo N (rfP p).1 (rfP q).1 = some (i32 (sg p.1 q.1)) := compareTo_e h1.1 h2.1 hb hb'
  have e2 : F_X7_compareTo N (rfP p).2 (rfP q).2 = some (i32 (sg p.2 q.2)) := compareTo_e h1.2 h2.2 hb hb'
  rw [e1, e2, Option.bind_some, Option.bind_some, i32_0 (by omega)]
  by_cases h : sg p.1 q.1 = 0
  · rw [if_pos h, if_pos h]
  · rw [if_neg h, if_neg h]
theorem lxc_pq {N : Nat} {p q : Pt} (h1 : pq p) (h2 : pq q) : F_X6_compareTo N (rfP p) (rfP q) = some (i32 (lxc p q)) := lxc_e h1 h2 (by decide) (by decide)
theorem side_e {N : Nat} {s : Sg} {p : Pt} (hs : sgOk s) (hp : pq p) : F_X4_side N (lnOf s) (rfP p) = some (i32 (sg (sd s p) 0)) := by
  obtain ⟨ax, ay, bx, b_y⟩ := s
  obtain ⟨x, y⟩ := p
  obtain ⟨⟨x1, x2⟩, y1, y2⟩ := hp
  obtain ⟨h1, h2, h3, h4, h5⟩ := hs
  simp only at x1 x2 y1 y2 h1 h2 h3 h4 h5
  have xd : bn (x.den : Int) 4000 := by unfold bn; omega
  have yd : bn (y.den : Int) 4000 := by unfold bn; omega
  have bax : bn ax 40 := bn_of (by omega)
  have bay : bn ay 40 := bn_of (by omega)
  have bdx : bn (bx - ax) 40 := bn_of (by omega)
  have bdy : bn (b_y - ay) 40 := bn_of (by omega)
  have e1 : F_X4_side N (lnOf (ax, ay, bx, b_y)) (rfP (x, y)) = (if (0 : Int64) ≤ i64 ((bx - ax) * (y.num * (x.den : Int) - ay * (y.den : Int) * (x.den : Int)) - (b_y - ay) * (x.num * (y.den : Int) - ax * (x.den : Int) * (y.den : Int))) then if i64 ((bx - ax) * (y.num * (x.den : Int) - ay * (y.den : Int) * (x.den : Int)) - (b_y - ay) * (x.num * (y.den : Int) - ax * (x.den : Int) * (y.den : Int))) = 0 then some (0 : Int32) else some 1 else some (-1)) := by
    unfold F_X4_side F_X4_dx F_X4_dy
    simp only [Option.bind_some, lnOf, rfP, rf, i32_sub]
    have t1 := i32_to64 (a := bx - ax) (by omega)
    have t2 := i32_to64 (a := b_y - ay) (by omega)
    have t3 := i32_to64 (a := ax) (by omega)
    have t4 := i32_to64 (a := ay) (by omega)
    simp only [t1, t2, t3, t4, i64_mul, i64_sub]
  have b1 := bn_sub (bn_mul bdx (bn_sub (bn_mul y1 xd) (bn_mul (bn_mul bay yd) xd))) (bn_mul bdy (bn_sub (bn_mul x1 yd) (bn_mul (bn_mul bax xd) yd)))
  have key : ((((bx - ax) * (y.num * (x.den : Int) - ay * (y.den : Int) * (x.den : Int)) - (b_y - ay) * (x.num * (y.den : Int) - ax * (x.den : Int) * (y.den : Int)) : Int)) : Rat) = sd (ax, ay, bx, b_y) (x, y) * ((x.den : Rat) * (y.den : Rat)) := by
    simp only [Rat.intCast_sub, Rat.intCast_mul, Rat.intCast_natCast, rat_num x, rat_num y, sd]
    generalize (x.den : Rat) = X
    generalize (y.den : Rat) = Y
    generalize (ax : Rat) = a1
    generalize (ay : Rat) = a2
    generalize (bx : Rat) = a3
    generalize (b_y : Rat) = a4
    grind
  have k2 := sg_int key (Rat.mul_pos (rat_den x) (rat_den y))
  rw [e1]
  exact if_64 (bn_64 b1 (by decide)) k2.1 k2.2
def onB (s : Sg) (p : Pt) : Bool := decide (sd s p = 0) && decide (lxc (ptA s) p ≤ 0) && decide (lxc p (ptB s) ≤ 0)
theorem isOn_e {N : Nat} {s : Sg} {p : Pt} (hs : sgOk s) (hp : pq p) : F_X4_isOn N (lnOf s) (rfP p) = some (bi (onB s p)) := by
  unfold F_X4_isOn
  rw [side_e hs hp, Option.bind_some]
  have c1 : F_X6_compareTo N (lnOf s).2.2.2.2.2.1 (rfP p) = some (i32 (lxc (ptA s) p)) := lxc_pq (pq_A hs) hp
  have c2 : F_X6_compareTo N (rfP p) (lnOf s).2.2.2.2.2.2 = some (i32 (lxc p (ptB s))) := lxc_pq hp (pq_B hs)
  have r1 := sg_r (sd s p) 0
  have r2 := lxc_r (ptA s) p
  have r3 := lxc_r p (ptB s)
  have r4 := @sg_eq (sd s p) 0
  rw [c1, c2, Option.bind_some, Option.bind_some, i32_0 (by omega), i32_p (by omega), i32_p (by omega)]
  unfold onB bi
  by_cases z1 : sg (sd s p) 0 = 0
  · rw [if_pos z1]
    have := r4.mp z1
    by_cases z2 : 0 < lxc (ptA s) p
    · rw [if_pos z2]; simp [show ¬ lxc (ptA s) p ≤ 0 by omega]
    · rw [if_neg z2]
      by_cases z3 : 0 < lxc p (ptB s)
      · rw [if_pos z3]; simp [show ¬ lxc p (ptB s) ≤ 0 by omega]
      · rw [if_neg z3]; simp [this, show lxc (ptA s) p ≤ 0 by omega, show lxc p (ptB s) ≤ 0 by omega]
  · rw [if_neg z1]
    have : ¬ sd s p = 0 := fun w => z1 (r4.mpr w)
    simp [this]
/-- ahead of: by x, then by y -/
def ilt (x y u v : Int) : Prop := x < u ∨ (x = u ∧ y < v)
theorem lxc_i {x y u v : Int} : (lxc ((x : Rat), (y : Rat)) ((u : Rat), (v : Rat)) < 0 ↔ ilt x y u v) := by
  rw [lxc_lt]
  show ((x : Rat) < (u : Rat) ∨ ((x : Rat) = (u : Rat) ∧ (y : Rat) < (v : Rat))) ↔ _
  rw [Rat.intCast_lt_intCast, Rat.intCast_lt_intCast, Rat.intCast_inj]
  rfl
theorem lxc_i0 {x y u v : Int} : (lxc ((x : Rat), (y : Rat)) ((u : Rat), (v : Rat)) = 0 ↔ x = u ∧ y = v) := by
  rw [lxc_eq, Prod.mk.injEq, Rat.intCast_inj, Rat.intCast_inj]
/-- a whole place on a line -/
def onI (s : Sg) (x y : Int) : Prop := (s.2.2.1 - s.1) * (y - s.2.1) = (s.2.2.2 - s.2.1) * (x - s.1) ∧ ¬ ilt x y s.1 s.2.1 ∧ ¬ ilt s.2.2.1 s.2.2.2 x y
theorem sd_i (s : Sg) (x y : Int) : sd s ((x : Rat), (y : Rat)) = (((s.2.2.1 - s.1) * (y - s.2.1) - (s.2.2.2 - s.2.1) * (x - s.1) : Int) : Rat) := by
  simp only [sd, Rat.intCast_sub, Rat.intCast_mul]
theorem onB_i (s : Sg) (x y : Int) : onB s ((x : Rat), (y : Rat)) = true ↔ onI s x y := by
  unfold onB onI
  rw [sd_i, Bool.and_eq_true, Bool.and_eq_true, decide_eq_true_iff, decide_eq_true_iff, decide_eq_true_iff, Rat.intCast_eq_zero_iff]
  have a1 := @lxc_i x y s.1 s.2.1
  have a2 := lxc_neg ((x : Rat), (y : Rat)) ((s.1 : Rat), (s.2.1 : Rat))
  have b1 := @lxc_i s.2.2.1 s.2.2.2 x y
  have b2 := lxc_neg ((s.2.2.1 : Rat), (s.2.2.2 : Rat)) ((x : Rat), (y : Rat))
  show ((_ = 0) ∧ lxc ((s.1 : Rat), (s.2.1 : Rat)) ((x : Rat), (y : Rat)) ≤ 0) ∧ lxc ((x : Rat), (y : Rat)) ((s.2.2.1 : Rat), (s.2.2.2 : Rat)) ≤ 0 ↔ _
  rw [← a1, ← b1, a2, b2]
  constructor
  · rintro ⟨⟨h1, h2⟩, h3⟩
    exact ⟨by omega, by omega, by omega⟩
  · rintro ⟨h1, h2, h3⟩
    exact ⟨⟨by omega, by omega⟩, by omega⟩
/-! how two lines meet -/
def mD (a b : Sg) : Int := (a.2.2.1 - a.1) * (b.2.2.2 - b.2.1) - (a.2.2.2 - a.2.1) * (b.2.2.1 - b.1)
def mT (a b : Sg) : Int := (b.1 - a.1) * (b.2.2.2 - b.2.1) - (b.2.1 - a.2.1) * (b.2.2.1 - b.1)
def mU (a b : Sg) : Int := (b.1 - a.1) * (a.2.2.2 - a.2.1) - (b.2.1 - a.2.1) * (a.2.2.1 - a.1)
def hwD (d t u : Int) : Int := if t < 0 then 0 else if d < t then 0 else if u < 0 then 0 else if d < u then 0 else if t = 0 then 2 else if t = d then 2 else if u = 0 then 2 else if u = d then 2 else 1
def rwX (a b : Sg) : Int × Int := if a.1 < b.1 then (b.1, b.2.1) else if a.1 = b.1 then if b.2.1 ≤ a.2.1 then (a.1, a.2.1) else (b.1, b.2.1) else (a.1, a.2.1)
def rwU (a b : Sg) : Int × Int := if a.2.2.1 < b.2.2.1 then (a.2.2.1, a.2.2.2) else if a.2.2.1 = b.2.2.1 then if b.2.2.2 ≤ a.2.2.2 then (b.2.2.1, b.2.2.2) else (a.2.2.1, a.2.2.2) else (b.2.2.1, b.2.2.2)
def rwH (a b : Sg) : Int := if (rwX a b).1 < (rwU a b).1 then 3 else if (rwX a b).1 = (rwU a b).1 then if (rwU a b).2 ≤ (rwX a b).2 then (if (rwX a b).2 = (rwU a b).2 then 2 else 0) else 3 else 0
def howM (a b : Sg) : Int := if mD a b = 0 then (if mU a b = 0 then if mT a b = 0 then rwH a b else 0 else 0) else if mD a b < 0 then hwD (-(mD a b)) (-(mT a b)) (-(mU a b)) else hwD (mD a b) (mT a b) (mU a b)
/-- the component's count -/
def cnA (a b : Sg) : Int := (if onB b (ptA a) then 1 else 0) + (if onB b (ptB a) then 1 else 0)
def cnC (a b : Sg) : Int := if onB a (ptA b) = true ∧ ¬ lxc (ptA b) (ptA a) = 0 ∧ ¬ lxc (ptA b) (ptB a) = 0 then cnA a b + 1 else cnA a b
def cnE (a b : Sg) : Int := if onB a (ptB b) = true ∧ ¬ lxc (ptB b) (ptA a) = 0 ∧ ¬ lxc (ptB b) (ptB a) = 0 then cnC a b + 1 else cnC a b
def howC (a b : Sg) : Int := if cnE a b ≤ 0 then (if 0 ≤ sg (sd a (ptA b)) 0 * sg (sd a (ptB b)) 0 then 0 else if 0 ≤ sg (sd b (ptA a)) 0 * sg (sd b (ptB a)) 0 then 0 else 1) else if cnE a b ≤ 1 then 2 else 3
theorem sgm_r {p q p' q' : Rat} : -1 ≤ sg p q * sg p' q' ∧ sg p q * sg p' q' ≤ 1 := by
  have a := sg_r p q
  have b := sg_r p' q'
  have : sg p q = -1 ∨ sg p q = 0 ∨ sg p q = 1 := by omega
  rcases this with h | h | h <;> rw [h] <;> omega
theorem meets_c {N : Nat} {a b : Sg} (ha : sgOk a) (hb : sgOk b) : F_X0_meets N (lnOf a) (lnOf b) = some (i32 (howC a b)) := by
  have A1 : F_X4_isOn N (lnOf b) (lnOf a).2.2.2.2.2.1 = some (bi (onB b (ptA a))) := isOn_e hb (pq_A ha)
  have A2 : F_X4_isOn N (lnOf b) (lnOf a).2.2.2.2.2.2 = some (bi (onB b (ptB a))) := isOn_e hb (pq_B ha)
  have A3 : F_X4_isOn N (lnOf a) (lnOf b).2.2.2.2.2.1 = some (bi (onB a (ptA b))) := isOn_e ha (pq_A hb)
  have A4 : F_X4_isOn N (lnOf a) (lnOf b).2.2.2.2.2.2 = some (bi (onB a (ptB b))) := isOn_e ha (pq_B hb)
  have L1 : F_X6_compareTo N (lnOf b).2.2.2.2.2.1 (lnOf a).2.2.2.2.2.1 = some (i32 (lxc (ptA b) (ptA a))) := lxc_pq (pq_A hb) (pq_A ha)
  have L2 : F_X6_compareTo N (lnOf b).2.2.2.2.2.1 (lnOf a).2.2.2.2.2.2 = some (i32 (lxc (ptA b) (ptB a))) := lxc_pq (pq_A hb) (pq_B ha)
  have L3 : F_X6_compareTo N (lnOf b).2.2.2.2.2.2 (lnOf a).2.2.2.2.2.1 = some (i32 (lxc (ptB b) (ptA a))) := lxc_pq (pq_B hb) (pq_A ha)
  have L4 : F_X6_compareTo N (lnOf b).2.2.2.2.2.2 (lnOf a).2.2.2.2.2.2 = some (i32 (lxc (ptB b) (ptB a))) := lxc_pq (pq_B hb) (pq_B ha)
  have S1 : F_X4_side N (lnOf a) (lnOf b).2.2.2.2.2.1 = some (i32 (sg (sd a (ptA b)) 0)) := side_e ha (pq_A hb)
  have S2 : F_X4_side N (lnOf a) (lnOf b).2.2.2.2.2.2 = some (i32 (sg (sd a (ptB b)) 0)) := side_e ha (pq_B hb)
  have S3 : F_X4_side N (lnOf b) (lnOf a).2.2.2.2.2.1 = some (i32 (sg (sd b (ptA a)) 0)) := side_e hb (pq_A ha)
  have S4 : F_X4_side N (lnOf b) (lnOf a).2.2.2.2.2.2 = some (i32 (sg (sd b (ptB a)) 0)) := side_e hb (pq_B ha)
  have r1 := lxc_r (ptA b) (ptA a)
  have r2 := lxc_r (ptA b) (ptB a)
  have r3 := lxc_r (ptB b) (ptA a)
  have r4 := lxc_r (ptB b) (ptB a)
  have q1 := @sgm_r (sd a (ptA b)) 0 (sd a (ptB b)) 0
  have q2 := @sgm_r (sd b (ptA a)) 0 (sd b (ptB a)) 0
  have k3 : ∀ n : Int, -9 ≤ n ∧ n ≤ 9 → F_X0_meets_b131 N (lnOf a) (lnOf b) (i32 n) = some (i32 (if n ≤ 0 then (if 0 ≤ sg (sd a (ptA b)) 0 * sg (sd a (ptB b)) 0 then 0 else if 0 ≤ sg (sd b (ptA a)) 0 * sg (sd b (ptB a)) 0 then 0 else 1) else if n ≤ 1 then 2 else 3)) := by
    intro n hn
    unfold F_X0_meets_b131
    rw [S1, S2, S3, S4]
    simp only [Option.bind_some, i32_mul]
    rw [i32_nn (by omega), i32_nn (by omega), show (0 : Int32) = i32 0 from rfl, ite_ii (i32_le (by omega) (by omega)), show (1 : Int32) = i32 1 from rfl, ite_ii (i32_le (by omega) (by omega))]
    split
    · split
      · rfl
      · split <;> rfl
    · split <;> rfl
  have k2 : ∀ n : Int, -8 ≤ n ∧ n ≤ 8 → F_X0_meets_b95 N (lnOf a) (lnOf b) (bi (onB a (ptB b))) (i32 n) = F_X0_meets_b131 N (lnOf a) (lnOf b) (i32 (if onB a (ptB b) = true ∧ ¬ lxc (ptB b) (ptA a) = 0 ∧ ¬ lxc (ptB b) (ptB a) = 0 then n + 1 else n)) := by
    intro n hn
    unfold F_X0_meets_b95
    rw [L3, L4, bi_0]
    simp only [Option.bind_some]
    rw [i32_0 (by omega), i32_0 (by omega)]
    rw [show i32 n + 1 = i32 (n + 1) from i32_add n 1]
    cases onB a (ptB b)
    · simp
    · by_cases e1 : lxc (ptB b) (ptA a) = 0
      · simp [e1]
      · by_cases e2 : lxc (ptB b) (ptB a) = 0
        · simp [e2]
        · simp [e1, e2]
  have k1 : ∀ (x y : Int), -3 ≤ x ∧ x ≤ 3 → -3 ≤ y ∧ y ≤ 3 → F_X0_meets_b56 N (lnOf a) (lnOf b) (bi (onB a (ptA b))) (bi (onB a (ptB b))) (i32 x) (i32 y) = F_X0_meets_b95 N (lnOf a) (lnOf b) (bi (onB a (ptB b))) (i32 (if onB a (ptA b) = true ∧ ¬ lxc (ptA b) (ptA a) = 0 ∧ ¬ lxc (ptA b) (ptB a) = 0 then (x + y) + 1 else x + y)) := by
    intro x y hx hy
    unfold F_X0_meets_b56
    rw [L1, L2, bi_0, i32_add]
    simp only [Option.bind_some]
    rw [i32_0 (by omega), i32_0 (by omega)]
    rw [show i32 (x + y) + 1 = i32 ((x + y) + 1) from i32_add _ 1]
    cases onB a (ptA b)
    · simp
    · by_cases e1 : lxc (ptA b) (ptA a) = 0
      · simp [e1]
      · by_cases e2 : lxc (ptA b) (ptB a) = 0
        · simp [e2]
        · simp [e1, e2]
  have k0 : F_X0_meets N (lnOf a) (lnOf b) = F_X0_meets_b56 N (lnOf a) (lnOf b) (bi (onB a (ptA b))) (bi (onB a (ptB b))) (i32 (if onB b (ptA a) then 1 else 0)) (i32 (if onB b (ptB a) then 1 else 0)) := by
    unfold F_X0_meets F_X0_meets_b47
    rw [A1, A2, A3, A4]
    simp only [Option.bind_some]
    rw [bi_0, bi_0]
    cases onB b (ptA a) <;> cases onB b (ptB a) <;> rfl
  rw [k0, k1 _ _ (by split <;> omega) (by split <;> omega), k2 _ (by repeat' split <;> omega), k3 _ (by repeat' split <;> omega)]
  unfold howC cnE cnC cnA
  rfl
/-! the same, by determinants -/
theorem ps_mul {x c : Int} (hc : 0 < c) : 0 < x ↔ 0 < x * c := by
  constructor
  · exact fun h => Int.mul_pos h hc
  · intro h
    by_cases z : 0 < x
    · exact z
    · have := Int.mul_le_mul_of_nonneg_right (show x ≤ 0 by omega) (Int.le_of_lt hc)
      rw [Int.zero_mul] at this
      omega
theorem mul_0r {x c : Int} (hc : c ≠ 0) (h : x * c = 0) : x = 0 := (Int.mul_eq_zero.mp h).resolve_right hc
theorem lex_par {e v qx qy sx sy : Int} (he : 0 < e) (hx : qx * e = v * sx) (hy : qy * e = v * sy) (hs : 0 < sx ∨ (sx = 0 ∧ 0 < sy)) : (0 < qx ∨ (qx = 0 ∧ 0 ≤ qy)) ↔ 0 ≤ v := by
  have pz : ∀ {x k c : Int}, 0 < c → x * e = k * c → (0 < x ↔ 0 < k) ∧ (x = 0 ↔ k = 0) := by
    intro x k c h2 h3
    refine ⟨by rw [ps_mul (x := x) he, ps_mul (x := k) h2, h3], fun z => ?_, fun z => ?_⟩
    · rw [z, Int.zero_mul] at h3; exact mul_0r (by omega) h3.symm
    · rw [z, Int.zero_mul] at h3; exact mul_0r (by omega) h3
  rcases hs with h | ⟨h, h'⟩
  · obtain ⟨a1, a2⟩ := pz h hx
    constructor
    · rintro (z | ⟨z, -⟩) <;> omega
    · intro z
      by_cases w : v = 0
      · right
        have y0 : qy * e = 0 := by rw [hy, w, Int.zero_mul]
        have : qy = 0 := mul_0r (by omega) y0
        omega
      · left; omega
  · obtain ⟨a1, a2⟩ := pz h' hy
    have x0 : qx = 0 := by
      rw [h, Int.mul_zero] at hx
      exact mul_0r (by omega) hx
    omega
