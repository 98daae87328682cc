/-! HOW TWO LINES MEET: the component's count is what the determinants say; where they meet -/
set_option maxRecDepth 100000
theorem onI_D {s : Sg} (hs : sgOk s) {x y d v : Int} (hd : 0 < d) (hx : (x - s.1) * d = v * (s.2.2.1 - s.1)) (hy : (y - s.2.1) * d = v * (s.2.2.2 - s.2.1)) : onI s x y ↔ 0 ≤ v ∧ v ≤ d := by
  obtain ⟨ax, ay, bx, b_y⟩ := s
  have h5 := hs.2.2.2.2
  simp only at hx hy h5
  have k1 := lex_par (e := d) (v := v) (qx := x - ax) (qy := y - ay) (sx := bx - ax) (sy := b_y - ay) hd hx hy (by omega)
  have k2 := lex_par (e := d) (v := d - v) (qx := bx - x) (qy := b_y - y) (sx := bx - ax) (sy := b_y - ay) hd (by grind) (by grind) (by omega)
  have k3 : (bx - ax) * (y - ay) = (b_y - ay) * (x - ax) := by
    have : ((bx - ax) * (y - ay) - (b_y - ay) * (x - ax)) * d = 0 := by
      have e1 : ((bx - ax) * (y - ay) - (b_y - ay) * (x - ax)) * d = (bx - ax) * ((y - ay) * d) - (b_y - ay) * ((x - ax) * d) := by grind
      rw [e1, hx, hy]
      grind
    have := mul_0r (by omega) this
    omega
  unfold onI ilt
  simp only
  constructor
  · rintro ⟨-, h1, h2⟩
    have := k1.mp (by omega)
    have := k2.mp (by omega)
    omega
  · rintro ⟨h1, h2⟩
    have := k1.mpr h1
    have := k2.mpr (by omega)
    exact ⟨k3, by omega, by omega⟩
def sgi (z : Int) : Int := if z < 0 then -1 else if z = 0 then 0 else 1
theorem sg_i (z : Int) : sg (z : Rat) 0 = sgi z := by
  unfold sg sgi
  have a : (z : Rat) < 0 ↔ z < 0 := Rat.intCast_neg_iff
  have b : (z : Rat) = 0 ↔ z = 0 := Rat.intCast_eq_zero_iff
  rw [ite_ii a, ite_ii b]
theorem sgi_m (x y : Int) : 0 ≤ sgi x * sgi y ↔ ¬ ((x < 0 ∧ 0 < y) ∨ (0 < x ∧ y < 0)) := by
  unfold sgi
  by_cases a : x < 0
  · rw [if_pos a]
    by_cases b : y < 0
    · rw [if_pos b]; omega
    · rw [if_neg b]
      by_cases c : y = 0
      · rw [if_pos c]; omega
      · rw [if_neg c]; omega
  · rw [if_neg a]
    by_cases a' : x = 0
    · rw [if_pos a', Int.zero_mul]; omega
    · rw [if_neg a', Int.one_mul]
      by_cases b : y < 0
      · rw [if_pos b]; omega
      · rw [if_neg b]
        by_cases c : y = 0
        · rw [if_pos c]; omega
        · rw [if_neg c]; omega
theorem sd_bA (a b : Sg) : sd b (ptA a) = ((mT a b : Int) : Rat) := by
  rw [show ptA a = ((a.1 : Rat), (a.2.1 : Rat)) from rfl, sd_i]
  congr 1
  unfold mT
  grind
theorem sd_bB (a b : Sg) : sd b (ptB a) = ((mT a b - mD a b : Int) : Rat) := by
  rw [show ptB a = ((a.2.2.1 : Rat), (a.2.2.2 : Rat)) from rfl, sd_i]
  congr 1
  unfold mT mD
  grind
theorem sd_aA (a b : Sg) : sd a (ptA b) = ((-(mU a b) : Int) : Rat) := by
  rw [show ptA b = ((b.1 : Rat), (b.2.1 : Rat)) from rfl, sd_i]
  congr 1
  unfold mU
  grind
theorem sd_aB (a b : Sg) : sd a (ptB b) = ((mD a b - mU a b : Int) : Rat) := by
  rw [show ptB b = ((b.2.2.1 : Rat), (b.2.2.2 : Rat)) from rfl, sd_i]
  congr 1
  unfold mU mD
  grind
theorem lxc_AA (a b : Sg) : lxc (ptA b) (ptA a) = 0 ↔ b.1 = a.1 ∧ b.2.1 = a.2.1 := lxc_i0
theorem lxc_AB (a b : Sg) : lxc (ptA b) (ptB a) = 0 ↔ b.1 = a.2.2.1 ∧ b.2.1 = a.2.2.2 := lxc_i0
theorem lxc_BA (a b : Sg) : lxc (ptB b) (ptA a) = 0 ↔ b.2.2.1 = a.1 ∧ b.2.2.2 = a.2.1 := lxc_i0
theorem lxc_BB (a b : Sg) : lxc (ptB b) (ptB a) = 0 ↔ b.2.2.1 = a.2.2.1 ∧ b.2.2.2 = a.2.2.2 := lxc_i0
/-- what the ends are on, where the two aren't of one way; D, T, U: the determinants, D above 0 -/
theorem on_D {a b : Sg} (ha : sgOk a) (hb : sgOk b) {c D T U : Int} (hc : c = 1 ∨ c = -1) (hD : D = c * mD a b) (hT : T = c * mT a b) (hU : U = c * mU a b) (h : 0 < D) :
    (onB b (ptA a) = true ↔ T = 0 ∧ 0 ≤ U ∧ U ≤ D) ∧ (onB b (ptB a) = true ↔ T = D ∧ 0 ≤ U ∧ U ≤ D) ∧ (onB a (ptA b) = true ↔ U = 0 ∧ 0 ≤ T ∧ T ≤ D) ∧ (onB a (ptB b) = true ↔ U = D ∧ 0 ≤ T ∧ T ≤ D)
    ∧ (U = 0 → (lxc (ptA b) (ptA a) = 0 ↔ T = 0)) ∧ (U = 0 → (lxc (ptA b) (ptB a) = 0 ↔ T = D)) ∧ (U = D → (lxc (ptB b) (ptA a) = 0 ↔ T = 0)) ∧ (U = D → (lxc (ptB b) (ptB a) = 0 ↔ T = D)) := by
  have cz : ∀ z : Int, c * z = 0 → z = 0 := by intro z hz; rcases hc with rfl | rfl <;> omega
  obtain ⟨ax, ay, bx, b_y⟩ := a
  obtain ⟨cx, cy, dx, dy⟩ := b
  have i1 : (ax - cx) * D - U * (dx - cx) = -((bx - ax) * T) := by subst hD hT hU; unfold mD mT mU; grind
  have i2 : (ay - cy) * D - U * (dy - cy) = -((b_y - ay) * T) := by subst hD hT hU; unfold mD mT mU; grind
  have i3 : (cx - ax) * D - T * (bx - ax) = -((dx - cx) * U) := by subst hD hT hU; unfold mD mT mU; grind
  have i4 : (cy - ay) * D - T * (b_y - ay) = -((dy - cy) * U) := by subst hD hT hU; unfold mD mT mU; grind
  have s1 : ∀ {x y : Int}, T = 0 → x = ax → y = ay → (x - cx) * D = U * (dx - cx) ∧ (y - cy) * D = U * (dy - cy) := by
    intro x y t0 e1 e2
    rw [t0, Int.mul_zero] at i1 i2
    subst e1 e2
    exact ⟨by omega, by omega⟩
  have s2 : T = D → (bx - cx) * D = U * (dx - cx) ∧ (b_y - cy) * D = U * (dy - cy) := by
    intro t0
    rw [t0] at i1 i2
    exact ⟨by grind, by grind⟩
  have s3 : U = 0 → (cx - ax) * D = T * (bx - ax) ∧ (cy - ay) * D = T * (b_y - ay) := by
    intro t0
    rw [t0, Int.mul_zero] at i3 i4
    exact ⟨by omega, by omega⟩
  have s4 : U = D → (dx - ax) * D = T * (bx - ax) ∧ (dy - ay) * D = T * (b_y - ay) := by
    intro t0
    rw [t0] at i3 i4
    exact ⟨by grind, by grind⟩
  refine ⟨?_, ?_, ?_, ?_, ?_, ?_, ?_, ?_⟩
  · rw [show ptA (ax, ay, bx, b_y) = ((ax : Rat), (ay : Rat)) from rfl, onB_i]
    constructor
    · intro w
      have t0 : T = 0 := by
        rw [hT]
        have : mT (ax, ay, bx, b_y) (cx, cy, dx, dy) = 0 := by
          have := w.1
          simp only at this
          unfold mT
          grind
        rw [this]; omega
      obtain ⟨q1, q2⟩ := s1 t0 rfl rfl
      exact ⟨t0, (onI_D hb h q1 q2).mp w⟩
    · rintro ⟨t0, w⟩
      obtain ⟨q1, q2⟩ := s1 t0 rfl rfl
      exact (onI_D hb h q1 q2).mpr w
  · rw [show ptB (ax, ay, bx, b_y) = ((bx : Rat), (b_y : Rat)) from rfl, onB_i]
    constructor
    · intro w
      have t0 : T = D := by
        rw [hT, hD]
        have : mT (ax, ay, bx, b_y) (cx, cy, dx, dy) = mD (ax, ay, bx, b_y) (cx, cy, dx, dy) := by
          have := w.1
          simp only at this
          unfold mT mD
          grind
        rw [this]
      obtain ⟨q1, q2⟩ := s2 t0
      exact ⟨t0, (onI_D hb h q1 q2).mp w⟩
    · rintro ⟨t0, w⟩
      obtain ⟨q1, q2⟩ := s2 t0
      exact (onI_D hb h q1 q2).mpr w
  · rw [show ptA (cx, cy, dx, dy) = ((cx : Rat), (cy : Rat)) from rfl, onB_i]
    constructor
    · intro w
      have t0 : U = 0 := by
        rw [hU]
        have : mU (ax, ay, bx, b_y) (cx, cy, dx, dy) = 0 := by
          have := w.1
          simp only at this
          unfold mU
          grind
        rw [this]; omega
      obtain ⟨q1, q2⟩ := s3 t0
      exact ⟨t0, (onI_D ha h q1 q2).mp w⟩
    · rintro ⟨t0, w⟩
      obtain ⟨q1, q2⟩ := s3 t0
      exact (onI_D ha h q1 q2).mpr w
  · rw [show ptB (cx, cy, dx, dy) = ((dx : Rat), (dy : Rat)) from rfl, onB_i]
    constructor
    · intro w
      have t0 : U = D := by
        rw [hU, hD]
        have : mU (ax, ay, bx, b_y) (cx, cy, dx, dy) = mD (ax, ay, bx, b_y) (cx, cy, dx, dy) := by
          have := w.1
          simp only at this
          unfold mU mD
          grind
        rw [this]
      obtain ⟨q1, q2⟩ := s4 t0
      exact ⟨t0, (onI_D ha h q1 q2).mp w⟩
    · rintro ⟨t0, w⟩
      obtain ⟨q1, q2⟩ := s4 t0
      exact (onI_D ha h q1 q2).mpr w
  · intro u0
    rw [lxc_AA]
    obtain ⟨q1, q2⟩ := s3 u0
    simp only
    constructor
    · rintro ⟨e1, e2⟩
      rw [hT]
      have : mT (ax, ay, bx, b_y) (cx, cy, dx, dy) = 0 := by unfold mT; simp only; rw [e1, e2]; grind
      rw [this]; omega
    · intro t0
      rw [t0, Int.zero_mul] at q1 q2
      have z1 := mul_0r (by omega) q1
      have z2 := mul_0r (by omega) q2
      omega
  · intro u0
    rw [lxc_AB]
    obtain ⟨q1, q2⟩ := s3 u0
    simp only
    constructor
    · rintro ⟨e1, e2⟩
      rw [hT, hD]
      have : mT (ax, ay, bx, b_y) (cx, cy, dx, dy) = mD (ax, ay, bx, b_y) (cx, cy, dx, dy) := by unfold mT mD; simp only; rw [e1, e2]
      rw [this]
    · intro t0
      rw [t0, Int.mul_comm D] at q1 q2
      have z1 := Int.eq_of_mul_eq_mul_right (by omega) q1
      have z2 := Int.eq_of_mul_eq_mul_right (by omega) q2
      omega
  · intro u0
    rw [lxc_BA]
    obtain ⟨q1, q2⟩ := s4 u0
    simp only
    constructor
    · rintro ⟨e1, e2⟩
      rw [hT]
      have : mT (ax, ay, bx, b_y) (cx, cy, dx, dy) = 0 := by unfold mT; simp only; rw [← e1, ← e2]; grind
      rw [this]; omega
    · intro t0
      rw [t0, Int.zero_mul] at q1 q2
      have z1 := mul_0r (by omega) q1
      have z2 := mul_0r (by omega) q2
      omega
  · intro u0
    rw [lxc_BB]
    obtain ⟨q1, q2⟩ := s4 u0
    simp only
    constructor
    · rintro ⟨e1, e2⟩
      rw [hT, hD]
      have : mT (ax, ay, bx, b_y) (cx, cy, dx, dy) = mD (ax, ay, bx, b_y) (cx, cy, dx, dy) := by unfold mT mD; simp only; rw [← e1, ← e2]; grind
      rw [this]
    · intro t0
      rw [t0, Int.mul_comm D] at q1 q2
      have z1 := Int.eq_of_mul_eq_mul_right (by omega) q1
      have z2 := Int.eq_of_mul_eq_mul_right (by omega) q2
      omega
theorem how_D {a b : Sg} (ha : sgOk a) (hb : sgOk b) {c D T U : Int} (hc : c = 1 ∨ c = -1) (hD : D = c * mD a b) (hT : T = c * mT a b) (hU : U = c * mU a b) (h : 0 < D) : howC a b = hwD D T U := by
  obtain ⟨A, B, C, E, l1, l2, l3, l4⟩ := on_D ha hb hc hD hT hU h
  have hA : cnA a b = (if T = 0 ∧ 0 ≤ U ∧ U ≤ D then 1 else 0) + (if T = D ∧ 0 ≤ U ∧ U ≤ D then 1 else 0) := by
    unfold cnA
    rw [ite_ii A, ite_ii B]
  have hC : cnC a b = if U = 0 ∧ 0 < T ∧ T < D then cnA a b + 1 else cnA a b := by
    unfold cnC
    refine ite_ii ⟨?_, ?_⟩
    · rintro ⟨w1, w2, w3⟩
      have := C.mp w1
      rw [l1 this.1] at w2
      rw [l2 this.1] at w3
      omega
    · rintro ⟨w1, w2, w3⟩
      refine ⟨C.mpr (by omega), ?_, ?_⟩
      · rw [l1 w1]; omega
      · rw [l2 w1]; omega
  have hE : cnE a b = if U = D ∧ 0 < T ∧ T < D then cnC a b + 1 else cnC a b := by
    unfold cnE
    refine ite_ii ⟨?_, ?_⟩
    · rintro ⟨w1, w2, w3⟩
      have := E.mp w1
      rw [l3 this.1] at w2
      rw [l4 this.1] at w3
      omega
    · rintro ⟨w1, w2, w3⟩
      refine ⟨E.mpr (by omega), ?_, ?_⟩
      · rw [l3 w1]; omega
      · rw [l4 w1]; omega
  have n1 : (0 ≤ sg (sd a (ptA b)) 0 * sg (sd a (ptB b)) 0) ↔ ¬ (0 < U ∧ U < D) := by
    rw [sd_aA, sd_aB, sg_i, sg_i, sgi_m]
    rcases hc with rfl | rfl <;> omega
  have n2 : (0 ≤ sg (sd b (ptA a)) 0 * sg (sd b (ptB a)) 0) ↔ ¬ (0 < T ∧ T < D) := by
    rw [sd_bA, sd_bB, sg_i, sg_i, sgi_m]
    rcases hc with rfl | rfl <;> omega
  unfold howC
  rw [ite_ii n1, ite_ii n2, hE, hC, hA]
  unfold hwD
  clear hA hC hE n1 n2 A B C E l1 l2 l3 l4 hD hT hU
  grind (splits := 60)
/-- of one way: places as single numbers -/
def kA (s : Sg) : Int := 41 * s.1 + s.2.1
def kB (s : Sg) : Int := 41 * s.2.2.1 + s.2.2.2
theorem ilt_k {x y u v : Int} (h1 : 0 ≤ y ∧ y ≤ 40) (h2 : 0 ≤ v ∧ v ≤ 40) : ilt x y u v ↔ 41 * x + y < 41 * u + v := by unfold ilt; omega
theorem rwX_k {a b : Sg} (ha : sgOk a) (hb : sgOk b) : ((rwX a b = (a.1, a.2.1) ∧ kB b - kB b + kA b ≤ kA a) ∨ (rwX a b = (b.1, b.2.1) ∧ kA a < kA b)) := by
  obtain ⟨ax, ay, bx, b_y⟩ := a
  obtain ⟨cx, cy, dx, dy⟩ := b
  have h1 := ha.2.1
  have h2 := hb.2.1
  unfold rwX kA kB
  simp only at h1 h2 ⊢
  by_cases c1 : ax < cx
  · rw [if_pos c1]; right; exact ⟨rfl, by omega⟩
  · rw [if_neg c1]
    by_cases c2 : ax = cx
    · rw [if_pos c2]
      by_cases c3 : cy ≤ ay
      · rw [if_pos c3]; left; exact ⟨rfl, by omega⟩
      · rw [if_neg c3]; right; exact ⟨rfl, by omega⟩
    · rw [if_neg c2]; left; exact ⟨rfl, by omega⟩
theorem rwU_k {a b : Sg} (ha : sgOk a) (hb : sgOk b) : ((rwU a b = (b.2.2.1, b.2.2.2) ∧ kB b ≤ kB a) ∨ (rwU a b = (a.2.2.1, a.2.2.2) ∧ kB a < kB b)) := by
  obtain ⟨ax, ay, bx, b_y⟩ := a
  obtain ⟨cx, cy, dx, dy⟩ := b
  have h1 := ha.2.2.2.1
  have h2 := hb.2.2.2.1
  unfold rwU kB
  simp only at h1 h2 ⊢
  by_cases c1 : bx < dx
  · rw [if_pos c1]; right; exact ⟨rfl, by omega⟩
  · rw [if_neg c1]
    by_cases c2 : bx = dx
    · rw [if_pos c2]
      by_cases c3 : dy ≤ b_y
      · rw [if_pos c3]; left; exact ⟨rfl, by omega⟩
      · rw [if_neg c3]; right; exact ⟨rfl, by omega⟩
    · rw [if_neg c2]; left; exact ⟨rfl, by omega⟩
theorem rwH_k {a b : Sg} (ha : sgOk a) (hb : sgOk b) : rwH a b = if max (kA a) (kA b) < min (kB a) (kB b) then 3 else if max (kA a) (kA b) = min (kB a) (kB b) then 2 else 0 := by
  have key : ∀ x y u v : Int, 0 ≤ y ∧ y ≤ 40 → 0 ≤ v ∧ v ≤ 40 → (if x < u then (3 : Int) else if x = u then if v ≤ y then (if y = v then 2 else 0) else 3 else 0) = if 41 * x + y < 41 * u + v then 3 else if 41 * x + y = 41 * u + v then 2 else 0 := by
    intro x y u v h1 h2
    by_cases c1 : x < u
    · rw [if_pos c1, if_pos (by omega)]
    · rw [if_neg c1]
      by_cases c2 : x = u
      · rw [if_pos c2]
        by_cases c3 : v ≤ y
        · rw [if_pos c3, if_neg (show ¬ 41 * x + y < 41 * u + v by omega)]
          exact ite_ii (by omega)
        · rw [if_neg c3, if_pos (by omega)]
      · rw [if_neg c2, if_neg (by omega), if_neg (by omega)]
  have h1 := ha.2.1
  have h2 := hb.2.1
  have h3 := ha.2.2.2.1
  have h4 := hb.2.2.2.1
  unfold rwH
  rcases rwX_k ha hb with ⟨e1, g1⟩ | ⟨e1, g1⟩ <;> rcases rwU_k ha hb with ⟨e2, g2⟩ | ⟨e2, g2⟩ <;> rw [e1, e2] <;> simp only <;> rw [key _ _ _ _ (by assumption) (by assumption)] <;> unfold kA kB at * <;> (congr 1 <;> first | (apply propext; omega) | (exact ite_ii (by omega)))
theorem k_lt {s : Sg} (hs : sgOk s) : kA s < kB s := by
  have h1 := hs.2.1
  have h2 := hs.2.2.2.1
  have h3 := hs.2.2.2.2
  unfold kA kB
  omega
theorem onI_k {s : Sg} (hs : sgOk s) {x y : Int} (hy : 0 ≤ y ∧ y ≤ 40) (h : (s.2.2.1 - s.1) * (y - s.2.1) = (s.2.2.2 - s.2.1) * (x - s.1)) : onI s x y ↔ kA s ≤ 41 * x + y ∧ 41 * x + y ≤ kB s := by
  unfold onI
  rw [ilt_k hy hs.2.1, ilt_k hs.2.2.2.1 hy]
  unfold kA kB
  constructor
  · rintro ⟨-, h1, h2⟩; omega
  · intro w; exact ⟨h, by omega, by omega⟩
theorem eq_k {x y u v : Int} (h1 : 0 ≤ y ∧ y ≤ 40) (h2 : 0 ≤ v ∧ v ≤ 40) : (x = u ∧ y = v) ↔ 41 * x + y = 41 * u + v := by omega
theorem on_R {a b : Sg} (ha : sgOk a) (hb : sgOk b) (hD : mD a b = 0) (hT : mT a b = 0) (hU : mU a b = 0) :
    (onB b (ptA a) = true ↔ kA b ≤ kA a ∧ kA a ≤ kB b) ∧ (onB b (ptB a) = true ↔ kA b ≤ kB a ∧ kB a ≤ kB b) ∧ (onB a (ptA b) = true ↔ kA a ≤ kA b ∧ kA b ≤ kB a) ∧ (onB a (ptB b) = true ↔ kA a ≤ kB b ∧ kB b ≤ kB a) := by
  refine ⟨?_, ?_, ?_, ?_⟩
  · rw [show ptA a = ((a.1 : Rat), (a.2.1 : Rat)) from rfl, onB_i, onI_k hb ha.2.1 (by unfold mT at hT; grind)]; rfl
  · rw [show ptB a = ((a.2.2.1 : Rat), (a.2.2.2 : Rat)) from rfl, onB_i, onI_k hb ha.2.2.2.1 (by unfold mT mD at *; grind)]; rfl
  · rw [show ptA b = ((b.1 : Rat), (b.2.1 : Rat)) from rfl, onB_i, onI_k ha hb.2.1 (by unfold mU at hU; grind)]; rfl
  · rw [show ptB b = ((b.2.2.1 : Rat), (b.2.2.2 : Rat)) from rfl, onB_i, onI_k ha hb.2.2.2.1 (by unfold mU mD at *; grind)]; rfl
theorem how_R {a b : Sg} (ha : sgOk a) (hb : sgOk b) (hD : mD a b = 0) (hT : mT a b = 0) (hU : mU a b = 0) : howC a b = rwH a b := by
  obtain ⟨A, B, C, E⟩ := on_R ha hb hD hT hU
  have la := k_lt ha
  have lb := k_lt hb
  have x1 : lxc (ptA b) (ptA a) = 0 ↔ kA b = kA a := by rw [lxc_AA, eq_k hb.2.1 ha.2.1]; rfl
  have x2 : lxc (ptA b) (ptB a) = 0 ↔ kA b = kB a := by rw [lxc_AB, eq_k hb.2.1 ha.2.2.2.1]; rfl
  have x3 : lxc (ptB b) (ptA a) = 0 ↔ kB b = kA a := by rw [lxc_BA, eq_k hb.2.2.2.1 ha.2.1]; rfl
  have x4 : lxc (ptB b) (ptB a) = 0 ↔ kB b = kB a := by rw [lxc_BB, eq_k hb.2.2.2.1 ha.2.2.2.1]; rfl
  have hA : cnA a b = (if kA b ≤ kA a ∧ kA a ≤ kB b then 1 else 0) + (if kA b ≤ kB a ∧ kB a ≤ kB b then 1 else 0) := by
    unfold cnA
    rw [ite_ii A, ite_ii B]
  have hC : cnC a b = if kA a < kA b ∧ kA b < kB a then cnA a b + 1 else cnA a b := by
    unfold cnC
    refine ite_ii ?_
    rw [C, x1, x2]
    omega
  have hE : cnE a b = if kA a < kB b ∧ kB b < kB a then cnC a b + 1 else cnC a b := by
    unfold cnE
    refine ite_ii ?_
    rw [E, x3, x4]
    omega
  have n1 : (0 ≤ sg (sd a (ptA b)) 0 * sg (sd a (ptB b)) 0) ↔ True := by
    rw [sd_aA, sd_aB, sg_i, sg_i, sgi_m]
    refine iff_of_true ?_ trivial
    omega
  unfold howC
  rw [ite_ii n1, if_pos trivial, rwH_k ha hb]
  generalize kA a = p at *
  generalize kB a = q at *
  generalize kA b = r at *
  generalize kB b = t at *
  clear A B C E x1 x2 x3 x4 n1
  rw [hE, hC, hA]
  clear hA hC hE hD hT hU
  grind (splits := 60)
--  by_cases c1 : r ≤ p ∧ p ≤ t <;> by_cases c2 : r ≤ q ∧ q ≤ t <;> by_cases c3 : p < r ∧ r < q <;> by_cases c4 : p < t ∧ t < q <;> simp only [c1, c2, c3, c4, if_true, if_false, and_self] at hA hC hE <;> rw [hE, hC, hA] <;> (by_cases d1 : max p r < min q t <;> [skip; by_cases d2 : max p r = min q t]) <;> first | omega | (simp only [*, if_true, if_false]; omega)
theorem how_e {a b : Sg} (ha : sgOk a) (hb : sgOk b) : howC a b = howM a b := by
  unfold howM
  by_cases d0 : mD a b = 0
  · rw [if_pos d0]
    have i1 : (a.2.2.1 - a.1) * mT a b = (b.2.2.1 - b.1) * mU a b := by
      have : (a.2.2.1 - a.1) * mT a b - (b.2.2.1 - b.1) * mU a b = (b.1 - a.1) * mD a b := by unfold mT mU mD; grind
      rw [d0] at this; omega
    have i2 : (a.2.2.2 - a.2.1) * mT a b = (b.2.2.2 - b.2.1) * mU a b := by
      have : (a.2.2.2 - a.2.1) * mT a b - (b.2.2.2 - b.2.1) * mU a b = (b.2.1 - a.2.1) * mD a b := by unfold mT mU mD; grind
      rw [d0] at this; omega
    have za := ha.2.2.2.2
    have zb := hb.2.2.2.2
    by_cases u0 : mU a b = 0
    · rw [if_pos u0]
      have t0 : mT a b = 0 := by
        rw [u0, Int.mul_zero] at i1 i2
        rcases Int.mul_eq_zero.mp i1 with w | w
        · rcases Int.mul_eq_zero.mp i2 with w' | w'
          · omega
          · exact w'
        · exact w
      rw [if_pos t0]
      exact how_R ha hb d0 t0 u0
    · rw [if_neg u0]
      have t0 : ¬ mT a b = 0 := by
        intro t0
        rw [t0, Int.mul_zero] at i1 i2
        rcases Int.mul_eq_zero.mp i1.symm with w | w
        · rcases Int.mul_eq_zero.mp i2.symm with w' | w'
          · omega
          · exact u0 w'
        · exact u0 w
      have f1 : onB b (ptA a) = false := by
        unfold onB
        rw [sd_bA, decide_eq_false (fun w => t0 (Rat.intCast_eq_zero_iff.mp w))]; rfl
      have f2 : onB b (ptB a) = false := by
        unfold onB
        rw [sd_bB, decide_eq_false (fun w => t0 (by have := Rat.intCast_eq_zero_iff.mp w; omega))]; rfl
      have f3 : onB a (ptA b) = false := by
        unfold onB
        rw [sd_aA, decide_eq_false (fun w => u0 (by have := Rat.intCast_eq_zero_iff.mp w; omega))]; rfl
      have f4 : onB a (ptB b) = false := by
        unfold onB
        rw [sd_aB, decide_eq_false (fun w => u0 (by have := Rat.intCast_eq_zero_iff.mp w; omega))]; rfl
      have n1 : (0 ≤ sg (sd a (ptA b)) 0 * sg (sd a (ptB b)) 0) := by
        rw [sd_aA, sd_aB, sg_i, sg_i, sgi_m]
        omega
      unfold howC cnE cnC cnA
      rw [f1, f2, f3, f4]
      simp [n1]
  · rw [if_neg d0]
    by_cases d1 : mD a b < 0
    · rw [if_pos d1]
      exact how_D ha hb (c := -1) (Or.inr rfl) (by omega) (by omega) (by omega) (by omega)
    · rw [if_neg d1]
      exact how_D ha hb (c := 1) (Or.inl rfl) (by omega) (by omega) (by omega) (by omega)
theorem meets_e {N : Nat} {a b : Sg} (ha : sgOk a) (hb : sgOk b) : F_X0_meets N (lnOf a) (lnOf b) = some (i32 (howM a b)) := by rw [meets_c ha hb, how_e ha hb]
/-- where they meet -/
def atM (a b : Sg) : Pt := if mD a b = 0 then (((rwX a b).1 : Rat), ((rwX a b).2 : Rat)) else (Rat.divInt (a.1 * mD a b + mT a b * (a.2.2.1 - a.1)) (mD a b), Rat.divInt (a.2.1 * mD a b + mT a b * (a.2.2.2 - a.2.1)) (mD a b))
