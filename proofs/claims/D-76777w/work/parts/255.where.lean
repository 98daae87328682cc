/-! CALLS: on, where -/
set_option maxRecDepth 100000
def okP (x y z : Int) : Bool := decide (-400 ≤ x ∧ x ≤ 800) && (decide (-400 ≤ y ∧ y ≤ 800) && decide (1 ≤ z ∧ z ≤ 10))
theorem place_e {N : Nat} {x y z : Int} (hx : -2147483648 ≤ x ∧ x < 2147483648) (hy : -2147483648 ≤ y ∧ y < 2147483648) (hz : -2147483648 ≤ z ∧ z < 2147483648) : F_X0_isPlace N (i32 x) (i32 y) (i32 z) = some (bi (okP x y z)) ∧ F_isPlace N (i32 x) (i32 y) (i32 z) = some (bi (okP x y z)) := by
  constructor
  · unfold F_X0_isPlace okP
    rw [inx_e (A := -400) (B := 800) (-400) 800 rfl rfl hx (by omega) (by omega), inx_e (A := -400) (B := 800) (-400) 800 rfl rfl hy (by omega) (by omega), inx_e (A := 1) (B := 10) 1 10 rfl rfl hz (by omega) (by omega)]
    simp only [Option.bind_some, bi_0]
    cases decide (-400 ≤ x ∧ x ≤ 800) <;> cases decide (-400 ≤ y ∧ y ≤ 800) <;> cases decide (1 ≤ z ∧ z ≤ 10) <;> rfl
  · unfold F_isPlace okP
    rw [inm_e (A := -400) (B := 800) (-400) 800 rfl rfl hx (by omega) (by omega), inm_e (A := -400) (B := 800) (-400) 800 rfl rfl hy (by omega) (by omega), inm_e (A := 1) (B := 10) 1 10 rfl rfl hz (by omega) (by omega)]
    simp only [Option.bind_some, bi_0]
    cases decide (-400 ≤ x ∧ x ≤ 800) <;> cases decide (-400 ≤ y ∧ y ≤ 800) <;> cases decide (1 ≤ z ∧ z ≤ 10) <;> rfl
theorem okP_e {x y z : Int} : okP x y z = true ↔ (-400 ≤ x ∧ x ≤ 800) ∧ (-400 ≤ y ∧ y ≤ 800) ∧ 1 ≤ z ∧ z ≤ 10 := by
  unfold okP
  rw [Bool.and_eq_true, Bool.and_eq_true, decide_eq_true_iff, decide_eq_true_iff, decide_eq_true_iff]
def plP (x y z : Int) : Pt := ((x : Rat) / (z : Rat), (y : Rat) / (z : Rat))
theorem plIn_e {N : Nat} (hN : 100 ≤ N) {x z : Int} (hx : -400 ≤ x ∧ x ≤ 800) (hz : 1 ≤ z ∧ z ≤ 10) : F_X7_init N (i64 x) (i64 z) = some (rf ((x : Rat) / (z : Rat))) := by
  rw [X7_init_e (k := 10) (bn_of (by omega)) (by omega) (by omega) (by decide) (by omega), Rat.divInt_eq_div]
theorem plP_pq {x y z : Int} (hx : -400 ≤ x ∧ x ≤ 800) (hy : -400 ≤ y ∧ y ≤ 800) (hz : 1 ≤ z ∧ z ≤ 10) : pq (plP x y z) := by
  have f1 := fb_div x z
  have f2 := fb_div y z
  unfold plP
  rw [← Rat.divInt_eq_div, ← Rat.divInt_eq_div]
  exact ⟨⟨bn_le f1.1 (by omega), Nat.le_trans f1.2 (by omega)⟩, bn_le f2.1 (by omega), Nat.le_trans f2.2 (by omega)⟩
theorem sd_yv {s : Sg} (sl : isSl s) (x y : Rat) : sd s (x, y) = ddx s * (y - yv s x) := by
  have m := yv_m sl x
  unfold sd
  show ddx s * (y - (s.2.1 : Rat)) - ((s.2.2.2 : Rat) - (s.2.1 : Rat)) * (x - (s.1 : Rat)) = _
  grind
theorem sd_up {s : Sg} (sl : isSl s) (x y : Rat) : ¬ sg (sd s (x, y)) 0 ≤ 0 ↔ yv s x < y := by
  have d := ddx_p sl
  rw [sd_yv sl]
  have e : 0 < sg (ddx s * (y - yv s x)) 0 ↔ yv s x < y := by
    rw [sg_gt]
    constructor
    · intro w
      refine Rat.not_le.mp fun z => ?_
      have : 0 ≤ ddx s * (yv s x - y) := Rat.mul_nonneg (Rat.le_of_lt d) (by grind)
      grind
    · intro w
      exact Rat.mul_pos d (by grind)
  rw [← e]
  omega
/-- the slab of an x; the place of a y in it -/
def slX (n : Nat) (L : Nat → Sg) (x : Rat) : Nat := fst1 (fun s => decide (x < xX n L s)) (nX n L)
def plY (n : Nat) (L : Nat → Sg) (x y : Rat) : Nat := fst1 (fun g => !decide (vY n L (slX n L x) g x < y)) (nGr n L (slX n L x))
section WH
variable {N n : Nat} {L : Nat → Sg} {σ : FSt} {μ : MSt}
theorem on_op (hN : 2000 ≤ N) (h : RL1 n L σ μ) {x y z : Int} (hx : -2147483648 ≤ x ∧ x < 2147483648) (hy : -2147483648 ≤ y ∧ y < 2147483648) (hz : -2147483648 ≤ z ∧ z < 2147483648) : OpE n L σ μ (F_X0_on N σ (i32 x) (i32 y) (i32 z)) ((F_on N μ (i32 x) (i32 y) (i32 z)).map (fun v => (v, μ))) := by
  obtain ⟨p1, p2⟩ := place_e (N := N) hx hy hz
  unfold F_X0_on F_on
  rw [p1, p2, Option.bind_some, Option.bind_some, bi_0, bi_0]
  by_cases c : okP x y z = true
  · obtain ⟨b1, b2, b3⟩ := okP_e.mp c
    rw [if_pos c, if_pos c, i32_to64 hx, i32_to64 hy, i32_to64 hz, plIn_e (by omega) b1 b3, plIn_e (by omega) b2 b3]
    simp only [Option.bind_some]
    rw [show F_X1_onOf N (fC σ 1) (rf ((x : Rat) / (z : Rat)), rf ((y : Rat) / (z : Rat))) = some (nI (ms (fun l => onB (L l) (plP x y z)) n)) from onOf_e (N := N) (by omega) h.1 h.2.1 (plP_pq b1 b2 b3), linesOn_e (N := N) (by omega) h.2.2.2 h.1 ⟨bn_of (by omega), by omega, by omega⟩ ⟨bn_of (by omega), by omega, by omega⟩]
    exact OpE.rf h _
  · rw [if_neg c, if_neg c]; exact OpE.rf h _
theorem ccell_e (hN : 2000 ≤ N) (hL : LOk n L) {κ : CSt} (h : CLn κ n L) (hx : CXs κ n L) (hc : CSd κ n L (nX n L + 1)) {p : Pt} (hp : pq p) : F_X1_cellAt N κ (rfP p) = some (i32 ((fcN n L (slX n L p.1) + plY n L p.1 p.2 : Nat) : Int)) := by
  have hn10 := hL.1
  have m65 := nX_65 hL
  obtain ⟨f1, f2, f3⟩ := @fst1_e (fun s => decide (p.1 < xX n L s)) (nX n L)
  obtain ⟨g1, g2, g3⟩ := @fst1_e (fun g => !decide (vY n L (slX n L p.1) g p.1 < p.2)) (nGr n L (slX n L p.1))
  have f1 : slX n L p.1 ≤ nX n L := f1
  have g1 : plY n L p.1 p.2 ≤ nGr n L (slX n L p.1) := g1
  have gr := nGr_le n L (slX n L p.1)
  have fl := fcN_le hn10 L (slX n L p.1)
  have inner : ∀ (d k m : Nat), k + d = plY n L p.1 p.2 → d < m → F_X1_cellAt_L34 N κ m (rfP p) (i32 ((slX n L p.1 : Nat) : Int)) (i32 (k : Int)) = some (i32 ((fcN n L (slX n L p.1) + plY n L p.1 p.2 : Nat) : Int)) := by
    intro d
    induction d with
    | zero =>
      intro k m hk hm
      obtain ⟨m, rfl⟩ : ∃ j, m = j + 1 := ⟨m - 1, by omega⟩
      have e : k = plY n L p.1 p.2 := by omega
      have fin : F_X1_cellAt_b72 N κ (i32 ((slX n L p.1 : Nat) : Int)) (i32 (k : Int)) = some (i32 ((fcN n L (slX n L p.1) + plY n L p.1 p.2 : Nat) : Int)) := by
        unfold F_X1_cellAt_b72
        rw [ck_n (by omega) (by decide), hc.2.2.1 _ (by omega), i32_add, e]; congr 2
      unfold F_X1_cellAt_L34
      rw [ck_n (by omega) (by decide), hc.1 _ (by omega)]
      by_cases w : nGr n L (slX n L p.1) ≤ k
      · rw [if_pos ((i32_le (by omega) (by omega)).mpr (by omega))]; exact fin
      · rw [if_neg (fun z => by have := (i32_le (by omega) (by omega)).mp z; omega), show (10 : Int32) = i32 10 from rfl, i32_mul, i32_add, show (10 : Int) * ((slX n L p.1 : Nat) : Int) + (k : Int) = ((10 * slX n L p.1 + k : Nat) : Int) by omega, ck_n (by omega) (by decide), hc.2.1 _ (by omega) k (by omega)]
        obtain ⟨b1, b2, b3, b4, b5, -⟩ := lea_e hL (show k < nGr n L (slX n L p.1) by omega) N
        have sl := (spB_e.mp b5).1
        have st := g3 (show plY n L p.1 p.2 < nGr n L (slX n L p.1) by omega)
        have st : (!decide (vY n L (slX n L p.1) (plY n L p.1 p.2) p.1 < p.2)) = true := st
        rw [← e] at st
        have st' : ¬ vY n L (slX n L p.1) k p.1 < p.2 := by simpa using st
        rw [least_e h hL b4 b3 sl, Option.bind_some, side_e (hL.2 _ b3) hp, Option.bind_some, show (0 : Int32) = i32 0 from rfl, ite_ii (i32_le (b := 0) (by have := sg_r (sd (L (lea n L (slX n L p.1) k)) p) 0; omega) (by omega)), if_pos (Classical.byContradiction fun w => st' ((sd_up sl p.1 p.2).mp w))]
        exact fin
    | succ d ih =>
      intro k m hk hm
      obtain ⟨m, rfl⟩ : ∃ j, m = j + 1 := ⟨m - 1, by omega⟩
      obtain ⟨b1, b2, b3, b4, b5, -⟩ := lea_e hL (show k < nGr n L (slX n L p.1) by omega) N
      have sl := (spB_e.mp b5).1
      have st := g2 k (show k < plY n L p.1 p.2 by omega)
      have st' : vY n L (slX n L p.1) k p.1 < p.2 := by simpa using st
      unfold F_X1_cellAt_L34
      rw [ck_n (by omega) (by decide), hc.1 _ (by omega), if_neg (fun z => by have := (i32_le (by omega) (by omega)).mp z; omega), show (10 : Int32) = i32 10 from rfl, i32_mul, i32_add, show (10 : Int) * ((slX n L p.1 : Nat) : Int) + (k : Int) = ((10 * slX n L p.1 + k : Nat) : Int) by omega, ck_n (by omega) (by decide), hc.2.1 _ (by omega) k (by omega), least_e h hL b4 b3 sl, Option.bind_some, side_e (hL.2 _ b3) hp, Option.bind_some, show (0 : Int32) = i32 0 from rfl, ite_ii (i32_le (b := 0) (by have := sg_r (sd (L (lea n L (slX n L p.1) k)) p) 0; omega) (by omega)), if_neg ((sd_up sl p.1 p.2).mpr st')]
      simp only [i32_s]
      exact ih (k + 1) m (by omega) (by omega)
  have outer : ∀ (d k m : Nat), k + d = slX n L p.1 → d < m → F_X1_cellAt_L4 N κ m (rfP p) (i32 (k : Int)) 0 = some (i32 ((fcN n L (slX n L p.1) + plY n L p.1 p.2 : Nat) : Int)) := by
    intro d
    induction d with
    | zero =>
      intro k m hk hm
      obtain ⟨m, rfl⟩ : ∃ j, m = j + 1 := ⟨m - 1, by omega⟩
      have e : k = slX n L p.1 := by omega
      have fin := inner (plY n L p.1 p.2) 0 N (by omega) (by omega)
      unfold F_X1_cellAt_L4
      rw [hx.1]
      by_cases w : nX n L ≤ k
      · rw [if_pos ((i32_le (by omega) (by omega)).mpr (by omega)), e]; exact fin
      · have st := of_decide_eq_true (f3 (show slX n L p.1 < nX n L by omega))
        have st : p.1 < xX n L (slX n L p.1) := st
        rw [if_neg (fun z => by have := (i32_le (by omega) (by omega)).mp z; omega), ck_n (by omega) (by decide), hx.2 k (by omega)]
        simp only [nn]
        have fx := xX_fb hL (show k < nX n L by omega)
        have cmp : F_X7_compareTo N (rf (xX n L k)) (rf p.1) = some (i32 (sg (xX n L k) p.1)) := compareTo_e fx hp.1 (by decide) (by decide)
        rw [show (rfP p).1 = rf p.1 from rfl, cmp, Option.bind_some, i32_p (by have := sg_r (xX n L k) p.1; omega), if_pos (sg_gt.mpr (by rw [e]; exact st)), e]
        exact fin
    | succ d ih =>
      intro k m hk hm
      obtain ⟨m, rfl⟩ : ∃ j, m = j + 1 := ⟨m - 1, by omega⟩
      have st := of_decide_eq_false (f2 k (show k < slX n L p.1 by omega))
      have fx := xX_fb hL (show k < nX n L by omega)
      have cmp : F_X7_compareTo N (rf (xX n L k)) (rf p.1) = some (i32 (sg (xX n L k) p.1)) := compareTo_e fx hp.1 (by decide) (by decide)
      unfold F_X1_cellAt_L4
      rw [hx.1, if_neg (fun z => by have := (i32_le (by omega) (by omega)).mp z; omega), ck_n (by omega) (by decide), hx.2 k (by omega)]
      simp only [nn]
      rw [show (rfP p).1 = rf p.1 from rfl, cmp, Option.bind_some, i32_p (by have := sg_r (xX n L k) p.1; omega), if_neg (fun w => st (sg_gt.mp w)), i32_s]
      exact ih (k + 1) m (by omega) (by omega)
  exact outer (slX n L p.1) 0 N (by omega) (by omega)
end WH
