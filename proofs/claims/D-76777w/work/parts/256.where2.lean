/-! CALL: where -/
set_option maxRecDepth 100000
theorem lt_q {x z : Int} (hz : 0 < z) (q : Rat) : x * (q.den : Int) < q.num * z ↔ (x : Rat) / (z : Rat) < q := by
  have h := @sgi_q x z q.num (q.den : Int) hz (by have := q.den_pos; omega)
  rw [rat_q] at h
  rw [← sg_lt, ← h]
  unfold sgi
  constructor
  · intro w; rw [if_pos (by omega)]; decide
  · intro w
    refine Classical.byContradiction fun v => ?_
    rw [if_neg (by omega)] at w
    split at w <;> omega
section WM
variable {N n : Nat} {L : Nat → Sg} {σ : FSt} {μ : MSt}
theorem mcell_e (hN : 2000 ≤ N) (hL : LOk n L) (h : MLn μ n L) (hx : MXs μ n L) (hc : MCS μ n L (nX n L + 1)) (h27 : M27 μ n L) {x y z : Int} (bx : -400 ≤ x ∧ x ≤ 800) (by' : -400 ≤ y ∧ y ≤ 800) (bz : 1 ≤ z ∧ z ≤ 10) : F_where_L36 N N μ (i32 x) (i32 y) (i32 z) 0 = some (gA μ 31 (fcN n L (slX n L (plP x y z).1) + plY n L (plP x y z).1 (plP x y z).2), μ) := by
  generalize hp : plP x y z = p
  have p1 : p.1 = (x : Rat) / (z : Rat) := by rw [← hp]; rfl
  have p2 : p.2 = (y : Rat) / (z : Rat) := by rw [← hp]; rfl
  have hn10 := hL.1
  have m65 := nX_65 hL
  obtain ⟨f1, f2, f3⟩ := @fst1_e (fun s => decide (p.1 < xX n L s)) (nX n L)
  obtain ⟨g1, g2, g3⟩ := @fst1_e (fun g => !decide (vY n L (slX n L p.1) g p.1 < p.2)) (nGr n L (slX n L p.1))
  have f1 : slX n L p.1 ≤ nX n L := f1
  have g1 : plY n L p.1 p.2 ≤ nGr n L (slX n L p.1) := g1
  have gr := nGr_le n L (slX n L p.1)
  have fl := fcN_le hn10 L (slX n L p.1)
  have tx := i32_to64 (a := x) (by omega)
  have ty := i32_to64 (a := y) (by omega)
  have tz := i32_to64 (a := z) (by omega)
  -- one line against the place
  have one : ∀ k, k < nGr n L (slX n L p.1) → nI (hiS n L (slX n L p.1) k) ≠ 0 ∧ F_leastOf N (nI (hiS n L (slX n L p.1) k)) = some (i32 ((lea n L (slX n L p.1) k : Nat) : Int)) ∧ lea n L (slX n L p.1) k < n ∧ F_against N (i64 (Ab (L (lea n L (slX n L p.1) k)) x z)) (i64 (((L (lea n L (slX n L p.1) k)).2.2.1 - (L (lea n L (slX n L p.1) k)).1) * z)) (i64 y) (i64 z) = some (i32 (sg (vY n L (slX n L p.1) k p.1) p.2)) := by
    intro k hk
    obtain ⟨b1, b2, b3, b4, b5, -⟩ := lea_e hL hk N
    have sl := (spB_e.mp b5).1
    have eh : hiS n L (slX n L p.1) k = stG n L (slX n L p.1) k := if_pos hk
    have nz : nI (stG n L (slX n L p.1) k) ≠ 0 := by
      intro w
      have := nI_z0 (a := stG n L (slX n L p.1) k) (by omega) (0 : Nat) 1
      rw [if_pos w, if_neg b2] at this
      exact absurd this (by decide)
    have hs := hL.2 _ b3
    have bb := Ab_bd (n := 800) (m := 10) hs (X := x) (B := z) (bn_of (by omega)) (bn_of (by omega))
    have d1 : bn ((L (lea n L (slX n L p.1) k)).2.2.1 - (L (lea n L (slX n L p.1) k)).1) 40 := bn_of (by have := hs.1; have := hs.2.2.1; omega)
    refine ⟨by rw [eh]; exact nz, ?_, b3, ?_⟩
    · rw [eh]
      unfold F_leastOf
      rw [if_neg nz, b4, Option.bind_some]
    · rw [against_e (bn_le (bn_mul bb (bn_of (n := 10) (by omega))) (by decide)) (bn_le (bn_mul (bn_of (n := 800) (by omega)) (bn_mul d1 (bn_of (n := 10) (by omega)))) (by decide)), sgi_q (Int.mul_pos (by unfold isSl at sl; omega) (by omega)) (by omega), Ab_q sl (by omega), ← p1, ← p2]
      rfl
  have inner : ∀ (d k m : Nat), k + d = plY n L p.1 p.2 → d < m → F_where_L90 N m μ (i32 x) (i32 y) (i32 z) (i32 ((fcN n L (slX n L p.1) + k : Nat) : Int)) = some (gA μ 31 (fcN n L (slX n L p.1) + plY n L p.1 p.2), μ) := by
    intro d
    induction d with
    | zero =>
      intro k m hk hm
      obtain ⟨m, rfl⟩ : ∃ j, m = j + 1 := ⟨m - 1, by omega⟩
      have e : k = plY n L p.1 p.2 := by omega
      have A : ∀ {α : Type} (f : Nat → Option α), ck (i32 ((fcN n L (slX n L p.1) + k : Nat) : Int)) 900 f = f (fcN n L (slX n L p.1) + k) := fun f => ck_n (by omega) (by decide) f
      obtain ⟨-, -, g30⟩ := hc.2.2 (slX n L p.1) (by omega) k (by omega)
      have fin : F_where_b150 N μ (i32 ((fcN n L (slX n L p.1) + k : Nat) : Int)) = some (gA μ 31 (fcN n L (slX n L p.1) + plY n L p.1 p.2), μ) := by
        unfold F_where_b150
        rw [A, e]
      unfold F_where_L90
      simp only [A, g30]
      by_cases w : k < nGr n L (slX n L p.1)
      · obtain ⟨o1, o2, o3, o4⟩ := one k w
        have st := g3 (show plY n L p.1 p.2 < nGr n L (slX n L p.1) by omega)
        have st : (!decide (vY n L (slX n L p.1) (plY n L p.1 p.2) p.1 < p.2)) = true := st
        rw [← e] at st
        have st' : ¬ vY n L (slX n L p.1) k p.1 < p.2 := by simpa using st
        obtain ⟨y1, y2⟩ := yAb_e (N := N) h hL o3 x z
        rw [if_neg o1, o2]
        simp only [Option.bind_some, tx, ty, tz, y1, y2, o4]
        rw [i32_nn (by have := sg_r (vY n L (slX n L p.1) k p.1) p.2; omega), if_pos (Int.not_lt.mp fun w => st' (sg_lt.mp w))]
        exact fin
      · have : hiS n L (slX n L p.1) k = 0 := if_neg w
        rw [this, if_pos (by decide)]
        exact fin
    | succ d ih =>
      intro k m hk hm
      obtain ⟨m, rfl⟩ : ∃ j, m = j + 1 := ⟨m - 1, by omega⟩
      have A : ∀ {α : Type} (f : Nat → Option α), ck (i32 ((fcN n L (slX n L p.1) + k : Nat) : Int)) 900 f = f (fcN n L (slX n L p.1) + k) := fun f => ck_n (by omega) (by decide) f
      obtain ⟨-, -, g30⟩ := hc.2.2 (slX n L p.1) (by omega) k (by omega)
      obtain ⟨o1, o2, o3, o4⟩ := one k (by omega)
      have st := g2 k (show k < plY n L p.1 p.2 by omega)
      have st' : vY n L (slX n L p.1) k p.1 < p.2 := by simpa using st
      obtain ⟨y1, y2⟩ := yAb_e (N := N) h hL o3 x z
      unfold F_where_L90
      simp only [A, g30]
      rw [if_neg o1, o2]
      simp only [Option.bind_some, tx, ty, tz, y1, y2, o4]
      rw [i32_nn (by have := sg_r (vY n L (slX n L p.1) k p.1) p.2; omega), if_neg (Int.not_le.mpr (sg_lt.mpr st')), i32_s]
      exact ih (k + 1) m (by omega) (by omega)
  have outer : ∀ (d k m : Nat), k + d = slX n L p.1 → d < m → F_where_L36 N m μ (i32 x) (i32 y) (i32 z) (i32 (k : Int)) = some (gA μ 31 (fcN n L (slX n L p.1) + plY n L p.1 p.2), μ) := by
    intro d
    induction d with
    | zero =>
      intro k m hk hm
      obtain ⟨m, rfl⟩ : ∃ j, m = j + 1 := ⟨m - 1, by omega⟩
      have e : k = slX n L p.1 := by omega
      have fin : F_where_b81 N μ (i32 x) (i32 y) (i32 z) (i32 (k : Int)) = some (gA μ 31 (fcN n L (slX n L p.1) + plY n L p.1 p.2), μ) := by
        unfold F_where_b81
        rw [ck_n (by omega) (by decide), h27 k (by omega), e]
        exact inner (plY n L p.1 p.2) 0 N (by omega) (by omega)
      unfold F_where_L36
      rw [hx.1, i32_s]
      by_cases w : nX n L ≤ k
      · rw [if_pos ((i32_le (by omega) (by omega)).mpr (by omega))]; exact fin
      · have st := of_decide_eq_true (f3 (show slX n L p.1 < nX n L by omega))
        have st : p.1 < xX n L (slX n L p.1) := st
        obtain ⟨e25, e26⟩ := hx.2 k (by omega)
        have fx := xX_fb hL (show k < nX n L by omega)
        have c1 : bn (x * ((xX n L k).den : Int)) (800 * 4000) := bn_mul (bn_of (by omega)) (bn_of (by have := fx.2; omega))
        have c2 : bn ((xX n L k).num * z) (256000 * 10) := bn_mul fx.1 (bn_of (by omega))
        rw [if_neg (fun z => by have := (i32_le (by omega) (by omega)).mp z; omega), ck_n (by omega) (by decide), ck_n (by omega) (by decide), e25, e26, tx, tz, i64_mul, i64_mul, ite_ii (i64_lt (bn_64 c1 (by decide)) (bn_64 c2 (by decide))), if_pos ((lt_q (by omega) _).mpr (by rw [← p1, e]; exact st))]
        exact fin
    | succ d ih =>
      intro k m hk hm
      obtain ⟨m, rfl⟩ : ∃ j, m = j + 1 := ⟨m - 1, by omega⟩
      have st := of_decide_eq_false (f2 k (show k < slX n L p.1 by omega))
      obtain ⟨e25, e26⟩ := hx.2 k (by omega)
      have fx := xX_fb hL (show k < nX n L by omega)
      have c1 : bn (x * ((xX n L k).den : Int)) (800 * 4000) := bn_mul (bn_of (by omega)) (bn_of (by have := fx.2; omega))
      have c2 : bn ((xX n L k).num * z) (256000 * 10) := bn_mul fx.1 (bn_of (by omega))
      unfold F_where_L36
      rw [hx.1, i32_s, if_neg (fun z => by have := (i32_le (by omega) (by omega)).mp z; omega), ck_n (by omega) (by decide), ck_n (by omega) (by decide), e25, e26, tx, tz, i64_mul, i64_mul, ite_ii (i64_lt (bn_64 c1 (by decide)) (bn_64 c2 (by decide))), if_neg (fun w => st (by rw [p1]; exact (lt_q (by omega) _).mp w))]
      exact ih (k + 1) m (by omega) (by omega)
  exact outer (slX n L p.1) 0 N (by omega) (by omega)
theorem where_op (hN : 2000 ≤ N) (h : RL1 n L σ μ) {x y z : Int} (hx : -2147483648 ≤ x ∧ x < 2147483648) (hy : -2147483648 ≤ y ∧ y < 2147483648) (hz : -2147483648 ≤ z ∧ z < 2147483648) : OpE n L σ μ (F_X0_where N σ (i32 x) (i32 y) (i32 z)) (F_where N μ (i32 x) (i32 y) (i32 z)) := by
  obtain ⟨p1, p2⟩ := place_e (N := N) hx hy hz
  have hn10 := h.1.1
  have m65 := nX_65 h.1
  unfold F_X0_where F_where
  rw [p1, p2, Option.bind_some, Option.bind_some, bi_0, bi_0]
  by_cases c : okP x y z = true
  · obtain ⟨b1, b2, b3⟩ := okP_e.mp c
    obtain ⟨κ', μ', c1, m1, fc, fm, h', td, md⟩ := both_told hN h
    obtain ⟨-, -, -, t9, t13, -, t7⟩ := td
    obtain ⟨-, s22, s23, s27, s5⟩ := md
    have hp := plP_pq b1 b2 b3
    rw [if_pos c, if_pos c, i32_to64 hx, i32_to64 hy, i32_to64 hz, plIn_e (by omega) b1 b3, plIn_e (by omega) b2 b3, c1]
    simp only [Option.bind_some]
    rw [show F_X1_onOf N (fC (fsC σ 1 κ') 1) (rf ((x : Rat) / (z : Rat)), rf ((y : Rat) / (z : Rat))) = some (nI (ms (fun l => onB (L l) (plP x y z)) n)) from onOf_e (κ := κ') (N := N) (by omega) h.1 h'.2.1 hp, show F_linesOn N μ (i64 x) (i64 z) (i64 y) (i64 z) = some (nI (ms (fun l => onB (L l) (plP x y z)) n)) from linesOn_e (N := N) (by omega) h.2.2.2 h.1 ⟨bn_of (by omega), by omega, by omega⟩ ⟨bn_of (by omega), by omega, by omega⟩]
    simp only [Option.bind_some]
    by_cases w : nI (ms (fun l => onB (L l) (plP x y z)) n) = 0
    · obtain ⟨f1, -, -⟩ := @fst1_e (fun s => decide ((plP x y z).1 < xX n L s)) (nX n L)
      obtain ⟨g1, -, -⟩ := @fst1_e (fun g => !decide (vY n L (slX n L (plP x y z).1) g (plP x y z).1 < (plP x y z).2)) (nGr n L (slX n L (plP x y z).1))
      have lt := fcN_lt (n := n) (L := L) (S := slX n L (plP x y z).1) (g := plY n L (plP x y z).1 (plP x y z).2) (m := nX n L) f1 g1
      have le := fcN_le hn10 L (nX n L + 1)
      rw [if_pos w, if_pos w, m1, Option.bind_some, mcell_e hN h.1 h'.2.2.2 s22 s23 s27 b1 b2 b3]
      rw [show F_X1_cellAt N (fC (fsC σ 1 κ') 1) (rf ((x : Rat) / (z : Rat)), rf ((y : Rat) / (z : Rat))) = some (i32 ((fcN n L (slX n L (plP x y z).1) + plY n L (plP x y z).1 (plP x y z).2 : Nat) : Int)) from ccell_e (κ := κ') hN h.1 h'.2.1 t9 t13 hp, Option.bind_some, ck_n (by omega) (by decide)]
      show OpE n L σ μ (some (cA κ' 16 _, _)) _
      rw [t7.2.1 _ lt, s5.2.1 _ lt]
      exact OpE.tr fc fm (OpE.rf h' _)
    · rw [if_neg w, if_neg w]
      exact OpE.tr fc (mfr.rf scr μ) (OpE.rf ⟨h'.1, h'.2.1, h'.2.2.1, h.2.2.2⟩ _)
  · rw [if_neg c, if_neg c]; exact OpE.rf h _
end WM
