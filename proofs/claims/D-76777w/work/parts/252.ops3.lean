/-! CALLS: count (but hulls and twos), told (but hulls), point, cell: alike on both sides -/
set_option maxRecDepth 100000
section O3
variable {N n : Nat} {L : Nat → Sg} {σ : FSt} {μ : MSt}
theorem count_op (hN : 2000 ≤ N) (h : RL1 n L σ μ) {x : Int} (hx : -2147483648 ≤ x ∧ x < 2147483648) (hq : x < 7 ∨ 10 < x) : OpE n L σ μ (F_X0_count N σ (i32 x)) (F_count N μ (i32 x)) := by
  obtain ⟨κ', μ', c1, m1, fc, fm, h', td, md⟩ := both_told hN h
  have v65 := ptN_65 h.1
  have hg := ptN_G h.1 n (Nat.le_refl _)
  have xn : ∀ k : Int, -2147483648 ≤ k ∧ k < 2147483648 → (i32 x = i32 k ↔ x = k) := fun k hk => i32_eq hx hk
  unfold F_X0_count F_count
  rw [inm_e (A := 0) (B := 10) 0 10 rfl rfl hx (by omega) (by omega), c1, Option.bind_some, Option.bind_some, bi_0]
  by_cases cx : 0 ≤ x ∧ x ≤ 10
  · rw [decide_eq_true cx, if_pos rfl, m1, Option.bind_some]
    refine OpE.tr fc fm ?_
    have x7 : x = 0 ∨ x = 1 ∨ x = 2 ∨ x = 3 ∨ x = 4 ∨ x = 5 ∨ x = 6 := by omega
    obtain ⟨t1, t2, t3, t4, t5, t6, t7⟩ := td
    obtain ⟨s1, s2, s3, s4, s5⟩ := md
    have e := h'.2.1
    have e2 := h'.2.2.2
    rcases x7 with rfl | rfl | rfl | rfl | rfl | rfl | rfl
    · simp only [show (i32 0 = 0) = True from eq_true (by decide), if_true, if_false]
      show OpE n L (fsC σ 1 κ') μ' (some (cI κ' 1, fsC σ 1 κ')) (some (gI μ' 0, μ'))
      rw [e2.1, show cI κ' 1 = i32 (n : Int) from e.1]
      exact OpE.rf h' _
    · simp only [show (i32 1 = 0) = False from eq_false (by decide), show (i32 1 = 1) = True from eq_true (by decide), if_true, if_false]
      show OpE n L (fsC σ 1 κ') μ' (some (cI κ' 4, fsC σ 1 κ')) (some (gI μ' 9, μ'))
      rw [s1.1, t1.1]
      exact OpE.rf h' _
    · simp only [show (i32 2 = 0) = False from eq_false (by decide), show (i32 2 = 1) = False from eq_false (by decide), show (i32 2 = 2) = True from eq_true (by decide), if_true, if_false]
      obtain ⟨ρ, r1, r2, -⟩ := tellPieces_e (N := N) (by omega) h.1 hg v65 e2 s1
      show OpE n L (fsC σ 1 κ') μ' (some (cI κ' 5, fsC σ 1 κ')) _
      rw [r1, t3]
      have f : mfr scr μ' ρ := r2.up (by decide)
      exact OpE.tr (frC.rf _) f (OpE.rf ⟨h'.1, h'.2.1, h'.2.2.1, e2.fr r2 (by decide)⟩ _)
    · simp only [show (i32 3 = 0) = False from eq_false (by decide), show (i32 3 = 1) = False from eq_false (by decide), show (i32 3 = 2) = False from eq_false (by decide), show (i32 3 = 3) = True from eq_true (by decide), if_true, if_false]
      obtain ⟨ρ, r1, r2⟩ := partsMany_e (N := N) (by omega) h.1 hg v65 e2 s1
      show OpE n L (fsC σ 1 κ') μ' (some (cI κ' 6, fsC σ 1 κ')) _
      rw [r1, t2.2]
      have f : mfr scr μ' ρ := r2.up (by decide)
      exact OpE.tr (frC.rf _) f (OpE.rf ⟨h'.1, h'.2.1, h'.2.2.1, e2.fr r2 (by decide)⟩ _)
    · simp only [show (i32 4 = 0) = False from eq_false (by decide), show (i32 4 = 1) = False from eq_false (by decide), show (i32 4 = 2) = False from eq_false (by decide), show (i32 4 = 3) = False from eq_false (by decide), show (i32 4 = 4) = True from eq_true (by decide), if_true, if_false]
      show OpE n L (fsC σ 1 κ') μ' (some (cI κ' 9 + 1, fsC σ 1 κ')) (some (gI μ' 22, μ'))
      rw [t4.1, s2.1, i32_s]
      exact OpE.rf h' _
    · simp only [show (i32 5 = 0) = False from eq_false (by decide), show (i32 5 = 1) = False from eq_false (by decide), show (i32 5 = 2) = False from eq_false (by decide), show (i32 5 = 3) = False from eq_false (by decide), show (i32 5 = 4) = False from eq_false (by decide), show (i32 5 = 5) = True from eq_true (by decide), if_true, if_false]
      show OpE n L (fsC σ 1 κ') μ' (some (cI κ' 10, fsC σ 1 κ')) (some (gI μ' 23, μ'))
      rw [t5.2.2.2.1, s3.2.1]
      exact OpE.rf h' _
    · simp only [show (i32 6 = 0) = False from eq_false (by decide), show (i32 6 = 1) = False from eq_false (by decide), show (i32 6 = 2) = False from eq_false (by decide), show (i32 6 = 3) = False from eq_false (by decide), show (i32 6 = 4) = False from eq_false (by decide), show (i32 6 = 5) = False from eq_false (by decide), show (i32 6 = 6) = True from eq_true (by decide), if_true, if_false]
      show OpE n L (fsC σ 1 κ') μ' (some (cI κ' 11, fsC σ 1 κ')) (some (gI μ' 24, μ'))
      rw [t7.1, s5.1]
      exact OpE.rf h' _
  · rw [decide_eq_false cx, if_neg (show ¬ (false = true) by decide)]
    refine OpE.tr fc (mfr.rf scr μ) ?_
    have no : ∀ k : Int, 0 ≤ k ∧ k ≤ 10 → ¬ i32 x = i32 k := fun k hk w => cx (by rw [(xn k (by omega)).mp w]; exact hk)
    rw [if_neg (show ¬ i32 x = 0 from no 0 (by omega)), if_neg (show ¬ i32 x = 1 from no 1 (by omega)), if_neg (show ¬ i32 x = 2 from no 2 (by omega)), if_neg (show ¬ i32 x = 3 from no 3 (by omega)), if_neg (show ¬ i32 x = 4 from no 4 (by omega)), if_neg (show ¬ i32 x = 5 from no 5 (by omega)), if_neg (show ¬ i32 x = 6 from no 6 (by omega)), if_neg (show ¬ i32 x = 7 from no 7 (by omega)), if_neg (show ¬ i32 x = 8 from no 8 (by omega)), if_neg (show ¬ i32 x = 9 from no 9 (by omega)), if_neg (show ¬ i32 x = 10 from no 10 (by omega))]
    exact OpE.rf ⟨h'.1, h'.2.1, h'.2.2.1, h.2.2.2⟩ _
theorem told_op (hN : 2000 ≤ N) (h : RL1 n L σ μ) {x z : Int} (hx : -2147483648 ≤ x ∧ x < 2147483648) (hz : -2147483648 ≤ z ∧ z < 2147483648) (hq : ¬ (z = 6 ∨ z = 7)) : OpE n L σ μ (F_X0_told N σ (i32 x) (i32 z)) (F_told N μ (i32 x) (i32 z)) := by
  obtain ⟨x1, x2⟩ := lineC_e (N := N) h hx
  have hn10 := h.1.1
  unfold F_X0_told F_told
  rw [x1, x2, Option.bind_some, Option.bind_some, bi_0, bi_0]
  by_cases cx : 0 ≤ x ∧ x ≤ (n : Int) - 1
  · rw [decide_eq_true cx, if_pos rfl, if_pos rfl, inx_e (A := 0) (B := 7) 0 7 rfl rfl hz (by omega) (by omega), inm_e (A := 0) (B := 7) 0 7 rfl rfl hz (by omega) (by omega), Option.bind_some, Option.bind_some, bi_0, bi_0]
    by_cases cz : 0 ≤ z ∧ z ≤ 7
    · rw [decide_eq_true cz, if_pos rfl, if_pos rfl]
      obtain ⟨a, rfl⟩ : ∃ a : Nat, x = a := ⟨x.toNat, by omega⟩
      have ha : a < n := by omega
      obtain ⟨t, e1⟩ := h.2.1.2 a ha
      have hs := h.1.2 a ha
      obtain ⟨l1, l2, l3, l4⟩ := h.2.2.2.2 a ha
      have A : ∀ {α : Type} (f : Nat → Option α), ck (i32 (a : Int)) 10 f = f a := fun f => ck_n (by omega) (by decide) f
      simp only [A, e1, nn]
      have z6 : z = 0 ∨ z = 1 ∨ z = 2 ∨ z = 3 ∨ z = 4 ∨ z = 5 := by omega
      rcases z6 with rfl | rfl | rfl | rfl | rfl | rfl
      · simp only [show (i32 0 = 0) = True from eq_true (by decide), show ((4 : Int32) ≤ i32 0) = False from eq_false (by decide), if_true, if_false]
        rw [l1]
        exact OpE.rf h _
      · simp only [show (i32 1 = 0) = False from eq_false (by decide), show (i32 1 = 1) = True from eq_true (by decide), show ((4 : Int32) ≤ i32 1) = False from eq_false (by decide), if_true, if_false]
        rw [l2]
        exact OpE.rf h _
      · simp only [show (i32 2 = 0) = False from eq_false (by decide), show (i32 2 = 1) = False from eq_false (by decide), show (i32 2 = 2) = True from eq_true (by decide), show ((4 : Int32) ≤ i32 2) = False from eq_false (by decide), if_true, if_false]
        rw [l3]
        exact OpE.rf h _
      · simp only [show (i32 3 = 0) = False from eq_false (by decide), show (i32 3 = 1) = False from eq_false (by decide), show (i32 3 = 2) = False from eq_false (by decide), show (i32 3 = 3) = True from eq_true (by decide), show ((4 : Int32) ≤ i32 3) = False from eq_false (by decide), if_true, if_false]
        rw [l4]
        exact OpE.rf h _
      · simp only [show (i32 4 = 0) = False from eq_false (by decide), show (i32 4 = 1) = False from eq_false (by decide), show (i32 4 = 2) = False from eq_false (by decide), show (i32 4 = 3) = False from eq_false (by decide), show (i32 4 = 4) = True from eq_true (by decide), show ((4 : Int32) ≤ i32 4) = True from eq_true (by decide), if_true, if_false]
        have kd := kd_sl hs
        unfold F_isUpright
        simp only [A, l1, l3]
        by_cases c : isSl (L a)
        · rw [if_neg (fun w => kd.mp w c), if_neg (fun w => by have := (i32_eq (a := (L a).1) (b := (L a).2.2.1) (by have := hs.1; omega) (by have := hs.2.2.1; omega)).mp w; unfold isSl at c; omega), Option.bind_some, if_pos rfl]
          exact OpE.rf h _
        · rw [if_pos (kd.mpr c), if_pos (by
            have := hs.2.2.2.2
            have : (L a).1 = (L a).2.2.1 := by unfold isSl at c; omega
            rw [this]), Option.bind_some, if_neg (by decide)]
          exact OpE.rf h _
      · simp only [show (i32 5 = 0) = False from eq_false (by decide), show (i32 5 = 1) = False from eq_false (by decide), show (i32 5 = 2) = False from eq_false (by decide), show (i32 5 = 3) = False from eq_false (by decide), show (i32 5 = 4) = False from eq_false (by decide), show (i32 5 = 5) = True from eq_true (by decide), show ((4 : Int32) ≤ i32 5) = True from eq_true (by decide), if_true, if_false]
        obtain ⟨κ', c1, c2, c3, c4, c5⟩ := told_e hN h.1 h.2.1 h.2.2.1
        obtain ⟨ρ, r1, r2, r3⟩ := tellPoints_e (N := N) (by omega) h.1 h.2.2.2
        have hm := h.2.2.2.fr r2 (by decide)
        rw [c1, r1, Option.bind_some, Option.bind_some, pointsOn_e hN h.1 hm r3 ha]
        have t5 := told5_e (N := N) (σ := fsC σ 1 κ') hN h.1 c5.1 ha
        have h' : RL1 n L (fsC σ 1 κ') ρ := ⟨h.1, ⟨by show cI κ' 1 = _; rw [c3]; exact h.2.1.1, fun k hk => by
          obtain ⟨t, e⟩ := h.2.1.2 k hk
          exact ⟨t, by show cL κ' k = _; rw [c2]; exact e⟩⟩, Or.inr ⟨c4, c5⟩, hm⟩
        refine OpE.tr (⟨rfl, rfl, fun _ => rfl⟩ : frC σ (fsC σ 1 κ')) (r2.up (by decide) : mfr scr μ ρ) ?_
        show OpE n L (fsC σ 1 κ') ρ (F_X0_told_L123 N N (fsC σ 1 κ') (lnOf (L a)) 0 0) _
        rw [t5]
        exact OpE.rf h' _
    · rw [decide_eq_false cz, if_neg (by decide), if_neg (by decide)]; exact OpE.rf h _
  · rw [decide_eq_false cx, if_neg (by decide), if_neg (by decide)]; exact OpE.rf h _
theorem point_op (hN : 2000 ≤ N) (h : RL1 n L σ μ) {x z : Int} (hx : -2147483648 ≤ x ∧ x < 2147483648) (hz : -2147483648 ≤ z ∧ z < 2147483648) : OpE n L σ μ (F_X0_point N σ (i32 x) (i32 z)) (F_point N μ (i32 x) (i32 z)) := by
  have hn10 := h.1.1
  have v65 := ptN_65 h.1
  have hg := ptN_G h.1 n (Nat.le_refl _)
  unfold F_X0_point F_point
  rw [inx_e (A := 0) (B := 6) 0 6 rfl rfl hz (by omega) (by omega), inm_e (A := 0) (B := 6) 0 6 rfl rfl hz (by omega) (by omega), Option.bind_some, Option.bind_some, bi_0, bi_0]
  by_cases cz : 0 ≤ z ∧ z ≤ 6
  · obtain ⟨κ', c1, c2, c3, c4, c5⟩ := told_e hN h.1 h.2.1 h.2.2.1
    obtain ⟨ρ, r1, r2, r3⟩ := tellPoints_e (N := N) (by omega) h.1 h.2.2.2
    have hm := h.2.2.2.fr r2 (by decide)
    have hk : CLn κ' n L := ⟨by rw [c3]; exact h.2.1.1, fun k hk => by
      obtain ⟨t, e⟩ := h.2.1.2 k hk
      exact ⟨t, by rw [c2]; exact e⟩⟩
    have h' : RL1 n L (fsC σ 1 κ') ρ := ⟨h.1, hk, Or.inr ⟨c4, c5⟩, hm⟩
    rw [decide_eq_true cz, if_pos rfl, if_pos rfl, c1, r1]
    refine OpE.tr (⟨rfl, rfl, fun _ => rfl⟩ : frC σ (fsC σ 1 κ')) (r2.up (by decide) : mfr scr μ ρ) ?_
    obtain ⟨t1, t2, -⟩ := c5
    have e4 : cI (fC (fsC σ 1 κ') 1) 4 = i32 (((ptN L n).1 : Nat) : Int) := t1.1
    simp only [Option.bind_some, e4]
    rw [show i32 (((ptN L n).1 : Nat) : Int) - 1 = i32 (((ptN L n).1 : Nat) - 1 : Int) from i32_sub _ 1, i32_to64 (a := (((ptN L n).1 : Nat) - 1 : Int)) (by omega), inx_e (A := 0) (B := i64 (((ptN L n).1 : Nat) - 1 : Int)) 0 (((ptN L n).1 : Nat) - 1 : Int) rfl rfl hx (by omega) (by omega), r3.1, show i32 (((ptN L n).1 : Nat) : Int) - 1 = i32 (((ptN L n).1 : Nat) - 1 : Int) from i32_sub _ 1, inm_e (A := 0) (B := i32 (((ptN L n).1 : Nat) - 1 : Int)) 0 (((ptN L n).1 : Nat) - 1 : Int) rfl rfl hx (by omega) (by omega), Option.bind_some, Option.bind_some, bi_0, bi_0]
    by_cases cx : 0 ≤ x ∧ x ≤ (((ptN L n).1 : Nat) : Int) - 1
    · rw [decide_eq_true cx, if_pos rfl, if_pos rfl]
      obtain ⟨a, rfl⟩ : ∃ a : Nat, x = a := ⟨x.toNat, by omega⟩
      have ha : a < (ptN L n).1 := by omega
      have A : ∀ {α : Type} (f : Nat → Option α), ck (i32 (a : Int)) 65 f = f a := fun f => ck_n (by omega) (by decide) f
      have B : ∀ {α : Type} (f : Nat → Option α), ck (i32 (a : Int)) 80 f = f a := fun f => ck_n (by omega) (by decide) f
      have eP : cP (fC (fsC σ 1 κ') 1) a = some (rfP ((ptN L n).2 a)) := t1.2 a ha
      have eQ := r3.2 a ha
      unfold gQ at eQ
      rw [rfP_1] at eQ
      have q10 : gL ρ 10 a = i64 ((ptN L n).2 a).1.num := congrArg (fun w => w.1.1) eQ
      have q11 : gL ρ 11 a = i64 (((ptN L n).2 a).1.den : Int) := congrArg (fun w => w.1.2) eQ
      have q12 : gL ρ 12 a = i64 ((ptN L n).2 a).2.num := congrArg (fun w => w.2.1) eQ
      have q13 : gL ρ 13 a = i64 (((ptN L n).2 a).2.den : Int) := congrArg (fun w => w.2.2) eQ
      obtain ⟨p0, p1, p2, p3⟩ := @part_e N ((ptN L n).2 a)
      have z7 : z = 0 ∨ z = 1 ∨ z = 2 ∨ z = 3 ∨ z = 4 ∨ z = 5 ∨ z = 6 := by omega
      rcases z7 with rfl | rfl | rfl | rfl | rfl | rfl | rfl
      · simp only [A, B, eP, nn, show ((4 : Int32) ≤ i32 0) = False from eq_false (by decide), show (i32 0 = 0) = True from eq_true (by decide), show (i32 0 = 1) = False from eq_false (by decide), show (i32 0 = 2) = False from eq_false (by decide), if_true, if_false]
        rw [show i32 0 = (0 : Int32) from rfl, p0, Option.bind_some, q10]
        unfold F_point_b86
        rw [i64_to32]
        exact OpE.rf h' _
      · simp only [A, B, eP, nn, show ((4 : Int32) ≤ i32 1) = False from eq_false (by decide), show (i32 1 = 0) = False from eq_false (by decide), show (i32 1 = 1) = True from eq_true (by decide), show (i32 1 = 2) = False from eq_false (by decide), if_true, if_false]
        rw [show i32 1 = (1 : Int32) from rfl, p1, Option.bind_some, q11]
        unfold F_point_b86
        rw [i64_to32]
        exact OpE.rf h' _
      · simp only [A, B, eP, nn, show ((4 : Int32) ≤ i32 2) = False from eq_false (by decide), show (i32 2 = 0) = False from eq_false (by decide), show (i32 2 = 1) = False from eq_false (by decide), show (i32 2 = 2) = True from eq_true (by decide), if_true, if_false]
        rw [show i32 2 = (2 : Int32) from rfl, p2, Option.bind_some, q12]
        unfold F_point_b86
        rw [i64_to32]
        exact OpE.rf h' _
      · simp only [A, B, eP, nn, show ((4 : Int32) ≤ i32 3) = False from eq_false (by decide), show (i32 3 = 0) = False from eq_false (by decide), show (i32 3 = 1) = False from eq_false (by decide), show (i32 3 = 2) = False from eq_false (by decide), if_true, if_false]
        rw [show i32 3 = (3 : Int32) from rfl, p3, Option.bind_some, q13]
        unfold F_point_b86
        rw [i64_to32]
        exact OpE.rf h' _
      · simp only [A, B, eP, nn, show ((4 : Int32) ≤ i32 4) = True from eq_true (by decide), show (i32 4 = 4) = True from eq_true (by decide), show (i32 4 = 5) = False from eq_false (by decide), show (i32 4 = 6) = False from eq_false (by decide), if_true, if_false]
        rw [show F_X1_onOf N (fC (fsC σ 1 κ') 1) (rfP ((ptN L n).2 a)) = some (nI (ms (fun l => onB (L l) ((ptN L n).2 a)) n)) from onOf_e (N := N) (by omega) h.1 hk (hg.2 a ha), linesAt_e (by omega) hm h.1 r3 hg ha (by omega), Option.bind_some, Option.bind_some]
        exact OpE.rf h' _
      · simp only [A, B, eP, nn, show ((4 : Int32) ≤ i32 5) = True from eq_true (by decide), show (i32 5 = 4) = False from eq_false (by decide), show (i32 5 = 5) = True from eq_true (by decide), show (i32 5 = 6) = False from eq_false (by decide), if_true, if_false]
        rw [point5_e (σ := fsC σ 1 κ') h.1 hk (hg.2 a ha), endsAt_e hN h.1 hm r3 ha, Option.bind_some]
        exact OpE.rf h' _
      · simp only [A, B, eP, nn, show ((4 : Int32) ≤ i32 6) = True from eq_true (by decide), show (i32 6 = 4) = False from eq_false (by decide), show (i32 6 = 5) = False from eq_false (by decide), show (i32 6 = 6) = True from eq_true (by decide), if_true, if_false]
        obtain ⟨τ, y1, y2, y3⟩ := tellPieces_e (N := N) (by omega) h.1 hg v65 hm r3
        rw [y1, Option.bind_some]
        show OpE n L (fsC σ 1 κ') ρ (some (cA κ' 7 a, fsC σ 1 κ')) (some (gA τ 14 a, τ))
        rw [t2.1 a ha, y3 a ha]
        exact OpE.tr (frC.rf _) (y2.up (by decide) : mfr scr ρ τ) (OpE.rf ⟨h'.1, h'.2.1, h'.2.2.1, hm.fr y2 (by decide)⟩ _)
    · rw [decide_eq_false cx, if_neg (by decide), if_neg (by decide)]; exact OpE.rf h' _
  · rw [decide_eq_false cz, if_neg (by decide), if_neg (by decide)]; exact OpE.rf h _
theorem lineOf_e {κ : CSt} (hL : LOk n L) (hc : CSd κ n L (nX n L + 1)) {S g : Nat} (hS : S ≤ nX n L) (hg : g ≤ nGr n L S) {k : Int} (hk : k = 0 ∨ k = 1) : F_X1_lineOf N κ (i32 ((fcN n L S + g : Nat) : Int)) (i32 k) = some (nI (if k = 0 then loS n L S g else hiS n L S g)) := by
  have m65 := nX_65 hL
  have gr := nGr_le n L S
  have hn10 := hL.1
  have lt := fcN_lt (n := n) (L := L) hS hg
  have le := fcN_le hn10 L (nX n L + 1)
  unfold F_X1_lineOf
  rw [ck_n (by omega) (by decide), hc.2.2.2.2 S (by omega) g hg]
  simp only
  rw [ck_n (by omega) (by decide), hc.2.2.1 S (by omega), show (1 : Int32) = i32 1 from rfl, i32_sub, i32_sub, i32_add, show (0 : Int32) = i32 0 from rfl, ite_ii (i32_lt (a := ((fcN n L S + g : Nat) : Int) - ((fcN n L S : Nat) : Int) - 1 + k) (b := 0) (by omega) (by omega))]
  unfold loS hiS
  rcases hk with rfl | rfl
  · by_cases c : g = 0
    · rw [if_pos (by omega), if_pos rfl, if_pos c]; rfl
    · rw [if_neg (by omega), ck_n (by omega) (by decide), hc.1 S (by omega), ite_ii (i32_lt (a := ((fcN n L S + g : Nat) : Int) - ((fcN n L S : Nat) : Int) - 1 + 0) (by omega) (by omega)), if_pos (by omega), if_pos rfl, if_neg c, show (10 : Int32) = i32 10 from rfl, i32_mul, i32_add, show (10 : Int) * (S : Int) + (((fcN n L S + g : Nat) : Int) - ((fcN n L S : Nat) : Int) - 1 + 0) = ((10 * S + (g - 1) : Nat) : Int) by omega, ck_n (by omega) (by decide), hc.2.1 S (by omega) (g - 1) (by omega)]
  · rw [if_neg (by omega), ck_n (by omega) (by decide), hc.1 S (by omega), ite_ii (i32_lt (a := ((fcN n L S + g : Nat) : Int) - ((fcN n L S : Nat) : Int) - 1 + 1) (by omega) (by omega)), if_neg (show ¬ (1 : Int) = 0 by decide)]
    by_cases c : g < nGr n L S
    · rw [if_pos (by omega), if_pos c, show (10 : Int32) = i32 10 from rfl, i32_mul, i32_add, show (10 : Int) * (S : Int) + (((fcN n L S + g : Nat) : Int) - ((fcN n L S : Nat) : Int) - 1 + 1) = ((10 * S + g : Nat) : Int) by omega, ck_n (by omega) (by decide), hc.2.1 S (by omega) g c]
    · rw [if_neg (by omega), if_neg c]; rfl
theorem lo_1024 (hL : LOk n L) {S g : Nat} (hg : g ≤ nGr n L S) : loS n L S g < 1024 ∧ hiS n L S g < 1024 := by
  unfold loS hiS
  constructor
  · split
    · decide
    · exact (lea_e hL (show g - 1 < nGr n L S by omega) 0).1
  · split
    · rename_i c; exact (lea_e hL c 0).1
    · decide
theorem cell_op (hN : 2000 ≤ N) (h : RL1 n L σ μ) {x z : Int} (hx : -2147483648 ≤ x ∧ x < 2147483648) (hz : -2147483648 ≤ z ∧ z < 2147483648) : OpE n L σ μ (F_X0_cell N σ (i32 x) (i32 z)) (F_cell N μ (i32 x) (i32 z)) := by
  obtain ⟨κ', μ', c1, m1, fc, fm, h', td, md⟩ := both_told hN h
  have m65 := nX_65 h.1
  have hn10 := h.1.1
  have le := fcN_le hn10 L (nX n L + 1)
  unfold F_X0_cell F_cell
  rw [inx_e (A := 0) (B := 3) 0 3 rfl rfl hz (by omega) (by omega), inm_e (A := 0) (B := 3) 0 3 rfl rfl hz (by omega) (by omega), Option.bind_some, Option.bind_some, bi_0, bi_0]
  by_cases cz : 0 ≤ z ∧ z ≤ 3
  · rw [decide_eq_true cz, if_pos rfl, if_pos rfl, c1, m1]
    refine OpE.tr fc fm ?_
    obtain ⟨-, -, -, -, t13, -, t7⟩ := td
    obtain ⟨-, -, s23, -, s5⟩ := md
    have e10 : cI (fC (fsC σ 1 κ') 1) 10 = i32 ((fcN n L (nX n L + 1) : Nat) : Int) := t13.2.2.2.1
    simp only [Option.bind_some, e10]
    rw [show i32 ((fcN n L (nX n L + 1) : Nat) : Int) - 1 = i32 (((fcN n L (nX n L + 1) : Nat) : Int) - 1) from i32_sub _ 1, i32_to64 (a := ((fcN n L (nX n L + 1) : Nat) : Int) - 1) (by omega), inx_e (A := 0) (B := i64 (((fcN n L (nX n L + 1) : Nat) : Int) - 1)) 0 (((fcN n L (nX n L + 1) : Nat) : Int) - 1) rfl rfl hx (by omega) (by omega), s23.2.1, show i32 ((fcN n L (nX n L + 1) : Nat) : Int) - 1 = i32 (((fcN n L (nX n L + 1) : Nat) : Int) - 1) from i32_sub _ 1, inm_e (A := 0) (B := i32 (((fcN n L (nX n L + 1) : Nat) : Int) - 1)) 0 (((fcN n L (nX n L + 1) : Nat) : Int) - 1) rfl rfl hx (by omega) (by omega), Option.bind_some, Option.bind_some, bi_0, bi_0]
    by_cases cx : 0 ≤ x ∧ x ≤ ((fcN n L (nX n L + 1) : Nat) : Int) - 1
    · rw [decide_eq_true cx, if_pos rfl, if_pos rfl]
      obtain ⟨c, rfl⟩ : ∃ c : Nat, x = c := ⟨x.toNat, by omega⟩
      obtain ⟨S, g, hS, hg, rfl⟩ := fcN_ex (n := n) (L := L) (show c < fcN n L (nX n L + 1) by omega)
      have A : ∀ {α : Type} (f : Nat → Option α), ck (i32 ((fcN n L S + g : Nat) : Int)) 740 f = f (fcN n L S + g) := fun f => ck_n (by omega) (by decide) f
      have B : ∀ {α : Type} (f : Nat → Option α), ck (i32 ((fcN n L S + g : Nat) : Int)) 900 f = f (fcN n L S + g) := fun f => ck_n (by omega) (by decide) f
      obtain ⟨g28, g29, g30⟩ := s23.2.2 S (by omega) g hg
      have low : ∀ w : Nat, w < 1024 → OpE n L (fsC σ 1 κ') μ' (if nI w = 0 then some (-1, fsC σ 1 κ') else (F_J15_numberOfTrailingZeros N (nI w)).bind (fun w97 => some (w97, fsC σ 1 κ'))) (F_cell_b80 N μ' (nI w)) := by
        intro w hw
        unfold F_cell_b80 F_leastOf
        rw [nI_z0 (by omega), nI_z0 (by omega)]
        by_cases c0 : w = 0
        · rw [if_pos c0, if_pos c0, Option.bind_some]; exact OpE.rf h' _
        · obtain ⟨t, -, e, -⟩ := ntz_e N hw c0
          rw [if_neg c0, if_neg c0, e]
          simp only [Option.bind_some]
          exact OpE.rf h' _
      have z4 : z = 0 ∨ z = 1 ∨ z = 2 ∨ z = 3 := by omega
      rcases z4 with rfl | rfl | rfl | rfl
      · simp only [A, B, show ((2 : Int32) ≤ i32 0) = False from eq_false (by decide), show (i32 0 = 0) = True from eq_true (by decide), if_true, if_false]
        show OpE n L (fsC σ 1 κ') μ' (some (cA κ' 15 (fcN n L S + g), fsC σ 1 κ')) _
        rw [t13.2.2.2.2 S (by omega) g hg, g28]
        exact OpE.rf h' _
      · simp only [A, B, show ((2 : Int32) ≤ i32 1) = False from eq_false (by decide), show (i32 1 = 0) = False from eq_false (by decide), show (i32 1 = 1) = True from eq_true (by decide), if_true, if_false]
        show OpE n L (fsC σ 1 κ') μ' (some (cA κ' 16 (fcN n L S + g), fsC σ 1 κ')) _
        rw [t7.2.1 (fcN n L S + g) (by omega), s5.2.1 (fcN n L S + g) (by omega)]
        exact OpE.rf h' _
      · simp only [B, show ((2 : Int32) ≤ i32 2) = True from eq_true (by decide), show (i32 2 = 0) = False from eq_false (by decide), show (i32 2 = 1) = False from eq_false (by decide), show (i32 2 = 2) = True from eq_true (by decide), if_true, if_false]
        rw [show i32 2 - 2 = i32 0 by decide, show F_X1_lineOf N (fC (fsC σ 1 κ') 1) (i32 ((fcN n L S + g : Nat) : Int)) (i32 0) = some (nI (loS n L S g)) from lineOf_e (κ := κ') h.1 t13 hS hg (Or.inl rfl), Option.bind_some, g29]
        exact low _ (lo_1024 h.1 hg).1
      · simp only [B, show ((2 : Int32) ≤ i32 3) = True from eq_true (by decide), show (i32 3 = 0) = False from eq_false (by decide), show (i32 3 = 1) = False from eq_false (by decide), show (i32 3 = 2) = False from eq_false (by decide), if_true, if_false]
        rw [show i32 3 - 2 = i32 1 by decide, show F_X1_lineOf N (fC (fsC σ 1 κ') 1) (i32 ((fcN n L S + g : Nat) : Int)) (i32 1) = some (nI (hiS n L S g)) from lineOf_e (κ := κ') h.1 t13 hS hg (Or.inr rfl), Option.bind_some, g30]
        exact low _ (lo_1024 h.1 hg).2
    · rw [decide_eq_false cx, if_neg (by decide), if_neg (by decide)]; exact OpE.rf h' _
  · rw [decide_eq_false cz, if_neg (by decide), if_neg (by decide)]; exact OpE.rf h _
end O3
