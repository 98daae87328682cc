/-! THE CALLS, ONE BY ONE: both answer alike and go on alike -/
set_option maxRecDepth 100000
/-- the model's fields that hold nothing from call to call -/
abbrev scr : List Nat := [5, 6, 7, 8, 9, 10, 11, 12, 13, 14, 15, 16, 17, 18, 19, 20, 21, 22, 23, 24, 25, 26, 27, 28, 29, 30, 31, 32, 33, 34, 35, 36, 37, 38, 39, 42]
def frC (σ σ' : FSt) : Prop := fC σ' 3 = fC σ 3 ∧ fI σ' 3 = fI σ 3 ∧ ∀ k, fT σ' k = fT σ k
theorem frC.rf (σ : FSt) : frC σ σ := ⟨rfl, rfl, fun _ => rfl⟩
theorem frC.tr {σ σ' σ'' : FSt} (h : frC σ σ') (h' : frC σ' σ'') : frC σ σ'' := ⟨h'.1.trans h.1, h'.2.1.trans h.2.1, fun k => (h'.2.2 k).trans (h.2.2 k)⟩
def RL1 (n : Nat) (L : Nat → Sg) (σ : FSt) (μ : MSt) : Prop := LOk n L ∧ CLn (fC σ 1) n L ∧ (cI (fC σ 1) 2 = 1 ∨ (cI (fC σ 1) 2 = 0 ∧ CTd (fC σ 1) n L)) ∧ MLn μ n L
def OpE (n : Nat) (L : Nat → Sg) (σ : FSt) (μ : MSt) (r : Option (Int32 × FSt)) (s : Option (Int32 × MSt)) : Prop := ∃ v σ' μ', r = some (v, σ') ∧ s = some (v, μ') ∧ frC σ σ' ∧ mfr scr μ μ' ∧ RL1 n L σ' μ'
theorem OpE.rf {n : Nat} {L : Nat → Sg} {σ : FSt} {μ : MSt} (h : RL1 n L σ μ) (v : Int32) : OpE n L σ μ (some (v, σ)) (some (v, μ)) := ⟨v, σ, μ, rfl, rfl, frC.rf _, mfr.rf _ _, h⟩
theorem OpE.tr {n : Nat} {L : Nat → Sg} {σ σ' : FSt} {μ μ' : MSt} (h1 : frC σ σ') (h2 : mfr scr μ μ') {r : Option (Int32 × FSt)} {s : Option (Int32 × MSt)} (h : OpE n L σ' μ' r s) : OpE n L σ μ r s := by
  obtain ⟨v, a, b, e1, e2, f1, f2, h3⟩ := h
  exact ⟨v, a, b, e1, e2, h1.tr f1, h2.tr f2, h3⟩
theorem inc_e {N : Nat} {x a b : Int} (h1 : -2147483648 ≤ x ∧ x < 2147483648) (h2 : -2147483648 ≤ a ∧ a < 2147483648) (h3 : -2147483648 ≤ b ∧ b < 2147483648) : F_X0_in N (i32 x).toInt64 (i64 a) (i64 b) = some (bi (decide (a ≤ x ∧ x ≤ b))) := by
  rw [i32_to64 h1]
  unfold F_X0_in
  rw [ite_ii (i64_lt (a := x) (b := a) (by omega) (by omega)), ite_ii (i64_lt (a := b) (b := x) (by omega) (by omega))]
  unfold bi
  by_cases c : x < a
  · rw [if_pos c, decide_eq_false (by omega)]; rfl
  · rw [if_neg c]
    by_cases d : b < x
    · rw [if_pos d, decide_eq_false (by omega)]; rfl
    · rw [if_neg d, decide_eq_true (by omega)]; rfl
theorem inm_e {N : Nat} {x : Int} (a b : Int) {A B : Int32} (hA : A = i32 a) (hB : B = i32 b) (h1 : -2147483648 ≤ x ∧ x < 2147483648) (h2 : -2147483648 ≤ a ∧ a < 2147483648) (h3 : -2147483648 ≤ b ∧ b < 2147483648) : F_in N (i32 x) A B = some (bi (decide (a ≤ x ∧ x ≤ b))) := by
  rw [hA, hB]; exact in_e h1 h2 h3
theorem inx_e {N : Nat} {x : Int} (a b : Int) {A B : Int64} (hA : A = i64 a) (hB : B = i64 b) (h1 : -2147483648 ≤ x ∧ x < 2147483648) (h2 : -2147483648 ≤ a ∧ a < 2147483648) (h3 : -2147483648 ≤ b ∧ b < 2147483648) : F_X0_in N (i32 x).toInt64 A B = some (bi (decide (a ≤ x ∧ x ≤ b))) := by
  rw [hA, hB]; exact inc_e h1 h2 h3
theorem rb_bi {α : Type} (b : Bool) (k : Option α) : rb (bi b) k = k := by cases b <;> rfl
theorem lineC_e {N n : Nat} {L : Nat → Sg} {σ : FSt} {μ : MSt} (h : RL1 n L σ μ) {x : Int} (hx : -2147483648 ≤ x ∧ x < 2147483648) : F_X0_isLine N σ (i32 x) = some (bi (decide (0 ≤ x ∧ x ≤ (n : Int) - 1))) ∧ F_isLine N μ (i32 x) = some (bi (decide (0 ≤ x ∧ x ≤ (n : Int) - 1))) := by
  obtain ⟨h1, h2, -, h4⟩ := h
  have hn := h1.1
  constructor
  · unfold F_X0_isLine
    rw [h2.1, show (1 : Int32) = i32 1 from rfl, i32_sub, i32_to64 (a := (n : Int) - 1) (by omega), show (0 : Int64) = i64 0 from rfl, inc_e hx (by omega) (by omega), Option.bind_some, rb_bi]
  · unfold F_isLine
    rw [h4.1, show (1 : Int32) = i32 1 from rfl, i32_sub, show (0 : Int32) = i32 0 from rfl, in_e hx (by omega) (by omega), Option.bind_some, rb_bi]
theorem how_rng (a b : Sg) : howM a b = 0 ∨ howM a b = 1 ∨ howM a b = 2 ∨ howM a b = 3 := by
  have hw : ∀ d t u : Int, hwD d t u = 0 ∨ hwD d t u = 1 ∨ hwD d t u = 2 ∨ hwD d t u = 3 := by
    intro d t u
    unfold hwD
    repeat' split
    all_goals omega
  have rw' : rwH a b = 0 ∨ rwH a b = 1 ∨ rwH a b = 2 ∨ rwH a b = 3 := by
    unfold rwH
    repeat' split
    all_goals omega
  unfold howM
  split
  · split
    · split
      · exact rw'
      · omega
    · omega
  · split <;> exact hw _ _ _
theorem part_e {N : Nat} {p : Pt} : F_X0_partOf N (rfP p) 0 = some (i32 p.1.num) ∧ F_X0_partOf N (rfP p) 1 = some (i32 (p.1.den : Int)) ∧ F_X0_partOf N (rfP p) 2 = some (i32 p.2.num) ∧ F_X0_partOf N (rfP p) 3 = some (i32 (p.2.den : Int)) := by
  unfold F_X0_partOf F_X0_partOf_b51
  rw [rfP_1]
  refine ⟨?_, ?_, ?_, ?_⟩
  · rw [if_pos rfl, i64_to32]
  · rw [if_neg (by decide), if_pos rfl, i64_to32]
  · rw [if_neg (by decide), if_neg (by decide), if_pos rfl, i64_to32]
  · rw [if_neg (by decide), if_neg (by decide), if_neg (by decide), i64_to32]
section OPS
variable {N n : Nat} {L : Nat → Sg} {σ : FSt} {μ : MSt}
theorem cross_op (hN : 2000 ≤ N) (h : RL1 n L σ μ) {x y z : Int} (hx : -2147483648 ≤ x ∧ x < 2147483648) (hy : -2147483648 ≤ y ∧ y < 2147483648) (hz : -2147483648 ≤ z ∧ z < 2147483648) : OpE n L σ μ (F_X0_cross N σ (i32 x) (i32 y) (i32 z)) (F_cross N μ (i32 x) (i32 y) (i32 z)) := by
  obtain ⟨x1, x2⟩ := lineC_e (N := N) h hx
  obtain ⟨y1, y2⟩ := lineC_e (N := N) h hy
  have hn10 := h.1.1
  unfold F_X0_cross F_cross
  rw [x1, x2, Option.bind_some, Option.bind_some, bi_0, bi_0]
  by_cases cx : 0 ≤ x ∧ x ≤ (n : Int) - 1
  · rw [decide_eq_true cx, if_pos rfl, if_pos rfl, y1, y2, Option.bind_some, Option.bind_some, bi_0, bi_0]
    by_cases cy : 0 ≤ y ∧ y ≤ (n : Int) - 1
    · rw [decide_eq_true cy, if_pos rfl, if_pos rfl]
      by_cases cxy : i32 x = i32 y
      · rw [if_pos cxy, if_pos cxy]; exact OpE.rf h _
      · rw [if_neg cxy, if_neg cxy, inx_e (A := 0) (B := 4) 0 4 rfl rfl hz (by omega) (by omega), inm_e (A := 0) (B := 4) 0 4 rfl rfl hz (by omega) (by omega), Option.bind_some, Option.bind_some, bi_0, bi_0]
        by_cases cz : 0 ≤ z ∧ z ≤ 4
        · rw [decide_eq_true cz, if_pos rfl, if_pos rfl]
          obtain ⟨a, rfl⟩ : ∃ a : Nat, x = a := ⟨x.toNat, by omega⟩
          obtain ⟨b, rfl⟩ : ∃ b : Nat, y = b := ⟨y.toNat, by omega⟩
          have ha : a < n := by omega
          have hb : b < n := by omega
          have A : ∀ {α : Type} (f : Nat → Option α), ck (i32 (a : Int)) 10 f = f a := fun f => ck_n (by omega) (by decide) f
          have B : ∀ {α : Type} (f : Nat → Option α), ck (i32 (b : Int)) 10 f = f b := fun f => ck_n (by omega) (by decide) f
          obtain ⟨t, e1⟩ := h.2.1.2 a ha
          obtain ⟨t', e2⟩ := h.2.1.2 b hb
          have sa := h.1.2 a ha
          have sb := h.1.2 b hb
          obtain ⟨μ', m1, m2, m3, m4⟩ := meet_e (N := N) h.2.2.2 h.1 ha hb
          have m2' : mfr scr μ μ' := m2.up (by decide)
          have h' : RL1 n L σ μ' := ⟨h.1, h.2.1, h.2.2.1, h.2.2.2.fr m2 (by decide)⟩
          refine OpE.tr (frC.rf σ) m2' ?_
          simp only [A, B, e1, e2, nn, meets_e sa sb, m1, Option.bind_some, m3]
          by_cases c0 : i32 z = 0
          · rw [if_pos c0, if_pos c0]; exact OpE.rf h' _
          · rw [if_neg c0, if_neg c0]
            have both : ∀ k : Int, k = 1 ∨ k = 2 → howM (L a) (L b) = k → OpE n L σ μ' (F_X0_cross_b81 N σ (i32 (a : Int)) (i32 (b : Int)) (i32 z)) (if 3 ≤ i32 z then F_cross_b82 N μ' (i32 z) (gJ μ' 7) else F_cross_b82 N μ' (i32 z) (gJ μ' 6)) := by
              intro k hk hh
              have hm : howM (L a) (L b) = 1 ∨ howM (L a) (L b) = 2 := by omega
              obtain ⟨X, Y, D, g1, g2, g3, g4, g5, g6, g7, g8, g9⟩ := m4 hm
              obtain ⟨p0, p1, p2, p3⟩ := @part_e N (atM (L a) (L b))
              have lx := lowest_e (N := N) (a := X) (b := D) (bn_le g6 (by decide)) g4 (by omega)
              have ly := lowest_e (N := N) (a := Y) (b := D) (bn_le g7 (by decide)) g4 (by omega)
              rw [g8] at lx
              rw [g9] at ly
              unfold F_X0_cross_b81 F_cross_b82 F_cross_b97
              simp only [A, B, e1, e2, nn, met_e (N := N) (by omega) sa sb hm, Option.bind_some, g1, g2, g3]
              have z4 : z = 1 ∨ z = 2 ∨ z = 3 ∨ z = 4 := by
                have : z ≠ 0 := fun w => c0 (by rw [w]; rfl)
                omega
              rcases z4 with rfl | rfl | rfl | rfl
              · rw [show i32 1 - 1 = 0 by decide, p0, if_neg (by decide)]
                unfold dzi
                rw [if_neg (by decide), if_neg (by decide), lx.1]
                simp only [Option.bind_some, i64_to32]
                exact OpE.rf h' _
              · rw [show i32 2 - 1 = 1 by decide, p1, if_neg (by decide)]
                unfold dzi
                rw [if_neg (by decide), if_pos (by decide), lx.2]
                simp only [Option.bind_some, i64_to32]
                exact OpE.rf h' _
              · rw [show i32 3 - 1 = 2 by decide, p2, if_pos (by decide)]
                unfold dzi
                rw [if_neg (by decide), if_neg (by decide), ly.1]
                simp only [Option.bind_some, i64_to32]
                exact OpE.rf h' _
              · rw [show i32 4 - 1 = 3 by decide, p3, if_pos (by decide)]
                unfold dzi
                rw [if_neg (by decide), if_pos (by decide), ly.2]
                simp only [Option.bind_some, i64_to32]
                exact OpE.rf h' _
            rcases how_rng (L a) (L b) with w | w | w | w
            · rw [w, if_neg (by decide), if_neg (by decide), if_pos (by decide)]; exact OpE.rf h' _
            · have := both 1 (Or.inl rfl) w
              rw [w, if_pos (by decide), if_neg (by decide), if_neg (by decide)]; exact this
            · have := both 2 (Or.inr rfl) w
              rw [w, if_neg (by decide), if_pos (by decide), if_neg (by decide), if_neg (by decide)]; exact this
            · rw [w, if_neg (by decide), if_neg (by decide), if_neg (by decide), if_pos (by decide)]; exact OpE.rf h' _
        · rw [decide_eq_false cz, if_neg (by decide), if_neg (by decide)]; exact OpE.rf h _
    · rw [decide_eq_false cy, if_neg (by decide), if_neg (by decide)]; exact OpE.rf h _
  · rw [decide_eq_false cx, if_neg (by decide), if_neg (by decide)]; exact OpE.rf h _
/-- both have told their sheet -/
theorem both_told (hN : 2000 ≤ N) (h : RL1 n L σ μ) : ∃ κ' μ', F_X1_told N (fC σ 1) = some κ' ∧ F_tellSheet N μ = some μ' ∧ frC σ (fsC σ 1 κ') ∧ mfr scr μ μ' ∧ RL1 n L (fsC σ 1 κ') μ' ∧ CTd κ' n L ∧ MTd μ' n L := by
  obtain ⟨h1, h2, h3, h4⟩ := h
  obtain ⟨κ', c1, c2, c3, c4, c5⟩ := told_e hN h1 h2 h3
  obtain ⟨μ', m1, m2, m3⟩ := tellSheet_e hN h1 h4
  refine ⟨κ', μ', c1, m1, ⟨rfl, rfl, fun _ => rfl⟩, m2.up (by decide), ⟨h1, ⟨?_, fun k hk => ?_⟩, Or.inr ⟨c4, c5⟩, h4.fr m2 (by decide)⟩, c5, m3⟩
  · show cI κ' 1 = _; rw [c3]; exact h2.1
  · obtain ⟨t, e⟩ := h2.2 k hk
    exact ⟨t, by show cL κ' k = _; rw [c2]; exact e⟩
theorem slab_op (hN : 2000 ≤ N) (h : RL1 n L σ μ) {x z : Int} (hx : -2147483648 ≤ x ∧ x < 2147483648) (hz : -2147483648 ≤ z ∧ z < 2147483648) : OpE n L σ μ (F_X0_slab N σ (i32 x) (i32 z)) (F_slab N μ (i32 x) (i32 z)) := by
  obtain ⟨κ', μ', c1, m1, fc, fm, h', td, md⟩ := both_told hN h
  have m65 := nX_65 h.1
  unfold F_X0_slab F_slab
  rw [inx_e (A := 0) (B := 3) 0 3 rfl rfl hz (by omega) (by omega), inm_e (A := 0) (B := 3) 0 3 rfl rfl hz (by omega) (by omega), Option.bind_some, Option.bind_some, bi_0, bi_0]
  by_cases cz : 0 ≤ z ∧ z ≤ 3
  · rw [decide_eq_true cz, if_pos rfl, if_pos rfl, c1, m1]
    refine OpE.tr fc fm ?_
    obtain ⟨-, -, -, t9, t13, t14, -⟩ := td
    obtain ⟨-, s22, -, s27, -⟩ := md
    have sl : F_X1_slabs N (fC (fsC σ 1 κ') 1) = some (i32 ((nX n L : Int) + 1)) := by
      show some (cI κ' 9 + 1) = _
      rw [t9.1, show (1 : Int32) = i32 1 from rfl, i32_add]
    simp only [Option.bind_some, sl]
    rw [show i32 ((nX n L : Int) + 1) - 1 = i32 (nX n L : Int) by rw [show (1 : Int32) = i32 1 from rfl, i32_sub]; congr 1; omega, i32_to64 (a := (nX n L : Int)) (by omega), inx_e (A := 0) (B := i64 (nX n L : Int)) 0 (nX n L : Int) rfl rfl hx (by omega) (by omega), s22.1, show i32 ((nX n L + 1 : Nat) : Int) - 1 = i32 (nX n L : Int) by rw [show (1 : Int32) = i32 1 from rfl, i32_sub]; congr 1; omega, inm_e (A := 0) (B := i32 (nX n L : Int)) 0 (nX n L : Int) rfl rfl hx (by omega) (by omega), Option.bind_some, Option.bind_some, bi_0, bi_0]
    by_cases cx : 0 ≤ x ∧ x ≤ (nX n L : Int)
    · rw [decide_eq_true cx, if_pos rfl, if_pos rfl]
      obtain ⟨k, rfl⟩ : ∃ k : Nat, x = k := ⟨x.toNat, by omega⟩
      have xz : i32 (k : Int) = 0 ↔ k = 0 := by
        rw [show (0 : Int32) = i32 0 from rfl, i32_eq (by omega) (by omega)]; omega
      have z4 : z = 0 ∨ z = 1 ∨ z = 2 ∨ z = 3 := by omega
      unfold F_X0_slab_b121 F_slab_b66
      by_cases c0 : k = 0
      · rcases z4 with rfl | rfl | rfl | rfl
        · rw [if_pos (show i32 0 ≤ 1 by decide), if_neg (show ¬ (2 : Int32) ≤ i32 0 by decide), if_pos (xz.mpr c0), if_pos (xz.mpr c0)]; exact OpE.rf h' _
        · rw [if_pos (show i32 1 ≤ 1 by decide), if_neg (show ¬ (2 : Int32) ≤ i32 1 by decide), if_pos (xz.mpr c0), if_pos (xz.mpr c0)]; exact OpE.rf h' _
        · subst c0
          rw [if_neg (by decide), if_pos (by decide), if_pos (by decide), if_pos (by decide), ck_n (by omega) (by decide), show i32 ((0 : Nat) : Int) + 1 = i32 ((1 : Nat) : Int) by decide, ck_n (by omega) (by decide), ck_n (by omega) (by decide), s27 0 (by omega), s27 1 (by omega), i32_sub]
          show OpE n L (fsC σ 1 κ') μ' (some (cA κ' 13 0 + 1, fsC σ 1 κ')) _
          rw [t13.1 0 (by omega), show (1 : Int32) = i32 1 from rfl, i32_add]
          have : ((nGr n L 0 : Nat) : Int) + 1 = ((fcN n L 1 : Nat) : Int) - ((fcN n L 0 : Nat) : Int) := by
            have b : fcN n L 1 = fcN n L 0 + (nGr n L 0 + 1) := rfl
            omega
          rw [this]
          exact OpE.rf h' _
        · subst c0
          rw [if_neg (by decide), if_neg (by decide), if_pos (by decide), if_neg (by decide), ck_n (by omega) (by decide), ck_n (by omega) (by decide), s27 0 (by omega)]
          show OpE n L (fsC σ 1 κ') μ' (some (cA κ' 14 0, fsC σ 1 κ')) _
          rw [t13.2.2.1 0 (by omega)]
          exact OpE.rf h' _
      · have kl : i32 (k : Int) - 1 = i32 ((k - 1 : Nat) : Int) := by rw [show (1 : Int32) = i32 1 from rfl, i32_sub]; congr 1; omega
        have x8 := t9.2 (k - 1) (by omega)
        have x25 := s22.2 (k - 1) (by omega)
        rw [show k - 1 + 1 = k by omega] at x25
        rcases z4 with rfl | rfl | rfl | rfl
        · rw [if_pos (show i32 0 ≤ 1 by decide), if_neg (show ¬ (2 : Int32) ≤ i32 0 by decide), if_neg (fun w => c0 (xz.mp w)), if_neg (fun w => c0 (xz.mp w)), if_pos (by decide), if_pos (by decide), kl, ck_n (by omega) (by decide), ck_n (by omega) (by decide), x25.1]
          show OpE n L (fsC σ 1 κ') μ' (nn (cF κ' 8 (k - 1)) _) _
          rw [x8]
          exact OpE.rf h' _
        · rw [if_pos (show i32 1 ≤ 1 by decide), if_neg (show ¬ (2 : Int32) ≤ i32 1 by decide), if_neg (fun w => c0 (xz.mp w)), if_neg (fun w => c0 (xz.mp w)), if_neg (by decide), if_neg (by decide), kl, ck_n (by omega) (by decide), ck_n (by omega) (by decide), x25.2]
          show OpE n L (fsC σ 1 κ') μ' (nn (cF κ' 8 (k - 1)) _) _
          rw [x8]
          exact OpE.rf h' _
        · rw [if_neg (by decide), if_pos (by decide), if_pos (by decide), if_pos (by decide), ck_n (by omega) (by decide), show i32 (k : Int) + 1 = i32 ((k + 1 : Nat) : Int) by rw [show (1 : Int32) = i32 1 from rfl, i32_add]; congr 1, ck_n (by omega) (by decide), ck_n (by omega) (by decide), s27 k (by omega), s27 (k + 1) (by omega), i32_sub]
          show OpE n L (fsC σ 1 κ') μ' (some (cA κ' 13 k + 1, fsC σ 1 κ')) _
          rw [t13.1 k (by omega), show (1 : Int32) = i32 1 from rfl, i32_add]
          have : ((nGr n L k : Nat) : Int) + 1 = ((fcN n L (k + 1) : Nat) : Int) - ((fcN n L k : Nat) : Int) := by
            have b : fcN n L (k + 1) = fcN n L k + (nGr n L k + 1) := rfl
            omega
          rw [this]
          exact OpE.rf h' _
        · rw [if_neg (by decide), if_neg (by decide), if_pos (by decide), if_neg (by decide), ck_n (by omega) (by decide), ck_n (by omega) (by decide), s27 k (by omega)]
          show OpE n L (fsC σ 1 κ') μ' (some (cA κ' 14 k, fsC σ 1 κ')) _
          rw [t13.2.2.1 k (by omega)]
          exact OpE.rf h' _
    · rw [decide_eq_false cx, if_neg (by decide), if_neg (by decide)]; exact OpE.rf h' _
  · rw [decide_eq_false cz, if_neg (by decide), if_neg (by decide)]; exact OpE.rf h _
end OPS
