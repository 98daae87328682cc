/-! CALLS THAT CHANGE LINES: line, move, drop -/
set_option maxRecDepth 100000
abbrev scr5 : List Nat := 0 :: 1 :: 2 :: 3 :: 4 :: scr
def OpX (σ : FSt) (μ : MSt) (r : Option (Int32 × FSt)) (s : Option (Int32 × MSt)) : Prop := ∃ v σ' μ' n L, r = some (v, σ') ∧ s = some (v, μ') ∧ frC σ σ' ∧ mfr scr5 μ μ' ∧ RL1 n L σ' μ'
theorem OpE.X {n : Nat} {L : Nat → Sg} {σ : FSt} {μ : MSt} {r : Option (Int32 × FSt)} {s : Option (Int32 × MSt)} (h : OpE n L σ μ r s) : OpX σ μ r s := by
  obtain ⟨v, σ', μ', e1, e2, f1, f2, h3⟩ := h
  exact ⟨v, σ', μ', n, L, e1, e2, f1, f2.up (by decide), h3⟩
def put4 (μ : MSt) (a : Nat) (s : Sg) : MSt := sA (sA (sA (sA μ 1 a (i32 s.1)) 2 a (i32 s.2.1)) 3 a (i32 s.2.2.1)) 4 a (i32 s.2.2.2)
theorem put4_f (μ : MSt) (a : Nat) (s : Sg) : mfr [1, 2, 3, 4] μ (put4 μ a s) := ((((mfr.rf _ μ).A (by decide) _ _).A (by decide) _ _).A (by decide) _ _).A (by decide) _ _
theorem put4_g (μ : MSt) (a : Nat) (s : Sg) (j : Nat) : (gA (put4 μ a s) 1 j = if j = a then i32 s.1 else gA μ 1 j) ∧ (gA (put4 μ a s) 2 j = if j = a then i32 s.2.1 else gA μ 2 j) ∧ (gA (put4 μ a s) 3 j = if j = a then i32 s.2.2.1 else gA μ 3 j) ∧ (gA (put4 μ a s) 4 j = if j = a then i32 s.2.2.2 else gA μ 4 j) := by
  unfold put4
  simp [gA_sA]
theorem stands_e {N : Nat} {μ : MSt} {a : Nat} (ha : a < 10) {x y X Y : Int} (h1 : 0 ≤ x ∧ x ≤ 40) (h2 : 0 ≤ y ∧ y ≤ 40) (h3 : 0 ≤ X ∧ X ≤ 40) (h4 : 0 ≤ Y ∧ Y ≤ 40) : F_stands N μ (i32 (a : Int)) (i32 x) (i32 y) (i32 X) (i32 Y) = some (put4 μ a (mkSg x y X Y)) := by
  have A : ∀ {α : Type} (f : Nat → Option α), ck (i32 (a : Int)) 10 f = f a := fun f => ck_n ha (by decide) f
  unfold F_stands F_stands_b22 F_stands_b23 F_stands_b41 F_stands_b58 F_stands_b75 F_stands_b92
  simp only [A, if_true, show ((1 : Int32) = 0) = False from eq_false (by decide), if_false]
  rw [ite_ii (i32_lt (a := x) (b := X) (by omega) (by omega)), ite_ii (i32_eq (a := x) (b := X) (by omega) (by omega)), ite_ii (i32_le (a := Y) (b := y) (by omega) (by omega))]
  unfold mkSg
  by_cases c : x < X
  · rw [if_pos c, if_pos (Or.inl c)]; rfl
  · rw [if_neg c]
    by_cases d : x = X
    · rw [if_pos d]
      by_cases e : Y ≤ y
      · rw [if_pos e, if_neg (by omega)]; rfl
      · rw [if_neg e, if_pos (by omega)]; rfl
    · rw [if_neg d, if_neg (by omega)]; rfl
theorem mkSg_ok {s : Sg} (h : sgOk s) : mkSg s.1 s.2.1 s.2.2.1 s.2.2.2 = s := by
  unfold mkSg
  rw [if_pos h.2.2.2.2]
theorem onSh_e {N : Nat} {x : Int} (hx : -2147483648 ≤ x ∧ x < 2147483648) : F_isOnSheet N (i32 x) = some (bi (decide (0 ≤ x ∧ x ≤ 40))) := by
  unfold F_isOnSheet
  rw [inm_e (A := 0) (B := 40) 0 40 rfl rfl hx (by omega) (by omega), Option.bind_some, rb_bi]
theorem areOn_e {N rl : Nat} (hr : rl ≤ 10) {ρ : Nat → Int} (hρ : ∀ j, -2147483648 ≤ ρ j ∧ ρ j < 2147483648) {r : Nat → Int32} (hr' : ∀ j, j < rl → r j = i32 (ρ j)) (hN : 100 ≤ N) : F_X0_areOnSheet N rl r = some (bi (pB (∀ j, j < rl → 0 ≤ ρ j ∧ ρ j ≤ 40))) := by
  have main : ∀ (d k m : Nat), k + d = rl → d < m → F_X0_areOnSheet_L7 N rl r m (nI rl) (i32 (k : Int)) = some (bi (pB (∀ j, k ≤ j → j < rl → 0 ≤ ρ j ∧ ρ j ≤ 40))) := by
    intro d
    induction d with
    | zero =>
      intro k m hk hm
      obtain ⟨m, rfl⟩ : ∃ j, m = j + 1 := ⟨m - 1, by omega⟩
      unfold F_X0_areOnSheet_L7
      rw [← i32_nI, if_pos ((i32_le (by omega) (by omega)).mpr (by omega)), pB_t (fun j j1 j2 => by omega)]; rfl
    | succ d ih =>
      intro k m hk hm
      obtain ⟨m, rfl⟩ : ∃ j, m = j + 1 := ⟨m - 1, by omega⟩
      have i := ih (k + 1) m (by omega) (by omega)
      unfold F_X0_areOnSheet_L7
      rw [← i32_nI, if_neg (fun z => by have := (i32_le (by omega) (by omega)).mp z; omega), ck_n (by omega) (by omega), hr' k (by omega)]
      simp only
      rw [inx_e (A := 0) (B := 40) 0 40 rfl rfl (hρ k) (by omega) (by omega), Option.bind_some, bi_0]
      by_cases c : 0 ≤ ρ k ∧ ρ k ≤ 40
      · rw [decide_eq_true c, if_pos rfl, i32_nI, i32_s, i]
        congr 2
        by_cases e : ∀ j, k + 1 ≤ j → j < rl → 0 ≤ ρ j ∧ ρ j ≤ 40
        · rw [pB_t e, pB_t (fun j j1 j2 => by
            by_cases w : j = k
            · rw [w]; exact c
            · exact e j (by omega) j2)]
        · rw [pB_f e, pB_f (fun w => e (fun j j1 j2 => w j (by omega) j2))]
      · rw [decide_eq_false c, if_neg (show ¬ (false = true) by decide), pB_f (fun w => c (w k (Nat.le_refl _) (by omega)))]; rfl
  unfold F_X0_areOnSheet
  simp only
  have := main rl 0 N (by omega) (by omega)
  rw [show (0 : Int32) = i32 ((0 : Nat) : Int) from rfl, this]
  congr 2
  by_cases e : ∀ j, j < rl → 0 ≤ ρ j ∧ ρ j ≤ 40
  · rw [pB_t e, pB_t (fun j _ j2 => e j j2)]
  · rw [pB_f e, pB_f (fun w => e (fun j j2 => w j (Nat.zero_le _) j2))]
def setL (L : Nat → Sg) (a : Nat) (s : Sg) : Nat → Sg := fun k => if k = a then s else L k
section LO
variable {N n : Nat} {L : Nat → Sg} {σ : FSt} {μ : MSt}
theorem RL1.rfX (h : RL1 n L σ μ) (v : Int32) : OpX σ μ (some (v, σ)) (some (v, μ)) := (OpE.rf h v).X
theorem line_op (hN : 2000 ≤ N) (h : RL1 n L σ μ) {x y X Y : Int} (h1 : -2147483648 ≤ x ∧ x < 2147483648) (h2 : -2147483648 ≤ y ∧ y < 2147483648) (h3 : -2147483648 ≤ X ∧ X < 2147483648) (h4 : -2147483648 ≤ Y ∧ Y < 2147483648) : OpX σ μ (F_X0_line N σ (i32 x) (i32 y) (i32 X) (i32 Y)) (F_line N μ (i32 x) (i32 y) (i32 X) (i32 Y)) := by
  have hn10 := h.1.1
  unfold F_X0_line F_line
  rw [show (0 : Int32) = i32 ((0 : Nat) : Int) from rfl, ck_n (by decide) (by decide), show (1 : Int32) = i32 ((1 : Nat) : Int) from rfl]
  simp only [ck_n (show 1 < 4 by decide) (show 4 < 2147483648 by decide)]
  rw [show (2 : Int32) = i32 ((2 : Nat) : Int) from rfl]
  simp only [ck_n (show 2 < 4 by decide) (show 4 < 2147483648 by decide)]
  rw [show (3 : Int32) = i32 ((3 : Nat) : Int) from rfl]
  simp only [ck_n (show 3 < 4 by decide) (show 4 < 2147483648 by decide)]
  rw [areOn_e (N := N) (rl := 4) (by decide) (ρ := fun j => if j = 0 then x else if j = 1 then y else if j = 2 then X else Y) (fun j => by
    show -2147483648 ≤ (if j = 0 then x else if j = 1 then y else if j = 2 then X else Y) ∧ (if j = 0 then x else if j = 1 then y else if j = 2 then X else Y) < 2147483648
    split
    · exact h1
    · split
      · exact h2
      · split
        · exact h3
        · exact h4) (fun j hj => by
    have : j = 0 ∨ j = 1 ∨ j = 2 ∨ j = 3 := by omega
    rcases this with rfl | rfl | rfl | rfl <;> rfl) (by omega), onSh_e h1, onSh_e h2, onSh_e h3, onSh_e h4]
  simp only [Option.bind_some]
  rw [show i32 ((0 : Nat) : Int) = (0 : Int32) from rfl]
  simp only [bi_0]
  by_cases c : ∀ j, j < 4 → 0 ≤ (if j = 0 then x else if j = 1 then y else if j = 2 then X else Y) ∧ (if j = 0 then x else if j = 1 then y else if j = 2 then X else Y) ≤ 40
  · have b1 : 0 ≤ x ∧ x ≤ 40 := c 0 (by decide)
    have b2 : 0 ≤ y ∧ y ≤ 40 := c 1 (by decide)
    have b3 : 0 ≤ X ∧ X ≤ 40 := c 2 (by decide)
    have b4 : 0 ≤ Y ∧ Y ≤ 40 := c 3 (by decide)
    rw [pB_t c, decide_eq_true b1, decide_eq_true b2, decide_eq_true b3, decide_eq_true b4]
    simp only [if_true]
    have go : ¬ (x = X ∧ y = Y) → OpX σ μ (F_X0_line_b40 N σ (i32 x) (i32 y) (i32 X) (i32 Y)) (F_line_b43 N μ (i32 x) (i32 y) (i32 X) (i32 Y)) := by
      intro ne
      have ok := sgOk.mk b1 b2 b3 b4 ne
      unfold F_X0_line_b40 F_line_b43
      rw [h.2.1.1, h.2.2.2.1, made_e (by omega) b1 b2 b3 b4]
      by_cases t : n = 10
      · subst t
        rw [if_pos (show i32 ((10 : Nat) : Int) = 10 from rfl), if_pos (show i32 ((10 : Nat) : Int) = 10 from rfl)]
        exact h.rfX _
      · have nt : ¬ i32 (n : Int) = 10 := fun w => t (by have := (i32_eq (a := (n : Int)) (b := 10) (by omega) (by omega)).mp w; omega)
        rw [if_neg nt, if_neg nt, stands_e (by omega) b1 b2 b3 b4]
        simp only [Option.bind_some, ck_n (show n < 10 by omega) (show 10 < 2147483648 by decide)]
        have pf := put4_f μ n (mkSg x y X Y)
        have g0 : gI (put4 μ n (mkSg x y X Y)) 0 = i32 (n : Int) := by rw [pf.gI 0 (by decide)]; exact h.2.2.2.1
        have em : gI (sI (put4 μ n (mkSg x y X Y)) 0 (gI (put4 μ n (mkSg x y X Y)) 0 + 1)) 0 - 1 = i32 (n : Int) := by
          rw [gI_sI, if_pos rfl, g0, show (1 : Int32) = i32 1 from rfl, i32_add, i32_sub, show (n : Int) + 1 - 1 = (n : Int) by omega]
        have ec : cI (fC σ 1) 1 + 1 - 1 = i32 (n : Int) := by
          rw [h.2.1.1, show (1 : Int32) = i32 1 from rfl, i32_add, i32_sub, show (n : Int) + 1 - 1 = (n : Int) by omega]
        rw [em]
        show OpX σ μ (some (cI (fC σ 1) 1 + 1 - 1, _)) _
        rw [ec]
        refine ⟨_, _, _, n + 1, setL L n (mkSg x y X Y), rfl, rfl, ⟨rfl, rfl, fun _ => rfl⟩, (pf.up (by decide)).I (by decide) _, ⟨by omega, fun k hk => ?_⟩, ⟨?_, fun k hk => ?_⟩, Or.inl rfl, ?_, fun k hk => ?_⟩
        · unfold setL
          by_cases e : k = n
          · rw [if_pos e]; exact ok
          · rw [if_neg e]; exact h.1.2 k (by omega)
        · show cI (fC σ 1) 1 + 1 = _
          rw [h.2.1.1, i32_s]
        · show ∃ t : Nat, cL (csL (fC σ 1) n (some (0, lnOf (mkSg x y X Y)))) k = some (t, lnOf (setL L n (mkSg x y X Y) k))
          unfold setL
          by_cases e : k = n
          · rw [if_pos e, e]
            exact ⟨0, by rw [cL_csL, if_pos rfl]⟩
          · obtain ⟨t', e'⟩ := h.2.1.2 k (by omega)
            rw [if_neg e]
            exact ⟨t', by rw [cL_csL, if_neg e]; exact e'⟩
        · rw [gI_sI, if_pos rfl, g0, i32_s]
        · obtain ⟨p1, p2, p3, p4⟩ := put4_g μ n (mkSg x y X Y) k
          rw [gA_sI, gA_sI, gA_sI, gA_sI, p1, p2, p3, p4]
          unfold setL
          by_cases e : k = n
          · rw [if_pos e, if_pos e, if_pos e, if_pos e, if_pos e]; exact ⟨rfl, rfl, rfl, rfl⟩
          · rw [if_neg e, if_neg e, if_neg e, if_neg e, if_neg e]
            exact h.2.2.2.2 k (by omega)
    rw [ite_ii (i32_eq h1 h3), ite_ii (i32_eq h2 h4)]
    rw [ite_ii (i32_eq h1 h3), ite_ii (i32_eq h2 h4)]
    by_cases e1 : x = X
    · rw [if_pos e1, if_pos e1]
      by_cases e2 : y = Y
      · rw [if_pos e2, if_pos e2]; exact h.rfX _
      · rw [if_neg e2, if_neg e2]; exact go (fun w => e2 w.2)
    · rw [if_neg e1, if_neg e1]; exact go (fun w => e1 w.1)
  · rw [pB_f c]
    have nb : ¬ ((0 ≤ x ∧ x ≤ 40) ∧ (0 ≤ y ∧ y ≤ 40) ∧ (0 ≤ X ∧ X ≤ 40) ∧ (0 ≤ Y ∧ Y ≤ 40)) := by
      rintro ⟨b1, b2, b3, b4⟩
      refine c fun j hj => ?_
      have : j = 0 ∨ j = 1 ∨ j = 2 ∨ j = 3 := by omega
      rcases this with rfl | rfl | rfl | rfl
      · exact b1
      · exact b2
      · exact b3
      · exact b4
    rw [if_neg (show ¬ (false = true) by decide)]
    by_cases b1 : 0 ≤ x ∧ x ≤ 40
    · rw [decide_eq_true b1, if_pos rfl]
      by_cases b2 : 0 ≤ y ∧ y ≤ 40
      · rw [decide_eq_true b2, if_pos rfl]
        by_cases b3 : 0 ≤ X ∧ X ≤ 40
        · rw [decide_eq_true b3, if_pos rfl, decide_eq_false (fun b4 => nb ⟨b1, b2, b3, b4⟩), if_neg (show ¬ (false = true) by decide)]
          exact h.rfX _
        · rw [decide_eq_false b3, if_neg (show ¬ (false = true) by decide)]; exact h.rfX _
      · rw [decide_eq_false b2, if_neg (show ¬ (false = true) by decide)]; exact h.rfX _
    · rw [decide_eq_false b1, if_neg (show ¬ (false = true) by decide)]; exact h.rfX _
end LO
