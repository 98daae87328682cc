/-! CALL: face (but borders and neighbours) -/
set_option maxRecDepth 100000
/-- how many of the first c cells are of face k -/
noncomputable def fcM (n : Nat) (L : Nat → Sg) (k : Nat) : Nat → Nat := cn (fun c => decide (fcC n L c = k))
section FA
variable {N n : Nat} {L : Nat → Sg} {σ : FSt} {μ : MSt}
theorem nFc_le : nFc n L ≤ fcN n L (nX n L + 1) := cn_le _ _
theorem cface_e (hN : 2000 ≤ N) (hL : LOk n L) (h10 : cI (fC σ 1) 10 = i32 ((fcN n L (nX n L + 1) : Nat) : Int)) (h16 : ∀ c, c < fcN n L (nX n L + 1) → cA (fC σ 1) 16 c = i32 ((fcC n L c : Nat) : Int)) {k : Nat} (hk : k < 740) : F_X0_face_L91 N N σ (i32 (k : Int)) 0 0 = some (i32 ((fcM n L k (fcN n L (nX n L + 1)) : Nat) : Int), σ) := by
  have hn10 := hL.1
  have m65 := nX_65 hL
  have le := fcN_le hn10 L (nX n L + 1)
  have nl := @nFc_le n L
  have main : ∀ (d c m : Nat), c + d = fcN n L (nX n L + 1) → d < m → F_X0_face_L91 N m σ (i32 (k : Int)) (i32 ((fcM n L k c : Nat) : Int)) (i32 (c : Int)) = some (i32 ((fcM n L k (fcN n L (nX n L + 1)) : Nat) : Int), σ) := by
    intro d
    induction d with
    | zero =>
      intro c m hc hm
      obtain ⟨m, rfl⟩ : ∃ j, m = j + 1 := ⟨m - 1, by omega⟩
      have e : c = fcN n L (nX n L + 1) := by omega
      subst e
      unfold F_X0_face_L91
      rw [h10, if_pos ((i32_le (by omega) (by omega)).mpr (Int.le_refl _))]
    | succ d ih =>
      intro c m hc hm
      obtain ⟨m, rfl⟩ : ∃ j, m = j + 1 := ⟨m - 1, by omega⟩
      have i := ih (c + 1) m (by omega) (by omega)
      have fl := fcC_lt (n := n) (L := L) (c := c) (by omega)
      unfold F_X0_face_L91
      rw [h10, if_neg (fun z => by have := (i32_le (by omega) (by omega)).mp z; omega), ck_n (by omega) (by decide), h16 c (by omega), ite_ii (i32_eq (a := ((fcC n L c : Nat) : Int)) (b := (k : Int)) (by omega) (by omega))]
      unfold F_X0_face_b120
      simp only [i32_s]
      unfold fcM at i ⊢
      rw [cn_s] at i
      by_cases w : fcC n L c = k
      · rw [if_pos (by omega)]
        rw [decide_eq_true w] at i
        exact i
      · rw [if_neg (by omega)]
        rw [decide_eq_false w] at i
        exact i
  exact main (fcN n L (nX n L + 1)) 0 N (by omega) (by omega)
theorem mface_e (hN : 2000 ≤ N) (hL : LOk n L) (hc : gI μ 23 = i32 ((fcN n L (nX n L + 1) : Nat) : Int)) (hf : MFc μ n L) {k : Nat} (hk : k < 740) (z : Int32) : F_face_L38 N N μ (i32 (k : Int)) z 0 0 = if z = 0 then some (gA μ 37 k, μ) else if z = 1 then some (i32 ((fcM n L k (fcN n L (nX n L + 1)) : Nat) : Int), μ) else if z = 2 then (F_borders N μ (i32 (k : Int))).bind (fun w96 => some (w96.1, w96.2)) else if z = 3 then (F_nextTo N μ (i32 (k : Int))).bind (fun w109 => some (w109.1, w109.2)) else if gA μ 31 0 = i32 (k : Int) then some (1, μ) else some (0, μ) := by
  have hn10 := hL.1
  have m65 := nX_65 hL
  have le := fcN_le hn10 L (nX n L + 1)
  have nl := @nFc_le n L
  have main : ∀ (d c m : Nat), c + d = fcN n L (nX n L + 1) → d < m → F_face_L38 N m μ (i32 (k : Int)) z (i32 ((fcM n L k c : Nat) : Int)) (i32 (c : Int)) = if z = 0 then some (gA μ 37 k, μ) else if z = 1 then some (i32 ((fcM n L k (fcN n L (nX n L + 1)) : Nat) : Int), μ) else if z = 2 then (F_borders N μ (i32 (k : Int))).bind (fun w96 => some (w96.1, w96.2)) else if z = 3 then (F_nextTo N μ (i32 (k : Int))).bind (fun w109 => some (w109.1, w109.2)) else if gA μ 31 0 = i32 (k : Int) then some (1, μ) else some (0, μ) := by
    intro d
    induction d with
    | zero =>
      intro c m hcd hm
      obtain ⟨m, rfl⟩ : ∃ j, m = j + 1 := ⟨m - 1, by omega⟩
      have e : c = fcN n L (nX n L + 1) := by omega
      subst e
      unfold F_face_L38
      rw [hc, if_pos ((i32_le (by omega) (by omega)).mpr (Int.le_refl _)), ck_n (by omega) (by decide), show (0 : Int32) = i32 ((0 : Nat) : Int) from rfl, ck_n (by decide) (by decide)]
    | succ d ih =>
      intro c m hcd hm
      obtain ⟨m, rfl⟩ : ∃ j, m = j + 1 := ⟨m - 1, by omega⟩
      have i := ih (c + 1) m (by omega) (by omega)
      have fl := fcC_lt (n := n) (L := L) (c := c) (by omega)
      rw [← i]
      conv => lhs; unfold F_face_L38
      rw [hc, if_neg (fun z => by have := (i32_le (by omega) (by omega)).mp z; omega), ck_n (by omega) (by decide), hf.2.1 c (by omega), ite_ii (i32_eq (a := ((fcC n L c : Nat) : Int)) (b := (k : Int)) (by omega) (by omega))]
      unfold F_face_b61
      simp only [i32_s]
      unfold fcM
      rw [cn_s]
      by_cases w : fcC n L c = k
      · rw [if_pos (by omega), decide_eq_true w]; rfl
      · rw [if_neg (by omega), decide_eq_false w]; rfl
  exact main (fcN n L (nX n L + 1)) 0 N (by omega) (by omega)
theorem face_op (hN : 2000 ≤ N) (h : RL1 n L σ μ) {x z : Int} (hx : -2147483648 ≤ x ∧ x < 2147483648) (hz : -2147483648 ≤ z ∧ z < 2147483648) (hq : ¬ (z = 2 ∨ z = 3)) : OpE n L σ μ (F_X0_face N σ (i32 x) (i32 z)) (F_face N μ (i32 x) (i32 z)) := by
  obtain ⟨κ', μ', c1, m1, fc, fm, h', td, md⟩ := both_told hN h
  have hn10 := h.1.1
  have m65 := nX_65 h.1
  have le := fcN_le hn10 L (nX n L + 1)
  have nl := @nFc_le n L
  unfold F_X0_face F_face
  rw [inx_e (A := 0) (B := 4) 0 4 rfl rfl hz (by omega) (by omega), inm_e (A := 0) (B := 4) 0 4 rfl rfl hz (by omega) (by omega), Option.bind_some, Option.bind_some, bi_0, bi_0]
  by_cases cz : 0 ≤ z ∧ z ≤ 4
  · rw [decide_eq_true cz, if_pos rfl, if_pos rfl, c1, m1]
    refine OpE.tr fc fm ?_
    obtain ⟨-, -, -, -, t13, -, t7⟩ := td
    obtain ⟨-, -, s23, -, s5⟩ := md
    have e11 : cI (fC (fsC σ 1 κ') 1) 11 = i32 ((nFc n L : Nat) : Int) := t7.1
    simp only [Option.bind_some, e11]
    rw [show i32 ((nFc n L : Nat) : Int) - 1 = i32 (((nFc n L : Nat) : Int) - 1) from i32_sub _ 1, i32_to64 (a := ((nFc n L : Nat) : Int) - 1) (by omega), inx_e (A := 0) (B := i64 (((nFc n L : Nat) : Int) - 1)) 0 (((nFc n L : Nat) : Int) - 1) rfl rfl hx (by omega) (by omega), s5.1, show i32 ((nFc n L : Nat) : Int) - 1 = i32 (((nFc n L : Nat) : Int) - 1) from i32_sub _ 1, inm_e (A := 0) (B := i32 (((nFc n L : Nat) : Int) - 1)) 0 (((nFc n L : Nat) : Int) - 1) rfl rfl hx (by omega) (by omega), Option.bind_some, Option.bind_some, bi_0, bi_0]
    by_cases cx : 0 ≤ x ∧ x ≤ ((nFc n L : Nat) : Int) - 1
    · rw [decide_eq_true cx, if_pos rfl, if_pos rfl]
      obtain ⟨k, rfl⟩ : ∃ k : Nat, x = k := ⟨x.toNat, by omega⟩
      have hk : k < nFc n L := by omega
      have A : ∀ {α : Type} (f : Nat → Option α), ck (i32 (k : Int)) 740 f = f k := fun f => ck_n (by omega) (by decide) f
      rw [mface_e hN h.1 s23.2.1 s5 (by omega)]
      have z4 : z = 0 ∨ z = 1 ∨ z = 4 := by omega
      rcases z4 with rfl | rfl | rfl
      · simp only [A, show (i32 0 = 0) = True from eq_true (by decide), if_true]
        obtain ⟨c, r1, r2, r3⟩ := face_rep (n := n) (L := L) hk
        show OpE n L (fsC σ 1 κ') μ' (some (cA κ' 17 k, fsC σ 1 κ')) _
        have a1 := t7.2.2.1 c r1 r2
        have a2 := s5.2.2 c r1 r2
        rw [r3] at a1 a2
        rw [a1, a2]
        exact OpE.rf h' _
      · simp only [show (i32 1 = 0) = False from eq_false (by decide), show (i32 1 = 1) = True from eq_true (by decide), if_true, if_false]
        rw [cface_e (σ := fsC σ 1 κ') hN h.1 t13.2.2.2.1 t7.2.1 (by omega)]
        exact OpE.rf h' _
      · simp only [show (i32 4 = 0) = False from eq_false (by decide), show (i32 4 = 1) = False from eq_false (by decide), show (i32 4 = 2) = False from eq_false (by decide), show (i32 4 = 3) = False from eq_false (by decide), if_false]
        rw [show ck (0 : Int32) 740 (fun j151 => if (cA (fC (fsC σ 1 κ') 1) 16 j151) = i32 (k : Int) then some ((1 : Int32), fsC σ 1 κ') else some (0, fsC σ 1 κ')) = (if cA κ' 16 0 = i32 (k : Int) then some ((1 : Int32), fsC σ 1 κ') else some (0, fsC σ 1 κ')) from ck_n (a := 0) (n := 740) (by decide) (by decide) _]
        have c0 : 0 < fcN n L (nX n L + 1) := fcN_lt (n := n) (L := L) (S := 0) (g := 0) (m := nX n L) (Nat.zero_le _) (Nat.zero_le _)
        rw [t7.2.1 0 c0, s5.2.1 0 c0]
        split
        · exact OpE.rf h' _
        · exact OpE.rf h' _
    · rw [decide_eq_false cx, if_neg (show ¬ (false = true) by decide), if_neg (show ¬ (false = true) by decide)]; exact OpE.rf h' _
  · rw [decide_eq_false cz, if_neg (show ¬ (false = true) by decide), if_neg (show ¬ (false = true) by decide)]; exact OpE.rf h _
end FA
