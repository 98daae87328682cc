/-! THE CALL order -/
set_option maxRecDepth 100000
section OC
variable {N n : Nat} {L : Nat → Sg} {σ : FSt} {μ : MSt}
theorem there_e {X B : Int} (hL : LOk n L) (h : MLn μ n L) {k : Nat} (hk : k < n) (hX : bn X 256000) (hB : 0 < B) (hB2 : B ≤ 4000) : F_isThere N μ (i32 (k : Int)) (i64 X) (i64 B) = some (bi (slB (L k) && (decide (((L k).1 : Rat) ≤ (X : Rat) / (B : Rat)) && decide ((X : Rat) / (B : Rat) ≤ ((L k).2.2.1 : Rat))))) := by
  have hn10 := hL.1
  have A : ∀ {α : Type} (f : Nat → Option α), ck (i32 (k : Int)) 10 f = f k := fun f => ck_n (by omega) (by decide) f
  obtain ⟨p1, p2, p3, p4⟩ := h.2 k hk
  obtain ⟨h1, h2, h3, h4, h5⟩ := hL.2 k hk
  have hX' : -256000 ≤ X ∧ X ≤ 256000 := by unfold bn at hX; omega
  have w1 : bn ((L k).1 * B) (40 * 4000) := bn_mul (bn_of (by omega)) (bn_of (by omega))
  have w3 : bn ((L k).2.2.1 * B) (40 * 4000) := bn_mul (bn_of (by omega)) (bn_of (by omega))
  have l1 := (le_q (X := X) (k := (L k).1) hB).1
  have l2 := (le_q (X := X) (k := (L k).2.2.1) hB).2
  unfold F_isThere F_isUpright
  simp only [A, p1, p3, i32_to64 (a := (L k).1) (by omega), i32_to64 (a := (L k).2.2.1) (by omega), i64_mul]
  rw [ite_ii (i32_eq (a := (L k).1) (b := (L k).2.2.1) (by omega) (by omega)), ite_ii (i64_lt (a := X) (b := (L k).1 * B) (by omega) (bn_64 w1 (by decide))), ite_ii (i64_lt (a := (L k).2.2.1 * B) (b := X) (bn_64 w3 (by decide)) (by omega))]
  unfold slB bi
  by_cases c : (L k).1 = (L k).2.2.1
  · rw [if_pos c, decide_eq_false (by omega)]; rfl
  · rw [if_neg c, decide_eq_true (by omega)]
    simp only [Option.bind_some, if_true, Bool.true_and]
    by_cases d : X < (L k).1 * B
    · rw [if_pos d, decide_eq_false (fun w => (l1.mp w) d)]; rfl
    · rw [if_neg d, decide_eq_true (l1.mpr d)]
      by_cases e : (L k).2.2.1 * B < X
      · rw [if_pos e, decide_eq_false (fun w => (l2.mp w) e)]; rfl
      · rw [if_neg e, decide_eq_true (l2.mpr e)]; rfl
theorem morder_e (hN : 2000 ≤ N) (hL : LOk n L) {X B : Int} (hX : bn X 256000) (hB : 0 < B) (hB2 : B ≤ 4000) {o : Int} (ho : -2147483648 ≤ o ∧ o < 2147483648) (h : MLn μ n L) : ∃ μ', F_tellOrder N μ (i64 X) (i64 B) (i32 o) = some μ' ∧ mfr [20, 21] μ μ' ∧ gI μ' 20 = i32 (((ordF ((X : Rat) / (B : Rat)) L o n).1 : Nat) : Int) ∧ ∀ j, j < (ordF ((X : Rat) / (B : Rat)) L o n).1 → gA μ' 21 j = i32 (((ordF ((X : Rat) / (B : Rat)) L o n).2 j : Nat) : Int) := by
  have hn10 := hL.1
  generalize hx : (X : Rat) / (B : Rat) = x
  have main : ∀ (d k m : Nat) (μ1 : MSt), k + d = n → d < m → mfr [20, 21] μ μ1 → MLn μ1 n L → gI μ1 20 = i32 (((ordF x L o k).1 : Nat) : Int) → (∀ j, j < (ordF x L o k).1 → gA μ1 21 j = i32 (((ordF x L o k).2 j : Nat) : Int)) → ∃ μ', F_tellOrder_L8 N m μ1 (i64 X) (i64 B) (i32 o) (i32 (k : Int)) = some μ' ∧ mfr [20, 21] μ μ' ∧ gI μ' 20 = i32 (((ordF x L o n).1 : Nat) : Int) ∧ ∀ j, j < (ordF x L o n).1 → gA μ' 21 j = i32 (((ordF x L o n).2 j : Nat) : Int) := by
    intro d
    induction d with
    | zero =>
      intro k m μ1 hk hm hf h' h20 h21
      obtain ⟨m, rfl⟩ : ∃ j, m = j + 1 := ⟨m - 1, by omega⟩
      have e : k = n := by omega
      subst e
      refine ⟨μ1, ?_, hf, h20, h21⟩
      unfold F_tellOrder_L8
      rw [h'.1, if_pos ((i32_le (by omega) (by omega)).mpr (Int.le_refl _))]
    | succ d ih =>
      intro k m μ1 hk hm hf h' h20 h21
      obtain ⟨m, rfl⟩ : ∃ j, m = j + 1 := ⟨m - 1, by omega⟩
      have hk' : k < n := by omega
      obtain ⟨G1, G2⟩ := ordF_G x L o k
      have os : ordF x L o (k + 1) = if inO x L o k then insO x L (ordF x L o k) k else ordF x L o k := rfl
      have skip : inO x L o k = false → ∃ μ', F_tellOrder_b110 N (F_tellOrder_L8 N m) μ1 (i64 X) (i64 B) (i32 o) (i32 (k : Int)) = some μ' ∧ mfr [20, 21] μ μ' ∧ gI μ' 20 = i32 (((ordF x L o n).1 : Nat) : Int) ∧ ∀ j, j < (ordF x L o n).1 → gA μ' 21 j = i32 (((ordF x L o n).2 j : Nat) : Int) := by
        intro w
        have e : ordF x L o (k + 1) = ordF x L o k := by rw [os, w]; rfl
        have i := ih (k + 1) m μ1 (by omega) (by omega) hf h' (by rw [e]; exact h20) (by rw [e]; exact h21)
        unfold F_tellOrder_b110
        simp only [i32_s]
        exact i
      have th := there_e (N := N) hL h' hk' hX hB hB2
      rw [hx] at th
      unfold F_tellOrder_L8
      rw [h'.1, if_neg (fun z => by have := (i32_le (by omega) (by omega)).mp z; omega), ite_ii (i32_eq (a := (k : Int)) (b := o) (by omega) ho)]
      by_cases c1 : (k : Int) = o
      · rw [if_pos c1]
        exact skip (by unfold inO; rw [decide_eq_true c1]; rfl)
      · rw [if_neg c1, th, Option.bind_some, bi_0]
        by_cases c3 : (slB (L k) && (decide (((L k).1 : Rat) ≤ x) && decide (x ≤ ((L k).2.2.1 : Rat)))) = true
        · have yes : inO x L o k = true := by
            unfold inO
            rw [c3, decide_eq_false c1]; rfl
          obtain ⟨μ2, q1, q2, q3, q4⟩ := mput_e (N := N) hL hX hB hB2 (F_tellOrder_L8 N m) (i32 o) (f := (ordF x L o k).2) hk' G1 (inO_e.mp yes).2.1 (fun j hj => by
            obtain ⟨g1, g2⟩ := G2 j hj
            exact ⟨g1, (inO_e.mp g2).2.1⟩) (ordF x L o k).1 N μ1 h' h20 (Nat.le_refl _) (by omega) rfl h21 (fun j j1 j2 => by omega)
          rw [hx] at q4
          have e : ordF x L o (k + 1) = insO x L (ordF x L o k) k := by rw [os, yes]; rfl
          rw [if_pos c3]
          simp only [h20]
          rw [q1]
          exact ih (k + 1) m μ2 (by omega) (by omega) (hf.tr q2) (h'.fr q2 (by decide)) (by rw [e]; exact q3) (by rw [e]; exact q4)
        · rw [if_neg c3]
          exact skip (by
            unfold inO
            have : (slB (L k) && (decide (((L k).1 : Rat) ≤ x) && decide (x ≤ ((L k).2.2.1 : Rat)))) = false := by
              cases q : (slB (L k) && (decide (((L k).1 : Rat) ≤ x) && decide (x ≤ ((L k).2.2.1 : Rat)))) with
              | false => rfl
              | true => exact absurd q c3
            rw [this]; simp)
  have f0 : mfr [20, 21] μ (sI μ 20 0) := (mfr.rf _ μ).I (by decide) _
  exact main n 0 N (sI μ 20 0) (by omega) (by omega) f0 (h.fr f0 (by decide)) rfl (fun j hj => absurd hj (Nat.not_lt_zero _))
theorem order_op (hN : 2000 ≤ N) (h : RL1 n L σ μ) {x b k : Int} (hx : -2147483648 ≤ x ∧ x < 2147483648) (hb : -2147483648 ≤ b ∧ b < 2147483648) (hk : -2147483648 ≤ k ∧ k < 2147483648) : OpE n L σ μ (F_X0_order N σ (i32 x) (i32 b) (i32 k)) (F_order N μ (i32 x) (i32 b) (i32 k)) := by
  have hn10 := h.1.1
  unfold F_X0_order F_order
  rw [inx_e (A := 0) (B := 400) 0 400 rfl rfl hx (by omega) (by omega), inm_e (A := 0) (B := 400) 0 400 rfl rfl hx (by omega) (by omega), Option.bind_some, Option.bind_some, bi_0, bi_0]
  by_cases cx : 0 ≤ x ∧ x ≤ 400
  · rw [decide_eq_true cx, if_pos rfl, if_pos rfl, inx_e (A := 1) (B := 10) 1 10 rfl rfl hb (by omega) (by omega), inm_e (A := 1) (B := 10) 1 10 rfl rfl hb (by omega) (by omega), Option.bind_some, Option.bind_some, bi_0, bi_0]
    by_cases cb : 1 ≤ b ∧ b ≤ 10
    · have f1 := fb_div x b
      have hm : mq ((x : Rat) / (b : Rat)) := by
        rw [← Rat.divInt_eq_div]
        exact ⟨bn_le f1.1 (by omega), Nat.le_trans f1.2 (by omega)⟩
      obtain ⟨ρ', q1, q2⟩ := corder_e (N := N) hN h.2.1 h.1 hm (o := -1) (by omega) (fA σ 6)
      obtain ⟨μ', m1, m2, m3, m4⟩ := morder_e (N := N) hN h.1 (X := x) (B := b) (bn_of (by omega)) (by omega) (by omega) (o := -1) (by omega) h.2.2.2
      have G := ordF_G ((x : Rat) / (b : Rat)) L (-1) n
      generalize hO : ordF ((x : Rat) / (b : Rat)) L (-1) n = O at *
      rw [decide_eq_true cb, if_pos rfl, if_pos rfl, i32_to64 hx, i32_to64 hb, plIn_e (by omega) (by omega) (by omega), show (-1 : Int32) = i32 (-1) from rfl, m1]
      simp only [Option.bind_some, q1]
      have h' : RL1 n L (fsR σ 6 ρ') μ' := ⟨h.1, h.2.1, h.2.2.1, h.2.2.2.fr m2 (by decide)⟩
      refine OpE.tr (⟨rfl, rfl, fun _ => rfl⟩ : frC σ (fsR σ 6 ρ')) (m2.up (by decide) : mfr scr μ μ') ?_
      by_cases c1 : i32 k = i32 (-1)
      · rw [if_pos c1, if_pos c1, m3]; exact OpE.rf h' _
      · rw [if_neg c1, if_neg c1, m3, show i32 ((O.1 : Nat) : Int) - 1 = i32 (((O.1 : Nat) : Int) - 1) from i32_sub _ 1, i32_to64 (a := ((O.1 : Nat) : Int) - 1) (by omega), inx_e (A := 0) (B := i64 (((O.1 : Nat) : Int) - 1)) 0 (((O.1 : Nat) : Int) - 1) rfl rfl hk (by omega) (by omega), inm_e (A := 0) (B := i32 (((O.1 : Nat) : Int) - 1)) 0 (((O.1 : Nat) : Int) - 1) rfl rfl hk (by omega) (by omega), Option.bind_some, Option.bind_some, bi_0, bi_0]
        by_cases ckk : 0 ≤ k ∧ k ≤ ((O.1 : Nat) : Int) - 1
        · rw [decide_eq_true ckk, if_pos rfl, if_pos rfl]
          obtain ⟨j, rfl⟩ : ∃ j : Nat, k = j := ⟨k.toNat, by omega⟩
          rw [ck_n (by omega) (by decide), ck_n (by omega) (by decide)]
          have e : fA (fsR σ 6 ρ') 6 j = ρ' j := rfl
          rw [e, q2 j (by omega), m4 j (by omega)]
          exact OpE.rf h' _
        · rw [decide_eq_false ckk, if_neg (show ¬ (false = true) by decide), if_neg (show ¬ (false = true) by decide)]; exact OpE.rf h' _
    · rw [decide_eq_false cb, if_neg (show ¬ (false = true) by decide), if_neg (show ¬ (false = true) by decide)]; exact OpE.rf h _
  · rw [decide_eq_false cx, if_neg (show ¬ (false = true) by decide), if_neg (show ¬ (false = true) by decide)]; exact OpE.rf h _
end OC
