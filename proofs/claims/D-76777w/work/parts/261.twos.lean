/-! CALL: count of twos of lines -/
set_option maxRecDepth 100000
def tw1 (L : Nat → Sg) (z : Int) (j : Nat) : Nat → Nat := cn (fun i => decide (howM (L i) (L j) = z))
def twS (L : Nat → Sg) (z : Int) : Nat → Nat
  | 0 => 0
  | j + 1 => twS L z j + tw1 L z j j
theorem tw1_s (L : Nat → Sg) (z : Int) (j k : Nat) : tw1 L z j (k + 1) = tw1 L z j k + (decide (howM (L k) (L j) = z)).toNat := rfl
section TW
variable {N n : Nat} {L : Nat → Sg} {σ : FSt} {μ : MSt}
theorem ctwos_e (hN : 2000 ≤ N) (hL : LOk n L) (h : CLn (fC σ 1) n L) {z : Int} (hz : 0 ≤ z ∧ z ≤ 10) : F_X0_twos N σ (i32 z) = some (i32 ((twS L z n : Nat) : Int)) := by
  have hn10 := hL.1
  have inner : ∀ (r4 : Int32 → Int32 → Int32 → Option Int32) (j : Nat), j < n → ∀ (d k m : Nat), k + d = j → d < m → F_X0_twos_L18 N σ r4 m (i32 z) (i32 ((twS L z j + tw1 L z j k : Nat) : Int)) (i32 (j : Int)) (i32 (k : Int)) = r4 (i32 z) (i32 ((twS L z (j + 1) : Nat) : Int)) (i32 ((j + 1 : Nat) : Int)) := by
    intro r4 j hj d
    induction d with
    | zero =>
      intro k m hk hm
      obtain ⟨m, rfl⟩ : ∃ q, m = q + 1 := ⟨m - 1, by omega⟩
      have e : k = j := by omega
      subst e
      unfold F_X0_twos_L18
      rw [if_pos ((i32_le (by omega) (by omega)).mpr (Int.le_refl _))]
      simp only [i32_s]
      rfl
    | succ d ih =>
      intro k m hk hm
      obtain ⟨m, rfl⟩ : ∃ q, m = q + 1 := ⟨m - 1, by omega⟩
      have i := ih (k + 1) m (by omega) (by omega)
      obtain ⟨t, e1⟩ := h.2 k (by omega)
      obtain ⟨t', e2⟩ := h.2 j hj
      have hr := how_rng (L k) (L j)
      unfold F_X0_twos_L18
      rw [if_neg (fun z => by have := (i32_le (by omega) (by omega)).mp z; omega), ck_n (by omega) (by decide), ck_n (by omega) (by decide), e1, e2]
      simp only [nn]
      rw [meets_e (hL.2 k (by omega)) (hL.2 j hj), Option.bind_some, ite_ii (i32_eq (a := howM (L k) (L j)) (b := z) (by omega) (by omega))]
      unfold F_X0_twos_b53
      simp only [i32_s]
      rw [tw1_s, ← Nat.add_assoc] at i
      by_cases c : howM (L k) (L j) = z
      · rw [if_pos c]
        rw [decide_eq_true c] at i
        exact i
      · rw [if_neg c]
        rw [decide_eq_false c] at i
        exact i
  have outer : ∀ (d j m : Nat), j + d = n → d < m → F_X0_twos_L4 N σ m (i32 z) (i32 ((twS L z j : Nat) : Int)) (i32 (j : Int)) = some (i32 ((twS L z n : Nat) : Int)) := by
    intro d
    induction d with
    | zero =>
      intro j m hj hm
      obtain ⟨m, rfl⟩ : ∃ q, m = q + 1 := ⟨m - 1, by omega⟩
      have e : j = n := by omega
      subst e
      unfold F_X0_twos_L4
      rw [h.1, if_pos ((i32_le (by omega) (by omega)).mpr (Int.le_refl _))]
    | succ d ih =>
      intro j m hj hm
      obtain ⟨m, rfl⟩ : ∃ q, m = q + 1 := ⟨m - 1, by omega⟩
      unfold F_X0_twos_L4
      rw [h.1, if_neg (fun z => by have := (i32_le (by omega) (by omega)).mp z; omega)]
      have := inner (F_X0_twos_L4 N σ m) j (by omega) j 0 N (by omega) (by omega)
      refine Eq.trans this ?_
      exact ih (j + 1) m (by omega) (by omega)
  exact outer n 0 N (by omega) (by omega)
theorem mtwos_e (hN : 2000 ≤ N) (hL : LOk n L) (h : MLn μ n L) {z : Int} (hz : 0 ≤ z ∧ z ≤ 10) : ∃ μ', F_twos N μ (i32 z) = some (i32 ((twS L z n : Nat) : Int), μ') ∧ mfr [5, 6, 7, 8] μ μ' := by
  have hn10 := hL.1
  have inner : ∀ (r4 : MSt → Int32 → Int32 → Int32 → Option (Int32 × MSt)) (j : Nat), j < n → ∀ (d k m : Nat) (ρ : MSt), k + d = j → d < m → MLn ρ n L → ∃ ρ', F_twos_L15 N r4 m ρ (i32 z) (i32 ((twS L z j + tw1 L z j k : Nat) : Int)) (i32 (j : Int)) (i32 (k : Int)) = r4 ρ' (i32 z) (i32 ((twS L z (j + 1) : Nat) : Int)) (i32 ((j + 1 : Nat) : Int)) ∧ mfr [5, 6, 7, 8] ρ ρ' := by
    intro r4 j hj d
    induction d with
    | zero =>
      intro k m ρ hk hm hl
      obtain ⟨m, rfl⟩ : ∃ q, m = q + 1 := ⟨m - 1, by omega⟩
      have e : k = j := by omega
      subst e
      refine ⟨ρ, ?_, mfr.rf _ _⟩
      unfold F_twos_L15
      rw [if_pos ((i32_le (by omega) (by omega)).mpr (Int.le_refl _))]
      simp only [i32_s]
      rfl
    | succ d ih =>
      intro k m ρ hk hm hl
      obtain ⟨m, rfl⟩ : ∃ q, m = q + 1 := ⟨m - 1, by omega⟩
      obtain ⟨ρ1, m1, m2, m3, -⟩ := meet_e (N := N) hl hL hj (show k < n by omega)
      rw [how_sym (hL.2 k (by omega)) (hL.2 j hj)] at m3
      obtain ⟨ρ2, i, i2⟩ := ih (k + 1) m ρ1 (by omega) (by omega) (hl.fr m2 (by decide))
      have hr := how_rng (L k) (L j)
      refine ⟨ρ2, ?_, m2.tr i2⟩
      unfold F_twos_L15
      rw [if_neg (fun z => by have := (i32_le (by omega) (by omega)).mp z; omega), m1, Option.bind_some, m3, ite_ii (i32_eq (a := howM (L k) (L j)) (b := z) (by omega) (by omega))]
      unfold F_twos_b39
      simp only [i32_s]
      rw [tw1_s, ← Nat.add_assoc] at i
      by_cases c : howM (L k) (L j) = z
      · rw [if_pos c]
        rw [decide_eq_true c] at i
        exact i
      · rw [if_neg c]
        rw [decide_eq_false c] at i
        exact i
  have outer : ∀ (d j m : Nat) (ρ : MSt), j + d = n → d < m → MLn ρ n L → ∃ ρ', F_twos_L4 N m ρ (i32 z) (i32 ((twS L z j : Nat) : Int)) (i32 (j : Int)) = some (i32 ((twS L z n : Nat) : Int), ρ') ∧ mfr [5, 6, 7, 8] ρ ρ' := by
    intro d
    induction d with
    | zero =>
      intro j m ρ hj hm hl
      obtain ⟨m, rfl⟩ : ∃ q, m = q + 1 := ⟨m - 1, by omega⟩
      have e : j = n := by omega
      subst e
      refine ⟨ρ, ?_, mfr.rf _ _⟩
      unfold F_twos_L4
      rw [hl.1, if_pos ((i32_le (by omega) (by omega)).mpr (Int.le_refl _))]
    | succ d ih =>
      intro j m ρ hj hm hl
      obtain ⟨m, rfl⟩ : ∃ q, m = q + 1 := ⟨m - 1, by omega⟩
      obtain ⟨ρ1, a1, a2⟩ := inner (F_twos_L4 N m) j (by omega) j 0 N ρ (by omega) (by omega) hl
      obtain ⟨ρ2, b1, b2⟩ := ih (j + 1) m ρ1 (by omega) (by omega) (hl.fr a2 (by decide))
      refine ⟨ρ2, ?_, a2.tr b2⟩
      unfold F_twos_L4
      rw [hl.1, if_neg (fun z => by have := (i32_le (by omega) (by omega)).mp z; omega)]
      exact Eq.trans a1 b1
  obtain ⟨μ', a, b⟩ := outer n 0 N μ (by omega) (by omega) h
  exact ⟨μ', a, b⟩
theorem count2_op (hN : 2000 ≤ N) (h : RL1 n L σ μ) {x : Int} (hx : 8 ≤ x ∧ x ≤ 10) : OpE n L σ μ (F_X0_count N σ (i32 x)) (F_count N μ (i32 x)) := by
  obtain ⟨κ', μ', c1, m1, fc, fm, h', -, -⟩ := both_told hN h
  have t := ctwos_e (N := N) (σ := fsC σ 1 κ') (z := x - 7) hN h.1 h'.2.1 (by omega)
  obtain ⟨ρ, r1, r2⟩ := mtwos_e (N := N) (z := x - 7) hN h.1 h'.2.2.2 (by omega)
  have e7 : i32 x - 7 = i32 (x - 7) := i32_sub x 7
  unfold F_X0_count F_count
  rw [inm_e (A := 0) (B := 10) 0 10 rfl rfl (by omega) (by omega) (by omega), c1, Option.bind_some, Option.bind_some, bi_0, decide_eq_true (show 0 ≤ x ∧ x ≤ 10 by omega), if_pos rfl, m1, Option.bind_some]
  refine OpE.tr fc fm ?_
  unfold F_X0_count_b135
  simp only [e7, t, r1]
  have no : ∀ k : Int, 0 ≤ k ∧ k ≤ 7 → ¬ i32 x = i32 k := fun k hk w => by
    have := (i32_eq (a := x) (b := k) (by omega) (by omega)).mp w
    omega
  have nk : ∀ k : Int32, (∃ q : Int, 0 ≤ q ∧ q ≤ 7 ∧ k = i32 q) → (i32 x = k) = False := fun k ⟨q, a, b, e⟩ => eq_false (by rw [e]; exact no q ⟨a, b⟩)
  simp only [nk 0 ⟨0, by decide, by decide, rfl⟩, nk 1 ⟨1, by decide, by decide, rfl⟩, nk 2 ⟨2, by decide, by decide, rfl⟩, nk 3 ⟨3, by decide, by decide, rfl⟩, nk 4 ⟨4, by decide, by decide, rfl⟩, nk 5 ⟨5, by decide, by decide, rfl⟩, nk 6 ⟨6, by decide, by decide, rfl⟩, nk 7 ⟨7, by decide, by decide, rfl⟩, if_false, Option.bind_some]
  have x3 : x = 8 ∨ x = 9 ∨ x = 10 := by omega
  have fin : OpE n L (fsC σ 1 κ') μ' (some (i32 ((twS L (x - 7) n : Nat) : Int), fsC σ 1 κ')) (some (i32 ((twS L (x - 7) n : Nat) : Int), ρ)) := OpE.tr (frC.rf _) (r2.up (by decide) : mfr scr μ' ρ) (OpE.rf ⟨h'.1, h'.2.1, h'.2.2.1, h'.2.2.2.fr r2 (by decide)⟩ _)
  rcases x3 with rfl | rfl | rfl
  · rw [if_pos (show i32 8 = 8 from rfl)]; exact fin
  · rw [if_neg (show ¬ i32 9 = 8 by decide), if_pos (show i32 9 = 9 from rfl)]; exact fin
  · rw [if_neg (show ¬ i32 10 = 8 by decide), if_neg (show ¬ i32 10 = 9 by decide), if_pos (show i32 10 = 10 from rfl)]; exact fin
end TW
