/-! NEIGHBOURS, the model: rows are cleared first -/
set_option maxRecDepth 100000
theorem mclear_e {N F : Nat} {μ : MSt} (hN : 2000 ≤ N) (hF : F ≤ 46) (h24 : gI μ 24 = i32 (F : Int)) : ∃ μ', F_tellNext N μ = F_tellNext_L43 N N μ' 1 ∧ mfr ksN μ μ' ∧ NXt μ' F (fun _ _ => false) := by
  have nk : (24 : Nat) ∉ ksN := by intro h; have := (List.mem_range'_1.mp h).1; omega
  have row : ∀ (r2 : MSt → Int32 → Option MSt) (i : Nat), i < F → ∀ (d j m : Nat) (ρ : MSt), j + d = F → d < m → mfr ksN μ ρ → (∀ j', j' < j → gA ρ (100 + i) j' = 0) → (∀ i' j', i' < i → j' < F → gA ρ (100 + i') j' = 0) → ∃ μ', F_tellNext_L12 N r2 m ρ (i32 (i : Int)) (i32 (j : Int)) = r2 μ' (i32 ((i + 1 : Nat) : Int)) ∧ mfr ksN μ μ' ∧ ∀ i' j', i' < i + 1 → j' < F → gA μ' (100 + i') j' = 0 := by
    intro r2 i hi d
    induction d with
    | zero =>
      intro j m ρ hj hm hf h1 h2
      obtain ⟨m, rfl⟩ : ∃ q, m = q + 1 := ⟨m - 1, by omega⟩
      refine ⟨ρ, ?_, hf, fun i' j' a b => ?_⟩
      · unfold F_tellNext_L12
        rw [hf.gI 24 nk, h24, if_pos ((i32_le (by omega) (by omega)).mpr (by omega)), i32_s]
      · by_cases e : i' = i
        · rw [e]; exact h1 j' (by omega)
        · exact h2 i' j' (by omega) b
    | succ d ih =>
      intro j m ρ hj hm hf h1 h2
      obtain ⟨m, rfl⟩ : ∃ q, m = q + 1 := ⟨m - 1, by omega⟩
      have z0 : vp_nar .boolean 0 = 0 := by decide
      obtain ⟨μ', q1, q2, q3⟩ := ih (j + 1) m (sA ρ (100 + i) j 0) (by omega) (by omega) (hf.A (ksN_m (by omega)) _ _) (fun j' hj' => by
        rw [gA_sA, if_pos rfl]
        by_cases e : j' = j
        · rw [if_pos e]
        · rw [if_neg e]; exact h1 j' (by omega)) (fun i' j' a b => by
        rw [gA_sA, if_neg (by omega)]; exact h2 i' j' a b)
      refine ⟨μ', ?_, q2, q3⟩
      unfold F_tellNext_L12
      rw [hf.gI 24 nk, h24, if_neg (fun z => by have := (i32_le (by omega) (by omega)).mp z; omega), ck_n (by omega) (by decide), ck_n (by omega) (by decide), z0]
      simp only [i32_s]
      exact q1
  have all : ∀ (d i m : Nat) (ρ : MSt), i + d = F → d < m → mfr ksN μ ρ → (∀ i' j', i' < i → j' < F → gA ρ (100 + i') j' = 0) → ∃ μ', F_tellNext_L2 N m ρ (i32 (i : Int)) = F_tellNext_L43 N N μ' 1 ∧ mfr ksN μ μ' ∧ ∀ i' j', i' < F → j' < F → gA μ' (100 + i') j' = 0 := by
    intro d
    induction d with
    | zero =>
      intro i m ρ hi hm hf h2
      obtain ⟨m, rfl⟩ : ∃ q, m = q + 1 := ⟨m - 1, by omega⟩
      refine ⟨ρ, ?_, hf, fun i' j' a b => h2 i' j' (by omega) b⟩
      unfold F_tellNext_L2
      rw [hf.gI 24 nk, h24, if_pos ((i32_le (by omega) (by omega)).mpr (by omega))]
    | succ d ih =>
      intro i m ρ hi hm hf h2
      obtain ⟨m, rfl⟩ : ∃ q, m = q + 1 := ⟨m - 1, by omega⟩
      obtain ⟨μ1, a1, a2, a3⟩ := row (F_tellNext_L2 N m) i (by omega) F 0 N ρ (by omega) (by omega) hf (fun j' hj' => absurd hj' (Nat.not_lt_zero _)) h2
      obtain ⟨μ', b1, b2, b3⟩ := ih (i + 1) m μ1 (by omega) (by omega) a2 a3
      refine ⟨μ', ?_, b2, b3⟩
      unfold F_tellNext_L2
      rw [hf.gI 24 nk, h24, if_neg (fun z => by have := (i32_le (by omega) (by omega)).mp z; omega)]
      exact Eq.trans a1 b1
  obtain ⟨μ', q1, q2, q3⟩ := all F 0 N μ (by omega) (by omega) (mfr.rf _ _) (fun i' j' a _ => absurd a (Nat.not_lt_zero _))
  exact ⟨μ', q1, q2, fun i j hi hj => by rw [q3 i j hi hj]; rfl⟩
