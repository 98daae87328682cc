/-! NEIGHBOURS, the model: one pair of cells -/
set_option maxRecDepth 100000
abbrev ksN : List Nat := List.range' 100 80
theorem ksN_m {i : Nat} (h : i < 80) : 100 + i ∈ ksN := List.mem_range'_1.mpr ⟨by omega, by omega⟩
def NXt (μ : MSt) (F : Nat) (R : Nat → Nat → Bool) : Prop := ∀ i j, i < F → j < F → gA μ (100 + i) j = if R i j then 1 else 0
section MN
variable {N n : Nat} {L : Nat → Sg} {μ : MSt}
theorem misNext_e (hL : LOk n L) (h31 : ∀ c, c < fcN n L (nX n L + 1) → gA μ 31 c = i32 ((fcC n L c : Nat) : Int)) {R : Nat → Nat → Bool} (hR : NXt μ (nFc n L) R) {c d : Nat} (hc : c < fcN n L (nX n L + 1)) (hd : d < fcN n L (nX n L + 1)) : ∃ μ', F_isNext N μ (i32 (c : Int)) (i32 (d : Int)) = some μ' ∧ mfr ksN μ μ' ∧ NXt μ' (nFc n L) (fun i j => R i j || (!decide (fcC n L c = fcC n L d) && ((decide (i = fcC n L c) && decide (j = fcC n L d)) || (decide (i = fcC n L d) && decide (j = fcC n L c))))) := by
  have hn10 := hL.1
  have m65 := nX_65 hL
  have le := fcN_le hn10 L (nX n L + 1)
  have f46 := nFc_46 hL
  have fc := fcC_lt hc
  have fd := fcC_lt hd
  have A : ∀ {α : Type} (f : Nat → Option α), ck (i32 (c : Int)) 900 f = f c := fun f => ck_n (by omega) (by decide) f
  have B : ∀ {α : Type} (f : Nat → Option α), ck (i32 (d : Int)) 900 f = f d := fun f => ck_n (by omega) (by decide) f
  have C : ∀ {α : Type} (f : Nat → Option α), ck (i32 ((fcC n L c : Nat) : Int)) 80 f = f (fcC n L c) := fun f => ck_n (by omega) (by decide) f
  have D : ∀ {α : Type} (f : Nat → Option α), ck (i32 ((fcC n L d : Nat) : Int)) 80 f = f (fcC n L d) := fun f => ck_n (by omega) (by decide) f
  unfold F_isNext
  simp only [A, B, h31 c hc, h31 d hd]
  rw [ite_ii (i32_eq (a := ((fcC n L c : Nat) : Int)) (b := ((fcC n L d : Nat) : Int)) (by omega) (by omega))]
  by_cases w : fcC n L c = fcC n L d
  · rw [if_pos (by omega)]
    refine ⟨μ, rfl, mfr.rf _ _, fun i j hi hj => ?_⟩
    rw [hR i j hi hj, decide_eq_true w]
    simp
  · rw [if_neg (by omega)]
    simp only [C, D, gA_sA, if_neg (show ¬ 31 = 100 + fcC n L c by omega), h31 c hc, h31 d hd]
    refine ⟨_, rfl, ((mfr.rf _ μ).A (ksN_m (by omega)) _ _).A (ksN_m (by omega)) _ _, fun i j hi hj => ?_⟩
    rw [gA_sA, gA_sA, hR i j hi hj, decide_eq_false w]
    have one : vp_nar .boolean 1 = 1 := by decide
    rw [one]
    simp only
    by_cases i1 : i = fcC n L c
    · have i2 : ¬ i = fcC n L d := fun z => w (i1.symm.trans z)
      rw [if_neg (show ¬ 100 + i = 100 + fcC n L d by omega), if_pos (show 100 + i = 100 + fcC n L c by omega)]
      simp only [decide_eq_true i1, decide_eq_false i2, Bool.not_false, Bool.true_and, Bool.false_and, Bool.or_false]
      by_cases j1 : j = fcC n L d
      · rw [if_pos j1]; simp [j1]
      · rw [if_neg j1]; simp [j1]
    · by_cases i2 : i = fcC n L d
      · rw [if_pos (show 100 + i = 100 + fcC n L d by omega), if_neg (show ¬ 100 + i = 100 + fcC n L c by omega)]
        simp only [decide_eq_false i1, decide_eq_true i2, Bool.not_false, Bool.true_and, Bool.false_and, Bool.false_or]
        by_cases j1 : j = fcC n L c
        · rw [if_pos j1]; simp [j1]
        · rw [if_neg j1]; simp [j1]
      · rw [if_neg (show ¬ 100 + i = 100 + fcC n L d by omega), if_neg (show ¬ 100 + i = 100 + fcC n L c by omega)]
        simp only [decide_eq_false i1, decide_eq_false i2, Bool.false_and, Bool.or_false, Bool.and_false]
end MN
