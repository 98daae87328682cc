/-! BORDERS, the component: what its loops gather -/
set_option maxRecDepth 100000
theorem or_1024 {a b : Nat} (ha : a < 1024) (hb : b < 1024) : a ||| b < 1024 := Nat.or_lt_two_pow (n := 10) ha hb
theorem nx_o10 {a b : Nat} (ha : a < 1024) (hb : b < 1024) : nI a ||| nI b = nI (a ||| b) := nx_or a b (by omega) (by omega)
section CB
variable {N n : Nat} {L : Nat → Sg} {σ : FSt}
theorem cwall_e (hL : LOk n L) {wl : List Wl} (h16 : ∀ c, c < fcN n L (nX n L + 1) → cA (fC σ 1) 16 c = i32 ((fcC n L c : Nat) : Int)) (hw : CWl (fC σ 1) wl) (hb : wl.length ≤ 1480) (hin : ∀ w ∈ wl, w.1 < fcN n L (nX n L + 1) ∧ w.2.1 < fcN n L (nX n L + 1) ∧ w.2.2 < 1024) {k : Nat} (hk : k < 740) : ∀ (d i m acc : Nat), i + d = wl.length → d < m → acc < 1024 → ∃ acc', F_X0_borders_L61 N σ m (i32 (k : Int)) (nI acc) (i32 (i : Int)) = some (nI acc') ∧ acc' < 1024 ∧ ∀ l, acc'.testBit l = true ↔ acc.testBit l = true ∨ ∃ j w, i ≤ j ∧ wl[j]? = some w ∧ (fcC n L w.1 = k ∨ fcC n L w.2.1 = k) ∧ w.2.2.testBit l = true := by
  have hn10 := hL.1
  have m65 := nX_65 hL
  have le := fcN_le hn10 L (nX n L + 1)
  have nl := @nFc_le n L
  intro d
  induction d with
  | zero =>
    intro i m acc hi hm ha
    obtain ⟨m, rfl⟩ : ∃ j, m = j + 1 := ⟨m - 1, by omega⟩
    refine ⟨acc, ?_, ha, fun l => ⟨Or.inl, fun h => ?_⟩⟩
    · unfold F_X0_borders_L61
      rw [hw.1, if_pos ((i32_le (by omega) (by omega)).mpr (by omega))]
    · rcases h with h | ⟨j, w, h1, h2, -⟩
      · exact h
      · have := (List.getElem?_eq_some_iff.mp h2).1
        omega
  | succ d ih =>
    intro i m acc hi hm ha
    obtain ⟨m, rfl⟩ : ∃ j, m = j + 1 := ⟨m - 1, by omega⟩
    have lt : i < wl.length := by omega
    have ew : wl[i]? = some wl[i] := List.getElem?_eq_getElem lt
    generalize hwi : wl[i] = w at *
    obtain ⟨w1, w2, w3⟩ := hw.2 i w ew
    obtain ⟨b1, b2, b3⟩ := hin w (List.mem_of_getElem? ew)
    have f1 := fcC_lt b1
    have f2 := fcC_lt b2
    have A : ∀ {α : Type} (f : Nat → Option α), ck (i32 (i : Int)) 1480 f = f i := fun f => ck_n (by omega) (by decide) f
    have add : (fcC n L w.1 = k ∨ fcC n L w.2.1 = k) → ∃ acc', F_X0_borders_b114 N σ (F_X0_borders_L61 N σ m) (i32 (k : Int)) (nI acc) (i32 (i : Int)) = some (nI acc') ∧ acc' < 1024 ∧ ∀ l, acc'.testBit l = true ↔ acc.testBit l = true ∨ ∃ j w, i ≤ j ∧ wl[j]? = some w ∧ (fcC n L w.1 = k ∨ fcC n L w.2.1 = k) ∧ w.2.2.testBit l = true := by
      intro c
      obtain ⟨acc', q1, q2, q3⟩ := ih (i + 1) m (acc ||| w.2.2) (by omega) (by omega) (or_1024 ha b3)
      refine ⟨acc', ?_, q2, fun l => ?_⟩
      · unfold F_X0_borders_b114 F_X0_borders_b126
        simp only [A, w3, nx_o10 ha b3, i32_s]
        exact q1
      · rw [q3 l, Nat.testBit_or, Bool.or_eq_true]
        constructor
        · rintro ((h | h) | ⟨j, v, j1, j2, j3⟩)
          · exact Or.inl h
          · exact Or.inr ⟨i, w, Nat.le_refl _, ew, c, h⟩
          · exact Or.inr ⟨j, v, by omega, j2, j3⟩
        · rintro (h | ⟨j, v, j1, j2, j3, j4⟩)
          · exact Or.inl (Or.inl h)
          · by_cases e : j = i
            · subst e
              have : w = v := Option.some.inj (ew.symm.trans j2)
              subst this
              exact Or.inl (Or.inr j4)
            · exact Or.inr ⟨j, v, by omega, j2, j3, j4⟩
    unfold F_X0_borders_L61
    rw [hw.1, if_neg (fun z => by have := (i32_le (by omega) (by omega)).mp z; omega)]
    simp only [A, w1, w2]
    rw [ck_n (by omega) (by decide), h16 _ b1, ite_ii (i32_eq (a := ((fcC n L w.1 : Nat) : Int)) (b := (k : Int)) (by omega) (by omega))]
    by_cases c1 : fcC n L w.1 = k
    · rw [if_pos (by omega)]; exact add (Or.inl c1)
    · rw [if_neg (by omega), ck_n (by omega) (by decide), h16 _ b2, ite_ii (i32_eq (a := ((fcC n L w.2.1 : Nat) : Int)) (b := (k : Int)) (by omega) (by omega))]
      by_cases c2 : fcC n L w.2.1 = k
      · rw [if_pos (by omega)]; exact add (Or.inr c2)
      · rw [if_neg (by omega)]
        obtain ⟨acc', q1, q2, q3⟩ := ih (i + 1) m acc (by omega) (by omega) ha
        refine ⟨acc', ?_, q2, fun l => ?_⟩
        · unfold F_X0_borders_b126
          simp only [i32_s]
          exact q1
        · rw [q3 l]
          constructor
          · rintro (h | ⟨j, v, j1, j2, j3⟩)
            · exact Or.inl h
            · exact Or.inr ⟨j, v, by omega, j2, j3⟩
          · rintro (h | ⟨j, v, j1, j2, j3, j4⟩)
            · exact Or.inl h
            · by_cases e : j = i
              · subst e
                have : w = v := Option.some.inj (ew.symm.trans j2)
                subst this
                rcases j3 with z | z
                · exact absurd z c1
                · exact absurd z c2
              · exact Or.inr ⟨j, v, by omega, j2, j3, j4⟩
end CB
