/-! NEIGHBOURS, the model: cells side by side in a slab -/
set_option maxRecDepth 100000
section MS
variable {N n : Nat} {L : Nat → Sg} {μ : MSt}
/-- two faces that two cells join -/
def nbP (n : Nat) (L : Nat → Sg) (c d i j : Nat) : Prop := fcC n L c ≠ fcC n L d ∧ ((i = fcC n L c ∧ j = fcC n L d) ∨ (i = fcC n L d ∧ j = fcC n L c))
def nbQ (n : Nat) (L : Nat → Sg) (c0 i j : Nat) : Prop := ∃ S g, S ≤ nX n L ∧ g < nGr n L S ∧ c0 ≤ fcN n L S + (g + 1) ∧ nbP n L (fcN n L S + g) (fcN n L S + (g + 1)) i j
theorem mside_e (hN : 2000 ≤ N) (hL : LOk n L) (hc : MCS μ n L (nX n L + 1)) (h31 : ∀ c, c < fcN n L (nX n L + 1) → gA μ 31 c = i32 ((fcC n L c : Nat) : Int)) : ∀ (d c m : Nat) (ρ : MSt) (R : Nat → Nat → Bool), c + d = fcN n L (nX n L + 1) → 0 < c → d < m → mfr ksN μ ρ → NXt ρ (nFc n L) R → ∃ (μ' : MSt) (T : Nat → Nat → Bool), F_tellNext_L43 N m ρ (i32 (c : Int)) = F_tellNext_L84 N N μ' 1 ∧ mfr ksN μ μ' ∧ NXt μ' (nFc n L) T ∧ ∀ i j, T i j = true ↔ R i j = true ∨ nbQ n L c i j := by
  have hn10 := hL.1
  have m65 := nX_65 hL
  have le := fcN_le hn10 L (nX n L + 1)
  have nk : ∀ k, k < 100 → k ∉ ksN := fun k hk h => by have := (List.mem_range'_1.mp h).1; omega
  intro d
  induction d with
  | zero =>
    intro c m ρ R hcd h0 hm hf hR
    obtain ⟨m, rfl⟩ : ∃ q, m = q + 1 := ⟨m - 1, by omega⟩
    refine ⟨ρ, R, ?_, hf, hR, fun i j => ⟨Or.inl, fun h => ?_⟩⟩
    · unfold F_tellNext_L43
      rw [hf.gI 23 (nk 23 (by decide)), hc.2.1, if_pos ((i32_le (by omega) (by omega)).mpr (by omega))]
    · rcases h with h | ⟨S, g, h1, h2, h3, -⟩
      · exact h
      · have := fcN_lt (n := n) (L := L) h1 (show g + 1 ≤ nGr n L S by omega)
        omega
  | succ d ih =>
    intro c m ρ R hcd h0 hm hf hR
    obtain ⟨m, rfl⟩ : ∃ q, m = q + 1 := ⟨m - 1, by omega⟩
    obtain ⟨P, g, hP, hg, ec⟩ := fcN_ex (n := n) (L := L) (c := c - 1) (m := nX n L) (by omega)
    obtain ⟨Q, u, hQ, hu, ed⟩ := fcN_ex (n := n) (L := L) (c := c) (m := nX n L) (by omega)
    have e28 : gA ρ 28 (c - 1) = i32 (P : Int) := by rw [hf.gA 28 (nk 28 (by decide)), ec]; exact (hc.2.2 P (by omega) g hg).1
    have e28' : gA ρ 28 c = i32 (Q : Int) := by rw [hf.gA 28 (nk 28 (by decide)), ed]; exact (hc.2.2 Q (by omega) u hu).1
    have k1 : i32 (c : Int) - 1 = i32 ((c - 1 : Nat) : Int) := by rw [show (1 : Int32) = i32 1 from rfl, i32_sub]; congr 1; omega
    unfold F_tellNext_L43 F_tellNext_b76
    rw [hf.gI 23 (nk 23 (by decide)), hc.2.1, if_neg (fun z => by have := (i32_le (by omega) (by omega)).mp z; omega), k1, ck_n (by omega) (by decide), ck_n (by omega) (by decide), e28, e28', ite_ii (i32_eq (a := (Q : Int)) (b := (P : Int)) (by omega) (by omega))]
    by_cases w : Q = P
    · subst w
      have gu : u = g + 1 := by omega
      obtain ⟨μ1, q1, q2, q3⟩ := misNext_e (N := N) (μ := ρ) hL (fun c hc => by rw [hf.gA 31 (nk 31 (by decide))]; exact h31 c hc) hR (show c - 1 < fcN n L (nX n L + 1) by omega) (show c < fcN n L (nX n L + 1) by omega)
      obtain ⟨μ', T, r1, r2, r3, r4⟩ := ih (c + 1) m μ1 _ (by omega) (by omega) (by omega) (hf.tr q2) q3
      refine ⟨μ', T, ?_, r2, r3, fun i j => ?_⟩
      · rw [if_pos rfl, q1, Option.bind_some]
        simp only [i32_s]
        exact r1
      · rw [r4 i j]
        have one : (R i j || (!decide (fcC n L (c - 1) = fcC n L c) && ((decide (i = fcC n L (c - 1)) && decide (j = fcC n L c)) || (decide (i = fcC n L c) && decide (j = fcC n L (c - 1)))))) = true ↔ R i j = true ∨ nbP n L (c - 1) c i j := by
          unfold nbP
          simp
        rw [one]
        have e2 : fcN n L Q + (g + 1) = c := by omega
        constructor
        · rintro ((h | h) | ⟨S', g', h1, h2, h3, h4⟩)
          · exact Or.inl h
          · exact Or.inr ⟨Q, g, hP, by omega, by omega, by rw [← ec, e2]; exact h⟩
          · exact Or.inr ⟨S', g', h1, h2, by omega, h4⟩
        · rintro (h | ⟨S', g', h1, h2, h3, h4⟩)
          · exact Or.inl (Or.inl h)
          · by_cases e : fcN n L S' + (g' + 1) = c
            · obtain ⟨e1, e3⟩ := fcN_un (n := n) (L := L) (S := S') (g := g' + 1) (S' := Q) (g' := g + 1) (by omega) (by omega) (by omega)
              subst e1
              have : g' = g := by omega
              subst this
              rw [← ec, e2] at h4
              exact Or.inl (Or.inr h4)
            · exact Or.inr ⟨S', g', h1, h2, by omega, h4⟩
    · obtain ⟨μ', T, r1, r2, r3, r4⟩ := ih (c + 1) m ρ R (by omega) (by omega) (by omega) hf hR
      refine ⟨μ', T, ?_, r2, r3, fun i j => ?_⟩
      · rw [if_neg (by omega)]
        simp only [i32_s]
        exact r1
      · rw [r4 i j]
        constructor
        · rintro (h | ⟨S', g', h1, h2, h3, h4⟩)
          · exact Or.inl h
          · exact Or.inr ⟨S', g', h1, h2, by omega, h4⟩
        · rintro (h | ⟨S', g', h1, h2, h3, h4⟩)
          · exact Or.inl h
          · by_cases e : fcN n L S' + (g' + 1) = c
            · obtain ⟨e1, -⟩ := fcN_un (n := n) (L := L) (S := S') (g := g' + 1) (S' := Q) (g' := u) (by omega) hu (by omega)
              obtain ⟨e2, -⟩ := fcN_un (n := n) (L := L) (S := S') (g := g') (S' := P) (g' := g) (by omega) hg (by omega)
              exact absurd (e1.symm.trans e2) w
            · exact Or.inr ⟨S', g', h1, h2, by omega, h4⟩
end MS
