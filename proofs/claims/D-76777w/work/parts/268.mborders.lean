/-! BORDERS, the model: what its loop gathers -/
set_option maxRecDepth 100000
theorem bdM_1024 {n : Nat} (hn : n ≤ 10) (L : Nat → Sg) (t S g : Nat) : bdM n L t S g < 1024 := pw10 (ms_lt _ _) hn
section MB2
variable {N n : Nat} {L : Nat → Sg} {μ : MSt}
/-- a line that bounds a cell of face k, or stands upright beside it -/
def bdU (n : Nat) (L : Nat → Sg) (S g l : Nat) : Prop := ((loS n L S g).testBit l = true ∨ (hiS n L S g).testBit l = true) ∨ (0 < S ∧ (bdM n L (S - 1) S g).testBit l = true) ∨ (S < nX n L ∧ (bdM n L S S g).testBit l = true)
def bdF (n : Nat) (L : Nat → Sg) (k c0 l : Nat) : Prop := ∃ S g, S ≤ nX n L ∧ g ≤ nGr n L S ∧ c0 ≤ fcN n L S + g ∧ fcC n L (fcN n L S + g) = k ∧ bdU n L S g l
theorem mbord_e (hN : 2000 ≤ N) (hL : LOk n L) {k : Nat} (hk : k < 740) (h : MLn μ n L) (hx : MXs μ n L) (hc : MCS μ n L (nX n L + 1)) (h31 : ∀ c, c < fcN n L (nX n L + 1) → gA μ 31 c = i32 ((fcC n L c : Nat) : Int)) : ∃ acc' μ', F_borders N μ (i32 (k : Int)) = some (nI acc', μ') ∧ mfr ksF μ μ' ∧ acc' < 1024 ∧ ∀ l, acc'.testBit l = true ↔ bdF n L k 0 l := by
  have hn10 := hL.1
  have m65 := nX_65 hL
  have le := fcN_le hn10 L (nX n L + 1)
  have nl := @nFc_le n L
  have main : ∀ (d c m acc : Nat) (ρ : MSt), c + d = fcN n L (nX n L + 1) → d < m → acc < 1024 → mfr ksF μ ρ → ∃ acc' μ', F_borders_L4 N m ρ (i32 (k : Int)) (nI acc) (i32 (c : Int)) = some (nI acc', μ') ∧ mfr ksF μ μ' ∧ acc' < 1024 ∧ ∀ l, acc'.testBit l = true ↔ acc.testBit l = true ∨ bdF n L k c l := by
    intro d
    induction d with
    | zero =>
      intro c m acc ρ hcd hm ha hf
      obtain ⟨m, rfl⟩ : ∃ j, m = j + 1 := ⟨m - 1, by omega⟩
      refine ⟨acc, ρ, ?_, hf, ha, fun l => ⟨Or.inl, fun h => ?_⟩⟩
      · unfold F_borders_L4
        rw [(hc.fr hf (by decide)).2.1, if_pos ((i32_le (by omega) (by omega)).mpr (by omega))]
      · rcases h with h | ⟨S, g, h1, h2, h3, -⟩
        · exact h
        · have := fcN_lt (n := n) (L := L) h1 h2
          omega
    | succ d ih =>
      intro c m acc ρ hcd hm ha hf
      obtain ⟨m, rfl⟩ : ∃ j, m = j + 1 := ⟨m - 1, by omega⟩
      obtain ⟨S, g, hS, hg, ec⟩ := fcN_ex (n := n) (L := L) (c := c) (m := nX n L) (by omega)
      have fl := fcC_lt (n := n) (L := L) (c := c) (by omega)
      obtain ⟨b1, b2⟩ := lo_1024 hL hg
      have hcρ := hc.fr hf (by decide)
      have hlρ := h.fr hf (by decide)
      have hxρ := hx.fr hf (by decide)
      obtain ⟨g28, g29, g30⟩ := hcρ.2.2 S (by omega) g hg
      rw [← ec] at g28 g29 g30
      have A : ∀ {α : Type} (f : Nat → Option α), ck (i32 (c : Int)) 900 f = f c := fun f => ck_n (by omega) (by decide) f
      by_cases w : fcC n L c = k
      · -- the right side, then on
        have right : ∀ (a : Nat) (ρ1 : MSt), a < 1024 → mfr ksF μ ρ1 → ∃ acc' μ', F_borders_b64 N (F_borders_L4 N m) ρ1 (i32 (k : Int)) (nI a) (i32 (c : Int)) = some (nI acc', μ') ∧ mfr ksF μ μ' ∧ acc' < 1024 ∧ ∀ l, acc'.testBit l = true ↔ (a.testBit l = true ∨ (S < nX n L ∧ (bdM n L S S g).testBit l = true)) ∨ bdF n L k (c + 1) l := by
          intro a ρ1 a1 f1
          have h28 : gA ρ1 28 c = i32 (S : Int) := by rw [ec]; exact ((hc.fr f1 (by decide)).2.2 S (by omega) g hg).1
          have e22 : gI ρ1 22 - 1 = i32 (nX n L : Int) := by
            rw [(hx.fr f1 (by decide)).1, show (1 : Int32) = i32 1 from rfl, i32_sub]; congr 1; omega
          unfold F_borders_b64 F_borders_b95
          simp only [A, h28, e22]
          by_cases v : nX n L ≤ S
          · rw [if_pos ((i32_le (by omega) (by omega)).mpr (by omega)), i32_s]
            obtain ⟨acc', μ', q1, q2, q3, q4⟩ := ih (c + 1) m a ρ1 (by omega) (by omega) a1 f1
            refine ⟨acc', μ', q1, q2, q3, fun l => ?_⟩
            rw [q4 l]
            constructor
            · rintro (z | z)
              · exact Or.inl (Or.inl z)
              · exact Or.inr z
            · rintro ((z | z) | z)
              · exact Or.inl z
              · exact absurd z.1 (by omega)
              · exact Or.inr z
          · rw [if_neg (fun z => by have := (i32_le (by omega) (by omega)).mp z; omega), i32_s]
            obtain ⟨ρ2, r1, r2⟩ := bordersAt_e (N := N) hN hL (h.fr f1 (by decide)) (hx.fr f1 (by decide)) (hc.fr f1 (by decide)) (t := S) (by omega) hS hg
            rw [← ec] at r1
            have b3 := bdM_1024 hn10 L S S g
            obtain ⟨acc', μ', q1, q2, q3, q4⟩ := ih (c + 1) m (a ||| bdM n L S S g) ρ2 (by omega) (by omega) (or_1024 a1 b3) (f1.tr r2)
            refine ⟨acc', μ', ?_, q2, q3, fun l => ?_⟩
            · rw [r1]
              simp only [Option.bind_some, nx_o10 a1 b3, i32_s]
              exact q1
            · rw [q4 l, Nat.testBit_or, Bool.or_eq_true]
              constructor
              · rintro ((z | z) | z)
                · exact Or.inl (Or.inl z)
                · exact Or.inl (Or.inr ⟨by omega, z⟩)
                · exact Or.inr z
              · rintro ((z | z) | z)
                · exact Or.inl (Or.inl z)
                · exact Or.inl (Or.inr z.2)
                · exact Or.inr z
        have all : ∀ l, (bdF n L k c l ↔ bdU n L S g l ∨ bdF n L k (c + 1) l) := by
          intro l
          constructor
          · rintro ⟨S', g', h1, h2, h3, h4, h5⟩
            by_cases e : fcN n L S' + g' = c
            · obtain ⟨e1, e2⟩ := fcN_un h2 hg (e.trans ec)
              subst e1; subst e2
              exact Or.inl h5
            · exact Or.inr ⟨S', g', h1, h2, by omega, h4, h5⟩
          · rintro (z | ⟨S', g', h1, h2, h3, h4⟩)
            · exact ⟨S, g, hS, hg, by omega, by rw [← ec]; exact w, z⟩
            · exact ⟨S', g', h1, h2, by omega, h4⟩
        have a40 := or_1024 ha (or_1024 b1 b2)
        unfold F_borders_L4
        rw [hcρ.2.1, if_neg (fun z => by have := (i32_le (by omega) (by omega)).mp z; omega)]
        simp only [A]
        have e31 : gA ρ 31 c = i32 ((fcC n L c : Nat) : Int) := by rw [hf.gA 31 (by decide)]; exact h31 c (by omega)
        rw [e31, ite_ii (i32_eq (a := ((fcC n L c : Nat) : Int)) (b := (k : Int)) (by omega) (by omega)), if_pos (by omega), g28, g29, g30, nx_o10 b1 b2, nx_o10 ha (or_1024 b1 b2)]
        by_cases s0 : S = 0
        · rw [if_pos (by rw [s0]; decide)]
          obtain ⟨acc', μ', q1, q2, q3, q4⟩ := right _ ρ a40 hf
          refine ⟨acc', μ', q1, q2, q3, fun l => ?_⟩
          rw [q4 l, all l, Nat.testBit_or, Nat.testBit_or, Bool.or_eq_true, Bool.or_eq_true]
          unfold bdU
          constructor
          · rintro (((z | z) | z) | z)
            · exact Or.inl z
            · exact Or.inr (Or.inl (Or.inl z))
            · exact Or.inr (Or.inl (Or.inr (Or.inr z)))
            · exact Or.inr (Or.inr z)
          · rintro (z | ((z | z | z) | z))
            · exact Or.inl (Or.inl (Or.inl z))
            · exact Or.inl (Or.inl (Or.inr z))
            · exact absurd z.1 (by omega)
            · exact Or.inl (Or.inr z)
            · exact Or.inr z
        · obtain ⟨ρ2, r1, r2⟩ := bordersAt_e (N := N) hN hL hlρ hxρ hcρ (t := S - 1) (by omega) hS hg
          rw [← ec, show S - 1 + 1 = S by omega] at r1
          have b3 := bdM_1024 hn10 L (S - 1) S g
          rw [if_neg (fun z => by have := (i32_le (a := (S : Int)) (b := 0) (by omega) (by omega)).mp z; omega), r1]
          simp only [Option.bind_some, nx_o10 a40 b3]
          obtain ⟨acc', μ', q1, q2, q3, q4⟩ := right _ ρ2 (or_1024 a40 b3) (hf.tr r2)
          refine ⟨acc', μ', q1, q2, q3, fun l => ?_⟩
          rw [q4 l, all l, Nat.testBit_or, Nat.testBit_or, Nat.testBit_or, Bool.or_eq_true, Bool.or_eq_true, Bool.or_eq_true]
          unfold bdU
          constructor
          · rintro ((((z | z) | z) | z) | z)
            · exact Or.inl z
            · exact Or.inr (Or.inl (Or.inl z))
            · exact Or.inr (Or.inl (Or.inr (Or.inl ⟨by omega, z⟩)))
            · exact Or.inr (Or.inl (Or.inr (Or.inr z)))
            · exact Or.inr (Or.inr z)
          · rintro (z | ((z | z | z) | z))
            · exact Or.inl (Or.inl (Or.inl (Or.inl z)))
            · exact Or.inl (Or.inl (Or.inl (Or.inr z)))
            · exact Or.inl (Or.inl (Or.inr z.2))
            · exact Or.inl (Or.inr z)
            · exact Or.inr z
      · obtain ⟨acc', μ', q1, q2, q3, q4⟩ := ih (c + 1) m acc ρ (by omega) (by omega) ha hf
        refine ⟨acc', μ', ?_, q2, q3, fun l => ?_⟩
        · unfold F_borders_L4
          rw [hcρ.2.1, if_neg (fun z => by have := (i32_le (by omega) (by omega)).mp z; omega)]
          simp only [A]
          have e31 : gA ρ 31 c = i32 ((fcC n L c : Nat) : Int) := by rw [hf.gA 31 (by decide)]; exact h31 c (by omega)
          rw [e31, ite_ii (i32_eq (a := ((fcC n L c : Nat) : Int)) (b := (k : Int)) (by omega) (by omega)), if_neg (by omega)]
          unfold F_borders_b95
          simp only [i32_s]
          exact q1
        · rw [q4 l]
          constructor
          · rintro (z | ⟨S', g', h1, h2, h3, h4⟩)
            · exact Or.inl z
            · exact Or.inr ⟨S', g', h1, h2, by omega, h4⟩
          · rintro (z | ⟨S', g', h1, h2, h3, h4, h5⟩)
            · exact Or.inl z
            · by_cases e : fcN n L S' + g' = c
              · rw [e] at h4; exact absurd h4 w
              · exact Or.inr ⟨S', g', h1, h2, by omega, h4, h5⟩
  obtain ⟨acc', μ', q1, q2, q3, q4⟩ := main (fcN n L (nX n L + 1)) 0 N 0 μ (by omega) (by omega) (by decide) (mfr.rf _ _)
  refine ⟨acc', μ', q1, q2, q3, fun l => ?_⟩
  rw [q4 l, Nat.zero_testBit]
  exact ⟨fun h => h.resolve_left (by decide), Or.inr⟩
end MB2
