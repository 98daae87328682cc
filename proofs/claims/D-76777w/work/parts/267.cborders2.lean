/-! BORDERS, the component: cells, then walls -/
set_option maxRecDepth 100000
section CB2
variable {N n : Nat} {L : Nat → Sg} {σ : FSt}
/-- a line that bounds a cell of face k below or above -/
def bdC (n : Nat) (L : Nat → Sg) (k c0 l : Nat) : Prop := ∃ S g, S ≤ nX n L ∧ g ≤ nGr n L S ∧ c0 ≤ fcN n L S + g ∧ fcC n L (fcN n L S + g) = k ∧ ((loS n L S g).testBit l = true ∨ (hiS n L S g).testBit l = true)
theorem cbord_e (hN : 2000 ≤ N) (hL : LOk n L) (hc : CSd (fC σ 1) n L (nX n L + 1)) {wl : List Wl} (h16 : ∀ c, c < fcN n L (nX n L + 1) → cA (fC σ 1) 16 c = i32 ((fcC n L c : Nat) : Int)) (hw : CWl (fC σ 1) wl) (hb : wl.length ≤ 1480) (hin : ∀ w ∈ wl, w.1 < fcN n L (nX n L + 1) ∧ w.2.1 < fcN n L (nX n L + 1) ∧ w.2.2 < 1024) {k : Nat} (hk : k < 740) : ∃ acc', F_X0_borders N σ (i32 (k : Int)) = some (nI acc') ∧ acc' < 1024 ∧ ∀ l, acc'.testBit l = true ↔ bdC n L k 0 l ∨ ∃ w, w ∈ wl ∧ (fcC n L w.1 = k ∨ fcC n L w.2.1 = k) ∧ w.2.2.testBit l = true := by
  have hn10 := hL.1
  have m65 := nX_65 hL
  have le := fcN_le hn10 L (nX n L + 1)
  have nl := @nFc_le n L
  have main : ∀ (d c m acc : Nat), c + d = fcN n L (nX n L + 1) → d < m → acc < 1024 → ∃ acc', F_X0_borders_L4 N σ m (i32 (k : Int)) (nI acc) (i32 (c : Int)) = some (nI acc') ∧ acc' < 1024 ∧ ∀ l, acc'.testBit l = true ↔ acc.testBit l = true ∨ bdC n L k c l ∨ ∃ w, w ∈ wl ∧ (fcC n L w.1 = k ∨ fcC n L w.2.1 = k) ∧ w.2.2.testBit l = true := by
    intro d
    induction d with
    | zero =>
      intro c m acc hcd hm ha
      obtain ⟨m, rfl⟩ : ∃ j, m = j + 1 := ⟨m - 1, by omega⟩
      obtain ⟨acc', q1, q2, q3⟩ := cwall_e (N := N) (σ := σ) hL h16 hw hb hin hk wl.length 0 N acc (by omega) (by omega) ha
      refine ⟨acc', ?_, q2, fun l => ?_⟩
      · unfold F_X0_borders_L4
        rw [hc.2.2.2.1, if_pos ((i32_le (by omega) (by omega)).mpr (by omega))]
        exact q1
      · rw [q3 l]
        constructor
        · rintro (h | ⟨j, w, -, j2, j3⟩)
          · exact Or.inl h
          · exact Or.inr (Or.inr ⟨w, List.mem_of_getElem? j2, j3⟩)
        · rintro (h | ⟨S, g, h1, h2, h3, -⟩ | ⟨w, j2, j3⟩)
          · exact Or.inl h
          · have := fcN_lt (n := n) (L := L) h1 h2
            omega
          · obtain ⟨j, hj⟩ := List.mem_iff_getElem?.mp j2
            exact Or.inr ⟨j, w, Nat.zero_le _, hj, j3⟩
    | succ d ih =>
      intro c m acc hcd hm ha
      obtain ⟨m, rfl⟩ : ∃ j, m = j + 1 := ⟨m - 1, by omega⟩
      obtain ⟨S, g, hS, hg, ec⟩ := fcN_ex (n := n) (L := L) (c := c) (m := nX n L) (by omega)
      have fl := fcC_lt (n := n) (L := L) (c := c) (by omega)
      obtain ⟨b1, b2⟩ := lo_1024 hL hg
      unfold F_X0_borders_L4
      rw [hc.2.2.2.1, if_neg (fun z => by have := (i32_le (by omega) (by omega)).mp z; omega), ck_n (by omega) (by decide), h16 c (by omega), ite_ii (i32_eq (a := ((fcC n L c : Nat) : Int)) (b := (k : Int)) (by omega) (by omega))]
      unfold F_X0_borders_b53
      by_cases w : fcC n L c = k
      · obtain ⟨acc', q1, q2, q3⟩ := ih (c + 1) m (acc ||| (loS n L S g ||| hiS n L S g)) (by omega) (by omega) (or_1024 ha (or_1024 b1 b2))
        refine ⟨acc', ?_, q2, fun l => ?_⟩
        · have l0 := lineOf_e (N := N) (κ := fC σ 1) hL hc hS hg (k := 0) (Or.inl rfl)
          have l1 := lineOf_e (N := N) (κ := fC σ 1) hL hc hS hg (k := 1) (Or.inr rfl)
          rw [← ec, if_pos rfl] at l0
          rw [← ec, if_neg (by decide)] at l1
          rw [if_pos (by omega), show (0 : Int32) = i32 0 from rfl, show (1 : Int32) = i32 1 from rfl, l0, Option.bind_some, l1, Option.bind_some]
          simp only [nx_o10 b1 b2, nx_o10 ha (or_1024 b1 b2)]
          rw [show i32 (c : Int) + i32 1 = i32 ((c + 1 : Nat) : Int) from i32_add _ _]
          exact q1
        · rw [q3 l, Nat.testBit_or, Nat.testBit_or, Bool.or_eq_true, Bool.or_eq_true]
          constructor
          · rintro ((h | h) | ⟨S', g', h1, h2, h3, h4⟩ | h)
            · exact Or.inl h
            · exact Or.inr (Or.inl ⟨S, g, hS, hg, by omega, by rw [← ec]; exact w, h⟩)
            · exact Or.inr (Or.inl ⟨S', g', h1, h2, by omega, h4⟩)
            · exact Or.inr (Or.inr h)
          · rintro (h | ⟨S', g', h1, h2, h3, h4, h5⟩ | h)
            · exact Or.inl (Or.inl h)
            · by_cases e : fcN n L S' + g' = c
              · obtain ⟨e1, e2⟩ := fcN_un h2 hg (e.trans ec)
                subst e1; subst e2
                exact Or.inl (Or.inr h5)
              · exact Or.inr (Or.inl ⟨S', g', h1, h2, by omega, h4, h5⟩)
            · exact Or.inr (Or.inr h)
      · obtain ⟨acc', q1, q2, q3⟩ := ih (c + 1) m acc (by omega) (by omega) ha
        refine ⟨acc', ?_, q2, fun l => ?_⟩
        · rw [if_neg (by omega)]
          simp only [i32_s]
          exact q1
        · rw [q3 l]
          constructor
          · rintro (h | ⟨S', g', h1, h2, h3, h4⟩ | h)
            · exact Or.inl h
            · exact Or.inr (Or.inl ⟨S', g', h1, h2, by omega, h4⟩)
            · exact Or.inr (Or.inr h)
          · rintro (h | ⟨S', g', h1, h2, h3, h4, h5⟩ | h)
            · exact Or.inl h
            · by_cases e : fcN n L S' + g' = c
              · rw [e] at h4; exact absurd h4 w
              · exact Or.inr (Or.inl ⟨S', g', h1, h2, by omega, h4, h5⟩)
            · exact Or.inr (Or.inr h)
  obtain ⟨acc', q1, q2, q3⟩ := main (fcN n L (nX n L + 1)) 0 N 0 (by omega) (by omega) (by decide)
  refine ⟨acc', q1, q2, fun l => ?_⟩
  rw [q3 l, Nat.zero_testBit]
  exact ⟨fun h => h.resolve_left (by decide), Or.inr⟩
end CB2
