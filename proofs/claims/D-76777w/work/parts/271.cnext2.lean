/-! NEIGHBOURS, the component: all of a face -/
set_option maxRecDepth 100000
section CN2
variable {N n : Nat} {L : Nat → Sg} {σ : FSt}
/-- a face beside face k in a slab, or over there at an upright's wall -/
def nbS (n : Nat) (L : Nat → Sg) (k c0 f : Nat) : Prop := ∃ S g, S ≤ nX n L ∧ g < nGr n L S ∧ c0 ≤ fcN n L S + g ∧ nbB n L k (fcN n L S + g) (fcN n L S + (g + 1)) f = true
def nbW (n : Nat) (L : Nat → Sg) (k : Nat) (wl : List Wl) (f : Nat) : Prop := ∃ w, w ∈ wl ∧ nbB n L k w.1 w.2.1 f = true
theorem cnall_e (hN : 2000 ≤ N) (hL : LOk n L) (hc : CSd (fC σ 1) n L (nX n L + 1)) (h16 : ∀ c, c < fcN n L (nX n L + 1) → cA (fC σ 1) 16 c = i32 ((fcC n L c : Nat) : Int)) {wl : List Wl} (hw : CWl (fC σ 1) wl) (hb : wl.length ≤ 1480) (hin : ∀ w ∈ wl, w.1 < fcN n L (nX n L + 1) ∧ w.2.1 < fcN n L (nX n L + 1) ∧ w.2.2 < 1024) {k : Nat} (hk : k < 740) : ∀ (d c m : Nat) (β : BSt) (S : Nat → Bool), c + d + 1 = fcN n L (nX n L + 1) → d < m → BSo 12 β S → ∃ (β' : BSt) (T : Nat → Bool), F_X0_nextTo_L13 N σ m (i32 (k : Int)) β (i32 (c : Int)) = some β' ∧ BSo 12 β' (fun f => T f && !decide (f = k)) ∧ ∀ f, T f = true ↔ S f = true ∨ nbS n L k c f ∨ nbW n L k wl f := by
  have hn10 := hL.1
  have m65 := nX_65 hL
  have le := fcN_le hn10 L (nX n L + 1)
  intro d
  induction d with
  | zero =>
    intro c m β S hcd hm hS
    obtain ⟨m, rfl⟩ : ∃ j, m = j + 1 := ⟨m - 1, by omega⟩
    obtain ⟨β', T, q1, q2, q3⟩ := cnwall_e (N := N) hN hL h16 hw hb hin hk wl.length 0 N β S (by omega) (by omega) hS
    refine ⟨β', T, ?_, q2, fun f => ?_⟩
    · unfold F_X0_nextTo_L13
      rw [hc.2.2.2.1, i32_s, if_pos ((i32_le (by omega) (by omega)).mpr (by omega))]
      exact q1
    · rw [q3 f]
      constructor
      · rintro (h | ⟨j, w, -, j2, j3⟩)
        · exact Or.inl h
        · exact Or.inr (Or.inr ⟨w, List.mem_of_getElem? j2, j3⟩)
      · rintro (h | ⟨S', g', h1, h2, h3, -⟩ | ⟨w, j2, j3⟩)
        · exact Or.inl h
        · have := fcN_lt (n := n) (L := L) h1 (show g' + 1 ≤ nGr n L S' by omega)
          omega
        · obtain ⟨j, hj⟩ := List.mem_iff_getElem?.mp j2
          exact Or.inr ⟨j, w, Nat.zero_le _, hj, j3⟩
  | succ d ih =>
    intro c m β S hcd hm hS
    obtain ⟨m, rfl⟩ : ∃ j, m = j + 1 := ⟨m - 1, by omega⟩
    obtain ⟨P, g, hP, hg, ec⟩ := fcN_ex (n := n) (L := L) (c := c) (m := nX n L) (by omega)
    obtain ⟨Q, u, hQ, hu, ed⟩ := fcN_ex (n := n) (L := L) (c := c + 1) (m := nX n L) (by omega)
    have e15 : cA (fC σ 1) 15 c = i32 (P : Int) := by rw [ec]; exact hc.2.2.2.2 P (by omega) g hg
    have e15' : cA (fC σ 1) 15 (c + 1) = i32 (Q : Int) := by rw [ed]; exact hc.2.2.2.2 Q (by omega) u hu
    have nx : fcN n L (P + 1) = fcN n L P + (nGr n L P + 1) := rfl
    unfold F_X0_nextTo_L13
    rw [hc.2.2.2.1, i32_s, if_neg (fun z => by have := (i32_le (by omega) (by omega)).mp z; omega), ck_n (by omega) (by decide), ck_n (by omega) (by decide), e15, e15', ite_ii (i32_eq (a := (P : Int)) (b := (Q : Int)) (by omega) (by omega))]
    unfold F_X0_nextTo_b59
    by_cases w : P = Q
    · subst w
      have gu : u = g + 1 := by omega
      obtain ⟨β1, q1, q2⟩ := cnext_e (N := N) hL h16 hS hk (show c < fcN n L (nX n L + 1) by omega) (show c + 1 < fcN n L (nX n L + 1) by omega)
      obtain ⟨β2, T, r1, r2, r3⟩ := ih (c + 1) m β1 _ (by omega) (by omega) q2
      refine ⟨β2, T, ?_, r2, fun f => ?_⟩
      · rw [if_pos rfl, q1, Option.bind_some]
        simp only [i32_s]
        exact r1
      · rw [r3 f, Bool.or_eq_true]
        have e2 : fcN n L P + (g + 1) = c + 1 := by omega
        constructor
        · rintro ((h | h) | ⟨S', g', h1, h2, h3, h4⟩ | h)
          · exact Or.inl h
          · exact Or.inr (Or.inl ⟨P, g, hP, by omega, by omega, by rw [← ec, e2]; exact h⟩)
          · exact Or.inr (Or.inl ⟨S', g', h1, h2, by omega, h4⟩)
          · exact Or.inr (Or.inr h)
        · rintro (h | ⟨S', g', h1, h2, h3, h4⟩ | h)
          · exact Or.inl (Or.inl h)
          · by_cases e : fcN n L S' + g' = c
            · obtain ⟨e1, e3⟩ := fcN_un (by omega) hg (e.trans ec)
              subst e1; subst e3
              rw [← ec, e2] at h4
              exact Or.inl (Or.inr h4)
            · exact Or.inr (Or.inl ⟨S', g', h1, h2, by omega, h4⟩)
          · exact Or.inr (Or.inr h)
    · obtain ⟨β2, T, r1, r2, r3⟩ := ih (c + 1) m β S (by omega) (by omega) hS
      refine ⟨β2, T, ?_, r2, fun f => ?_⟩
      · rw [if_neg (by omega)]
        simp only [i32_s]
        exact r1
      · rw [r3 f]
        constructor
        · rintro (h | ⟨S', g', h1, h2, h3, h4⟩ | h)
          · exact Or.inl h
          · exact Or.inr (Or.inl ⟨S', g', h1, h2, by omega, h4⟩)
          · exact Or.inr (Or.inr h)
        · rintro (h | ⟨S', g', h1, h2, h3, h4⟩ | h)
          · exact Or.inl h
          · by_cases e : fcN n L S' + g' = c
            · obtain ⟨e1, e3⟩ := fcN_un (by omega) hg (e.trans ec)
              subst e1; subst e3
              obtain ⟨e4, -⟩ := fcN_un (n := n) (L := L) (S := S') (g := g' + 1) (S' := Q) (g' := u) (by omega) hu (by omega)
              exact absurd e4 w
            · exact Or.inr (Or.inl ⟨S', g', h1, h2, by omega, h4⟩)
          · exact Or.inr (Or.inr h)
end CN2
