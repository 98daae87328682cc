/-! NEIGHBOURS, the component: one pair of cells -/
set_option maxRecDepth 100000
theorem bso_cong {wn : Nat} {β : BSt} {S T : Nat → Bool} (h : BSo wn β S) (e : ∀ i, S i = T i) : BSo wn β T := by
  have : S = T := funext e
  rw [← this]; exact h
section CN
variable {N n : Nat} {L : Nat → Sg} {σ : FSt}
/-- what a pair of cells gives a face -/
noncomputable def nbB (n : Nat) (L : Nat → Sg) (k c d f : Nat) : Bool := (decide (fcC n L c = k) && decide (f = fcC n L d)) || (decide (fcC n L d = k) && decide (f = fcC n L c))
theorem cnext_e (hL : LOk n L) (h16 : ∀ c, c < fcN n L (nX n L + 1) → cA (fC σ 1) 16 c = i32 ((fcC n L c : Nat) : Int)) {β : BSt} {S : Nat → Bool} (hb : BSo 12 β S) {k c d : Nat} (hk : k < 740) (hc : c < fcN n L (nX n L + 1)) (hd : d < fcN n L (nX n L + 1)) : ∃ β', F_X0_next N σ β (i32 (k : Int)) (i32 (c : Int)) (i32 (d : Int)) = some β' ∧ BSo 12 β' (fun f => S f || nbB n L k c d f) := by
  have hn10 := hL.1
  have m65 := nX_65 hL
  have le := fcN_le hn10 L (nX n L + 1)
  have nl := @nFc_le n L
  have fc := fcC_lt hc
  have fd := fcC_lt hd
  have A : ∀ {α : Type} (f : Nat → Option α), ck (i32 (c : Int)) 740 f = f c := fun f => ck_n (by omega) (by decide) f
  have B : ∀ {α : Type} (f : Nat → Option α), ck (i32 (d : Int)) 740 f = f d := fun f => ck_n (by omega) (by decide) f
  have two : ∀ (β : BSt) (T : Nat → Bool), BSo 12 β T → ∃ β', F_X0_next_b27 N σ β (i32 (k : Int)) (i32 (c : Int)) (i32 (d : Int)) = some β' ∧ BSo 12 β' (fun f => T f || (decide (fcC n L d = k) && decide (f = fcC n L c))) := by
    intro β T hT
    unfold F_X0_next_b27
    rw [B, h16 d hd, ite_ii (i32_eq (a := ((fcC n L d : Nat) : Int)) (b := (k : Int)) (by omega) (by omega))]
    by_cases w : fcC n L d = k
    · obtain ⟨β', q1, q2⟩ := bset_e (N := N) (by decide) hT (a := fcC n L c) (by omega)
      refine ⟨β', ?_, bso_cong q2 (fun i => by rw [decide_eq_true w, Bool.true_and])⟩
      rw [if_pos (by omega), A, h16 c hc, q1]; rfl
    · exact ⟨β, by rw [if_neg (by omega)], bso_cong hT (fun i => by rw [decide_eq_false w, Bool.false_and, Bool.or_false])⟩
  unfold F_X0_next
  rw [A, h16 c hc, ite_ii (i32_eq (a := ((fcC n L c : Nat) : Int)) (b := (k : Int)) (by omega) (by omega))]
  by_cases w : fcC n L c = k
  · obtain ⟨β1, q1, q2⟩ := bset_e (N := N) (by decide) hb (a := fcC n L d) (by omega)
    obtain ⟨β2, r1, r2⟩ := two β1 _ q2
    refine ⟨β2, ?_, bso_cong r2 (fun i => by unfold nbB; rw [decide_eq_true w, Bool.true_and, Bool.or_assoc])⟩
    rw [if_pos (by omega), B, h16 d hd, q1]
    exact r1
  · obtain ⟨β2, r1, r2⟩ := two β S hb
    refine ⟨β2, ?_, bso_cong r2 (fun i => by unfold nbB; rw [decide_eq_false w, Bool.false_and, Bool.false_or])⟩
    rw [if_neg (by omega)]
    exact r1
/-- over the walls -/
theorem cnwall_e (hN : 2000 ≤ N) (hL : LOk n L) (h16 : ∀ c, c < fcN n L (nX n L + 1) → cA (fC σ 1) 16 c = i32 ((fcC n L c : Nat) : Int)) {wl : List Wl} (hw : CWl (fC σ 1) wl) (hb : wl.length ≤ 1480) (hin : ∀ w ∈ wl, w.1 < fcN n L (nX n L + 1) ∧ w.2.1 < fcN n L (nX n L + 1) ∧ w.2.2 < 1024) {k : Nat} (hk : k < 740) : ∀ (d i m : Nat) (β : BSt) (S : Nat → Bool), i + d = wl.length → d < m → BSo 12 β S → ∃ (β' : BSt) (T : Nat → Bool), F_X0_nextTo_L67 N σ m (i32 (k : Int)) β (i32 (i : Int)) = some β' ∧ BSo 12 β' (fun f => T f && !decide (f = k)) ∧ ∀ f, T f = true ↔ S f = true ∨ ∃ j w, i ≤ j ∧ wl[j]? = some w ∧ nbB n L k w.1 w.2.1 f = true := by
  have hn10 := hL.1
  intro d
  induction d with
  | zero =>
    intro i m β S hi hm hS
    obtain ⟨m, rfl⟩ : ∃ j, m = j + 1 := ⟨m - 1, by omega⟩
    obtain ⟨β', q1, q2⟩ := bclr_e (N := N) (wn := 12) (by decide) (by omega) hS (a := k) (by omega)
    refine ⟨β', S, ?_, q2, fun f => ⟨Or.inl, fun h => ?_⟩⟩
    · unfold F_X0_nextTo_L67
      rw [hw.1, if_pos ((i32_le (by omega) (by omega)).mpr (by omega)), q1]; rfl
    · rcases h with h | ⟨j, w, h1, h2, -⟩
      · exact h
      · have := (List.getElem?_eq_some_iff.mp h2).1
        omega
  | succ d ih =>
    intro i m β S hi hm hS
    obtain ⟨m, rfl⟩ : ∃ j, m = j + 1 := ⟨m - 1, by omega⟩
    have lt : i < wl.length := by omega
    have ew : wl[i]? = some wl[i] := List.getElem?_eq_getElem lt
    generalize hwi : wl[i] = w at *
    obtain ⟨w1, w2, w3⟩ := hw.2 i w ew
    obtain ⟨b1, b2, -⟩ := hin w (List.mem_of_getElem? ew)
    obtain ⟨β1, q1, q2⟩ := cnext_e (N := N) hL h16 hS hk b1 b2
    obtain ⟨β2, T, r1, r2, r3⟩ := ih (i + 1) m β1 _ (by omega) (by omega) q2
    refine ⟨β2, T, ?_, r2, fun f => ?_⟩
    · unfold F_X0_nextTo_L67
      rw [hw.1, if_neg (fun z => by have := (i32_le (by omega) (by omega)).mp z; omega), ck_n (by omega) (by decide), ck_n (by omega) (by decide), w1, w2, q1, Option.bind_some]
      simp only [i32_s]
      exact r1
    · rw [r3 f, Bool.or_eq_true]
      constructor
      · rintro ((h | h) | ⟨j, v, j1, j2, j3⟩)
        · exact Or.inl h
        · exact Or.inr ⟨i, w, Nat.le_refl _, ew, h⟩
        · exact Or.inr ⟨j, v, by omega, j2, j3⟩
      · rintro (h | ⟨j, v, j1, j2, j3⟩)
        · exact Or.inl (Or.inl h)
        · by_cases e : j = i
          · subst e
            have : w = v := Option.some.inj (ew.symm.trans j2)
            subst this
            exact Or.inl (Or.inr j3)
          · exact Or.inr ⟨j, v, by omega, j2, j3⟩
end CN
