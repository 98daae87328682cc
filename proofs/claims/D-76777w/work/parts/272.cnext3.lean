/-! NEIGHBOURS, the component: the call's own part -/
set_option maxRecDepth 100000
theorem init12 (N : Nat) : F_J1_init N 740 = some 12 := by rfl
theorem cnextTo_e {N n : Nat} {L : Nat → Sg} {σ : FSt} (hN : 2000 ≤ N) (hL : LOk n L) (hc : CSd (fC σ 1) n L (nX n L + 1)) (h16 : ∀ c, c < fcN n L (nX n L + 1) → cA (fC σ 1) 16 c = i32 ((fcC n L c : Nat) : Int)) {wl : List Wl} (hw : CWl (fC σ 1) wl) (hb : wl.length ≤ 1480) (hin : ∀ w ∈ wl, w.1 < fcN n L (nX n L + 1) ∧ w.2.1 < fcN n L (nX n L + 1) ∧ w.2.2 < 1024) {k : Nat} (hk : k < 740) : ∃ (β' : BSt) (T : Nat → Bool), F_X0_nextTo N σ (i32 (k : Int)) = some β' ∧ BSo 12 β' (fun f => T f && !decide (f = k)) ∧ ∀ f, T f = true ↔ nbS n L k 0 f ∨ nbW n L k wl f := by
  have le := fcN_le hL.1 L (nX n L + 1)
  have m65 := nX_65 hL
  have c0 : 0 < fcN n L (nX n L + 1) := fcN_lt (n := n) (L := L) (S := 0) (g := 0) (m := nX n L) (Nat.zero_le _) (Nat.zero_le _)
  obtain ⟨β', T, q1, q2, q3⟩ := cnall_e (N := N) hN hL hc h16 hw hb hin hk (fcN n L (nX n L + 1) - 1) 0 N (0, fun _ => 0) (fun _ => false) (by omega) (by omega) (bs_0 12)
  refine ⟨β', T, ?_, q2, fun f => ?_⟩
  · unfold F_X0_nextTo is12
    rw [init12, if_pos rfl]
    exact q1
  · rw [q3 f]
    exact ⟨fun h => h.resolve_left (by decide), Or.inr⟩
