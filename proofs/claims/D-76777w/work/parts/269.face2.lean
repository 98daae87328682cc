/-! CALL: face, what bounds it -/
set_option maxRecDepth 100000
section F2
variable {N n : Nat} {L : Nat → Sg} {σ : FSt} {μ : MSt}
theorem bd_same (hL : LOk n L) {wl : List Wl} (hwl : ∀ w, w ∈ wl ↔ aP n L (nX n L) (QW n L w)) (k l : Nat) : (bdC n L k 0 l ∨ ∃ w, w ∈ wl ∧ (fcC n L w.1 = k ∨ fcC n L w.2.1 = k) ∧ w.2.2.testBit l = true) ↔ bdF n L k 0 l := by
  constructor
  · rintro (⟨S, g, h1, h2, h3, h4, h5⟩ | ⟨w, hw, hf, hb⟩)
    · exact ⟨S, g, h1, h2, h3, h4, Or.inl h5⟩
    · obtain ⟨t, ht, a, b, ha, hb', ov, ew, -⟩ := (hwl w).mp hw
      rw [ew] at hf hb
      rcases hf with hf | hf
      · exact ⟨t, a, by omega, ha, Nat.zero_le _, hf, Or.inr (Or.inr ⟨ht, (bdM_r hL ht ha).mpr ⟨b, hb', ov, hb⟩⟩)⟩
      · exact ⟨t + 1, b, by omega, hb', Nat.zero_le _, hf, Or.inr (Or.inl ⟨by omega, (bdM_l hL ht hb').mpr ⟨a, ha, ov, hb⟩⟩)⟩
  · have nz : ∀ x : Nat, x.testBit l = true → x ≠ 0 := fun x h e => by rw [e, Nat.zero_testBit] at h; cases h
    rintro ⟨S, g, h1, h2, h3, h4, h5 | ⟨h5, h6⟩ | ⟨h5, h6⟩⟩
    · exact Or.inl ⟨S, g, h1, h2, h3, h4, h5⟩
    · obtain ⟨t, rfl⟩ : ∃ t, S = t + 1 := ⟨S - 1, by omega⟩
      have h6 : (bdM n L t (t + 1) g).testBit l = true := h6
      obtain ⟨a, ha, ov, hu⟩ := (bdM_l hL (by omega) h2).mp h6
      exact Or.inr ⟨(fcN n L t + a, fcN n L (t + 1) + g, upS n L (xX n L t) (lwP n L t a g) (hgP n L t a g)), (hwl _).mpr ⟨t, by omega, a, g, ha, h2, ov, rfl, nz _ hu⟩, Or.inr h4, hu⟩
    · obtain ⟨b, hb, ov, hu⟩ := (bdM_r hL h5 h2).mp h6
      exact Or.inr ⟨(fcN n L S + g, fcN n L (S + 1) + b, upS n L (xX n L S) (lwP n L S g b) (hgP n L S g b)), (hwl _).mpr ⟨S, h5, g, b, h2, hb, ov, rfl, nz _ hu⟩, Or.inl h4, hu⟩
theorem wl_in (hL : LOk n L) {wl : List Wl} (hwl : ∀ w, w ∈ wl ↔ aP n L (nX n L) (QW n L w)) : ∀ w ∈ wl, w.1 < fcN n L (nX n L + 1) ∧ w.2.1 < fcN n L (nX n L + 1) ∧ w.2.2 < 1024 := by
  intro w hw
  obtain ⟨t, ht, a, b, ha, hb, ov, ew, -⟩ := (hwl w).mp hw
  rw [ew]
  exact ⟨fcN_lt (by omega) ha, fcN_lt (by omega) hb, pw10 (ms_lt _ _) hL.1⟩
theorem face2_op (hN : 2000 ≤ N) (h : RL1 n L σ μ) {x : Int} (hx : -2147483648 ≤ x ∧ x < 2147483648) : OpE n L σ μ (F_X0_face N σ (i32 x) (i32 2)) (F_face N μ (i32 x) (i32 2)) := by
  obtain ⟨κ', μ', c1, m1, fc, fm, h', td, md⟩ := both_told hN h
  have hn10 := h.1.1
  have m65 := nX_65 h.1
  have le := fcN_le hn10 L (nX n L + 1)
  have nl := @nFc_le n L
  unfold F_X0_face F_face
  rw [inx_e (A := 0) (B := 4) (x := 2) 0 4 rfl rfl (by omega) (by omega) (by omega), inm_e (A := 0) (B := 4) (x := 2) 0 4 rfl rfl (by omega) (by omega) (by omega), Option.bind_some, Option.bind_some, bi_0, bi_0, decide_eq_true (show (0 : Int) ≤ 2 ∧ (2 : Int) ≤ 4 by omega), if_pos rfl, if_pos rfl, c1, m1]
  refine OpE.tr fc fm ?_
  obtain ⟨-, -, -, -, t13, -, t7⟩ := td
  obtain ⟨-, s22, s23, -, s5⟩ := md
  have e11 : cI (fC (fsC σ 1 κ') 1) 11 = i32 ((nFc n L : Nat) : Int) := t7.1
  simp only [Option.bind_some, e11]
  rw [show i32 ((nFc n L : Nat) : Int) - 1 = i32 (((nFc n L : Nat) : Int) - 1) from i32_sub _ 1, i32_to64 (a := ((nFc n L : Nat) : Int) - 1) (by omega), inx_e (A := 0) (B := i64 (((nFc n L : Nat) : Int) - 1)) 0 (((nFc n L : Nat) : Int) - 1) rfl rfl hx (by omega) (by omega), s5.1, show i32 ((nFc n L : Nat) : Int) - 1 = i32 (((nFc n L : Nat) : Int) - 1) from i32_sub _ 1, inm_e (A := 0) (B := i32 (((nFc n L : Nat) : Int) - 1)) 0 (((nFc n L : Nat) : Int) - 1) rfl rfl hx (by omega) (by omega), Option.bind_some, Option.bind_some, bi_0, bi_0]
  by_cases cx : 0 ≤ x ∧ x ≤ ((nFc n L : Nat) : Int) - 1
  · rw [decide_eq_true cx, if_pos rfl, if_pos rfl]
    obtain ⟨k, rfl⟩ : ∃ k : Nat, x = k := ⟨x.toNat, by omega⟩
    obtain ⟨wl, w1, w2, w3⟩ := t7.2.2.2
    obtain ⟨a1, p1, p2, p3⟩ := cbord_e (N := N) (σ := fsC σ 1 κ') hN h.1 t13 t7.2.1 w1 w3 (wl_in h.1 w2) (k := k) (by omega)
    obtain ⟨a2, ρ, r1, r2, r3, r4⟩ := mbord_e (N := N) hN h.1 (k := k) (by omega) h'.2.2.2 s22 s23 s5.2.1
    have e : a1 = a2 := Nat.eq_of_testBit_eq (fun l => by
      have a := (p3 l).trans ((bd_same h.1 w2 k l).trans (r4 l).symm)
      cases u : a1.testBit l <;> cases v : a2.testBit l <;> simp [u, v] at a ⊢)
    rw [mface_e hN h.1 s23.2.1 s5 (by omega)]
    simp only [show (i32 2 = 0) = False from eq_false (by decide), show (i32 2 = 1) = False from eq_false (by decide), show (i32 2 = 2) = True from eq_true (by decide), if_true, if_false, p1, r1, Option.bind_some]
    rw [e]
    exact OpE.tr (frC.rf _) (r2.up (by decide) : mfr scr μ' ρ) (OpE.rf ⟨h'.1, h'.2.1, h'.2.2.1, h'.2.2.2.fr r2 (by decide)⟩ _)
  · rw [decide_eq_false cx, if_neg (show ¬ (false = true) by decide), if_neg (show ¬ (false = true) by decide)]; exact OpE.rf h' _
end F2
