/-! THE MODEL'S SHEET UP TO ITS CELLS -/
set_option maxRecDepth 100000
theorem mxl_e {N : Nat} (hN : 100 ≤ N) {x : Nat × (Nat → Pt)} (hg : ptG x) (h65 : x.1 ≤ 65) : ∀ (d p m : Nat) (σ : MSt), p + d = x.1 → d < m → MPt σ x → gI σ 22 = i32 (((xsF x p).1 + 1 : Nat) : Int) → (∀ s, s < (xsF x p).1 → gL σ 25 (s + 1) = i64 ((xsF x p).2 s).num ∧ gL σ 26 (s + 1) = i64 (((xsF x p).2 s).den : Int)) → ∃ σ', F_tellSheet_L11 N m σ (i32 (p : Int)) = F_tellSheet_L113 N N (sI σ' 23 0) 0 ∧ mfr [22, 25, 26] σ σ' ∧ gI σ' 22 = i32 (((xsF x x.1).1 + 1 : Nat) : Int) ∧ ∀ s, s < (xsF x x.1).1 → gL σ' 25 (s + 1) = i64 ((xsF x x.1).2 s).num ∧ gL σ' 26 (s + 1) = i64 (((xsF x x.1).2 s).den : Int) := by
  intro d
  induction d with
  | zero =>
    intro p m σ hp hm h h9 h8
    obtain ⟨m, rfl⟩ : ∃ j, m = j + 1 := ⟨m - 1, by omega⟩
    have e : p = x.1 := by omega
    subst e
    refine ⟨σ, ?_, mfr.rf _ _, h9, h8⟩
    unfold F_tellSheet_L11
    rw [h.1, if_pos ((i32_le (by omega) (by omega)).mpr (Int.le_refl _))]
  | succ d ih =>
    intro p m σ hp hm h h9 h8
    obtain ⟨m, rfl⟩ : ∃ j, m = j + 1 := ⟨m - 1, by omega⟩
    have hp' : p < x.1 := by omega
    obtain ⟨g1, g2, g3, g4, g5⟩ := xsF_G hg.1 p (by omega)
    have st : xsF x (p + 1) = if 0 < p ∧ (x.2 p).1 = (x.2 (p - 1)).1 then xsF x p else ((xsF x p).1 + 1, fun i => if i = (xsF x p).1 then (x.2 p).1 else (xsF x p).2 i) := rfl
    generalize hy : xsF x p = y at *
    have B : ∀ {α : Type} (f : Nat → Option α), ck (i32 (p : Int)) 80 f = f p := fun f => ck_n (by omega) (by decide) f
    have Y : ∀ {α : Type} (f : Nat → Option α), ck (i32 ((y.1 + 1 : Nat) : Int)) 81 f = f (y.1 + 1) := fun f => ck_n (by omega) (by decide) f
    have gq : ∀ i, i < x.1 → gL σ 10 i = i64 (x.2 i).1.num ∧ gL σ 11 i = i64 ((x.2 i).1.den : Int) := by
      intro i hi
      have := h.2 i hi
      rw [rfP_1] at this
      unfold gQ at this
      simp only [Prod.mk.injEq] at this
      exact this.1
    have add : ¬ (0 < p ∧ (x.2 p).1 = (x.2 (p - 1)).1) → ∃ σ', F_tellSheet_b60 N (F_tellSheet_L11 N m) σ (i32 (p : Int)) = F_tellSheet_L113 N N (sI σ' 23 0) 0 ∧ mfr [22, 25, 26] σ σ' ∧ gI σ' 22 = i32 (((xsF x x.1).1 + 1 : Nat) : Int) ∧ ∀ s, s < (xsF x x.1).1 → gL σ' 25 (s + 1) = i64 ((xsF x x.1).2 s).num ∧ gL σ' 26 (s + 1) = i64 (((xsF x x.1).2 s).den : Int) := by
      intro c
      rw [if_neg c] at st
      have f1 : mfr [22, 25, 26] σ (sI (sL (sL σ 25 (y.1 + 1) (i64 (x.2 p).1.num)) 26 (y.1 + 1) (i64 ((x.2 p).1.den : Int))) 22 (i32 ((y.1 + 1 + 1 : Nat) : Int))) := (((mfr.rf _ σ).L (by decide) _ _).L (by decide) _ _).I (by decide) _
      obtain ⟨σ', q1, q2, q3, q4⟩ := ih (p + 1) m (sI (sL (sL σ 25 (y.1 + 1) (i64 (x.2 p).1.num)) 26 (y.1 + 1) (i64 ((x.2 p).1.den : Int))) 22 (i32 ((y.1 + 1 + 1 : Nat) : Int))) (by omega) (by omega) (h.fr f1 (by decide)) (by rw [gI_sI, if_pos rfl, st]) (fun s hs => by
        rw [st] at hs ⊢
        have hs' : s < y.1 + 1 := hs
        show _ = i64 (if s = y.1 then (x.2 p).1 else y.2 s).num ∧ _ = i64 ((if s = y.1 then (x.2 p).1 else y.2 s).den : Int)
        by_cases e : s = y.1
        · subst e
          simp [gL_sI, gL_sL]
        · obtain ⟨a, b⟩ := h8 s (by omega)
          simp [gL_sI, gL_sL, e, a, b])
      refine ⟨σ', ?_, f1.tr q2, q3, q4⟩
      rw [← q1]
      unfold F_tellSheet_b60 F_tellSheet_b100
      simp only [B, gI_sL, h9, Y, gL_sL, (gq p hp').1, i32_s]
      simp [(gq p hp').2]
    unfold F_tellSheet_L11
    rw [h.1, if_neg (fun z => by have := (i32_le (by omega) (by omega)).mp z; omega), show (0 : Int32) = i32 0 from rfl, ite_ii (i32_le (by omega) (by omega))]
    by_cases c0 : (p : Int) ≤ 0
    · rw [if_pos c0]
      exact add (fun w => by omega)
    · rw [if_neg c0]
      have B' : ∀ {α : Type} (f : Nat → Option α), ck (i32 (p : Int) - 1) 80 f = f (p - 1) := fun f => by
        rw [show i32 (p : Int) - 1 = i32 ((p - 1 : Nat) : Int) by rw [show (1 : Int32) = i32 1 from rfl, i32_sub]; congr 1; omega]
        exact ck_n (by omega) (by decide) f
      have q1 := (hg.2 p hp').1
      have q0 := (hg.2 (p - 1) (by omega)).1
      have d1 : bn ((x.2 p).1.den : Int) 4000 := by have := q1.2; unfold bn; omega
      have d0 : bn ((x.2 (p - 1)).1.den : Int) 4000 := by have := q0.2; unfold bn; omega
      have ag : F_against N (i64 (x.2 p).1.num) (i64 ((x.2 p).1.den : Int)) (i64 (x.2 (p - 1)).1.num) (i64 ((x.2 (p - 1)).1.den : Int)) = some (i32 (sg (x.2 p).1 (x.2 (p - 1)).1)) := by
        rw [against_e (bn_le (bn_mul q1.1 d0) (by decide)) (bn_le (bn_mul q0.1 d1) (by decide)), sgi_q (by have := (x.2 p).1.den_pos; omega) (by have := (x.2 (p - 1)).1.den_pos; omega), rat_q, rat_q]
      have r := sg_r (x.2 p).1 (x.2 (p - 1)).1
      have z := @sg_eq (x.2 p).1 (x.2 (p - 1)).1
      simp only [B, B', (gq p hp').1, (gq p hp').2, (gq (p - 1) (by omega)).1, (gq (p - 1) (by omega)).2, ag, Option.bind_some]
      rw [ite_ii (show i32 (sg (x.2 p).1 (x.2 (p - 1)).1) = i32 0 ↔ (x.2 p).1 = (x.2 (p - 1)).1 by rw [i32_eq (by omega) (by omega), z])]
      by_cases c : (x.2 p).1 = (x.2 (p - 1)).1
      · rw [if_pos c]
        rw [if_pos ⟨by omega, c⟩] at st
        unfold F_tellSheet_b100
        simp only [i32_s]
        exact ih (p + 1) m σ (by omega) (by omega) h (by rw [st]; exact h9) (fun s hs => by rw [st] at hs ⊢; exact h8 s hs)
      · rw [if_neg c]
        exact add (fun w => c w.2)
/-- slabs below S have their cells -/
def MCS (σ : MSt) (n : Nat) (L : Nat → Sg) (S : Nat) : Prop := (∀ s, s < S → gA σ 27 s = i32 ((fcN n L s : Nat) : Int)) ∧ gI σ 23 = i32 ((fcN n L S : Nat) : Int) ∧ ∀ s, s < S → ∀ g, g ≤ nGr n L s → gA σ 28 (fcN n L s + g) = i32 (s : Int) ∧ gA σ 29 (fcN n L s + g) = nI (loS n L s g) ∧ gA σ 30 (fcN n L s + g) = nI (hiS n L s g)
theorem mslab_e {N : Nat} (hN : 100 ≤ N) {n : Nat} {L : Nat → Sg} (hL : LOk n L) :
    ∀ (d S m : Nat) (σ : MSt), S + d = nX n L + 1 → d < m → MLn σ n L → MXs σ n L → MCS σ n L S → ∃ σ', F_tellSheet_L113 N m σ (i32 (S : Int)) = (F_joinCells N σ').bind (fun w => some w) ∧ mfr (27 :: 32 :: ksC) σ σ' ∧ MCS σ' n L (nX n L + 1) ∧ gA σ' 27 (nX n L + 1) = i32 ((fcN n L (nX n L + 1) : Nat) : Int) := by
  have hn10 := hL.1
  have m65 := nX_65 hL
  intro d
  induction d with
  | zero =>
    intro S m σ hS hm h hx hc
    obtain ⟨m, rfl⟩ : ∃ j, m = j + 1 := ⟨m - 1, by omega⟩
    have e : S = nX n L + 1 := by omega
    subst e
    refine ⟨sA σ 27 (nX n L + 1) (gI σ 23), ?_, (mfr.rf _ σ).A (by decide) _ _, ⟨fun s hs => ?_, hc.2.1, fun s hs g hg => ?_⟩, ?_⟩
    · unfold F_tellSheet_L113
      rw [hx.1, if_pos ((i32_le (by omega) (by omega)).mpr (Int.le_refl _)), ck_n (by omega) (by decide)]
    · rw [gA_sA, if_pos rfl, if_neg (by omega)]; exact hc.1 s hs
    · rw [gA_sA, if_neg (by decide), gA_sA, if_neg (by decide), gA_sA, if_neg (by decide)]; exact hc.2.2 s hs g hg
    · rw [gA_sA, if_pos rfl, if_pos rfl]; exact hc.2.1
  | succ d ih =>
    intro S m σ hS hm h hx hc
    obtain ⟨m, rfl⟩ : ∃ j, m = j + 1 := ⟨m - 1, by omega⟩
    obtain ⟨c1, c2, c3⟩ := hc
    have fl := fcN_le hn10 L S
    have B : ∀ {α : Type} (f : Nat → Option α), ck (i32 (S : Int)) 82 f = f S := fun f => ck_n (by omega) (by decide) f
    have f0 : mfr (27 :: 32 :: ksC) σ (sA σ 27 S (gI σ 23)) := (mfr.rf _ σ).A (by decide) _ _
    have cg : MCg (sA σ 27 S (gI σ 23)) n L S 0 := ⟨c2, fun q hq => absurd hq (Nat.not_lt_zero _)⟩
    -- the cells of S are made
    have go : ∀ σ1 : MSt, mfr (27 :: 32 :: ksC) (sA σ 27 S (gI σ 23)) σ1 → (∀ s, gA σ1 27 s = gA (sA σ 27 S (gI σ 23)) 27 s) → MCg σ1 n L S (nGr n L S + 1) → (∀ j, j < fcN n L S → gA σ1 28 j = gA (sA σ 27 S (gI σ 23)) 28 j ∧ gA σ1 29 j = gA (sA σ 27 S (gI σ 23)) 29 j ∧ gA σ1 30 j = gA (sA σ 27 S (gI σ 23)) 30 j) → ∃ σ', F_tellSheet_b160 N (F_tellSheet_L113 N m) σ1 (i32 (S : Int)) = (F_joinCells N σ').bind (fun w => some w) ∧ mfr (27 :: 32 :: ksC) σ σ' ∧ MCS σ' n L (nX n L + 1) ∧ gA σ' 27 (nX n L + 1) = i32 ((fcN n L (nX n L + 1) : Nat) : Int) := by
      intro σ1 f1 e27 hg old
      have f2 := f0.tr f1
      obtain ⟨σ', q1, q2, q3, q4⟩ := ih (S + 1) m σ1 (by omega) (by omega) (h.fr f2 (by decide)) (hx.fr f2 (by decide)) ⟨fun s hs => by
          rw [e27, gA_sA, if_pos rfl]
          by_cases e : s = S
          · rw [if_pos e, c2, e]
          · rw [if_neg e]; exact c1 s (by omega), hg.1, fun s hs g hg' => by
          by_cases e : s = S
          · subst e; exact hg.2 g (by omega)
          · have mo := fcN_mono (n := n) (L := L) (show s + 1 ≤ S by omega)
            have : fcN n L (s + 1) = fcN n L s + (nGr n L s + 1) := rfl
            obtain ⟨a, b, c⟩ := old (fcN n L s + g) (by omega)
            rw [a, b, c, gA_sA, if_neg (by decide), gA_sA, if_neg (by decide), gA_sA, if_neg (by decide)]
            exact c3 s (by omega) g hg'⟩
      refine ⟨σ', ?_, f2.tr q2, q3, q4⟩
      unfold F_tellSheet_b160
      simp only [i32_s]
      exact q1
    have lone : nGr n L S = 0 → ∃ σ', F_tellSheet_b145 N (F_tellSheet_L113 N m) (sA σ 27 S (gI σ 23)) (i32 (S : Int)) = (F_joinCells N σ').bind (fun w => some w) ∧ mfr (27 :: 32 :: ksC) σ σ' ∧ MCS σ' n L (nX n L + 1) ∧ gA σ' 27 (nX n L + 1) = i32 ((fcN n L (nX n L + 1) : Nat) : Int) := by
      intro g0
      obtain ⟨σ1, q1, q2, q3, q4⟩ := mc_add (N := N) cg (by omega) (lo := 0) (hi := 0) rfl (by unfold hiS; rw [g0, if_neg (by omega)])
      unfold F_tellSheet_b145
      rw [show (0 : Int32) = nI 0 from rfl, q1, Option.bind_some]
      exact go σ1 (q2.up (by decide)) (fun s => q2.gA 27 (by decide) s) (by rw [g0]; exact q3) q4
    unfold F_tellSheet_L113
    rw [hx.1, if_neg (fun z => by have := (i32_le (by omega) (by omega)).mp z; omega)]
    simp only [B, gI_sA, hx.1, i32_s']
    rw [show (0 : Int32) = i32 0 from rfl, ite_ii (i32_eq (a := (S : Int)) (b := 0) (by omega) (by omega)), ite_ii (i32_eq (a := (S : Int)) (b := ((nX n L : Nat) : Int)) (by omega) (by omega))]
    by_cases d1 : (S : Int) = 0
    · rw [if_pos d1]
      exact lone (if_neg (fun w => by omega))
    · rw [if_neg d1]
      by_cases d2 : (S : Int) = ((nX n L : Nat) : Int)
      · rw [if_pos d2]
        exact lone (if_neg (fun w => by omega))
      · rw [if_neg d2]
        obtain ⟨S, rfl⟩ : ∃ t, S = t + 1 := ⟨S - 1, by omega⟩
        obtain ⟨σ1, q1, q2, q3, q4⟩ := cut_e hN hL (show S + 1 < nX n L by omega) (h.fr f0 (by decide)) (hx.fr f0 (by decide)) cg
        rw [q1, Option.bind_some]
        exact go σ1 (q2.up (by decide)) (fun s => q2.gA 27 (by decide) s) q3 q4
abbrev ksS : List Nat := [5, 6, 7, 8, 9, 10, 11, 12, 13, 22, 23, 25, 26, 27, 28, 29, 30, 32]
theorem cells_e {N : Nat} (hN : 100 ≤ N) {n : Nat} {L : Nat → Sg} (hL : LOk n L) {σ : MSt} (h : MLn σ n L) : ∃ σ', F_tellSheet N σ = (F_joinCells N σ').bind (fun w => some w) ∧ mfr ksS σ σ' ∧ MPt σ' (ptN L n) ∧ MXs σ' n L ∧ MCS σ' n L (nX n L + 1) ∧ gA σ' 27 (nX n L + 1) = i32 ((fcN n L (nX n L + 1) : Nat) : Int) := by
  have m65 := nX_65 hL
  have p65 := ptN_65 hL
  obtain ⟨σ1, q1, q2, q3⟩ := tellPoints_e hN hL h
  have fI : mfr [22] σ1 (sI σ1 22 1) := (mfr.rf _ σ1).I (by decide) _
  obtain ⟨σ2, u1, u2, u3, u4⟩ := mxl_e hN (ptN_G hL n (Nat.le_refl _)) p65 (ptN L n).1 0 N (sI σ1 22 1) (by omega) (by omega) (q3.fr fI (by decide)) rfl (fun s hs => absurd hs (Nat.not_lt_zero _))
  have f2 : mfr ksS σ (sI σ2 23 0) := (((q2.up (by decide)).tr (fI.up (by decide))).tr (u2.up (by decide))).I (by decide) _
  have x2 : MXs (sI σ2 23 0) n L := ⟨u3, u4⟩
  obtain ⟨σ3, v1, v2, v3, v4⟩ := mslab_e hN hL (nX n L + 1) 0 N (sI σ2 23 0) (by omega) (by omega) (h.fr f2 (by decide)) x2 ⟨fun s hs => absurd hs (Nat.not_lt_zero _), rfl, fun s hs => absurd hs (Nat.not_lt_zero _)⟩
  have p3 : MPt σ3 (ptN L n) := (((q3.fr fI (by decide)).fr u2 (by decide)).fr ((mfr.rf [23] σ2).I (by decide) 0) (by decide)).fr v2 (by decide)
  refine ⟨σ3, ?_, f2.tr (v2.up (by decide)), p3, x2.fr v2 (by decide), v3, v4⟩
  unfold F_tellSheet
  rw [q1, Option.bind_some]
  exact u1.trans v1
