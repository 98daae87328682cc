/-! THE COMPONENT'S SLICES -/
set_option maxRecDepth 100000
/-- how many groups of lines go through a slab; its first cell -/
def nGr (n : Nat) (L : Nat → Sg) (S : Nat) : Nat := if 0 < S ∧ S < nX n L then (gpS n L (S - 1) n).1 else 0
def fcN (n : Nat) (L : Nat → Sg) : Nat → Nat
  | 0 => 0
  | s + 1 => fcN n L s + (nGr n L s + 1)
/-- the g-th group of a slab -/
def stG (n : Nat) (L : Nat → Sg) (S g : Nat) : Nat := stS n L (S - 1) n g
theorem nGr_le (n : Nat) (L : Nat → Sg) (S : Nat) : nGr n L S ≤ n := by
  unfold nGr
  split
  · exact gp_le n L (S - 1) n
  · omega
theorem fcN_le {n : Nat} (hn : n ≤ 10) (L : Nat → Sg) : ∀ s, fcN n L s ≤ 11 * s := by
  intro s
  induction s with
  | zero => exact Nat.le_refl _
  | succ s ih => have := nGr_le n L s; show fcN n L s + (nGr n L s + 1) ≤ _; omega
theorem fcN_mono {n : Nat} {L : Nat → Sg} {s t : Nat} (h : s ≤ t) : fcN n L s ≤ fcN n L t := by
  induction t with
  | zero => have : s = 0 := by omega
            rw [this]; exact Nat.le_refl _
  | succ t ih =>
    by_cases e : s = t + 1
    · rw [e]; exact Nat.le_refl _
    · have := ih (by omega); show _ ≤ fcN n L t + (nGr n L t + 1); omega
/-- slabs below S are done -/
def CSd (κ : CSt) (n : Nat) (L : Nat → Sg) (S : Nat) : Prop := (∀ s, s < S → cA κ 13 s = i32 ((nGr n L s : Nat) : Int)) ∧ (∀ s, s < S → ∀ g, g < nGr n L s → cA κ 12 (10 * s + g) = nI (stG n L s g)) ∧ (∀ s, s < S → cA κ 14 s = i32 ((fcN n L s : Nat) : Int)) ∧ cI κ 10 = i32 ((fcN n L S : Nat) : Int) ∧ ∀ s, s < S → ∀ g, g ≤ nGr n L s → cA κ 15 (fcN n L s + g) = i32 (s : Int)
def CXs (κ : CSt) (n : Nat) (L : Nat → Sg) : Prop := cI κ 9 = i32 ((nX n L : Nat) : Int) ∧ ∀ s, s < nX n L → cF κ 8 s = some (rf (xX n L s))
theorem CXs.fr {ks : List Nat} {κ κ' : CSt} {n : Nat} {L : Nat → Sg} (h : CXs κ n L) (hf : cfr ks κ κ') (hk : 8 ∉ ks ∧ 9 ∉ ks) : CXs κ' n L := ⟨by rw [hf.cI 9 hk.2]; exact h.1, fun s hs => by rw [hf.cF 8 hk.1]; exact h.2 s hs⟩
theorem xsl_e {N : Nat} (hN : 100 ≤ N) {x : Nat × (Nat → Pt)} (hg : ptG x) (h65 : x.1 ≤ 65) : ∀ (d p m : Nat) (κ : CSt), p + d = x.1 → d < m → CPt κ x → cI κ 9 = i32 (((xsF x p).1 : Nat) : Int) → (∀ s, s < (xsF x p).1 → cF κ 8 s = some (rf ((xsF x p).2 s))) → ∃ κ', F_X1_slices_L7 N m κ (i32 (p : Int)) = F_X1_slices_L92 N fu70 (csI κ' 10 0) 0 ∧ cfr [8, 9] κ κ' ∧ cI κ' 9 = i32 (((xsF x x.1).1 : Nat) : Int) ∧ ∀ s, s < (xsF x x.1).1 → cF κ' 8 s = some (rf ((xsF x x.1).2 s)) := by
  intro d
  induction d with
  | zero =>
    intro p m κ hp hm h h9 h8
    obtain ⟨m, rfl⟩ : ∃ j, m = j + 1 := ⟨m - 1, by omega⟩
    have e : p = x.1 := by omega
    subst e
    refine ⟨κ, ?_, cfr.rf _ _, h9, h8⟩
    unfold F_X1_slices_L7
    rw [h.1, if_pos ((i32_le (by omega) (by omega)).mpr (Int.le_refl _))]
  | succ d ih =>
    intro p m κ hp hm h h9 h8
    obtain ⟨m, rfl⟩ : ∃ j, m = j + 1 := ⟨m - 1, by omega⟩
    have hp' : p < x.1 := by omega
    obtain ⟨g1, g2, g3, g4, g5⟩ := xsF_G hg.1 p (by omega)
    have st : xsF x (p + 1) = if 0 < p ∧ (x.2 p).1 = (x.2 (p - 1)).1 then xsF x p else ((xsF x p).1 + 1, fun i => if i = (xsF x p).1 then (x.2 p).1 else (xsF x p).2 i) := rfl
    generalize hy : xsF x p = y at *
    have B : ∀ {α : Type} (f : Nat → Option α), ck (i32 (p : Int)) 65 f = f p := fun f => ck_n (by omega) (by decide) f
    have Y : ∀ {α : Type} (f : Nat → Option α), ck (i32 ((y.1 : Nat) : Int)) 65 f = f y.1 := fun f => ck_n (by omega) (by decide) f
    have add : ¬ (0 < p ∧ (x.2 p).1 = (x.2 (p - 1)).1) → ∃ κ', F_X1_slices_b51 N (F_X1_slices_L7 N m) κ (i32 (p : Int)) = F_X1_slices_L92 N fu70 (csI κ' 10 0) 0 ∧ cfr [8, 9] κ κ' ∧ cI κ' 9 = i32 (((xsF x x.1).1 : Nat) : Int) ∧ ∀ s, s < (xsF x x.1).1 → cF κ' 8 s = some (rf ((xsF x x.1).2 s)) := by
      intro c
      rw [if_neg c] at st
      obtain ⟨κ', q1, q2, q3, q4⟩ := ih (p + 1) m (csI (csF κ 8 y.1 (some (rf (x.2 p).1))) 9 (cI κ 9 + 1)) (by omega) (by omega) h (by rw [cI_csI, if_pos rfl, h9, i32_s, st]) (fun s hs => by
        rw [cF_csI, cF_csF, if_pos rfl, st]
        show _ = some (rf (if s = y.1 then (x.2 p).1 else y.2 s))
        by_cases e : s = y.1
        · rw [if_pos e, if_pos e]
        · rw [if_neg e, if_neg e]
          have hs' : s < y.1 + 1 := by rw [st] at hs; exact hs
          exact h8 s (by omega))
      refine ⟨κ', ?_, (((cfr.rf _ κ).F (by decide) _ _).I (by decide) _).tr q2, q3, q4⟩
      rw [← q1]
      unfold F_X1_slices_b51 F_X1_slices_b79
      simp only [B, h.2 p hp', nn, h9, Y, i32_s]
      rw [show cI (csF κ 8 y.1 (some (rfP (x.2 p)).1)) 9 = i32 ((y.1 : Nat) : Int) from h9, i32_s]
      rfl
    unfold F_X1_slices_L7
    rw [h.1, if_neg (fun z => by have := (i32_le (by omega) (by omega)).mp z; omega), h9, show (0 : Int32) = i32 0 from rfl, ite_ii (i32_le (by omega) (by omega))]
    by_cases c0 : ((y.1 : Nat) : Int) ≤ 0
    · rw [if_pos c0]
      refine add (fun w => ?_)
      have := (g5 w.1).1
      omega
    · rw [if_neg c0]
      have p0 : 0 < p := by omega
      obtain ⟨g5a, g5b⟩ := g5 p0
      have Y' : ∀ {α : Type} (f : Nat → Option α), ck (i32 ((y.1 : Nat) : Int) - 1) 65 f = f (y.1 - 1) := fun f => by
        rw [show i32 ((y.1 : Nat) : Int) - 1 = i32 ((y.1 - 1 : Nat) : Int) by rw [show (1 : Int32) = i32 1 from rfl, i32_sub]; congr 1; omega]
        exact ck_n (by omega) (by decide) f
      simp only [Y', B, h.2 p hp', nn, h8 (y.1 - 1) (by omega), g5b]
      have il : F_X7_isLike N (rf (x.2 (p - 1)).1) (rfP (x.2 p)).1 = some (if (x.2 (p - 1)).1 = (x.2 p).1 then 1 else 0) := isLike_e (hg.2 (p - 1) (by omega)).1 (hg.2 p hp').1 (by decide) (by decide)
      rw [il, Option.bind_some]
      by_cases c : (x.2 (p - 1)).1 = (x.2 p).1
      · rw [if_pos c, if_neg (by decide)]
        rw [if_pos ⟨p0, c.symm⟩] at st
        unfold F_X1_slices_b79
        rw [i32_s]
        exact ih (p + 1) m κ (by omega) (by omega) h (by rw [st]; exact h9) (fun s hs => by rw [st] at hs ⊢; exact h8 s hs)
      · rw [if_neg c, if_pos (show (0 : Int32) = i32 0 from rfl)]
        exact add (fun w => c w.2.symm)
theorem fcell_e {N : Nat} {n : Nat} {L : Nat → Sg} (hL : LOk n L) {S : Nat} (hS : S ≤ nX n L) (r92 : CSt → Int32 → Option CSt) :
    ∀ (d g m : Nat) (κ : CSt), g + d = nGr n L S + 1 → d < m → cA κ 13 S = i32 ((nGr n L S : Nat) : Int) → cI κ 10 = i32 ((fcN n L S + g : Nat) : Int) → (∀ q, q < g → cA κ 15 (fcN n L S + q) = i32 (S : Int)) → ∃ κ', F_X1_slices_L153 N r92 m κ (i32 (S : Int)) (i32 (g : Int)) = r92 κ' (i32 ((S + 1 : Nat) : Int)) ∧ cfr [10, 15] κ κ' ∧ cI κ' 10 = i32 ((fcN n L (S + 1) : Nat) : Int) ∧ (∀ q, q ≤ nGr n L S → cA κ' 15 (fcN n L S + q) = i32 (S : Int)) ∧ ∀ j, j < fcN n L S → cA κ' 15 j = cA κ 15 j := by
  have hn10 := hL.1
  have m65 := nX_65 hL
  have fl := fcN_le hn10 L S
  have gr := nGr_le n L S
  have A : ∀ {α : Type} (f : Nat → Option α), ck (i32 (S : Int)) 67 f = f S := fun f => ck_n (by omega) (by decide) f
  intro d
  induction d with
  | zero =>
    intro g m κ hg hm h13 h10 h15
    obtain ⟨m, rfl⟩ : ∃ j, m = j + 1 := ⟨m - 1, by omega⟩
    have e : g = nGr n L S + 1 := by omega
    refine ⟨κ, ?_, cfr.rf _ _, by rw [h10, e]; rfl, fun q hq => h15 q (by omega), fun _ _ => rfl⟩
    unfold F_X1_slices_L153
    simp only [A, h13]
    rw [if_pos ((i32_lt (by omega) (by omega)).mpr (by omega)), i32_s]
  | succ d ih =>
    intro g m κ hg hm h13 h10 h15
    obtain ⟨m, rfl⟩ : ∃ j, m = j + 1 := ⟨m - 1, by omega⟩
    obtain ⟨κ', q1, q2, q3, q4, q5⟩ := ih (g + 1) m (csI (csA κ 15 (fcN n L S + g) (i32 (S : Int))) 10 (cI κ 10 + 1)) (by omega) (by omega) h13 (by rw [cI_csI, if_pos rfl, h10, i32_s]; rfl) (fun q hq => by
      rw [cA_csI, cA_csA, if_pos rfl]
      by_cases e : q = g
      · rw [e, if_pos rfl]
      · rw [if_neg (by omega)]; exact h15 q (by omega))
    refine ⟨κ', ?_, (((cfr.rf _ κ).A (by decide) _ _).I (by decide) _).tr q2, q3, q4, fun j hj => by rw [q5 j hj, cA_csI, cA_csA, if_pos rfl, if_neg (by omega)]⟩
    unfold F_X1_slices_L153
    simp only [A, h13]
    rw [if_neg (fun z => by have := (i32_lt (by omega) (by omega)).mp z; omega), h10, ck_n (by omega) (by decide)]
    simp only [i32_s]
    exact q1
theorem slab_e {N : Nat} (hN : 100 ≤ N) {n : Nat} {L : Nat → Sg} (hL : LOk n L) :
    ∀ (d S m : Nat) (κ : CSt), S + d = nX n L + 1 → d < m → CLn κ n L → CXs κ n L → CSd κ n L S → ∃ κ', F_X1_slices_L92 N m κ (i32 (S : Int)) = some κ' ∧ cfr [10, 12, 13, 14, 15] κ κ' ∧ CSd κ' n L (nX n L + 1) ∧ cA κ' 14 (nX n L + 1) = i32 ((fcN n L (nX n L + 1) : Nat) : Int) := by
  have hn10 := hL.1
  have m65 := nX_65 hL
  intro d
  induction d with
  | zero =>
    intro S m κ hS hm h hx hc
    obtain ⟨m, rfl⟩ : ∃ j, m = j + 1 := ⟨m - 1, by omega⟩
    have e : S = nX n L + 1 := by omega
    subst e
    refine ⟨csA κ 14 (nX n L + 1) (cI κ 10), ?_, (cfr.rf _ κ).A (by decide) _ _, ⟨fun s hs => ?_, fun s hs g hg => ?_, fun s hs => ?_, hc.2.2.2.1, fun s hs g hg => ?_⟩, ?_⟩
    · unfold F_X1_slices_L92
      rw [hx.1, if_pos ((i32_lt (by omega) (by omega)).mpr (by omega)), i32_s, ck_n (by omega) (by decide)]
    · rw [cA_csA, if_neg (by decide)]; exact hc.1 s hs
    · rw [cA_csA, if_neg (by decide)]; exact hc.2.1 s hs g hg
    · rw [cA_csA, if_pos rfl, if_neg (by omega)]; exact hc.2.2.1 s hs
    · rw [cA_csA, if_neg (by decide)]; exact hc.2.2.2.2 s hs g hg
    · rw [cA_csA, if_pos rfl, if_pos rfl]; exact hc.2.2.2.1
  | succ d ih =>
    intro S m κ hS hm h hx hc
    obtain ⟨m, rfl⟩ : ∃ j, m = j + 1 := ⟨m - 1, by omega⟩
    obtain ⟨c1, c2, c3, c4, c5⟩ := hc
    have A : ∀ {α : Type} (f : Nat → Option α), ck (i32 (S : Int)) 67 f = f S := fun f => ck_n (by omega) (by decide) f
    have B : ∀ {α : Type} (f : Nat → Option α), ck (i32 (S : Int)) 68 f = f S := fun f => ck_n (by omega) (by decide) f
    -- with the row of S as it is to be
    have go : ∀ κ1 : CSt, cfr [10, 12, 13, 14, 15] κ κ1 → CLn κ1 n L → CXs κ1 n L → (∀ s, s < S → cA κ1 13 s = cA κ 13 s) → (∀ s, s < S → ∀ g, g < 10 → cA κ1 12 (10 * s + g) = cA κ 12 (10 * s + g)) → (∀ s, s < S → cA κ1 14 s = cA κ 14 s) → (∀ j, cA κ1 15 j = cA κ 15 j) → cI κ1 10 = cI κ 10 → cA κ1 13 S = i32 ((nGr n L S : Nat) : Int) → (∀ g, g < nGr n L S → cA κ1 12 (10 * S + g) = nI (stG n L S g)) → cA κ1 14 S = i32 ((fcN n L S : Nat) : Int) → ∃ κ', F_X1_slices_b151 N (F_X1_slices_L92 N m) κ1 (i32 (S : Int)) = some κ' ∧ cfr [10, 12, 13, 14, 15] κ κ' ∧ CSd κ' n L (nX n L + 1) ∧ cA κ' 14 (nX n L + 1) = i32 ((fcN n L (nX n L + 1) : Nat) : Int) := by
      intro κ1 f1 l1 x1 e13 e12 e14 e15 e10 r13 r12 r14
      have gr := nGr_le n L S
      obtain ⟨κ2, q1, q2, q3, q4, q5⟩ := fcell_e (N := N) hL (show S ≤ nX n L by omega) (F_X1_slices_L92 N m) (nGr n L S + 1) 0 N κ1 (by omega) (by omega) r13 (by rw [e10, c4]; rfl) (fun q hq => absurd hq (Nat.not_lt_zero _))
      have cd : CSd κ2 n L (S + 1) := by
        refine ⟨fun s hs => ?_, fun s hs g hg => ?_, fun s hs => ?_, q3, fun s hs g hg => ?_⟩
        · rw [q2.cA 13 (by decide)]
          by_cases e : s = S
          · rw [e]; exact r13
          · rw [e13 s (by omega)]; exact c1 s (by omega)
        · rw [q2.cA 12 (by decide)]
          by_cases e : s = S
          · subst e; exact r12 g hg
          · have := nGr_le n L s
            rw [e12 s (by omega) g (by omega)]; exact c2 s (by omega) g hg
        · rw [q2.cA 14 (by decide)]
          by_cases e : s = S
          · rw [e]; exact r14
          · rw [e14 s (by omega)]; exact c3 s (by omega)
        · by_cases e : s = S
          · subst e; exact q4 g hg
          · have mo := fcN_mono (n := n) (L := L) (show s + 1 ≤ S by omega)
            have : fcN n L (s + 1) = fcN n L s + (nGr n L s + 1) := rfl
            rw [q5 _ (by omega), e15]
            exact c5 s (by omega) g hg
      obtain ⟨κ3, u1, u2, u3, u4⟩ := ih (S + 1) m κ2 (by omega) (by omega) (l1.fr q2 (by decide)) (x1.fr q2 (by decide)) cd
      refine ⟨κ3, ?_, (f1.tr (q2.up (by decide))).tr u2, u3, u4⟩
      unfold F_X1_slices_b151
      exact q1.trans u1
    have f0 : cfr [10, 12, 13, 14, 15] κ (csA (csA κ 13 S 0) 14 S (cI κ 10)) := ((cfr.rf _ κ).A (by decide) _ _).A (by decide) _ _
    have e0 : F_X1_slices_L92 N (m + 1) κ (i32 (S : Int)) = if ¬ 0 < S then F_X1_slices_b151 N (F_X1_slices_L92 N m) (csA (csA κ 13 S 0) 14 S (cI κ 10)) (i32 (S : Int)) else if nX n L ≤ S then F_X1_slices_b151 N (F_X1_slices_L92 N m) (csA (csA κ 13 S 0) 14 S (cI κ 10)) (i32 (S : Int)) else (F_X1_slice N (csA (csA κ 13 S 0) 14 S (cI κ 10)) (i32 (S : Int)) (rf (mdX n L (S - 1)))).bind (fun w148 => F_X1_slices_b151 N (F_X1_slices_L92 N m) w148 (i32 (S : Int))) := by
      rw [F_X1_slices_L92, hx.1, if_neg (fun z => by have := (i32_lt (by omega) (by omega)).mp z; omega)]
      simp only [A, B]
      rw [show cI (csA (csA κ 13 S 0) 14 S (cI (csA κ 13 S 0) 10)) 9 = i32 ((nX n L : Nat) : Int) from hx.1, show (0 : Int32) = i32 0 from rfl, ite_ii (i32_le (by omega) (by omega)), ite_ii (i32_le (by omega) (by omega)), ite_ii (show (S : Int) ≤ 0 ↔ ¬ 0 < S by omega), ite_ii (show ((nX n L : Nat) : Int) ≤ (S : Int) ↔ nX n L ≤ S by omega)]
      by_cases d1 : ¬ 0 < S
      · rw [if_pos d1, if_pos d1]; rfl
      · rw [if_neg d1, if_neg d1]
        by_cases d2 : nX n L ≤ S
        · rw [if_pos d2, if_pos d2]; rfl
        · rw [if_neg d2, if_neg d2]
          obtain ⟨S, rfl⟩ : ∃ t, S = t + 1 := ⟨S - 1, by omega⟩
          have C : ∀ {α : Type} (f : Nat → Option α), ck (i32 (S : Int)) 65 f = f S := fun f => ck_n (by omega) (by decide) f
          have D : ∀ {α : Type} (f : Nat → Option α), ck (i32 ((S + 1 : Nat) : Int)) 65 f = f (S + 1) := fun f => ck_n (by omega) (by decide) f
          have hf := half_e hN (xX_fb hL (show S < nX n L by omega)) (xX_fb hL (show S + 1 < nX n L by omega))
          have g1 : cF (csA (csA κ 13 (S + 1) (i32 0)) 14 (S + 1) (cI (csA κ 13 (S + 1) (i32 0)) 10)) 8 S = some (rf (xX n L S)) := hx.2 S (by omega)
          have g2 : cF (csA (csA κ 13 (S + 1) (i32 0)) 14 (S + 1) (cI (csA κ 13 (S + 1) (i32 0)) 10)) 8 (S + 1) = some (rf (xX n L (S + 1))) := hx.2 (S + 1) (by omega)
          simp only [i32_s', C, D, g1, g2, nn, hf.1, Option.bind_some]
          rfl
    rw [e0]
    have e10 : ∀ v, cI (csA (csA κ 13 S v) 14 S (cI κ 10)) 10 = cI κ 10 := fun _ => rfl
    by_cases d1 : ¬ 0 < S
    · rw [if_pos d1]
      have g0 : nGr n L S = 0 := if_neg (fun w => d1 w.1)
      refine go _ f0 (h.fr f0 (by decide)) (hx.fr f0 (by decide)) (fun s hs => ?_) (fun s hs g hg => ?_) (fun s hs => ?_) (fun j => ?_) rfl ?_ (fun g hg => by omega) ?_
      · rw [cA_csA, if_neg (by decide), cA_csA, if_pos rfl, if_neg (by omega)]
      · rw [cA_csA, if_neg (by decide), cA_csA, if_neg (by decide)]
      · rw [cA_csA, if_pos rfl, if_neg (by omega), cA_csA, if_neg (by decide)]
      · rw [cA_csA, if_neg (by decide), cA_csA, if_neg (by decide)]
      · rw [cA_csA, if_neg (by decide), cA_csA, if_pos rfl, if_pos rfl, g0]; rfl
      · rw [cA_csA, if_pos rfl, if_pos rfl, c4]
    · rw [if_neg d1]
      by_cases d2 : nX n L ≤ S
      · rw [if_pos d2]
        have g0 : nGr n L S = 0 := if_neg (fun w => by omega)
        refine go _ f0 (h.fr f0 (by decide)) (hx.fr f0 (by decide)) (fun s hs => ?_) (fun s hs g hg => ?_) (fun s hs => ?_) (fun j => ?_) rfl ?_ (fun g hg => by omega) ?_
        · rw [cA_csA, if_neg (by decide), cA_csA, if_pos rfl, if_neg (by omega)]
        · rw [cA_csA, if_neg (by decide), cA_csA, if_neg (by decide)]
        · rw [cA_csA, if_pos rfl, if_neg (by omega), cA_csA, if_neg (by decide)]
        · rw [cA_csA, if_neg (by decide), cA_csA, if_neg (by decide)]
        · rw [cA_csA, if_neg (by decide), cA_csA, if_pos rfl, if_pos rfl, g0]; rfl
        · rw [cA_csA, if_pos rfl, if_pos rfl, c4]
      · rw [if_neg d2]
        obtain ⟨S, rfl⟩ : ∃ t, S = t + 1 := ⟨S - 1, by omega⟩
        have g0 : nGr n L (S + 1) = (gpS n L S n).1 := if_pos ⟨by omega, by omega⟩
        have hm' := (half_e hN (xX_fb hL (show S < nX n L by omega)) (xX_fb hL (show S + 1 < nX n L by omega))).2
        obtain ⟨κ1, q1, q2, q3, q4, q5⟩ := slice_e hN hL (show S + 1 < nX n L by omega) hm' n 0 N (csA (csA κ 13 (S + 1) 0) 14 (S + 1) (cI κ 10)) (by omega) (by omega) (h.fr f0 (by decide)) ⟨by rw [cA_csA, if_neg (by decide), cA_csA, if_pos rfl, if_pos rfl]; rfl, fun g hg => absurd hg (Nat.not_lt_zero _)⟩
        have q1' : F_X1_slice N (csA (csA κ 13 (S + 1) 0) 14 (S + 1) (cI κ 10)) (i32 ((S + 1 : Nat) : Int)) (rf (mdX n L (S + 1 - 1))) = some κ1 := q1
        rw [q1', Option.bind_some]
        have f1 : cfr [10, 12, 13, 14, 15] κ κ1 := f0.tr (q2.up (by decide))
        refine go κ1 f1 (h.fr f1 (by decide)) (hx.fr f1 (by decide)) (fun s hs => ?_) (fun s hs g hg => ?_) (fun s hs => ?_) (fun j => ?_) ?_ ?_ (fun g hg => ?_) ?_
        · rw [q3 s (by omega), cA_csA, if_neg (by decide), cA_csA, if_pos rfl, if_neg (by omega)]
        · rw [q4 _ (by omega), cA_csA, if_neg (by decide), cA_csA, if_neg (by decide)]
        · rw [q2.cA 14 (by decide), cA_csA, if_pos rfl, if_neg (by omega), cA_csA, if_neg (by decide)]
        · rw [q2.cA 15 (by decide), cA_csA, if_neg (by decide), cA_csA, if_neg (by decide)]
        · rw [q2.cI 10 (by decide)]; rfl
        · rw [q5.1, g0]
        · rw [g0] at hg; rw [q5.2 g hg]; rfl
        · rw [q2.cA 14 (by decide), cA_csA, if_pos rfl, if_pos rfl, c4]
/-- what the component's slices() leaves -/
theorem slices_e {N : Nat} (hN : 100 ≤ N) {n : Nat} {L : Nat → Sg} (hL : LOk n L) {κ : CSt} (h : CLn κ n L) (hp : CPt κ (ptN L n)) : ∃ κ', F_X1_slices N κ = some κ' ∧ cfr [8, 9, 10, 12, 13, 14, 15] κ κ' ∧ CXs κ' n L ∧ CSd κ' n L (nX n L + 1) ∧ cA κ' 14 (nX n L + 1) = i32 ((fcN n L (nX n L + 1) : Nat) : Int) := by
  have m65 := nX_65 hL
  have p65 := ptN_65 hL
  have f0 : cfr [8, 9] κ (csI κ 9 0) := (cfr.rf _ κ).I (by decide) _
  obtain ⟨κ1, q1, q2, q3, q4⟩ := xsl_e hN (ptN_G hL n (Nat.le_refl _)) p65 (ptN L n).1 0 N (csI κ 9 0) (by omega) (by omega) (hp.fr f0 (by decide)) rfl (fun s hs => absurd hs (Nat.not_lt_zero _))
  have f1 : cfr [8, 9, 10, 12, 13, 14, 15] κ (csI κ1 10 0) := ((f0.tr q2).up (by decide)).I (by decide) _
  obtain ⟨κ2, u1, u2, u3, u4⟩ := slab_e hN hL (nX n L + 1) 0 fu70 (csI κ1 10 0) (by omega) (by unfold fu70; omega) (h.fr f1 (by decide)) ⟨q3, q4⟩ ⟨fun s hs => absurd hs (Nat.not_lt_zero _), fun s hs => absurd hs (Nat.not_lt_zero _), fun s hs => absurd hs (Nat.not_lt_zero _), rfl, fun s hs => absurd hs (Nat.not_lt_zero _)⟩
  refine ⟨κ2, ?_, f1.tr (u2.up (by decide)), ?_, u3, u4⟩
  · unfold F_X1_slices
    exact q1.trans u1
  · have x1 : CXs (csI κ1 10 0) n L := ⟨q3, q4⟩
    exact x1.fr u2 (by decide)
