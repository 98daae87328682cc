/-! WHAT THE COMPONENT HAS TOLD -/
set_option maxRecDepth 100000
theorem EJ_fr {ks : List Nat} {κ κ' : CSt} {n : Nat} {L : Nat → Sg} {t l r : Nat} (h : EJ κ n L t l r) (hf : cfr ks κ κ') (hk : 16 ∉ ks ∧ 18 ∉ ks ∧ 19 ∉ ks ∧ 20 ∉ ks ∧ 21 ∉ ks) : EJ κ' n L t l r := by
  obtain ⟨es, wl, h1, h2, h3, h4, h5⟩ := h
  exact ⟨es, wl, fun c hc => by rw [hf.cA 16 hk.1]; exact h1 c hc, ⟨by rw [hf.cI 21 hk.2.2.2.2]; exact h2.1, fun i v hv => by rw [hf.cA 18 hk.2.1, hf.cA 19 hk.2.2.1, hf.cA 20 hk.2.2.2.1]; exact h2.2 i v hv⟩, h3, h4, h5⟩
abbrev ksE : List Nat := [16, 18, 19, 20, 21]
theorem CSd.fr {ks : List Nat} {κ κ' : CSt} {n : Nat} {L : Nat → Sg} {S : Nat} (h : CSd κ n L S) (hf : cfr ks κ κ') (hk : 10 ∉ ks ∧ 12 ∉ ks ∧ 13 ∉ ks ∧ 14 ∉ ks ∧ 15 ∉ ks) : CSd κ' n L S := by
  obtain ⟨h1, h2, h3, h4, h5⟩ := h
  exact ⟨fun s hs => by rw [hf.cA 13 hk.2.2.1]; exact h1 s hs, fun s hs g hg => by rw [hf.cA 12 hk.2.1]; exact h2 s hs g hg, fun s hs => by rw [hf.cA 14 hk.2.2.2.1]; exact h3 s hs, by rw [hf.cI 10 hk.1]; exact h4, fun s hs g hg => by rw [hf.cA 15 hk.2.2.2.2]; exact h5 s hs g hg⟩
/-- one pair -/
theorem eone_e {N : Nat} (hN : 2000 ≤ N) {n : Nat} {L : Nat → Sg} (hL : LOk n L) {t : Nat} (ht : t < nX n L) (r2 : CSt → Int32 → Option CSt) (r51 : CSt → Int32 → Int32 → Int32 → Int32 → Int32 → Option CSt) {l r : Nat} (hl : l ≤ nGr n L t) (hr : r ≤ nGr n L (t + 1)) {κ : CSt} (h : CLn κ n L) (hx : CXs κ n L) (hc : CSd κ n L (nX n L + 1)) (he : EJ κ n L t l r) (hov : ovP (lwP n L t l r) (hgP n L t l r)) (v3 v4 : Int32) (v7 v8 : Option Fr) :
    ∃ κ', F_X1_each_b148 N r2 r51 κ (i32 (t : Int)) v3 v4 (i32 (l : Int)) (i32 (r : Int)) v7 v8 (rfO (lwP n L t l r)) (rfO (hgP n L t l r)) = F_X1_each_b202 N r2 r51 κ' (i32 (t : Int)) v3 v4 (i32 (l : Int)) (i32 (r : Int)) v7 v8 ∧ cfr ksE κ κ' ∧ EJ κ' n L t (if nxL n L t l r then l + 1 else l) (if nxR n L t l r then r + 1 else r) := by
  have hn10 := hL.1
  have m65 := nX_65 hL
  obtain ⟨es, wl, e1, e2, e3, e4, e5⟩ := he
  have x1 := xX_fb hL ht
  have ly : yqO (lwP n L t l r) := gre_yq (lo_yq hL hl x1) (lo_yq hL hr x1)
  have hy : yqO (hgP n L t l r) := les_yq (hi_yq hL x1) (hi_yq hL x1)
  have A : ∀ {α : Type} (f : Nat → Option α), ck (i32 (t : Int)) 68 f = f t := fun f => ck_n (by omega) (by decide) f
  have B : ∀ {α : Type} (f : Nat → Option α), ck (i32 ((t + 1 : Nat) : Int)) 68 f = f (t + 1) := fun f => ck_n (by omega) (by decide) f
  have C : ∀ {α : Type} (f : Nat → Option α), ck (i32 (t : Int)) 65 f = f t := fun f => ck_n (by omega) (by decide) f
  have f1 := fcN_mono (n := n) (L := L) (show t + 1 ≤ nX n L + 1 by omega)
  have f2 := fcN_mono (n := n) (L := L) (show t + 1 + 1 ≤ nX n L + 1 by omega)
  have f3 : fcN n L (t + 1) = fcN n L t + (nGr n L t + 1) := rfl
  have f4 : fcN n L (t + 1 + 1) = fcN n L (t + 1) + (nGr n L (t + 1) + 1) := rfl
  have fl := fcN_le hn10 L (nX n L + 1)
  have gl := nGr_le n L t
  have gr' := nGr_le n L (t + 1)
  have c14 : cA κ 14 t = i32 ((fcN n L t : Nat) : Int) := hc.2.2.1 t (by omega)
  have c14' : cA κ 14 (t + 1) = i32 ((fcN n L (t + 1) : Nat) : Int) := hc.2.2.1 (t + 1) (by omega)
  obtain ⟨κ', q1, q2, q3, q4⟩ := clam_e hN (show fcN n L (nX n L + 1) ≤ 740 by omega) hc.2.2.2.1 e1 e2 (by omega) (show fcN n L t + l < fcN n L (nX n L + 1) by omega) (show fcN n L (t + 1) + r < fcN n L (nX n L + 1) by omega) (pB (opnP n L (xX n L t) (lwP n L t l r) (hgP n L t l r))) (ms_31 (upB L (xX n L t) (lwP n L t l r) (hgP n L t l r)) hn10)
  refine ⟨κ', ?_, q2, ?_⟩
  · unfold F_X1_each_b148
    simp only [i32_s, A, B, C, hx.2 t ht, nn]
    rw [open_e hN h hL x1 ly hy hov, Option.bind_some, uprights_e (by omega) h hL x1 ly hy, Option.bind_some, c14, c14', i32_add, i32_add, show ((fcN n L t : Nat) : Int) + (l : Int) = ((fcN n L t + l : Nat) : Int) by omega, show ((fcN n L (t + 1) : Nat) : Int) + (r : Int) = ((fcN n L (t + 1) + r : Nat) : Int) by omega]
    unfold upS
    rw [q1, Option.bind_some]
  · refine ⟨_, _, q3, q4, fun e => ?_, fun w => ?_, ?_⟩
    · rw [inP_step hL ht hl hr, ← or_assoc, ← e3 e]
      by_cases c : opnP n L (xX n L t) (lwP n L t l r) (hgP n L t l r)
      · rw [pB_t c, if_pos rfl, List.mem_cons]
        constructor
        · rintro (w | w)
          · exact Or.inr ⟨hov, w, c⟩
          · exact Or.inl w
        · rintro (w | w)
          · exact Or.inr w
          · exact Or.inl w.2.1
      · rw [pB_f c, if_neg (by decide)]
        constructor
        · exact Or.inl
        · rintro (w | w)
          · exact w
          · exact absurd w.2.2 c
    · rw [inP_step hL ht hl hr, ← or_assoc, ← e4 w]
      by_cases c : ms (upB L (xX n L t) (lwP n L t l r) (hgP n L t l r)) n = 0
      · rw [if_pos c]
        constructor
        · exact Or.inl
        · rintro (v | v)
          · exact v
          · exact absurd c v.2.2
      · rw [if_neg c, List.mem_append, List.mem_singleton]
        constructor
        · rintro (v | v)
          · exact Or.inl v
          · exact Or.inr ⟨hov, v, c⟩
        · rintro (v | v)
          · exact Or.inl v
          · exact Or.inr v.2.1
    · have : (if nxL n L t l r = true then l + 1 else l) + (if nxR n L t l r = true then r + 1 else r) ≥ l + r + 1 := by
        rcases nx_or' n L t l r with v | v
        · rw [if_pos v]; split <;> omega
        · rw [if_pos v]; split <;> omega
      split
      · omega
      · rw [List.length_append]; simp; omega
theorem enext_e {N : Nat} {n : Nat} {L : Nat → Sg} (hL : LOk n L) {t : Nat} (ht : t < nX n L) (r2 : CSt → Int32 → Option CSt) (r51 : CSt → Int32 → Int32 → Int32 → Int32 → Int32 → Option CSt) {l r : Nat} (κ : CSt) (v3 v4 : Int32) : F_X1_each_b202 N r2 r51 κ (i32 (t : Int)) v3 v4 (i32 (l : Int)) (i32 (r : Int)) (rfO (hiY n L t l (xX n L t))) (rfO (hiY n L (t + 1) r (xX n L t))) = r51 κ (i32 (t : Int)) v3 v4 (i32 (((if nxL n L t l r then l + 1 else l) : Nat) : Int)) (i32 (((if nxR n L t l r then r + 1 else r) : Nat) : Int)) := by
  have x1 := xX_fb hL ht
  have y1 := hi_yq hL (S := t) (g := l) x1
  have y2 := hi_yq hL (S := t + 1) (g := r) x1
  unfold F_X1_each_b202 nxL nxR
  cases h1 : hiY n L t l (xX n L t) with
  | none =>
    rw [show rfO none = none from rfl, if_pos rfl]
    unfold F_X1_each_b227 F_X1_each_b237 F_X1_each_b245
    simp only [i32_s]
    rw [if_pos (by decide), if_neg (by decide)]
    simp
  | some u =>
    rw [if_neg (by unfold rfO; simp)]
    cases h2 : hiY n L (t + 1) r (xX n L t) with
    | none =>
      rw [show rfO none = none from rfl, if_pos rfl]
      unfold F_X1_each_b227 F_X1_each_b237 F_X1_each_b245
      simp only [i32_s]
      rw [if_neg (by decide), if_pos (by decide)]
      simp
    | some v =>
      rw [if_neg (by unfold rfO; simp)]
      have yu := y1 u h1
      have yv' := y2 v h2
      show (F_X7_compareTo N (rf u) (rf v)).bind _ = _
      have rg := sg_r u v
      have a1 := @sg_lt u v
      have a2 := @sg_gt u v
      rw [compareTo_e yu yv' (by decide) (by decide), Option.bind_some]
      unfold F_X1_each_b227 F_X1_each_b237 F_X1_each_b245
      simp only [i32_s]
      rw [i32_p (by omega), show (0 : Int32) = i32 0 from rfl]
      have il : i32 (sg u v) < i32 0 ↔ sg u v < 0 := i32_lt (by omega) (by omega)
      by_cases c1 : 0 < sg u v
      · have k1 : ¬ u ≤ v := Rat.not_le.mpr (a2.mp c1)
        have k2 : v ≤ u := Rat.le_of_lt (a2.mp c1)
        rw [if_pos c1, if_neg (fun w => by have := il.mp w; omega)]
        simp [k1, k2]
      · have k1 : u ≤ v := Rat.not_lt.mp fun w => c1 (a2.mpr w)
        rw [if_neg c1]
        by_cases c2 : sg u v < 0
        · have k2 : ¬ v ≤ u := Rat.not_le.mpr (a1.mp c2)
          rw [if_pos (il.mpr c2)]
          simp [k1, k2]
        · have k2 : v ≤ u := Rat.not_lt.mp fun w => c2 (a1.mpr w)
          rw [if_neg (fun w => c2 (il.mp w))]
          simp [k1, k2]
theorem eall_e {N : Nat} (hN : 2000 ≤ N) {n : Nat} {L : Nat → Sg} (hL : LOk n L) {t : Nat} (ht : t < nX n L) (r2 : CSt → Int32 → Option CSt) :
    ∀ (d l r m : Nat) (κ : CSt), (nGr n L t + 1 - l) + (nGr n L (t + 1) + 1 - r) ≤ d → d < m → l ≤ nGr n L t + 1 → r ≤ nGr n L (t + 1) + 1 → CLn κ n L → CXs κ n L → CSd κ n L (nX n L + 1) → (∀ k, k < nGr n L t → cF κ 22 k = some (rf (vY n L t k (xX n L t)))) → (∀ k, k < nGr n L (t + 1) → cF κ 23 k = some (rf (vY n L (t + 1) k (xX n L t)))) → EJ κ n L t l r → ∃ κ', F_X1_each_L51 N r2 m κ (i32 (t : Int)) (i32 ((nGr n L t : Nat) : Int)) (i32 ((nGr n L (t + 1) : Nat) : Int)) (i32 (l : Int)) (i32 (r : Int)) = r2 κ' (i32 ((t + 1 : Nat) : Int)) ∧ cfr ksE κ κ' ∧ EJ κ' n L (t + 1) 0 0 := by
  have hn10 := hL.1
  have gl := nGr_le n L t
  have gr' := nGr_le n L (t + 1)
  have fin : ∀ (l r m : Nat) (κ : CSt), (nGr n L t < l ∨ nGr n L (t + 1) < r) → l ≤ nGr n L t + 1 → r ≤ nGr n L (t + 1) + 1 → EJ κ n L t l r → ∃ κ', F_X1_each_L51 N r2 (m + 1) κ (i32 (t : Int)) (i32 ((nGr n L t : Nat) : Int)) (i32 ((nGr n L (t + 1) : Nat) : Int)) (i32 (l : Int)) (i32 (r : Int)) = r2 κ' (i32 ((t + 1 : Nat) : Int)) ∧ cfr ksE κ κ' ∧ EJ κ' n L (t + 1) 0 0 := by
    intro l r m κ hlr l1 r1 he
    refine ⟨κ, ?_, cfr.rf _ _, EJ_end he hlr (by omega)⟩
    unfold F_X1_each_L51 F_X1_each_b248
    simp only [i32_s]
    rw [ite_ii (i32_lt (a := ((nGr n L t : Nat) : Int)) (b := (l : Int)) (by omega) (by omega)), ite_ii (i32_lt (a := ((nGr n L (t + 1) : Nat) : Int)) (b := (r : Int)) (by omega) (by omega))]
    by_cases c : ((nGr n L t : Nat) : Int) < (l : Int)
    · rw [if_pos c]
    · rw [if_neg c, if_pos (by omega)]
  intro d
  induction d with
  | zero =>
    intro l r m κ hd hm l1 r1 h hx hc h22 h23 he
    obtain ⟨m, rfl⟩ : ∃ j, m = j + 1 := ⟨m - 1, by omega⟩
    exact fin l r m κ (by omega) l1 r1 he
  | succ d ih =>
    intro l r m κ hd hm l1 r1 h hx hc h22 h23 he
    obtain ⟨m, rfl⟩ : ∃ j, m = j + 1 := ⟨m - 1, by omega⟩
    by_cases c : nGr n L t < l ∨ nGr n L (t + 1) < r
    · exact fin l r m κ c l1 r1 he
    · have hl : l ≤ nGr n L t := by omega
      have hr : r ≤ nGr n L (t + 1) := by omega
      have x1 := xX_fb hL ht
      have b1 := bound_e (N := N) (id := 22) (show nGr n L t ≤ 10 by omega) h22 (k := (l : Int)) (by omega)
      have b2 := bound_e (N := N) (id := 23) (show nGr n L (t + 1) ≤ 10 by omega) h23 (k := (r : Int)) (by omega)
      have b3 := bound_e (N := N) (id := 22) (show nGr n L t ≤ 10 by omega) h22 (k := (l : Int) - 1) (by omega)
      have b4 := bound_e (N := N) (id := 23) (show nGr n L (t + 1) ≤ 10 by omega) h23 (k := (r : Int) - 1) (by omega)
      have e1 : (if 0 ≤ (l : Int) ∧ (l : Int) < ((nGr n L t : Nat) : Int) then some (vY n L t ((l : Int)).toNat (xX n L t)) else none) = hiY n L t l (xX n L t) := by
        unfold hiY
        by_cases w : l < nGr n L t
        · rw [if_pos (by omega), if_pos w]; rfl
        · rw [if_neg (by omega), if_neg w]
      have e2 : (if 0 ≤ (r : Int) ∧ (r : Int) < ((nGr n L (t + 1) : Nat) : Int) then some (vY n L (t + 1) ((r : Int)).toNat (xX n L t)) else none) = hiY n L (t + 1) r (xX n L t) := by
        unfold hiY
        by_cases w : r < nGr n L (t + 1)
        · rw [if_pos (by omega), if_pos w]; rfl
        · rw [if_neg (by omega), if_neg w]
      have e3 : (if 0 ≤ (l : Int) - 1 ∧ (l : Int) - 1 < ((nGr n L t : Nat) : Int) then some (vY n L t ((l : Int) - 1).toNat (xX n L t)) else none) = loY n L t l (xX n L t) := by
        unfold loY
        by_cases w : l = 0
        · rw [if_neg (by omega), if_pos w]
        · rw [if_pos (by omega), if_neg w, show ((l : Int) - 1).toNat = l - 1 by omega]
      have e4 : (if 0 ≤ (r : Int) - 1 ∧ (r : Int) - 1 < ((nGr n L (t + 1) : Nat) : Int) then some (vY n L (t + 1) ((r : Int) - 1).toNat (xX n L t)) else none) = loY n L (t + 1) r (xX n L t) := by
        unfold loY
        by_cases w : r = 0
        · rw [if_neg (by omega), if_pos w]
        · rw [if_pos (by omega), if_neg w, show ((r : Int) - 1).toNat = r - 1 by omega]
      rw [e1] at b1
      rw [e2] at b2
      rw [e3] at b3
      rw [e4] at b4
      have l11 : i32 (l : Int) - 1 = i32 ((l : Int) - 1) := by rw [show (1 : Int32) = i32 1 from rfl, i32_sub]
      have r11 : i32 (r : Int) - 1 = i32 ((r : Int) - 1) := by rw [show (1 : Int32) = i32 1 from rfl, i32_sub]
      have g := greater_e (N := N) (lo_yq hL hl x1) (lo_yq hL hr x1)
      have g' := lesser_e (N := N) (hi_yq hL (S := t) (g := l) x1) (hi_yq hL (S := t + 1) (g := r) x1)
      have ly : yqO (lwP n L t l r) := gre_yq (lo_yq hL hl x1) (lo_yq hL hr x1)
      have hy : yqO (hgP n L t l r) := les_yq (hi_yq hL x1) (hi_yq hL x1)
      -- on to the next
      have nxt : ∀ κ1 : CSt, cfr ksE κ κ1 → EJ κ1 n L t (if nxL n L t l r then l + 1 else l) (if nxR n L t l r then r + 1 else r) → ∃ κ', F_X1_each_b202 N r2 (F_X1_each_L51 N r2 m) κ1 (i32 (t : Int)) (i32 ((nGr n L t : Nat) : Int)) (i32 ((nGr n L (t + 1) : Nat) : Int)) (i32 (l : Int)) (i32 (r : Int)) (rfO (hiY n L t l (xX n L t))) (rfO (hiY n L (t + 1) r (xX n L t))) = r2 κ' (i32 ((t + 1 : Nat) : Int)) ∧ cfr ksE κ κ' ∧ EJ κ' n L (t + 1) 0 0 := by
        intro κ1 f1 he1
        rw [enext_e hL ht]
        have o := nx_or' n L t l r
        obtain ⟨κ', q1, q2, q3⟩ := ih (if nxL n L t l r then l + 1 else l) (if nxR n L t l r then r + 1 else r) m κ1 (by
          rcases o with v | v
          · rw [if_pos v]; split <;> omega
          · rw [if_pos v]; split <;> omega) (by omega) (by split <;> omega) (by split <;> omega) (h.fr f1 (by decide)) (hx.fr f1 (by decide)) (hc.fr f1 (by decide)) (fun k hk => by rw [f1.cF 22 (by decide)]; exact h22 k hk) (fun k hk => by rw [f1.cF 23 (by decide)]; exact h23 k hk) he1
        exact ⟨κ', q1, f1.tr q2, q3⟩
      have pass : ¬ ovP (lwP n L t l r) (hgP n L t l r) → EJ κ n L t (if nxL n L t l r then l + 1 else l) (if nxR n L t l r then r + 1 else r) := by
        intro no
        obtain ⟨es, wl, k1, k2, k3, k4, k5⟩ := he
        refine ⟨es, wl, k1, k2, fun e => ?_, fun w => ?_, ?_⟩
        · rw [inP_step hL ht hl hr, ← or_assoc, ← k3 e]
          exact ⟨Or.inl, fun w => w.resolve_right (fun v => no v.1)⟩
        · rw [inP_step hL ht hl hr, ← or_assoc, ← k4 w]
          exact ⟨Or.inl, fun w => w.resolve_right (fun v => no v.1)⟩
        · split <;> split <;> omega
      have visit : ovP (lwP n L t l r) (hgP n L t l r) → ∃ κ', F_X1_each_b148 N r2 (F_X1_each_L51 N r2 m) κ (i32 (t : Int)) (i32 ((nGr n L t : Nat) : Int)) (i32 ((nGr n L (t + 1) : Nat) : Int)) (i32 (l : Int)) (i32 (r : Int)) (rfO (hiY n L t l (xX n L t))) (rfO (hiY n L (t + 1) r (xX n L t))) (rfO (lwP n L t l r)) (rfO (hgP n L t l r)) = r2 κ' (i32 ((t + 1 : Nat) : Int)) ∧ cfr ksE κ κ' ∧ EJ κ' n L (t + 1) 0 0 := by
        intro ov
        obtain ⟨κ1, q1, q2, q3⟩ := eone_e hN hL ht r2 (F_X1_each_L51 N r2 m) hl hr h hx hc he ov (i32 ((nGr n L t : Nat) : Int)) (i32 ((nGr n L (t + 1) : Nat) : Int)) (rfO (hiY n L t l (xX n L t))) (rfO (hiY n L (t + 1) r (xX n L t)))
        rw [q1]
        exact nxt κ1 q2 q3
      unfold F_X1_each_L51
      rw [if_neg (fun z => by have := (i32_lt (by omega) (by omega)).mp z; omega), if_neg (fun z => by have := (i32_lt (by omega) (by omega)).mp z; omega), b1, Option.bind_some, b2, Option.bind_some, l11, b3, Option.bind_some, r11, b4, Option.bind_some, g, Option.bind_some, g', Option.bind_some]
      cases hw : lwP n L t l r with
      | none =>
        have hw' : gre (loY n L t l (xX n L t)) (loY n L (t + 1) r (xX n L t)) = none := hw
        rw [hw', if_pos (show rfO none = none from rfl)]
        have := visit (by rw [hw]; intro a b e; cases e)
        rw [hw] at this
        exact this
      | some u =>
        have hw' : gre (loY n L t l (xX n L t)) (loY n L (t + 1) r (xX n L t)) = some u := hw
        rw [hw', if_neg (by unfold rfO; simp)]
        cases hv : hgP n L t l r with
        | none =>
          have hv' : les (hiY n L t l (xX n L t)) (hiY n L (t + 1) r (xX n L t)) = none := hv
          rw [hv', if_pos (show rfO none = none from rfl)]
          have := visit (by rw [hv]; intro a b _ e; cases e)
          rw [hw, hv] at this
          exact this
        | some v =>
          have hv' : les (hiY n L t l (xX n L t)) (hiY n L (t + 1) r (xX n L t)) = some v := hv
          rw [hv', if_neg (by unfold rfO; simp)]
          show ∃ κ', ((F_X7_isLess N (rf u) (rf v)).bind _) = _ ∧ _
          rw [lessy_e (ly u hw) (hy v hv), Option.bind_some, bi_0]
          by_cases c1 : u < v
          · rw [decide_eq_true c1, if_pos rfl]
            have := visit (by rw [hw, hv]; intro a b e1 e2; cases e1; cases e2; exact c1)
            rw [hw, hv] at this
            exact this
          · rw [decide_eq_false c1, if_neg (by decide)]
            exact nxt κ (cfr.rf _ _) (pass (by rw [hw, hv]; intro w; exact c1 (w u v rfl rfl)))
