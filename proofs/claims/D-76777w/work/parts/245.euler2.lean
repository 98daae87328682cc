/-! EULER FOR THE SHEET: faces are one more than the pieces that close a ring -/
set_option maxRecDepth 100000
section EH
variable {n : Nat} {L : Nat → Sg}
theorem jump_n {f : Nat → Bool} (hf : fOk n L f) (hL : LOk n L) {S : Nat} : ∀ {d g h : Nat}, g < nGr n L S → h < nGr n L (S + d) → pcS n L S g = pcS n L (S + d) h → f (fcN n L S + g) = f (fcN n L (S + d) + h) ∧ f (fcN n L S + (g + 1)) = f (fcN n L (S + d) + (h + 1)) := by
  intro d
  induction d with
  | zero =>
    intro g h hg hh e
    have := pc_inj hL hg hh e
    subst this
    exact ⟨rfl, rfl⟩
  | succ d ih =>
    intro g h hg hh e
    obtain ⟨m1, -, s1, s2, s3, s4⟩ := pcS_e hL hg
    obtain ⟨-, -, t1, t2, t3, t4⟩ := pcS_e hL hh
    rw [← e] at t3 t4
    have s : spn n L (S + d) (pcS n L S g) := ⟨by omega, by omega, Rat.le_trans s3 (xX_le hL (by omega) (by omega)), Rat.le_trans (xX_le hL (by omega) t2) t4⟩
    obtain ⟨k, k1, k2⟩ := pc_grp hL m1 s
    obtain ⟨a1, a2⟩ := ih hg k1 k2.symm
    obtain ⟨b1, b2⟩ := jump_1 hf hL (t := S + d) k1 hh (k2.trans e)
    exact ⟨a1.trans b1, a2.trans b2⟩
theorem jump_e {f : Nat → Bool} (hf : fOk n L f) (hL : LOk n L) {S S' g h : Nat} (hg : g < nGr n L S) (hh : h < nGr n L S') (e : pcS n L S g = pcS n L S' h) : f (fcN n L S + g) = f (fcN n L S' + h) ∧ f (fcN n L S + (g + 1)) = f (fcN n L S' + (h + 1)) := by
  rcases Nat.le_total S S' with w | w
  · obtain ⟨d, rfl⟩ : ∃ d, S' = S + d := ⟨S' - S, by omega⟩
    exact jump_n hf hL hg hh e
  · obtain ⟨d, rfl⟩ : ∃ d, S = S' + d := ⟨S - S', by omega⟩
    obtain ⟨a, b⟩ := jump_n hf hL hh hg e.symm
    exact ⟨a.symm, b.symm⟩
/-- a piece between two faces of which f tells different things -/
noncomputable def jmp (n : Nat) (L : Nat → Sg) (f : Nat → Bool) (e : EuE) : Bool := pB ((∃ S g, g < nGr n L S ∧ pcS n L S g = e ∧ f (fcN n L S + g) ≠ f (fcN n L S + (g + 1))) ∨ ∃ t a b y, t < nX n L ∧ upE n L t e ∧ (((ptN L n).2 e.1).2 < y ∧ y < ((ptN L n).2 e.2).2) ∧ plc n L t a b y ∧ f (fcN n L t + a) ≠ f (fcN n L (t + 1) + b))
theorem jmp_n {f : Nat → Bool} (hf : fOk n L f) (hL : LOk n L) {S g : Nat} (hg : g < nGr n L S) : jmp n L f (pcS n L S g) = true ↔ f (fcN n L S + g) ≠ f (fcN n L S + (g + 1)) := by
  unfold jmp
  rw [pB_e]
  constructor
  · rintro (⟨S', h, h1, h2, h3⟩ | ⟨t, a, b, y, -, u, -⟩)
    · obtain ⟨a, b⟩ := jump_e hf hL hg h1 h2.symm
      rw [a, b]; exact h3
    · have := spn_x hL (pcS_e hL hg).2.2
      rw [u.2.1, u.2.2] at this
      exact absurd this Rat.lt_irrefl
  · exact fun w => Or.inl ⟨S, g, hg, rfl, w⟩
theorem jmp_u {f : Nat → Bool} (hL : LOk n L) {t a b : Nat} (ht : t < nX n L) {e : EuE} {y : Rat} (u : upE n L t e) (hy : ((ptN L n).2 e.1).2 < y ∧ y < ((ptN L n).2 e.2).2) (p : plc n L t a b y) : jmp n L f e = true ↔ f (fcN n L t + a) ≠ f (fcN n L (t + 1) + b) := by
  unfold jmp
  rw [pB_e]
  constructor
  · rintro (⟨S', h, h1, h2, h3⟩ | ⟨t', a', b', y', ht', u', hy', p', w⟩)
    · have := spn_x hL (pcS_e hL h1).2.2
      rw [h2, u.2.1, u.2.2] at this
      exact absurd this Rat.lt_irrefl
    · have et : t' = t := by
        have x := u.2.1.symm.trans u'.2.1
        rcases Nat.lt_trichotomy t' t with c | c | c
        · have := xX_lt hL c ht; rw [x] at this; exact absurd this Rat.lt_irrefl
        · exact c
        · have := xX_lt hL c ht'; rw [x] at this; exact absurd this Rat.lt_irrefl
      subst et
      obtain ⟨e1, e2⟩ := up_plc hL ht u hy hy' p p'
      rw [e1, e2]; exact w
  · exact fun w => Or.inr ⟨t, a, b, y, ht, u, hy, p, w⟩
noncomputable def jmC (n : Nat) (L : Nat → Sg) (f : Nat → Bool) : List EuE := (eu_dd (pcA L (ptN L n) n)).filter (jmp n L f)
theorem jmC_m {f : Nat → Bool} {e : EuE} (h : e ∈ jmC n L f) : e ∈ pcA L (ptN L n) n := eu_dd_m.mp (List.mem_filter.mp h).1
theorem jmC_c {f : Nat → Bool} {e : EuE} (h : e ∈ pcA L (ptN L n) n) : (jmC n L f).count e = (jmp n L f e).toNat := by
  unfold jmC
  cases q : jmp n L f e with
  | true => rw [List.count_filter q, eu_dd_c h]; rfl
  | false =>
    refine List.count_eq_zero.mpr fun w => ?_
    have := (List.mem_filter.mp w).2
    rw [q] at this
    cases this
theorem bn_x {p q : Bool} {j : Bool} (h : j = true ↔ p ≠ q) : (p.toNat + j.toNat) % 2 = q.toNat % 2 := by
  cases p <;> cases q <;> cases j <;> simp at h ⊢
theorem tele_e {f : Nat → Bool} (hf : fOk n L f) (hL : LOk n L) {S : Nat} : ∀ {g : Nat}, g ≤ nGr n L S → eu_p (jmC n L f) (bel n L S g) % 2 = ((f (fcN n L S + g)).toNat + (f (fcN n L S + 0)).toNat) % 2 := by
  intro g
  induction g with
  | zero => intro _; show 0 % 2 = _; omega
  | succ g ih =>
    intro hg
    have i := ih (by omega)
    have m := (pcS_e hL (show g < nGr n L S by omega)).1
    have b := bn_x (jmp_n hf hL (show g < nGr n L S by omega))
    rw [bel_s, eu_p_snoc, jmC_c m]
    omega
theorem bits_e {f : Nat → Bool} (hf : fOk n L f) (hL : LOk n L) {t a b : Nat} {y : Rat} (ht : t < nX n L) (hg : gen n L t y) (p : plc n L t a b y) : (jmC n L f).countP (upc n L t y) % 2 = ((f (fcN n L t + a)).toNat + (f (fcN n L (t + 1) + b)).toNat) % 2 := by
  by_cases c : cvr n L t y
  · obtain ⟨e, e1, e2⟩ := cvr_upc hL hg c
    obtain ⟨h1, h2, h3, h4⟩ := upc_e.mp e2
    have b' := bn_x (jmp_u (f := f) hL ht ⟨e1, h1, h2⟩ ⟨h3, h4⟩ p)
    rw [upc_ct hL e1 e2 (fun d hd => jmC_m hd), jmC_c e1]
    omega
  · have c0 : (jmC n L f).countP (upc n L t y) = 0 := List.countP_eq_zero.mpr (fun d hd w => c (upc_cvr hL (jmC_m hd) w))
    have := f_edge hf (face_of hL ht hg c p)
    rw [c0, this]
    omega
theorem jmC_z {f : Nat → Bool} (hf : fOk n L f) (hL : LOk n L) : eu_z (jmC n L f) := by
  intro v
  by_cases hv : v < (ptN L n).1
  · obtain ⟨t, ht, xt⟩ := xX_of hL hv
    obtain ⟨y, k1, k2, k3, k4⟩ := dn_near n L t (show ((ptN L n).2 v).2 - 1 < ((ptN L n).2 v).2 by grind)
    obtain ⟨z, l1, l2, l3, l4⟩ := up_near n L t (show ((ptN L n).2 v).2 < ((ptN L n).2 v).2 + 1 by grind)
    have half : ∀ w, gen n L t w → eu_n (blw n L t w) (jmC n L f) % 2 = ((f (fcN n L t + 0)).toNat + (f (fcN n L (t + 1) + 0)).toNat) % 2 := by
      intro w hw
      obtain ⟨a, b, p⟩ := plc_ex hL t w
      have h1 := chain_e hL ht hw p (J := jmC n L f) (fun e he => jmC_m he)
      have h2 := tele_e hf hL p.1
      have h3 := tele_e hf hL p.2.1
      have h4 := bits_e hf hL ht hw p
      omega
    have hy := half y k3
    have hz := half z l3
    have ad : eu_n (blw n L t z) (jmC n L f) = eu_n (blw n L t y) (jmC n L f) + eu_n (eu_v v) (jmC n L f) := by
      have one : ∀ u, u < (ptN L n).1 → (blw n L t z u).toNat = (blw n L t y u).toNat + (eu_v v u).toNat := by
        intro u hu
        unfold blw eu_v
        by_cases x : ((ptN L n).2 u).1 = xX n L t
        · have m := crl_p (n := n) (L := L) (t := t) hu
          have my := k4 _ m
          have mz := l4 _ m
          have ne := k3.1 u hu x
          rw [decide_eq_true x]
          by_cases e : u = v
          · subst e
            rw [decide_eq_true l1, decide_eq_false (show ¬ ((ptN L n).2 u).2 < y by grind), decide_eq_true rfl]; rfl
          · have d : ((ptN L n).2 u).2 < ((ptN L n).2 v).2 ∨ ((ptN L n).2 v).2 < ((ptN L n).2 u).2 := by
              rcases Nat.lt_or_gt_of_ne e with c | c
              · exact Or.inl (pt_y' hL c hv (x.trans xt))
              · exact Or.inr (pt_y' hL c hu (xt.symm.trans x.symm))
            rw [decide_eq_false e]
            rcases d with d | d
            · rw [decide_eq_true (show ((ptN L n).2 u).2 < z by grind), decide_eq_true (show ((ptN L n).2 u).2 < y by grind)]; rfl
            · rw [decide_eq_false (show ¬ ((ptN L n).2 u).2 < z by grind), decide_eq_false (show ¬ ((ptN L n).2 u).2 < y by grind)]; rfl
        · have e : ¬ u = v := fun w => x (by rw [w]; exact xt.symm)
          rw [decide_eq_false x, decide_eq_false e]; rfl
      refine eu_n_add fun e he => ?_
      have := pc_lt (jmC_m he)
      exact ⟨one _ (by omega), one _ (by omega)⟩
    omega
  · refine eu_n_even fun e he => ?_
    have := pc_lt (jmC_m he)
    unfold eu_v
    rw [decide_eq_false (show ¬ e.1 = v by omega), decide_eq_false (show ¬ e.2 = v by omega)]
theorem low_e {f : Nat → Bool} (hf : fOk n L f) (hL : LOk n L) : ∀ {S : Nat}, S ≤ nX n L → f (fcN n L S + 0) = f (fcN n L 0 + 0) := by
  intro S
  induction S with
  | zero => intro _; rfl
  | succ S ih =>
    intro h
    obtain ⟨h1, h2, h3⟩ := far_e hL (t := S) (a := 0) (b := 0) (Nat.zero_le _) (Nat.zero_le _) (Or.inl ⟨rfl, rfl, rfl⟩)
    rw [← ih (by omega)]
    exact (f_edge hf (face_of hL (by omega) h1 h2 h3)).symm
theorem faces_k (hL : LOk n L) : nFc n L = 1 + (eu_k (pcA L (ptN L n) n)).length := by
  have hr : ∀ k, k < nFc n L → ∃ c, c < fcN n L (nX n L + 1) ∧ fcC n L c = k := fun k hk => by
    obtain ⟨c, h1, h2, h3⟩ := face_rep hk
    exact ⟨c, h1, by rw [fcC_rt h2, h3]⟩
  have hrep : ∃ rep : Nat → Nat, ∀ k, k < nFc n L → rep k < fcN n L (nX n L + 1) ∧ fcC n L (rep k) = k :=
    ⟨fun k => @dite Nat (∃ c, c < fcN n L (nX n L + 1) ∧ fcC n L c = k) (Classical.propDecidable _) (fun h => Classical.choose h) (fun _ => 0), fun k hk => by
      simp only [dif_pos (hr k hk)]
      exact Classical.choose_spec (hr k hk)⟩
  obtain ⟨rep, hrep⟩ := hrep
  refine euler (nV := (ptN L n).1) (nC := fcN n L (nX n L + 1)) (bel := belC n L) (fc := fcC n L) (rep := rep) (fun e he => by have := pc_lt he; omega) (fun c hc => fcC_lt hc) hrep ?_ ?_ (fun J hJ hz c d _ _ e => g1_all hL hJ hz e) (fun f hf => ⟨jmC n L f, fun e he => jmC_m he, jmC_z hf hL, fun c hc => ?_⟩) (fun J hJ hz h0 => g3_all hL hJ hz h0)
  · have := fcN_lt (n := n) (L := L) (S := 0) (g := 0) (m := nX n L) (Nat.zero_le _) (Nat.zero_le _)
    omega
  · exact belC_e (n := n) (L := L) (S := 0) (g := 0) (Nat.zero_le _)
  · obtain ⟨S, g, h1, h2, rfl⟩ := fcN_ex hc
    have l := low_e hf hL h1
    have t := tele_e hf hL h2
    rw [belC_e h2, t, l]
    rfl
/-- so many faces as pieces, less points, and parts and one -/
theorem faces_now (hL : LOk n L) : nFc n L + eu_t (pcA L (ptN L n) n) = eu_d (pcA L (ptN L n) n) + 1 := by
  rw [faces_k hL, eu_d_e]
  omega
end EH
