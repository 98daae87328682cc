/-! SO MANY FACES AS CLOSING PIECES, AND ONE -/
set_option maxRecDepth 100000
def eu_dd : List EuE → List EuE
  | [] => []
  | e :: es => if e ∈ es then eu_dd es else e :: eu_dd es
theorem eu_dd_m {es : List EuE} {e : EuE} : e ∈ eu_dd es ↔ e ∈ es := by
  induction es with
  | nil => exact Iff.rfl
  | cons x es ih =>
    unfold eu_dd
    by_cases q : x ∈ es
    · rw [if_pos q, ih]
      exact ⟨List.mem_cons_of_mem _, fun h => (List.mem_cons.mp h).elim (fun z => z ▸ q) id⟩
    · rw [if_neg q, List.mem_cons, List.mem_cons, ih]
theorem eu_dd_c {es : List EuE} {e : EuE} (h : e ∈ es) : (eu_dd es).count e = 1 := by
  induction es with
  | nil => cases h
  | cons x es ih =>
    unfold eu_dd
    by_cases q : x ∈ es
    · rw [if_pos q]
      exact ih ((List.mem_cons.mp h).elim (fun z => z ▸ q) id)
    · rw [if_neg q]
      by_cases z : x = e
      · subst z
        rw [List.count_cons_self, List.count_eq_zero.mpr (fun w => q (eu_dd_m.mp w))]
      · rw [List.count_cons_of_ne z]
        exact ih ((List.mem_cons.mp h).resolve_left (fun w => z w.symm))
theorem eu_p_snoc (J B : List EuE) (e : EuE) : eu_p J (B ++ [e]) = eu_p J B + J.count e := by
  unfold eu_p
  rw [List.map_append, List.sum_append]
  simp
theorem eu_n_add {P Q R : Nat → Bool} {J : List EuE} (h : ∀ e ∈ J, (P e.1).toNat = (Q e.1).toNat + (R e.1).toNat ∧ (P e.2).toNat = (Q e.2).toNat + (R e.2).toNat) : eu_n P J = eu_n Q J + eu_n R J := by
  induction J with
  | nil => rfl
  | cons e J ih =>
    have h1 := h e (List.mem_cons_self ..)
    have h2 := ih (fun e he => h e (List.mem_cons_of_mem _ he))
    simp only [eu_n, h1.1, h1.2, h2]
    omega
section EG
variable {n : Nat} {L : Nat → Sg}
theorem g1_edge (hL : LOk n L) {J : List EuE} (hJ : ∀ e ∈ J, e ∈ pcA L (ptN L n) n) (hz : eu_z J) {e : EuE} (he : e ∈ esJ n L) : eu_p J (belC n L e.1) % 2 = eu_p J (belC n L e.2) % 2 := by
  obtain ⟨t, ht, a, b, ha, hb, ov, ee, op⟩ := esJ_e.mp he
  rw [ee]
  show eu_p J (belC n L (fcN n L t + a)) % 2 = eu_p J (belC n L (fcN n L (t + 1) + b)) % 2
  rw [belC_e ha, belC_e hb]
  obtain ⟨y, g, nc, p⟩ := cell_at hL ha hb op
  have h := chain_z hL ht g p hJ hz
  have c0 : J.countP (upc n L t y) = 0 := List.countP_eq_zero.mpr (fun d hd w => nc (upc_cvr hL (hJ d hd) w))
  omega
theorem g1_all (hL : LOk n L) {J : List EuE} (hJ : ∀ e ∈ J, e ∈ pcA L (ptN L n) n) (hz : eu_z J) {c d : Nat} (h : fcC n L c = fcC n L d) : eu_p J (belC n L c) % 2 = eu_p J (belC n L d) % 2 :=
  eu_l_R (fcC_eq.mp h) (fun c => eu_p J (belC n L c) % 2) (fun _ he => g1_edge hL hJ hz he)
theorem g3_all (hL : LOk n L) {J : List EuE} (hJ : ∀ e ∈ J, e ∈ pcA L (ptN L n) n) (hz : eu_z J) (h0 : ∀ c, c < fcN n L (nX n L + 1) → eu_p J (belC n L c) % 2 = 0) : ∀ e ∈ pcA L (ptN L n) n, J.count e % 2 = 0 := by
  intro e he
  have hS : ∀ S g, S ≤ nX n L → g ≤ nGr n L S → eu_p J (bel n L S g) % 2 = 0 := fun S g h1 h2 => by
    rw [← belC_e h2]; exact h0 _ (fcN_lt h1 h2)
  obtain ⟨e1, e2⟩ := pc_lt he
  obtain ⟨t, ht, xt⟩ := xX_of hL e2
  have xe := srt_x (ptN_G hL n (Nat.le_refl _)).1 e1 e2
  by_cases c : ((ptN L n).2 e.1).1 = ((ptN L n).2 e.2).1
  · have u : upE n L t e := ⟨he, c.trans xt.symm, xt.symm⟩
    obtain ⟨-, -, -, -, -, -, lt⟩ := upE_l hL u
    have y1 : ((ptN L n).2 e.1).2 < (((ptN L n).2 e.1).2 + ((ptN L n).2 e.2).2) / 2 := by grind
    have y2 : (((ptN L n).2 e.1).2 + ((ptN L n).2 e.2).2) / 2 < ((ptN L n).2 e.2).2 := by grind
    have g := up_gen hL ht u y1 y2
    obtain ⟨a, b, p⟩ := plc_ex hL t ((((ptN L n).2 e.1).2 + ((ptN L n).2 e.2).2) / 2)
    have h := chain_z hL ht g p hJ hz
    have k1 := hS t a (by omega) p.1
    have k2 := hS (t + 1) b (by omega) p.2.1
    rw [upc_ct hL he (upc_e.mpr ⟨u.2.1, u.2.2, y1, y2⟩) hJ] at h
    omega
  · have s : spn n L t e := (spn_l hL ht he).mpr ⟨by rw [xt]; grind, by rw [xt]; exact Rat.le_refl⟩
    obtain ⟨g, g1, g2⟩ := pc_grp hL he s
    have k1 := hS t g (by omega) (by omega)
    have k2 := hS t (g + 1) (by omega) (by omega)
    rw [bel_s, eu_p_snoc, g2] at k2
    omega
/-- through a slab's side where no point is: groups of one height are one -/
theorem grp_same (hL : LOk n L) {S i g : Nat} (hi : i < nGr n L S) (hg : g < nGr n L S) {x : Rat} (h1 : xX n L (S - 1) ≤ x) (h2 : x ≤ xX n L S) (np : ¬ ∃ r, r < (ptN L n).1 ∧ (ptN L n).2 r = (x, vY n L S g x)) (e : vY n L S i x = vY n L S g x) : i = g := by
  obtain ⟨-, -, a3, -, a5, a6, a7, a8⟩ := lea_e hL hi 0
  obtain ⟨-, -, b3, -, b5, b6, -, -⟩ := lea_e hL hg 0
  obtain ⟨sa, a9, a10⟩ := spB_e.mp a5
  obtain ⟨sb, b9, b10⟩ := spB_e.mp b5
  rw [show S - 1 + 1 = S by omega] at a10 b10
  have nG : nGr n L S = (gpS n L (S - 1) n).1 := if_pos ⟨a7, a8⟩
  have oa : onB (L (lea n L S i)) (x, vY n L S g x) = true := (onB_sl (hL.2 _ a3) sa).mpr ⟨by grind, by grind, e.symm⟩
  have ob : onB (L (lea n L S g)) (x, vY n L S g x) = true := (onB_sl (hL.2 _ b3) sb).mpr ⟨by grind, by grind, rfl⟩
  by_cases d : mD (L (lea n L S i)) (L (lea n L S g)) = 0
  · have s := par_slp sa sb d
    have e' := e
    unfold vY at e'
    rw [yv_s, yv_s, s] at e'
    have m : yv (L (lea n L S i)) (mdX n L (S - 1)) = yv (L (lea n L S g)) (mdX n L (S - 1)) := by
      rw [yv_s, yv_s, s]; grind
    rw [a6, b6] at m
    exact vl_inj (by omega) (by omega) m
  · exact absurd (pt_cross hL a3 b3 d oa ob) np
/-- the same in a whole face -/
def fOk (n : Nat) (L : Nat → Sg) (f : Nat → Bool) : Prop := ∀ c d, c < fcN n L (nX n L + 1) → d < fcN n L (nX n L + 1) → fcC n L c = fcC n L d → f c = f d
theorem f_edge {f : Nat → Bool} (hf : fOk n L f) {c d : Nat} (h : (c, d) ∈ esJ n L) : f c = f d := by
  obtain ⟨h1, h2⟩ := aP_bd (esJ_e.mp h)
  exact hf c d h1 h2 (fcC_eq.mpr (eu_l_edge (e := (c, d)) h))
theorem jump_1 {f : Nat → Bool} (hf : fOk n L f) (hL : LOk n L) {t g h : Nat} (hg : g < nGr n L t) (hh : h < nGr n L (t + 1)) (e : pcS n L t g = pcS n L (t + 1) h) : f (fcN n L t + g) = f (fcN n L (t + 1) + h) ∧ f (fcN n L t + (g + 1)) = f (fcN n L (t + 1) + (h + 1)) := by
  obtain ⟨m1, m2, m3⟩ := pcS_e hL hg
  have m3' := (pcS_e hL hh).2.2
  rw [← e] at m3'
  have ht : t < nX n L := m3.2.1
  have t0 : 0 < t := m3.1
  obtain ⟨x1, x2⟩ := (spn_l hL ht m1).mp m3
  obtain ⟨x3, x4⟩ := (spn_r hL ht m1).mp m3'
  obtain ⟨-, -, a3, -, a5, -, -, -⟩ := lea_e hL hg 0
  obtain ⟨sa, a9, a10⟩ := spB_e.mp a5
  rw [show t - 1 + 1 = t by omega] at a10
  have a9' := xX_lt hL (show t - 1 < t by omega) ht
  have ol : onB (L (lea n L t g)) (xX n L t, vY n L t g (xX n L t)) = true := (onB_sl (hL.2 _ a3) sa).mpr ⟨by grind, a10, rfl⟩
  obtain ⟨c1, c2, -, -, c5⟩ := m2
  have np : ¬ ∃ r, r < (ptN L n).1 ∧ (ptN L n).2 r = (xX n L t, vY n L t g (xX n L t)) := by
    rintro ⟨r, hr, er⟩
    have xr : ((ptN L n).2 r).1 = xX n L t := by rw [er]
    have := c5 r (pt_le hL (by omega) hr (by rw [xr]; exact x1)) (pt_le hL hr c2 (by rw [xr]; exact x4))
    rw [← er] at ol
    exact absurd (this.symm.trans ol) (by decide)
  have same := pc_same hL hg hh e (xX n L t)
  have nu : ∀ l, l < n → upA L (xX n L t) l → ((L l).2.1 : Rat) ≤ vY n L t g (xX n L t) → vY n L t g (xX n L t) ≤ ((L l).2.2.2 : Rat) → False := by
    intro l hl up y1 y2
    have ou := onB_upA hL hl up y1 y2
    have d0 : mD (L (lea n L t g)) (L l) ≠ 0 := by
      have q := (hL.2 l hl).2.2.2.2
      have u1 := up.1
      unfold isSl at u1 sa
      unfold mD
      rw [show (L l).2.2.1 - (L l).1 = 0 by omega, Int.mul_zero, Int.sub_zero]
      exact Int.mul_ne_zero (by omega) (by omega)
    exact np (pt_cross hL a3 hl d0 ol ou)
  have uL : ∀ i, i < nGr n L t → vY n L t i (xX n L t) = vY n L t g (xX n L t) → i = g := fun i hi => grp_same hL hi hg (Rat.le_of_lt a9') Rat.le_refl np
  have uR : ∀ i, i < nGr n L (t + 1) → vY n L (t + 1) i (xX n L t) = vY n L t g (xX n L t) → i = h := fun i hi w => by
    have := xX_lt hL (show t < t + 1 by omega) m3'.2.1
    exact grp_same hL hi hh (x := xX n L t) (by rw [show t + 1 - 1 = t by omega]; exact Rat.le_refl) (Rat.le_of_lt this) (by rw [← same]; exact np) (by rw [← same]; exact w)
  have cL : ∀ i, i < nGr n L t → (i < g → vY n L t i (xX n L t) < vY n L t g (xX n L t)) ∧ (¬ i < g → vY n L t g (xX n L t) ≤ vY n L t i (xX n L t)) ∧ (g < i → vY n L t g (xX n L t) < vY n L t i (xX n L t)) := by
    intro i hi
    have ne := uL i hi
    refine ⟨fun w => ?_, fun w => vY_up hL (by omega) hi, fun w => ?_⟩
    · have := vY_up hL (Nat.le_of_lt w) hg
      have : ¬ vY n L t i (xX n L t) = vY n L t g (xX n L t) := fun z => by have := ne z; omega
      grind
    · have := vY_up hL (Nat.le_of_lt w) hi
      have : ¬ vY n L t i (xX n L t) = vY n L t g (xX n L t) := fun z => by have := ne z; omega
      grind
  have cR : ∀ i, i < nGr n L (t + 1) → (i < h → vY n L (t + 1) i (xX n L t) < vY n L t g (xX n L t)) ∧ (¬ i < h → vY n L t g (xX n L t) ≤ vY n L (t + 1) i (xX n L t)) ∧ (h < i → vY n L t g (xX n L t) < vY n L (t + 1) i (xX n L t)) := by
    intro i hi
    have ne := uR i hi
    refine ⟨fun w => ?_, fun w => ?_, fun w => ?_⟩
    · have := vY_up' hL (Nat.le_of_lt w) hh
      have : ¬ vY n L (t + 1) i (xX n L t) = vY n L t g (xX n L t) := fun z => by have := ne z; omega
      grind
    · rw [same]; exact vY_up' hL (by omega) hi
    · have := vY_up' hL (Nat.le_of_lt w) hi
      have : ¬ vY n L (t + 1) i (xX n L t) = vY n L t g (xX n L t) := fun z => by have := ne z; omega
      grind
  generalize hY : vY n L t g (xX n L t) = Y at *
  constructor
  · obtain ⟨y, k1, k2, k3, k4⟩ := dn_near n L t (show Y - 1 < Y by grind)
    refine f_edge hf (face_of hL ht k3 ?_ ⟨by omega, by omega, fun i hi => ?_, fun i hi => ?_⟩)
    · rintro ⟨l, hl, up, w1, w2⟩
      obtain ⟨-, ib, hb, eb⟩ := pt_ends (L := L) hl
      have m := crl_p (n := n) (L := L) (t := t) hb
      rw [eb] at m
      exact nu l hl up (by grind) (k4 _ m w2)
    · obtain ⟨d1, d2, -⟩ := cL i hi
      have m := k4 _ (crl_l (n := n) (L := L) hi)
      have ne := k3.2.1 i hi
      constructor
      · intro w
        refine Classical.byContradiction fun z => ?_
        have := d2 z; grind
      · intro w
        have := d1 w
        grind
    · obtain ⟨d1, d2, -⟩ := cR i hi
      have m := k4 _ (crl_r (n := n) (L := L) hi)
      have ne := k3.2.2 i hi
      constructor
      · intro w
        refine Classical.byContradiction fun z => ?_
        have := d2 z; grind
      · intro w
        have := d1 w
        grind
  · obtain ⟨y, k1, k2, k3, k4⟩ := up_near n L t (show Y < Y + 1 by grind)
    refine f_edge hf (face_of hL ht k3 ?_ ⟨by omega, by omega, fun i hi => ?_, fun i hi => ?_⟩)
    · rintro ⟨l, hl, up, w1, w2⟩
      obtain ⟨⟨ia, ha, ea⟩, -⟩ := pt_ends (L := L) hl
      have m := crl_p (n := n) (L := L) (t := t) ha
      rw [ea] at m
      exact nu l hl up (k4 _ m w1) (by grind)
    · obtain ⟨d1, d2, d3⟩ := cL i hi
      have m := k4 _ (crl_l (n := n) (L := L) hi)
      constructor
      · intro w
        refine Nat.not_le.mp fun z => ?_
        have := d3 z
        have := m w
        grind
      · intro w
        by_cases z : i < g
        · have := d1 z; grind
        · have : i = g := by omega
          subst this; rw [hY]; exact k1
    · obtain ⟨d1, d2, d3⟩ := cR i hi
      have m := k4 _ (crl_r (n := n) (L := L) hi)
      constructor
      · intro w
        refine Nat.not_le.mp fun z => ?_
        have := d3 z
        have := m w
        grind
      · intro w
        by_cases z : i < h
        · have := d1 z; grind
        · have : i = h := by omega
          subst this; rw [← same]; exact k1
end EG
