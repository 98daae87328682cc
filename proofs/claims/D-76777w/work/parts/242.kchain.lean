/-! CHAINS ALONG AN UPRIGHT: what a chain of pieces has below a height, on both sides -/
set_option maxRecDepth 100000
section KC
variable {n : Nat} {L : Nat → Sg}
noncomputable def bel (n : Nat) (L : Nat → Sg) (S g : Nat) : List EuE := (List.range g).map (pcS n L S)
theorem bel_s (S g : Nat) : bel n L S (g + 1) = bel n L S g ++ [pcS n L S g] := by
  unfold bel
  rw [List.range_succ, List.map_append]; rfl
theorem bel_in (hL : LOk n L) {S h : Nat} (hh : h < nGr n L S) : ∀ g, g ≤ nGr n L S → (bel n L S g).count (pcS n L S h) = (decide (h < g)).toNat := by
  intro g
  induction g with
  | zero => intro _; rfl
  | succ g ih =>
    intro hg
    rw [bel_s, List.count_append, ih (by omega)]
    by_cases e : g = h
    · rw [e, List.count_singleton_self, decide_eq_false (Nat.lt_irrefl h), decide_eq_true (Nat.lt_succ_self h)]; rfl
    · have ne : pcS n L S g ≠ pcS n L S h := fun z => e (pc_inj hL (by omega) hh z)
      rw [List.count_singleton, if_neg (by simpa using ne)]
      have : (h < g) = (h < g + 1) := by apply propext; omega
      simp only [this]; rfl
theorem bel_out (hL : LOk n L) {S : Nat} {e : EuE} (h : ¬ spn n L S e) {g : Nat} (hg : g ≤ nGr n L S) : (bel n L S g).count e = 0 := by
  refine List.count_eq_zero.mpr fun z => ?_
  obtain ⟨i, hi, rfl⟩ := List.mem_map.mp z
  exact h (pcS_e hL (show i < nGr n L S by have := List.mem_range.mp hi; omega)).2.2
theorem xX_le (hL : LOk n L) {s t : Nat} (h : s ≤ t) (ht : t < nX n L) : xX n L s ≤ xX n L t := by
  by_cases e : s = t
  · rw [e]; exact Rat.le_refl
  · exact Rat.le_of_lt (xX_lt hL (by omega) ht)
theorem pt_bef (hL : LOk n L) {t p : Nat} (ht : t < nX n L) (hp : p < (ptN L n).1) (h : ((ptN L n).2 p).1 < xX n L t) : 0 < t ∧ ((ptN L n).2 p).1 ≤ xX n L (t - 1) := by
  obtain ⟨s, s1, s2⟩ := xX_of hL hp
  have : s < t := Nat.not_le.mp fun w => by
    have := xX_le hL w s1
    grind
  exact ⟨by omega, by rw [← s2]; exact xX_le hL (by omega) (by omega)⟩
theorem pt_aft (hL : LOk n L) {t p : Nat} (ht : t < nX n L) (hp : p < (ptN L n).1) (h : xX n L t < ((ptN L n).2 p).1) : t + 1 < nX n L ∧ xX n L (t + 1) ≤ ((ptN L n).2 p).1 := by
  obtain ⟨s, s1, s2⟩ := xX_of hL hp
  have : t < s := Nat.not_le.mp fun w => by
    have := xX_le hL w ht
    grind
  exact ⟨by omega, by rw [← s2]; exact xX_le hL (by omega) s1⟩
theorem pc_lt {e : EuE} (he : e ∈ pcA L (ptN L n) n) : e.1 < e.2 ∧ e.2 < (ptN L n).1 := by
  obtain ⟨l, -, h1, h2, -⟩ := pcA_mem.mp he
  exact ⟨h1, h2⟩
theorem spn_l (hL : LOk n L) {t : Nat} (ht : t < nX n L) {e : EuE} (he : e ∈ pcA L (ptN L n) n) : spn n L t e ↔ ((ptN L n).2 e.1).1 < xX n L t ∧ xX n L t ≤ ((ptN L n).2 e.2).1 := by
  obtain ⟨e1, e2⟩ := pc_lt he
  constructor
  · rintro ⟨h1, -, h3, h4⟩
    have := xX_lt hL (show t - 1 < t by omega) ht
    exact ⟨by grind, h4⟩
  · rintro ⟨h1, h2⟩
    obtain ⟨a, b⟩ := pt_bef hL ht (by omega) h1
    exact ⟨a, ht, b, h2⟩
theorem spn_r (hL : LOk n L) {t : Nat} (ht : t < nX n L) {e : EuE} (he : e ∈ pcA L (ptN L n) n) : spn n L (t + 1) e ↔ ((ptN L n).2 e.1).1 ≤ xX n L t ∧ xX n L t < ((ptN L n).2 e.2).1 := by
  obtain ⟨e1, e2⟩ := pc_lt he
  constructor
  · rintro ⟨-, h2, h3, h4⟩
    have := xX_lt hL (show t < t + 1 by omega) h2
    exact ⟨h3, by grind⟩
  · rintro ⟨h1, h2⟩
    obtain ⟨a, b⟩ := pt_aft hL ht e2 h2
    exact ⟨by omega, a, h1, b⟩
noncomputable def upc (n : Nat) (L : Nat → Sg) (t : Nat) (y : Rat) (e : EuE) : Bool := (decide (((ptN L n).2 e.1).1 = xX n L t) && decide (((ptN L n).2 e.2).1 = xX n L t)) && (decide (((ptN L n).2 e.1).2 < y) && decide (y < ((ptN L n).2 e.2).2))
noncomputable def blw (n : Nat) (L : Nat → Sg) (t : Nat) (y : Rat) (v : Nat) : Bool := decide (((ptN L n).2 v).1 = xX n L t) && decide (((ptN L n).2 v).2 < y)
theorem edge_e (hL : LOk n L) {t a b : Nat} {y : Rat} (ht : t < nX n L) (hg : gen n L t y) (hp : plc n L t a b y) {e : EuE} (he : e ∈ pcA L (ptN L n) n) : ((bel n L t a).count e + (bel n L (t + 1) b).count e + (upc n L t y e).toNat + ((blw n L t y e.1).toNat + (blw n L t y e.2).toNat)) % 2 = 0 := by
  obtain ⟨p1, p2, p3, p4⟩ := hp
  obtain ⟨e1, e2⟩ := pc_lt he
  have srt' := (ptN_G hL n (Nat.le_refl _)).1
  have xe := srt_x srt' e1 e2
  have A := spn_l hL ht he
  have B := spn_r hL ht he
  have cl : spn n L t e → ∃ h, h < nGr n L t ∧ pcS n L t h = e ∧ (bel n L t a).count e = (decide (vY n L t h (xX n L t) < y)).toNat := by
    intro s
    obtain ⟨h, h1, h2⟩ := pc_grp hL he s
    refine ⟨h, h1, h2, ?_⟩
    have := bel_in hL h1 a p1
    rw [h2] at this
    rw [this]
    simp only [p3 h h1]
  have cr : spn n L (t + 1) e → ∃ h, h < nGr n L (t + 1) ∧ pcS n L (t + 1) h = e ∧ (bel n L (t + 1) b).count e = (decide (vY n L (t + 1) h (xX n L t) < y)).toNat := by
    intro s
    obtain ⟨h, h1, h2⟩ := pc_grp hL he s
    refine ⟨h, h1, h2, ?_⟩
    have := bel_in hL h1 b p2
    rw [h2] at this
    rw [this]
    simp only [p4 h h1]
  unfold upc blw
  by_cases sA : spn n L t e
  · obtain ⟨x1, x2⟩ := A.mp sA
    obtain ⟨h, h1, h2, h3⟩ := cl sA
    have n1 : ¬ ((ptN L n).2 e.1).1 = xX n L t := by grind
    by_cases sB : spn n L (t + 1) e
    · obtain ⟨x3, x4⟩ := B.mp sB
      obtain ⟨k, k1, k2, k3⟩ := cr sB
      have n2 : ¬ ((ptN L n).2 e.2).1 = xX n L t := by grind
      rw [h3, k3, decide_eq_false n1, decide_eq_false n2, pc_same hL h1 k1 (h2.trans k2.symm)]
      simp
      omega
    · have x5 : ((ptN L n).2 e.2).1 = xX n L t := Classical.byContradiction fun w => sB (B.mpr ⟨Rat.le_of_lt x1, by grind⟩)
      have yq' := (pc_yv hL h1 h2).2
      rw [x5] at yq'
      rw [h3, bel_out hL sB p2, decide_eq_false n1, decide_eq_true x5, yq']
      simp
      omega
  · by_cases sB : spn n L (t + 1) e
    · obtain ⟨x3, x4⟩ := B.mp sB
      obtain ⟨k, k1, k2, k3⟩ := cr sB
      have n2 : ¬ ((ptN L n).2 e.2).1 = xX n L t := by grind
      have x5 : ((ptN L n).2 e.1).1 = xX n L t := Classical.byContradiction fun w => sA (A.mpr ⟨by grind, Rat.le_of_lt x4⟩)
      have yp' := (pc_yv hL k1 k2).1
      rw [x5] at yp'
      rw [k3, bel_out hL sA p1, decide_eq_false n2, decide_eq_true x5, yp']
      simp
      omega
    · rw [bel_out hL sA p1, bel_out hL sB p2]
      by_cases c1 : ((ptN L n).2 e.1).1 = xX n L t
      · by_cases c2 : ((ptN L n).2 e.2).1 = xX n L t
        · have lt : ((ptN L n).2 e.1).2 < ((ptN L n).2 e.2).2 := by
            rcases lxc_lt.mp (srt' e.1 e.2 e1 e2) with w | w
            · grind
            · exact w.2
          have ne := hg.1 e.2 e2 c2
          rw [decide_eq_true c1, decide_eq_true c2]
          by_cases d1 : ((ptN L n).2 e.1).2 < y
          · by_cases d2 : ((ptN L n).2 e.2).2 < y
            · have d3 : ¬ y < ((ptN L n).2 e.2).2 := by grind
              rw [decide_eq_true d1, decide_eq_true d2, decide_eq_false d3]; rfl
            · have d3 : y < ((ptN L n).2 e.2).2 := by grind
              rw [decide_eq_true d1, decide_eq_false d2, decide_eq_true d3]; rfl
          · have d2 : ¬ ((ptN L n).2 e.2).2 < y := by grind
            rw [decide_eq_false d1, decide_eq_false d2]; rfl
        · exact absurd (B.mpr ⟨by rw [c1]; exact Rat.le_refl, by grind⟩) sB
      · by_cases c2 : ((ptN L n).2 e.2).1 = xX n L t
        · exact absurd (A.mpr ⟨by grind, by rw [c2]; exact Rat.le_refl⟩) sA
        · rw [decide_eq_false c1, decide_eq_false c2]; rfl
theorem eu_p_cons (e : EuE) (J B : List EuE) : eu_p (e :: J) B = B.count e + eu_p J B := by
  unfold eu_p
  induction B with
  | nil => rfl
  | cons b B ih =>
    simp only [List.map_cons, List.sum_cons] at ih ⊢
    rw [ih]
    by_cases q : e = b
    · subst q
      rw [List.count_cons_self, List.count_cons_self]; omega
    · rw [List.count_cons_of_ne q, List.count_cons_of_ne (fun z => q z.symm)]; omega
/-- below a height on both sides, and through it: so many ends below -/
theorem chain_e (hL : LOk n L) {t a b : Nat} {y : Rat} (ht : t < nX n L) (hg : gen n L t y) (hp : plc n L t a b y) : ∀ {J : List EuE}, (∀ e ∈ J, e ∈ pcA L (ptN L n) n) → (eu_p J (bel n L t a) + eu_p J (bel n L (t + 1) b) + J.countP (upc n L t y) + eu_n (blw n L t y) J) % 2 = 0 := by
  intro J
  induction J with
  | nil =>
    intro _
    have z : ∀ B : List EuE, eu_p [] B = 0 := by
      intro B
      unfold eu_p
      induction B with
      | nil => rfl
      | cons b B ih => simp only [List.map_cons, List.sum_cons, ih]; rfl
    rw [z, z]; rfl
  | cons e J ih =>
    intro hJ
    have h1 := ih (fun d hd => hJ d (List.mem_cons_of_mem _ hd))
    have h2 := edge_e hL ht hg hp (hJ e (List.mem_cons_self ..))
    rw [eu_p_cons, eu_p_cons, List.countP_cons, eu_n]
    cases u : upc n L t y e <;> rw [u] at h2 <;> simp at h2 ⊢ <;> omega
/-- the same of a closed chain -/
theorem chain_z (hL : LOk n L) {t a b : Nat} {y : Rat} (ht : t < nX n L) (hg : gen n L t y) (hp : plc n L t a b y) {J : List EuE} (hJ : ∀ e ∈ J, e ∈ pcA L (ptN L n) n) (hz : eu_z J) : (eu_p J (bel n L t a) + eu_p J (bel n L (t + 1) b) + J.countP (upc n L t y)) % 2 = 0 := by
  have h1 := chain_e hL ht hg hp hJ
  have h2 := eu_z_any (n := (ptN L n).1) (blw n L t y) (fun e he => by have := pc_lt (hJ e he); omega) hz
  omega
end KC
