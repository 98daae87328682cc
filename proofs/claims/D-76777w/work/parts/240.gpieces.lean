/-! PIECES AND GROUPS: through each slab, the groups of lines are the pieces that go through it -/
set_option maxRecDepth 100000
section GP
variable {n : Nat} {L : Nat → Sg}
theorem yv_two {a b : Sg} {x1 x2 : Rat} (hx : x1 ≠ x2) (h1 : yv a x1 = yv b x1) (h2 : yv a x2 = yv b x2) (x : Rat) : yv a x = yv b x := by
  have e1 := h1
  have e2 := h2
  rw [yv_s, yv_s] at e1 e2
  have z : (slp a - slp b) * (x1 - x2) = 0 := by grind
  have m : slp a = slp b := by
    rcases Rat.mul_eq_zero.mp z with w | w
    · grind
    · exact absurd (by grind) hx
  rw [yv_s, yv_s]
  rw [m] at e1 ⊢
  grind
theorem on_x (hL : LOk n L) {l : Nat} (hl : l < n) (sl : isSl (L l)) {i j : Nat} (hij : i < j) (hj : j < (ptN L n).1) (oi : onB (L l) ((ptN L n).2 i) = true) (oj : onB (L l) ((ptN L n).2 j) = true) : ((ptN L n).2 i).1 < ((ptN L n).2 j).1 := by
  have h := lxc_lt.mp ((ptN_G hL n (Nat.le_refl _)).1 i j hij hj)
  have a := (onB_sl (hL.2 l hl) sl (x := ((ptN L n).2 i).1) (y := ((ptN L n).2 i).2)).mp oi
  have b := (onB_sl (hL.2 l hl) sl (x := ((ptN L n).2 j).1) (y := ((ptN L n).2 j).2)).mp oj
  rcases h with w | ⟨w, w'⟩
  · exact w
  · rw [a.2.2, b.2.2, w] at w'
    exact absurd w' Rat.lt_irrefl
theorem pt_le (hL : LOk n L) {i j : Nat} (hi : i < (ptN L n).1) (hj : j < (ptN L n).1) (h : ((ptN L n).2 i).1 < ((ptN L n).2 j).1) : i < j := by
  refine Nat.not_le.mp fun w => ?_
  by_cases e : j = i
  · rw [e] at h; exact Rat.lt_irrefl h
  · have := srt_x (ptN_G hL n (Nat.le_refl _)).1 (show j < i by omega) hi
    exact Rat.not_le.mpr h this
/-- a piece goes through a slab -/
def spn (n : Nat) (L : Nat → Sg) (S : Nat) (e : EuE) : Prop := 0 < S ∧ S < nX n L ∧ ((ptN L n).2 e.1).1 ≤ xX n L (S - 1) ∧ xX n L S ≤ ((ptN L n).2 e.2).1
def ofG (n : Nat) (L : Nat → Sg) (S g : Nat) (e : EuE) : Prop := e ∈ pcA L (ptN L n) n ∧ cons2 (fun p => onB (L (lea n L S g)) ((ptN L n).2 p)) (ptN L n).1 e ∧ spn n L S e
theorem grp_ex (hL : LOk n L) {S g : Nat} (hg : g < nGr n L S) : ∃ e, ofG n L S g e := by
  obtain ⟨-, -, a3, -, a5, -, a7, a8⟩ := lea_e hL hg 0
  obtain ⟨sl, b2, b3⟩ := spB_e.mp a5
  rw [show S - 1 + 1 = S by omega] at b3
  generalize hl : lea n L S g = l at *
  have x01 := xX_lt hL (show S - 1 < S by omega) a8
  obtain ⟨⟨ia, ha, ea⟩, ib, hb, eb⟩ := pt_ends (L := L) a3
  have oa : onB (L l) ((ptN L n).2 ia) = true := by rw [ea]; exact onB_A (hL.2 l a3)
  have ob : onB (L l) ((ptN L n).2 ib) = true := by rw [eb]; exact onB_B (hL.2 l a3)
  have xa : ((ptN L n).2 ia).1 = ((L l).1 : Rat) := by rw [ea]; rfl
  have xb : ((ptN L n).2 ib).1 = ((L l).2.2.1 : Rat) := by rw [eb]; rfl
  cases hp : lst (fun i => onB (L l) ((ptN L n).2 i) && decide (((ptN L n).2 i).1 ≤ xX n L (S - 1))) (ptN L n).1 with
  | none =>
    have := lst_n.mp hp ia ha
    simp only [oa, xa, decide_eq_true b2] at this
    cases this
  | some p =>
    obtain ⟨p1, p2, p3⟩ := lst_e.mp hp
    rw [Bool.and_eq_true, decide_eq_true_iff] at p2
    have pib : p < ib := pt_le hL p1 hb (by rw [xb]; have := p2.2; grind)
    obtain ⟨f1, f2, f3⟩ := @fst1_e (fun r => decide (p < r) && onB (L l) ((ptN L n).2 r)) (ptN L n).1
    generalize hq : fst1 (fun r => decide (p < r) && onB (L l) ((ptN L n).2 r)) (ptN L n).1 = q at *
    have q1 : q ≤ ib := by
      refine Nat.not_lt.mp fun w => ?_
      have := f2 ib w
      rw [ob, decide_eq_true pib] at this
      cases this
    have q2 := f3 (by omega)
    rw [Bool.and_eq_true, decide_eq_true_iff] at q2
    have c2 : cons2 (fun p => onB (L l) ((ptN L n).2 p)) (ptN L n).1 (p, q) := ⟨q2.1, by show q < _; omega, p2.1, q2.2, fun r r1 r2 => by
      have := f2 r r2
      rw [decide_eq_true (show p < r from r1), Bool.true_and] at this
      exact this⟩
    have xq : ¬ ((ptN L n).2 q).1 ≤ xX n L (S - 1) := by
      intro w
      have := p3 q q2.1 (by omega)
      rw [q2.2, decide_eq_true w] at this
      cases this
    have gap := xX_gap hL (s := S - 1) (by omega) (show q < (ptN L n).1 by omega)
    rw [show S - 1 + 1 = S by omega] at gap
    refine ⟨(p, q), pcA_mem.mpr ⟨l, a3, c2⟩, by rw [hl]; exact c2, a7, a8, p2.2, ?_⟩
    exact Rat.not_lt.mp fun w => gap ⟨Rat.not_le.mp xq, w⟩
noncomputable def pcS (n : Nat) (L : Nat → Sg) (S g : Nat) : EuE := @dite EuE (∃ e, ofG n L S g e) (Classical.propDecidable _) (fun h => Classical.choose h) (fun _ => (0, 0))
theorem pcS_e (hL : LOk n L) {S g : Nat} (hg : g < nGr n L S) : ofG n L S g (pcS n L S g) := by
  unfold pcS
  rw [dif_pos (grp_ex hL hg)]
  exact Classical.choose_spec (grp_ex hL hg)
theorem spn_x (hL : LOk n L) {S : Nat} {e : EuE} (h : spn n L S e) : ((ptN L n).2 e.1).1 < ((ptN L n).2 e.2).1 := by
  obtain ⟨h1, h2, h3, h4⟩ := h
  have := xX_lt hL (show S - 1 < S by omega) h2
  grind
/-- a piece that goes through is a group's -/
theorem pc_grp (hL : LOk n L) {S : Nat} {e : EuE} (he : e ∈ pcA L (ptN L n) n) (hs : spn n L S e) : ∃ g, g < nGr n L S ∧ pcS n L S g = e := by
  obtain ⟨l0, hl0, c0⟩ := pcA_mem.mp he
  obtain ⟨k1, k2, k3, k4, k5⟩ := c0
  have k3 : onB (L l0) ((ptN L n).2 e.1) = true := k3
  have k4 : onB (L l0) ((ptN L n).2 e.2) = true := k4
  have xe := spn_x hL hs
  obtain ⟨s1, s2, s3, s4⟩ := hs
  have x01 := xX_lt hL (show S - 1 < S by omega) s2
  have sl0 : isSl (L l0) := by
    refine Classical.byContradiction fun w => ?_
    have a := (onB_up (hL.2 l0 hl0) w (x := ((ptN L n).2 e.1).1) (y := ((ptN L n).2 e.1).2)).mp k3
    have b := (onB_up (hL.2 l0 hl0) w (x := ((ptN L n).2 e.2).1) (y := ((ptN L n).2 e.2).2)).mp k4
    rw [a.1, b.1] at xe
    exact Rat.lt_irrefl xe
  have a0 := (onB_sl (hL.2 l0 hl0) sl0 (x := ((ptN L n).2 e.1).1) (y := ((ptN L n).2 e.1).2)).mp k3
  have b0 := (onB_sl (hL.2 l0 hl0) sl0 (x := ((ptN L n).2 e.2).1) (y := ((ptN L n).2 e.2).2)).mp k4
  have sp0 : spB n L (S - 1) l0 = true := spB_e.mpr ⟨sl0, Rat.le_trans a0.1 s3, by rw [show S - 1 + 1 = S by omega]; exact Rat.le_trans s4 b0.2.1⟩
  obtain ⟨g, g1, g2⟩ := vl_of (n := n) (s := S - 1) (L := L) sp0 hl0
  have nG : nGr n L S = (gpS n L (S - 1) n).1 := if_pos ⟨s1, s2⟩
  rw [← nG] at g1
  refine ⟨g, g1, ?_⟩
  obtain ⟨-, -, a3, -, a5, a6, -, -⟩ := lea_e hL g1 0
  obtain ⟨m1, ⟨m2, m3, m4, m5, m6⟩, m7⟩ := pcS_e hL g1
  obtain ⟨sl, b2, b3⟩ := spB_e.mp a5
  rw [show S - 1 + 1 = S by omega] at b3
  generalize hl : lea n L S g = l at *
  generalize hp : pcS n L S g = e' at *
  have m4 : onB (L l) ((ptN L n).2 e'.1) = true := m4
  have m5 : onB (L l) ((ptN L n).2 e'.2) = true := m5
  -- the two lines are of one way
  have so := slab_ord hL (s := S - 1) (by omega) hl0 a3 sp0 a5
  rw [g2, ← a6, sg_eq.mpr rfl, show S - 1 + 1 = S by omega] at so
  have z0 : sg (yv (L l0) (xX n L (S - 1))) (yv (L l) (xX n L (S - 1))) = 0 := by
    refine Classical.byContradiction fun w => ?_
    rw [if_neg w] at so
    exact w so.symm
  rw [if_pos z0] at so
  have same := yv_two (a := L l0) (b := L l) (fun z => by rw [z] at x01; exact Rat.lt_irrefl x01) (sg_eq.mp z0) (sg_eq.mp so.symm)
  -- on one, within the x's of the other: on the other
  have tr : ∀ {c d : Nat} (hc : c < n) (hd : d < n) (sc : isSl (L c)) (sd' : isSl (L d)) (hsame : ∀ x, yv (L c) x = yv (L d) x) {q : Pt}, onB (L c) q = true → ((L d).1 : Rat) ≤ q.1 → q.1 ≤ ((L d).2.2.1 : Rat) → onB (L d) q = true := by
    intro c d hc hd sc sd' hsame q ho h1 h2
    have a := (onB_sl (hL.2 c hc) sc (x := q.1) (y := q.2)).mp ho
    exact (onB_sl (hL.2 d hd) sd' (x := q.1) (y := q.2)).mpr ⟨h1, h2, by rw [← hsame]; exact a.2.2⟩
  -- the ends of the group's line don't stand inside the piece
  obtain ⟨⟨ia, ha, ea⟩, ib, hb, eb⟩ := pt_ends (L := L) a3
  have xa : ((ptN L n).2 ia).1 = ((L l).1 : Rat) := by rw [ea]; rfl
  have xb : ((ptN L n).2 ib).1 = ((L l).2.2.1 : Rat) := by rw [eb]; rfl
  have va : ((L l).1 : Rat) ≤ ((ptN L n).2 e.1).1 := by
    refine Rat.not_lt.mp fun w => ?_
    have lt : ((ptN L n).2 ia).1 < ((ptN L n).2 e.2).1 := by rw [xa]; grind
    have oia : onB (L l0) ((ptN L n).2 ia) = true := tr a3 hl0 sl sl0 (fun x => (same x).symm) (by rw [ea]; exact onB_A (hL.2 l a3)) (by rw [xa]; exact Rat.le_trans a0.1 (Rat.le_of_lt w)) (Rat.le_trans (Rat.le_of_lt lt) b0.2.1)
    have := k5 ia (pt_le hL (by omega) ha (by rw [xa]; exact w)) (pt_le hL ha (by omega) lt)
    simp only [oia] at this
    cases this
  have vb : ((ptN L n).2 e.2).1 ≤ ((L l).2.2.1 : Rat) := by
    refine Rat.not_lt.mp fun w => ?_
    have lt : ((ptN L n).2 e.1).1 < ((ptN L n).2 ib).1 := by rw [xb]; grind
    have oib : onB (L l0) ((ptN L n).2 ib) = true := tr a3 hl0 sl sl0 (fun x => (same x).symm) (by rw [eb]; exact onB_B (hL.2 l a3)) (Rat.le_trans a0.1 (Rat.le_of_lt lt)) (by rw [xb]; exact Rat.le_trans (Rat.le_of_lt w) b0.2.1)
    have := k5 ib (pt_le hL (by omega) hb lt) (pt_le hL hb (by omega) (by rw [xb]; exact w))
    simp only [oib] at this
    cases this
  have o1 : onB (L l) ((ptN L n).2 e.1) = true := tr hl0 a3 sl0 sl same k3 va (by grind)
  have o2 : onB (L l) ((ptN L n).2 e.2) = true := tr hl0 a3 sl0 sl same k4 (by grind) vb
  -- none between on the group's line
  have no : ∀ r, e.1 < r → r < e.2 → ¬ onB (L l) ((ptN L n).2 r) = true := by
    intro r r1 r2 w
    have y1 := on_x hL a3 sl r1 (by omega) o1 w
    have y2 := on_x hL a3 sl r2 k2 w o2
    have := k5 r r1 r2
    simp only [tr a3 hl0 sl sl0 (fun x => (same x).symm) w (by grind) (by grind)] at this
    cases this
  obtain ⟨t1, t2, t3, t4⟩ := m7
  have n1 : ¬ e'.1 < e.1 := fun w => by
    have := m6 e.1 w (pt_le hL (by omega) m3 (by grind))
    simp only [o1] at this
    cases this
  have n2 : ¬ e.1 < e'.1 := fun w => no e'.1 w (pt_le hL (by omega) k2 (by grind)) m4
  have n3 : ¬ e'.2 < e.2 := fun w => no e'.2 (by omega) w m5
  have n4 : ¬ e.2 < e'.2 := fun w => by
    have := m6 e.2 (by omega) w
    simp only [o2] at this
    cases this
  exact Prod.ext (by omega) (by omega)
theorem pc_yv (hL : LOk n L) {S g : Nat} (hg : g < nGr n L S) {e : EuE} (he : pcS n L S g = e) : ((ptN L n).2 e.1).2 = vY n L S g ((ptN L n).2 e.1).1 ∧ ((ptN L n).2 e.2).2 = vY n L S g ((ptN L n).2 e.2).1 := by
  obtain ⟨m1, ⟨m2, m3, m4, m5, m6⟩, m7⟩ := pcS_e hL hg
  obtain ⟨-, -, a3, -, a5, -⟩ := lea_e hL hg 0
  obtain ⟨sl, -, -⟩ := spB_e.mp a5
  rw [he] at m4 m5
  exact ⟨((onB_sl (hL.2 _ a3) sl (x := ((ptN L n).2 e.1).1) (y := ((ptN L n).2 e.1).2)).mp m4).2.2, ((onB_sl (hL.2 _ a3) sl (x := ((ptN L n).2 e.2).1) (y := ((ptN L n).2 e.2).2)).mp m5).2.2⟩
/-- of one piece: of the same y's -/
theorem pc_same (hL : LOk n L) {S S' g g' : Nat} (hg : g < nGr n L S) (hg' : g' < nGr n L S') (h : pcS n L S g = pcS n L S' g') (x : Rat) : vY n L S g x = vY n L S' g' x := by
  obtain ⟨a1, a2⟩ := pc_yv hL hg rfl
  obtain ⟨b1, b2⟩ := pc_yv hL hg' h.symm
  have xe := spn_x hL (pcS_e hL hg).2.2
  exact yv_two (a := L (lea n L S g)) (b := L (lea n L S' g')) (fun z => by rw [z] at xe; exact Rat.lt_irrefl xe) (a1.symm.trans b1) (a2.symm.trans b2) x
theorem pc_inj (hL : LOk n L) {S g g' : Nat} (hg : g < nGr n L S) (hg' : g' < nGr n L S) (h : pcS n L S g = pcS n L S g') : g = g' := by
  obtain ⟨-, -, -, -, -, a6, a7, a8⟩ := lea_e hL hg 0
  obtain ⟨-, -, -, -, -, b6, -, -⟩ := lea_e hL hg' 0
  have nG : nGr n L S = (gpS n L (S - 1) n).1 := if_pos ⟨a7, a8⟩
  have e := pc_same hL hg hg' h (mdX n L (S - 1))
  unfold vY at e
  rw [a6, b6] at e
  exact vl_inj (by omega) (by omega) e
end GP
