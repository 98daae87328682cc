/-! UPRIGHT PIECES; cells and what is below them -/
set_option maxRecDepth 100000
section UR
variable {n : Nat} {L : Nat → Sg}
theorem pt_y (hL : LOk n L) {i j : Nat} (hi : i < (ptN L n).1) (hx : ((ptN L n).2 i).1 = ((ptN L n).2 j).1) (h : ((ptN L n).2 i).2 < ((ptN L n).2 j).2) : i < j := by
  refine Nat.not_le.mp fun w => ?_
  by_cases e : j = i
  · rw [e] at h; exact Rat.lt_irrefl h
  · rcases lxc_lt.mp ((ptN_G hL n (Nat.le_refl _)).1 j i (by omega) hi) with v | v
    · rw [hx] at v; exact Rat.lt_irrefl v
    · have := v.2; grind
theorem pt_y' (hL : LOk n L) {i j : Nat} (hij : i < j) (hj : j < (ptN L n).1) (hx : ((ptN L n).2 i).1 = ((ptN L n).2 j).1) : ((ptN L n).2 i).2 < ((ptN L n).2 j).2 := by
  rcases lxc_lt.mp ((ptN_G hL n (Nat.le_refl _)).1 i j hij hj) with v | v
  · rw [hx] at v; exact absurd v Rat.lt_irrefl
  · exact v.2
/-- an upright piece at t -/
def upE (n : Nat) (L : Nat → Sg) (t : Nat) (e : EuE) : Prop := e ∈ pcA L (ptN L n) n ∧ ((ptN L n).2 e.1).1 = xX n L t ∧ ((ptN L n).2 e.2).1 = xX n L t
theorem upE_l (hL : LOk n L) {t : Nat} {e : EuE} (h : upE n L t e) : ∃ l, l < n ∧ upA L (xX n L t) l ∧ ((L l).2.1 : Rat) ≤ ((ptN L n).2 e.1).2 ∧ ((ptN L n).2 e.2).2 ≤ ((L l).2.2.2 : Rat) ∧ cons2 (fun p => onB (L l) ((ptN L n).2 p)) (ptN L n).1 e ∧ ((ptN L n).2 e.1).2 < ((ptN L n).2 e.2).2 := by
  obtain ⟨h1, h2, h3⟩ := h
  obtain ⟨l, hl, c⟩ := pcA_mem.mp h1
  have c' := c
  obtain ⟨c1, c2, c3, c4, c5⟩ := c'
  have c3 : onB (L l) ((ptN L n).2 e.1) = true := c3
  have c4 : onB (L l) ((ptN L n).2 e.2) = true := c4
  have sl : ¬ isSl (L l) := fun s => by
    have := on_x hL hl s c1 c2 c3 c4
    rw [h2, h3] at this
    exact Rat.lt_irrefl this
  have a := (onB_up (hL.2 l hl) sl (x := ((ptN L n).2 e.1).1) (y := ((ptN L n).2 e.1).2)).mp c3
  have b := (onB_up (hL.2 l hl) sl (x := ((ptN L n).2 e.2).1) (y := ((ptN L n).2 e.2).2)).mp c4
  exact ⟨l, hl, ⟨sl, by rw [← a.1]; exact h2⟩, a.2.1, b.2.2, c, pt_y' hL c1 c2 (h2.trans h3.symm)⟩
theorem onB_upA (hL : LOk n L) {l : Nat} (hl : l < n) {x y : Rat} (up : upA L x l) (h1 : ((L l).2.1 : Rat) ≤ y) (h2 : y ≤ ((L l).2.2.2 : Rat)) : onB (L l) (x, y) = true := (onB_up (hL.2 l hl) up.1).mpr ⟨up.2.symm, h1, h2⟩
theorem upc_e {t : Nat} {y : Rat} {e : EuE} : upc n L t y e = true ↔ ((ptN L n).2 e.1).1 = xX n L t ∧ ((ptN L n).2 e.2).1 = xX n L t ∧ ((ptN L n).2 e.1).2 < y ∧ y < ((ptN L n).2 e.2).2 := by
  unfold upc
  rw [Bool.and_eq_true, Bool.and_eq_true, Bool.and_eq_true, decide_eq_true_iff, decide_eq_true_iff, decide_eq_true_iff, decide_eq_true_iff]
  exact ⟨fun ⟨⟨a, b⟩, c, d⟩ => ⟨a, b, c, d⟩, fun ⟨a, b, c, d⟩ => ⟨⟨a, b⟩, c, d⟩⟩
theorem upc_cvr (hL : LOk n L) {t : Nat} {y : Rat} {e : EuE} (he : e ∈ pcA L (ptN L n) n) (h : upc n L t y e = true) : cvr n L t y := by
  obtain ⟨h1, h2, h3, h4⟩ := upc_e.mp h
  obtain ⟨l, hl, up, a, b, -⟩ := upE_l hL ⟨he, h1, h2⟩
  exact ⟨l, hl, up, by grind, by grind⟩
theorem cvr_upc (hL : LOk n L) {t : Nat} {y : Rat} (hg : gen n L t y) (h : cvr n L t y) : ∃ e, e ∈ pcA L (ptN L n) n ∧ upc n L t y e = true := by
  obtain ⟨l, hl, up, y1, y2⟩ := h
  obtain ⟨⟨ia, ha, ea⟩, ib, hb, eb⟩ := pt_ends (L := L) hl
  have oa : onB (L l) ((ptN L n).2 ia) = true := by rw [ea]; exact onB_A (hL.2 l hl)
  have ob : onB (L l) ((ptN L n).2 ib) = true := by rw [eb]; exact onB_B (hL.2 l hl)
  have ya : ((ptN L n).2 ia).2 = ((L l).2.1 : Rat) := by rw [ea]; rfl
  have yb : ((ptN L n).2 ib).2 = ((L l).2.2.2 : Rat) := by rw [eb]; rfl
  have ox : ∀ r, onB (L l) ((ptN L n).2 r) = true → ((ptN L n).2 r).1 = xX n L t := fun r h => by
    have := ((onB_up (hL.2 l hl) up.1 (x := ((ptN L n).2 r).1) (y := ((ptN L n).2 r).2)).mp h).1
    rw [this]; exact up.2
  cases hp : lst (fun i => onB (L l) ((ptN L n).2 i) && decide (((ptN L n).2 i).2 < y)) (ptN L n).1 with
  | none =>
    have := lst_n.mp hp ia ha
    simp only [oa, ya, decide_eq_true y1] at this
    cases this
  | some p =>
    obtain ⟨p1, p2, p3⟩ := lst_e.mp hp
    rw [Bool.and_eq_true, decide_eq_true_iff] at p2
    have pib : p < ib := pt_y hL p1 ((ox p p2.1).trans (ox ib ob).symm) (by rw [yb]; have := p2.2; grind)
    obtain ⟨f1, f2, f3⟩ := @fst1_e (fun r => decide (p < r) && onB (L l) ((ptN L n).2 r)) (ptN L n).1
    generalize hq : fst1 (fun r => decide (p < r) && onB (L l) ((ptN L n).2 r)) (ptN L n).1 = q at *
    have q1 : q ≤ ib := by
      refine Nat.not_lt.mp fun w => ?_
      have := f2 ib w
      rw [ob, decide_eq_true pib] at this
      cases this
    have q2 := f3 (by omega)
    rw [Bool.and_eq_true, decide_eq_true_iff] at q2
    have c2 : cons2 (fun p => onB (L l) ((ptN L n).2 p)) (ptN L n).1 (p, q) := ⟨q2.1, by show q < _; omega, p2.1, q2.2, fun r r1 r2 => by
      have := f2 r r2
      rw [decide_eq_true (show p < r from r1), Bool.true_and] at this
      exact this⟩
    have xq := ox q q2.2
    have yq' : ¬ ((ptN L n).2 q).2 < y := by
      intro w
      have := p3 q q2.1 (by omega)
      rw [q2.2, decide_eq_true w] at this
      cases this
    have ne := hg.1 q (by omega) xq
    exact ⟨(p, q), pcA_mem.mpr ⟨l, hl, c2⟩, upc_e.mpr ⟨ox p p2.1, xq, p2.2, by show y < ((ptN L n).2 q).2; grind⟩⟩
theorem upc_half (hL : LOk n L) {t : Nat} {y : Rat} {e e' : EuE} (he : e ∈ pcA L (ptN L n) n) (he' : e' ∈ pcA L (ptN L n) n) (h : upc n L t y e = true) (h' : upc n L t y e' = true) : ¬ e.1 < e'.1 ∧ ¬ e'.2 < e.2 := by
  obtain ⟨h1, h2, h3, h4⟩ := upc_e.mp h
  obtain ⟨k1, k2, k3, k4⟩ := upc_e.mp h'
  obtain ⟨l, hl, up, a, b, c, -⟩ := upE_l hL ⟨he, h1, h2⟩
  obtain ⟨e1, e2⟩ := pc_lt he
  obtain ⟨e1', e2'⟩ := pc_lt he'
  obtain ⟨-, -, -, -, c5⟩ := c
  constructor
  · intro w
    have lt := pt_y' hL w (by omega) (h1.trans k1.symm)
    have r := c5 e'.1 w (pt_y hL (by omega) (k1.trans h2.symm) (by grind))
    have o := onB_upA hL hl up (y := ((ptN L n).2 e'.1).2) (by grind) (by grind)
    rw [← k1] at o
    exact absurd (r.symm.trans o) (by decide)
  · intro w
    have lt := pt_y' hL w e2 (k2.trans h2.symm)
    have r := c5 e'.2 (pt_y hL (by omega) (h1.trans k2.symm) (by grind)) w
    have o := onB_upA hL hl up (y := ((ptN L n).2 e'.2).2) (by grind) (by grind)
    rw [← k2] at o
    exact absurd (r.symm.trans o) (by decide)
theorem upc_un (hL : LOk n L) {t : Nat} {y : Rat} {e e' : EuE} (he : e ∈ pcA L (ptN L n) n) (he' : e' ∈ pcA L (ptN L n) n) (h : upc n L t y e = true) (h' : upc n L t y e' = true) : e = e' := by
  have a := upc_half hL he he' h h'
  have b := upc_half hL he' he h' h
  exact Prod.ext (by omega) (by omega)
theorem upc_ct (hL : LOk n L) {t : Nat} {y : Rat} {e : EuE} (he : e ∈ pcA L (ptN L n) n) (h : upc n L t y e = true) : ∀ {J : List EuE}, (∀ e ∈ J, e ∈ pcA L (ptN L n) n) → J.countP (upc n L t y) = J.count e := by
  intro J
  induction J with
  | nil => intro _; rfl
  | cons d J ih =>
    intro hJ
    have i := ih (fun d hd => hJ d (List.mem_cons_of_mem _ hd))
    by_cases q : d = e
    · subst q
      rw [List.countP_cons_of_pos h, List.count_cons_self, i]
    · have : ¬ upc n L t y d = true := fun w => q (upc_un hL (hJ d (List.mem_cons_self ..)) he w h)
      rw [List.countP_cons_of_neg this, List.count_cons_of_ne q, i]
/-- nothing goes through an upright piece -/
theorem up_gap (hL : LOk n L) {t : Nat} (ht : t < nX n L) {e : EuE} (h : upE n L t e) : (∀ r, r < (ptN L n).1 → ((ptN L n).2 r).1 = xX n L t → ¬ (((ptN L n).2 e.1).2 < ((ptN L n).2 r).2 ∧ ((ptN L n).2 r).2 < ((ptN L n).2 e.2).2)) ∧ (∀ i, i < nGr n L t → ¬ (((ptN L n).2 e.1).2 < vY n L t i (xX n L t) ∧ vY n L t i (xX n L t) < ((ptN L n).2 e.2).2)) ∧ ∀ i, i < nGr n L (t + 1) → ¬ (((ptN L n).2 e.1).2 < vY n L (t + 1) i (xX n L t) ∧ vY n L (t + 1) i (xX n L t) < ((ptN L n).2 e.2).2) := by
  have h' := h
  obtain ⟨he, h1, h2⟩ := h'
  obtain ⟨e1, e2⟩ := pc_lt he
  obtain ⟨l, hl, up, a, b, c, -⟩ := upE_l hL h
  obtain ⟨-, -, -, -, c5⟩ := c
  have key : ∀ r, r < (ptN L n).1 → ((ptN L n).2 r).1 = xX n L t → ¬ (((ptN L n).2 e.1).2 < ((ptN L n).2 r).2 ∧ ((ptN L n).2 r).2 < ((ptN L n).2 e.2).2) := by
    rintro r hr xr ⟨w1, w2⟩
    have r1 := c5 r (pt_y hL (by omega) (h1.trans xr.symm) w1) (pt_y hL hr (xr.trans h2.symm) w2)
    have o := onB_upA hL hl up (y := ((ptN L n).2 r).2) (by grind) (by grind)
    rw [← xr] at o
    exact absurd (r1.symm.trans o) (by decide)
  have ln : ∀ k v, k < n → isSl (L k) → ((L k).1 : Rat) ≤ xX n L t → xX n L t ≤ ((L k).2.2.1 : Rat) → v = yv (L k) (xX n L t) → ¬ (((ptN L n).2 e.1).2 < v ∧ v < ((ptN L n).2 e.2).2) := by
    rintro k v hk sk x1 x2 ev ⟨w1, w2⟩
    have ok : onB (L k) (xX n L t, v) = true := (onB_sl (hL.2 k hk) sk).mpr ⟨x1, x2, ev⟩
    have ol := onB_upA hL hl up (y := v) (by grind) (by grind)
    have d0 : mD (L k) (L l) ≠ 0 := by
      have q := (hL.2 l hl).2.2.2.2
      have u1 := up.1
      unfold isSl at u1 sk
      unfold mD
      rw [show (L l).2.2.1 - (L l).1 = 0 by omega, Int.mul_zero, Int.sub_zero]
      exact Int.mul_ne_zero (by omega) (by omega)
    obtain ⟨r, hr, er⟩ := pt_cross hL hk hl d0 ok ol
    exact key r hr (by rw [er]) (by rw [er]; exact ⟨w1, w2⟩)
  refine ⟨key, fun i hi => ?_, fun i hi => ?_⟩
  · obtain ⟨-, -, a3, -, a5, -, a7, a8⟩ := lea_e hL hi 0
    obtain ⟨sl, b2, b3⟩ := spB_e.mp a5
    rw [show t - 1 + 1 = t by omega] at b3
    have := xX_lt hL (show t - 1 < t by omega) ht
    exact ln _ _ a3 sl (by grind) b3 rfl
  · obtain ⟨-, -, a3, -, a5, -, a7, a8⟩ := lea_e hL hi 0
    obtain ⟨sl, b2, b3⟩ := spB_e.mp a5
    rw [show t + 1 - 1 = t by omega] at b2 b3
    have := xX_lt hL (show t < t + 1 by omega) a8
    exact ln _ _ a3 sl b2 (by grind) rfl
theorem up_gen (hL : LOk n L) {t : Nat} (ht : t < nX n L) {e : EuE} (h : upE n L t e) {y : Rat} (h1 : ((ptN L n).2 e.1).2 < y) (h2 : y < ((ptN L n).2 e.2).2) : gen n L t y := by
  obtain ⟨a, b, c⟩ := up_gap hL ht h
  exact ⟨fun r hr xr z => a r hr xr (by rw [z]; exact ⟨h1, h2⟩), fun i hi z => b i hi (by rw [z]; exact ⟨h1, h2⟩), fun i hi z => c i hi (by rw [z]; exact ⟨h1, h2⟩)⟩
theorem up_plc (hL : LOk n L) {t : Nat} (ht : t < nX n L) {e : EuE} (h : upE n L t e) {y y' : Rat} (h1 : ((ptN L n).2 e.1).2 < y ∧ y < ((ptN L n).2 e.2).2) (h2 : ((ptN L n).2 e.1).2 < y' ∧ y' < ((ptN L n).2 e.2).2) {a b a' b' : Nat} (p : plc n L t a b y) (p' : plc n L t a' b' y') : a = a' ∧ b = b' := by
  obtain ⟨g1, g2, g3⟩ := up_gap hL ht h
  refine plc_un p p' (fun i hi => ?_) (fun i hi => ?_)
  · have := g2 i hi
    constructor <;> intro w <;> grind
  · have := g3 i hi
    constructor <;> intro w <;> grind
/-! cells -/
theorem fcN_un {S S' g g' : Nat} (hg : g ≤ nGr n L S) (hg' : g' ≤ nGr n L S') (h : fcN n L S + g = fcN n L S' + g') : S = S' ∧ g = g' := by
  rcases Nat.lt_trichotomy S S' with w | w | w
  · have a := fcN_mono (n := n) (L := L) (show S + 1 ≤ S' by omega)
    have b : fcN n L (S + 1) = fcN n L S + (nGr n L S + 1) := rfl
    omega
  · subst w; omega
  · have a := fcN_mono (n := n) (L := L) (show S' + 1 ≤ S by omega)
    have b : fcN n L (S' + 1) = fcN n L S' + (nGr n L S' + 1) := rfl
    omega
theorem fcN_ex {c : Nat} : ∀ {m : Nat}, c < fcN n L (m + 1) → ∃ S g, S ≤ m ∧ g ≤ nGr n L S ∧ c = fcN n L S + g := by
  intro m
  induction m with
  | zero =>
    intro h
    have b : fcN n L (0 + 1) = fcN n L 0 + (nGr n L 0 + 1) := rfl
    have z : fcN n L 0 = 0 := rfl
    exact ⟨0, c, Nat.le_refl _, by omega, by omega⟩
  | succ m ih =>
    intro h
    have b : fcN n L (m + 1 + 1) = fcN n L (m + 1) + (nGr n L (m + 1) + 1) := rfl
    by_cases w : c < fcN n L (m + 1)
    · obtain ⟨S, g, h1, h2, h3⟩ := ih w
      exact ⟨S, g, by omega, h2, h3⟩
    · exact ⟨m + 1, c - fcN n L (m + 1), Nat.le_refl _, by omega, by omega⟩
theorem fcN_lt {S g m : Nat} (hS : S ≤ m) (hg : g ≤ nGr n L S) : fcN n L S + g < fcN n L (m + 1) := by
  have a := fcN_mono (n := n) (L := L) (show S + 1 ≤ m + 1 by omega)
  have b : fcN n L (S + 1) = fcN n L S + (nGr n L S + 1) := rfl
  omega
noncomputable def belC (n : Nat) (L : Nat → Sg) (c : Nat) : List EuE := @dite (List EuE) (∃ p : Nat × Nat, p.2 ≤ nGr n L p.1 ∧ c = fcN n L p.1 + p.2) (Classical.propDecidable _) (fun h => bel n L (Classical.choose h).1 (Classical.choose h).2) (fun _ => [])
theorem belC_e {S g : Nat} (hg : g ≤ nGr n L S) : belC n L (fcN n L S + g) = bel n L S g := by
  have h : ∃ p : Nat × Nat, p.2 ≤ nGr n L p.1 ∧ fcN n L S + g = fcN n L p.1 + p.2 := ⟨(S, g), hg, rfl⟩
  unfold belC
  rw [dif_pos h]
  obtain ⟨h1, h2⟩ := Classical.choose_spec h
  obtain ⟨e1, e2⟩ := fcN_un hg h1 h2
  rw [← e1, ← e2]
end UR
