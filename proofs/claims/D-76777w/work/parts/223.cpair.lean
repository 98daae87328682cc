/-! THE PAIRS OF CELLS SIDE BY SIDE: who has more than a place in common; the component's way through them -/
set_option maxRecDepth 100000
theorem slab_no {n : Nat} {L : Nat → Sg} (hL : LOk n L) {s : Nat} (hs : s + 1 < nX n L) {c d : Nat} (hc : c < n) (hd : d < n) (pc : spB n L s c = true) (pd : spB n L s d = true) (h0 : yv (L c) (xX n L s) < yv (L d) (xX n L s)) : ¬ yv (L d) (xX n L (s + 1)) < yv (L c) (xX n L (s + 1)) := by
  intro h1
  have x01 := xX_lt hL (Nat.lt_succ_self s) hs
  obtain ⟨c1, c2, c3⟩ := spB_e.mp pc
  obtain ⟨d1, d2, d3⟩ := spB_e.mp pd
  obtain ⟨x, g1, g2, g3⟩ := cross_at x01 h0 h1
  have d0 : mD (L c) (L d) ≠ 0 := by
    intro z
    have := par_slp c1 d1 z
    rw [yv_s (L c), yv_s (L d), this] at h0 h1
    grind
  obtain ⟨i, hi, e⟩ := pt_cross hL hc hd d0 (q := (x, yv (L c) x)) ((onB_sl (hL.2 c hc) c1).mpr ⟨by grind, by grind, rfl⟩) ((onB_sl (hL.2 d hd) d1).mpr ⟨by grind, by grind, g3⟩)
  refine xX_gap hL hs hi ⟨?_, ?_⟩ <;> rw [e] <;> assumption
theorem slab_mono {n : Nat} {L : Nat → Sg} (hL : LOk n L) {s : Nat} (hs : s + 1 < nX n L) {a b : Nat} (ha : a < n) (hb : b < n) (pa : spB n L s a = true) (pb : spB n L s b = true) (h : yv (L a) (mdX n L s) ≤ yv (L b) (mdX n L s)) : yv (L a) (xX n L s) ≤ yv (L b) (xX n L s) ∧ yv (L a) (xX n L (s + 1)) ≤ yv (L b) (xX n L (s + 1)) := by
  have o := slab_ord hL hs ha hb pa pb
  have n1 := slab_no hL hs hb ha pb pa
  have n2 := slab_no hL hs ha hb pa pb
  have q : ¬ 0 < sg (yv (L a) (mdX n L s)) (yv (L b) (mdX n L s)) := fun w => Rat.not_le.mpr (sg_gt.mp w) h
  generalize yv (L a) (xX n L s) = p at *
  generalize yv (L b) (xX n L s) = r at *
  generalize yv (L a) (xX n L (s + 1)) = t at *
  generalize yv (L b) (xX n L (s + 1)) = u at *
  have a1 := @sg_eq p r
  have a2 := @sg_gt p r
  have a3 := @sg_gt t u
  have a4 := @sg_lt p r
  have r0 := sg_r p r
  by_cases c : sg p r = 0
  · rw [if_pos c] at o
    exact ⟨by rw [a1.mp c]; exact Rat.le_refl, Rat.not_lt.mp fun w => q (by rw [o]; exact a3.mpr w)⟩
  · rw [if_neg c] at o
    have lt : sg p r < 0 := by omega
    exact ⟨Rat.le_of_lt (a4.mp lt), Rat.not_lt.mp (n2 (a4.mp lt))⟩
/-- what the groups of a slab have at its ends goes up -/
theorem vY_mono {n : Nat} {L : Nat → Sg} (hL : LOk n L) {S g g' : Nat} (hg : g ≤ g') (hg' : g' < nGr n L S) : vY n L S g (xX n L (S - 1)) ≤ vY n L S g' (xX n L (S - 1)) ∧ vY n L S g (xX n L S) ≤ vY n L S g' (xX n L S) := by
  obtain ⟨-, -, a3, -, a5, a6, a7, a8⟩ := lea_e hL (show g < nGr n L S by omega) 0
  obtain ⟨-, -, b3, -, b5, b6, -, -⟩ := lea_e hL hg' 0
  have hS : S - 1 + 1 = S := by omega
  have le : vlS n L (S - 1) n g ≤ vlS n L (S - 1) n g' := by
    by_cases e : g = g'
    · rw [e]; exact Rat.le_refl
    · refine Rat.le_of_lt (vl_lt (by omega) ?_)
      have : nGr n L S = (gpS n L (S - 1) n).1 := if_pos ⟨a7, a8⟩
      omega
  have := slab_mono hL (s := S - 1) (by omega) a3 b3 a5 b5 (by rw [a6, b6]; exact le)
  rw [hS] at this
  exact this
theorem vY_yq {n : Nat} {L : Nat → Sg} (hL : LOk n L) {S g : Nat} (hg : g < nGr n L S) {x : Rat} (hx : fb x 256000 4000) : yq (vY n L S g x) := by
  obtain ⟨-, -, a3, -, a5, -⟩ := lea_e hL hg 0
  exact yv_yq (hL.2 _ a3) (spB_e.mp a5).1 hx
/-- what bounds two cells together -/
def lwP (n : Nat) (L : Nat → Sg) (t a b : Nat) : Option Rat := gre (loY n L t a (xX n L t)) (loY n L (t + 1) b (xX n L t))
def hgP (n : Nat) (L : Nat → Sg) (t a b : Nat) : Option Rat := les (hiY n L t a (xX n L t)) (hiY n L (t + 1) b (xX n L t))
def ovP (low high : Option Rat) : Prop := ∀ a b, low = some a → high = some b → a < b
theorem gre_ge {p q : Option Rat} {u : Rat} (h : p = some u ∨ q = some u) : ∃ w, gre p q = some w ∧ u ≤ w := by
  rcases h with rfl | rfl
  · cases q with
    | none => exact ⟨u, rfl, Rat.le_refl⟩
    | some v =>
      show ∃ w, (if v < u then some u else some v) = some w ∧ _
      by_cases c : v < u
      · rw [if_pos c]; exact ⟨u, rfl, Rat.le_refl⟩
      · rw [if_neg c]; exact ⟨v, rfl, Rat.not_lt.mp c⟩
  · cases p with
    | none => exact ⟨u, rfl, Rat.le_refl⟩
    | some v =>
      show ∃ w, (if u < v then some v else some u) = some w ∧ _
      by_cases c : u < v
      · rw [if_pos c]; exact ⟨v, rfl, Rat.le_of_lt c⟩
      · rw [if_neg c]; exact ⟨u, rfl, Rat.le_refl⟩
theorem les_le {p q : Option Rat} {u : Rat} (h : p = some u ∨ q = some u) : ∃ w, les p q = some w ∧ w ≤ u := by
  rcases h with rfl | rfl
  · cases q with
    | none => exact ⟨u, rfl, Rat.le_refl⟩
    | some v =>
      show ∃ w, (if u < v then some u else some v) = some w ∧ _
      by_cases c : u < v
      · rw [if_pos c]; exact ⟨u, rfl, Rat.le_refl⟩
      · rw [if_neg c]; exact ⟨v, rfl, Rat.not_lt.mp c⟩
  · cases p with
    | none => exact ⟨u, rfl, Rat.le_refl⟩
    | some v =>
      show ∃ w, (if v < u then some v else some u) = some w ∧ _
      by_cases c : v < u
      · rw [if_pos c]; exact ⟨v, rfl, Rat.le_of_lt c⟩
      · rw [if_neg c]; exact ⟨u, rfl, Rat.le_refl⟩
theorem no_ov {p q p' q' : Option Rat} {u v : Rat} (h : p = some u ∨ q = some u) (h' : p' = some v ∨ q' = some v) (le : v ≤ u) : ¬ ovP (gre p q) (les p' q') := by
  intro w
  obtain ⟨a, a1, a2⟩ := gre_ge h
  obtain ⟨b, b1, b2⟩ := les_le h'
  have := w a b a1 b1
  grind
theorem lo_yq {n : Nat} {L : Nat → Sg} (hL : LOk n L) {S g : Nat} (hg : g ≤ nGr n L S) {x : Rat} (hx : fb x 256000 4000) : yqO (loY n L S g x) := by
  intro a e
  unfold loY at e
  split at e
  · cases e
  · cases e; exact vY_yq hL (by omega) hx
theorem hi_yq {n : Nat} {L : Nat → Sg} (hL : LOk n L) {S g : Nat} {x : Rat} (hx : fb x 256000 4000) : yqO (hiY n L S g x) := by
  intro a e
  unfold hiY at e
  split at e
  · cases e; exact vY_yq hL (by assumption) hx
  · cases e
/-- the next of the left, or of the right, or of both -/
def nxL (n : Nat) (L : Nat → Sg) (t a b : Nat) : Bool := match hiY n L t a (xX n L t), hiY n L (t + 1) b (xX n L t) with
  | none, _ => false
  | some _, none => true
  | some u, some v => decide (u ≤ v)
def nxR (n : Nat) (L : Nat → Sg) (t a b : Nat) : Bool := match hiY n L t a (xX n L t), hiY n L (t + 1) b (xX n L t) with
  | none, _ => true
  | some _, none => false
  | some u, some v => decide (v ≤ u)
/-- whom it passes by has nothing in common -/
theorem skip_ov {n : Nat} {L : Nat → Sg} (hL : LOk n L) {t a b : Nat} (ht : t < nX n L) {a' b' : Nat} (ha : a ≤ nGr n L t) (hb : b ≤ nGr n L (t + 1)) (ha' : a' ≤ nGr n L t) (hb' : b' ≤ nGr n L (t + 1)) (g1 : a ≤ a') (g2 : b ≤ b') (hn : (a' = a ∧ nxL n L t a b = true) ∨ (b' = b ∧ nxR n L t a b = true)) (hov : ovP (lwP n L t a' b') (hgP n L t a' b')) : a' = a ∧ b' = b := by
  rcases hn with ⟨rfl, h⟩ | ⟨rfl, h⟩
  · refine ⟨rfl, Classical.byContradiction fun w => ?_⟩
    have lb : b < nGr n L (t + 1) := by omega
    have hb1 : hiY n L (t + 1) b (xX n L t) = some (vY n L (t + 1) b (xX n L t)) := if_pos lb
    have lo1 : loY n L (t + 1) b' (xX n L t) = some (vY n L (t + 1) (b' - 1) (xX n L t)) := if_neg (by omega)
    unfold nxL at h
    rw [hb1] at h
    cases hu : hiY n L t a' (xX n L t) with
    | none => rw [hu] at h; cases h
    | some u =>
      rw [hu] at h
      have le : u ≤ vY n L (t + 1) b (xX n L t) := of_decide_eq_true h
      have mo := (vY_mono hL (S := t + 1) (show b ≤ b' - 1 by omega) (by omega)).1
      exact no_ov (Or.inr lo1) (Or.inl hu) (Rat.le_trans le mo) hov
  · refine ⟨Classical.byContradiction fun w => ?_, rfl⟩
    have la : a < nGr n L t := by omega
    have ha1 : hiY n L t a (xX n L t) = some (vY n L t a (xX n L t)) := if_pos la
    have lo1 : loY n L t a' (xX n L t) = some (vY n L t (a' - 1) (xX n L t)) := if_neg (by omega)
    unfold nxR at h
    rw [ha1] at h
    cases hu : hiY n L (t + 1) b' (xX n L t) with
    | none => rw [hu] at h; cases h
    | some u =>
      rw [hu] at h
      have le : u ≤ vY n L t a (xX n L t) := of_decide_eq_true h
      have mo := (vY_mono hL (S := t) (show a ≤ a' - 1 by omega) (by omega)).2
      exact no_ov (Or.inl lo1) (Or.inr hu) (Rat.le_trans le mo) hov
theorem nx_or' (n : Nat) (L : Nat → Sg) (t a b : Nat) : nxL n L t a b = true ∨ nxR n L t a b = true := by
  unfold nxL nxR
  split
  · exact Or.inr rfl
  · exact Or.inl rfl
  · rename_i u v _ _
    rcases Rat.le_total (a := u) (b := v) with h | h
    · exact Or.inl (decide_eq_true h)
    · exact Or.inr (decide_eq_true h)
/-- the pairs of a place t that are done when (l, r) is reached -/
def inP (n : Nat) (L : Nat → Sg) (t l r : Nat) (P : Nat → Nat → Prop) : Prop := ∃ a b, a ≤ nGr n L t ∧ b ≤ nGr n L (t + 1) ∧ (a < l ∨ b < r) ∧ ovP (lwP n L t a b) (hgP n L t a b) ∧ P a b
theorem inP_step {n : Nat} {L : Nat → Sg} (hL : LOk n L) {t l r : Nat} (ht : t < nX n L) (hl : l ≤ nGr n L t) (hr : r ≤ nGr n L (t + 1)) (P : Nat → Nat → Prop) : inP n L t (if nxL n L t l r then l + 1 else l) (if nxR n L t l r then r + 1 else r) P ↔ inP n L t l r P ∨ (ovP (lwP n L t l r) (hgP n L t l r) ∧ P l r) := by
  constructor
  · rintro ⟨a, b, h1, h2, h3, h4, h5⟩
    by_cases w : a < l ∨ b < r
    · exact Or.inl ⟨a, b, h1, h2, w, h4, h5⟩
    · have q : (a = l ∧ nxL n L t l r = true) ∨ (b = r ∧ nxR n L t l r = true) := by
        by_cases c1 : nxL n L t l r = true
        · by_cases c2 : nxR n L t l r = true
          · rw [if_pos c1, if_pos c2] at h3
            rcases h3 with v | v
            · exact Or.inl ⟨by omega, c1⟩
            · exact Or.inr ⟨by omega, c2⟩
          · rw [if_pos c1, if_neg c2] at h3
            exact Or.inl ⟨by omega, c1⟩
        · by_cases c2 : nxR n L t l r = true
          · rw [if_neg c1, if_pos c2] at h3
            exact Or.inr ⟨by omega, c2⟩
          · rw [if_neg c1, if_neg c2] at h3
            exact absurd h3 w
      obtain ⟨e1, e2⟩ := skip_ov hL ht hl hr h1 h2 (by omega) (by omega) q h4
      rw [e1, e2] at h4 h5
      exact Or.inr ⟨h4, h5⟩
  · rintro (⟨a, b, h1, h2, h3, h4, h5⟩ | ⟨h4, h5⟩)
    · refine ⟨a, b, h1, h2, ?_, h4, h5⟩
      rcases h3 with v | v
      · left; split <;> omega
      · right; split <;> omega
    · refine ⟨l, r, hl, hr, ?_, h4, h5⟩
      rcases nx_or' n L t l r with v | v
      · left; rw [if_pos v]; omega
      · right; rw [if_pos v]; omega
