/-! SLABS: the x's of points, the lines through a slab and their order; what holds of them -/
set_option maxRecDepth 100000
def xsF (x : Nat × (Nat → Pt)) : Nat → Nat × (Nat → Rat)
  | 0 => (0, fun _ => 0)
  | p + 1 => if 0 < p ∧ (x.2 p).1 = (x.2 (p - 1)).1 then xsF x p else ((xsF x p).1 + 1, fun i => if i = (xsF x p).1 then (x.2 p).1 else (xsF x p).2 i)
/-- what holds of the x's of the first p points -/
def xsG (x : Nat × (Nat → Pt)) (p : Nat) (y : Nat × (Nat → Rat)) : Prop := (∀ i j, i < j → j < y.1 → y.2 i < y.2 j) ∧ (∀ q, q < p → ∃ s, s < y.1 ∧ y.2 s = (x.2 q).1) ∧ (∀ s, s < y.1 → ∃ q, q < p ∧ (x.2 q).1 = y.2 s) ∧ y.1 ≤ p ∧ (0 < p → 0 < y.1 ∧ y.2 (y.1 - 1) = (x.2 (p - 1)).1)
theorem srt_x {n : Nat} {P : Nat → Pt} (h : srt n P) {i j : Nat} (hij : i < j) (hj : j < n) : (P i).1 ≤ (P j).1 := by
  have := lxc_lt.mp (h i j hij hj)
  rcases this with w | w
  · exact Rat.le_of_lt w
  · rw [w.1]; exact Rat.le_refl
theorem xsF_G {x : Nat × (Nat → Pt)} (h : srt x.1 x.2) : ∀ p, p ≤ x.1 → xsG x p (xsF x p) := by
  intro p
  induction p with
  | zero => intro _; exact ⟨fun i j _ h => absurd h (Nat.not_lt_zero _), fun q h => absurd h (Nat.not_lt_zero _), fun q h => absurd h (Nat.not_lt_zero _), Nat.le_refl _, fun h => absurd h (Nat.lt_irrefl _)⟩
  | succ p ih =>
    intro hp
    obtain ⟨h1, h2, h3, h4, h5⟩ := ih (by omega)
    unfold xsF
    by_cases c : 0 < p ∧ (x.2 p).1 = (x.2 (p - 1)).1
    · rw [if_pos c]
      obtain ⟨h5a, h5b⟩ := h5 c.1
      refine ⟨h1, fun q hq => ?_, fun s hs => ?_, by omega, fun _ => ⟨h5a, by rw [h5b]; exact c.2.symm⟩⟩
      · by_cases e : q = p
        · exact ⟨(xsF x p).1 - 1, by omega, by rw [h5b, e]; exact c.2.symm⟩
        · exact h2 q (by omega)
      · obtain ⟨q, a, b⟩ := h3 s hs
        exact ⟨q, by omega, b⟩
    · rw [if_neg c]
      generalize xsF x p = y at *
      refine ⟨fun i j hij hj => ?_, fun q hq => ?_, fun s hs => ?_, by show y.1 + 1 ≤ p + 1; omega, fun _ => ⟨Nat.succ_pos _, ?_⟩⟩
      · have hj : j < y.1 + 1 := hj
        show (if i = y.1 then _ else _) < (if j = y.1 then _ else _)
        rw [if_neg (show ¬ i = y.1 by omega)]
        by_cases e : j = y.1
        · rw [if_pos e]
          by_cases p0 : p = 0
          · omega
          · obtain ⟨h5a, h5b⟩ := h5 (by omega)
            have lt : y.2 (y.1 - 1) < (x.2 p).1 := by
              rw [h5b]
              exact Rat.lt_of_le_of_ne (srt_x h (by omega) (by omega)) (fun w => c ⟨by omega, w.symm⟩)
            by_cases e2 : i = y.1 - 1
            · rw [e2]; exact lt
            · exact (by have a := h1 i (y.1 - 1) (by omega) (by omega); grind)
        · rw [if_neg e]; exact h1 i j hij (by omega)
      · by_cases e : q = p
        · exact ⟨y.1, Nat.lt_succ_self _, by show (if y.1 = y.1 then _ else _) = _; rw [if_pos rfl, e]⟩
        · obtain ⟨s, a, b⟩ := h2 q (by omega)
          exact ⟨s, by show s < y.1 + 1; omega, by show (if s = y.1 then _ else _) = _; rw [if_neg (by omega)]; exact b⟩
      · have hs : s < y.1 + 1 := hs
        show ∃ q, q < p + 1 ∧ (x.2 q).1 = (if s = y.1 then _ else _)
        by_cases e : s = y.1
        · rw [if_pos e]; exact ⟨p, Nat.lt_succ_self _, rfl⟩
        · rw [if_neg e]
          obtain ⟨q, a, b⟩ := h3 s (by omega)
          exact ⟨q, by omega, b⟩
      · show (if y.1 + 1 - 1 = y.1 then _ else _) = (x.2 (p + 1 - 1)).1
        rw [if_pos (by omega)]; rfl
/-! what points there are -/
theorem ptJ_mem {L : Nat → Sg} {l : Nat} {q : Pt} : ∀ {k : Nat} {x : Nat × (Nat → Pt)}, (∃ i, i < (ptJ L l k x).1 ∧ (ptJ L l k x).2 i = q) ↔ (∃ i, i < x.1 ∧ x.2 i = q) ∨ ∃ j, j < k ∧ (howM (L j) (L l) = 1 ∨ howM (L j) (L l) = 2) ∧ q = atM (L j) (L l) := by
  intro k
  induction k with
  | zero => intro x; simp [ptJ]
  | succ k ih =>
    intro x
    unfold ptJ
    by_cases c : howM (L k) (L l) = 1 ∨ howM (L k) (L l) = 2
    · rw [if_pos c, addP_mem, ih]
      constructor
      · rintro (h | h | ⟨j, h1, h2⟩)
        · exact Or.inr ⟨k, Nat.lt_succ_self _, c, h⟩
        · exact Or.inl h
        · exact Or.inr ⟨j, by omega, h2⟩
      · rintro (h | ⟨j, h1, h2, h3⟩)
        · exact Or.inr (Or.inl h)
        · by_cases e : j = k
          · left; rw [← e]; exact h3
          · exact Or.inr (Or.inr ⟨j, by omega, h2, h3⟩)
    · rw [if_neg c, ih]
      constructor
      · rintro (h | ⟨j, h1, h2⟩)
        · exact Or.inl h
        · exact Or.inr ⟨j, by omega, h2⟩
      · rintro (h | ⟨j, h1, h2, h3⟩)
        · exact Or.inl h
        · have : j ≠ k := fun e => c (by rw [← e]; exact h2)
          exact Or.inr ⟨j, by omega, h2, h3⟩
theorem ptN_mem {L : Nat → Sg} {q : Pt} : ∀ {n : Nat}, (∃ i, i < (ptN L n).1 ∧ (ptN L n).2 i = q) ↔ ∃ l, l < n ∧ (q = ptA (L l) ∨ q = ptB (L l) ∨ ∃ j, j < l ∧ (howM (L j) (L l) = 1 ∨ howM (L j) (L l) = 2) ∧ q = atM (L j) (L l)) := by
  intro n
  induction n with
  | zero =>
    constructor
    · rintro ⟨i, hi, -⟩; exact absurd hi (Nat.not_lt_zero _)
    · rintro ⟨l, hl, -⟩; exact absurd hl (Nat.not_lt_zero _)
  | succ n ih =>
    unfold ptN
    rw [ptJ_mem, addP_mem, addP_mem, ih]
    constructor
    · rintro ((h | h | ⟨l, h1, h2⟩) | h)
      · exact ⟨n, Nat.lt_succ_self _, Or.inr (Or.inl h)⟩
      · exact ⟨n, Nat.lt_succ_self _, Or.inl h⟩
      · exact ⟨l, by omega, h2⟩
      · exact ⟨n, Nat.lt_succ_self _, Or.inr (Or.inr h)⟩
    · rintro ⟨l, h1, h2⟩
      by_cases e : l = n
      · subst e
        rcases h2 with h | h | h
        · exact Or.inl (Or.inr (Or.inl h))
        · exact Or.inl (Or.inl h)
        · exact Or.inr h
      · exact Or.inl (Or.inr (Or.inr ⟨l, by omega, h2⟩))
/-- where two lines that aren't of one way have a place, there is a point -/
theorem pt_cross {n : Nat} {L : Nat → Sg} (hL : LOk n L) {a b : Nat} (ha : a < n) (hb : b < n) (d0 : mD (L a) (L b) ≠ 0) {q : Pt} (h1 : onB (L a) q = true) (h2 : onB (L b) q = true) : ∃ i, i < (ptN L n).1 ∧ (ptN L n).2 i = q := by
  rw [ptN_mem]
  rcases Nat.lt_trichotomy a b with c | c | c
  · obtain ⟨e, w⟩ := met_uniq (hL.2 a ha) (hL.2 b hb) d0 h1 h2
    exact ⟨b, hb, Or.inr (Or.inr ⟨a, c, w, e⟩)⟩
  · exfalso
    rw [c] at d0
    apply d0
    unfold mD
    grind
  · have d0' : mD (L b) (L a) ≠ 0 := by rw [mD_sym]; omega
    obtain ⟨e, w⟩ := met_uniq (hL.2 b hb) (hL.2 a ha) d0' h2 h1
    exact ⟨a, ha, Or.inr (Or.inr ⟨b, c, w, e⟩)⟩
theorem pt_ends {n : Nat} {L : Nat → Sg} {l : Nat} (hl : l < n) : (∃ i, i < (ptN L n).1 ∧ (ptN L n).2 i = ptA (L l)) ∧ ∃ i, i < (ptN L n).1 ∧ (ptN L n).2 i = ptB (L l) := ⟨ptN_mem.mpr ⟨l, hl, Or.inl rfl⟩, ptN_mem.mpr ⟨l, hl, Or.inr (Or.inl rfl)⟩⟩
/-- each point is on a line -/
theorem pt_on {n : Nat} {L : Nat → Sg} (hL : LOk n L) {i : Nat} (hi : i < (ptN L n).1) : ∃ l, l < n ∧ onB (L l) ((ptN L n).2 i) = true := by
  obtain ⟨l, hl, h⟩ := ptN_mem.mp ⟨i, hi, rfl⟩
  refine ⟨l, hl, ?_⟩
  rcases h with h | h | ⟨j, hj, hw, h⟩ <;> rw [h]
  · exact onB_A (hL.2 l hl)
  · exact onB_B (hL.2 l hl)
  · exact (met_on (hL.2 j (by omega)) (hL.2 l hl) hw).2
/-! the x's -/
def nX (n : Nat) (L : Nat → Sg) : Nat := (xsF (ptN L n) (ptN L n).1).1
def xX (n : Nat) (L : Nat → Sg) (s : Nat) : Rat := (xsF (ptN L n) (ptN L n).1).2 s
theorem xX_G {n : Nat} {L : Nat → Sg} (hL : LOk n L) : xsG (ptN L n) (ptN L n).1 (nX n L, xX n L) := xsF_G (ptN_G hL n (Nat.le_refl _)).1 _ (Nat.le_refl _)
theorem xX_lt {n : Nat} {L : Nat → Sg} (hL : LOk n L) {i j : Nat} (hij : i < j) (hj : j < nX n L) : xX n L i < xX n L j := (xX_G hL).1 i j hij hj
theorem xX_of {n : Nat} {L : Nat → Sg} (hL : LOk n L) {q : Nat} (hq : q < (ptN L n).1) : ∃ s, s < nX n L ∧ xX n L s = ((ptN L n).2 q).1 := (xX_G hL).2.1 q hq
theorem xX_fb {n : Nat} {L : Nat → Sg} (hL : LOk n L) {s : Nat} (hs : s < nX n L) : fb (xX n L s) 256000 4000 := by
  obtain ⟨q, hq, e⟩ := (xX_G hL).2.2.1 s hs
  have e : ((ptN L n).2 q).1 = xX n L s := e
  rw [← e]
  exact ((ptN_G hL n (Nat.le_refl _)).2 q hq).1
theorem ptN_65 {n : Nat} {L : Nat → Sg} (hL : LOk n L) : (ptN L n).1 ≤ 65 := by
  have hn10 := hL.1
  cases n with
  | zero => exact Nat.zero_le _
  | succ m =>
    have := ptN_le L (m + 1)
    have t := tri_le (l := m) (by omega)
    exact Nat.le_trans this t
theorem nX_65 {n : Nat} {L : Nat → Sg} (hL : LOk n L) : nX n L ≤ 65 := Nat.le_trans (xX_G hL).2.2.2.1 (ptN_65 hL)
/-- no point between two x's that follow one another -/
theorem xX_gap {n : Nat} {L : Nat → Sg} (hL : LOk n L) {s : Nat} (hs : s + 1 < nX n L) {q : Nat} (hq : q < (ptN L n).1) : ¬ (xX n L s < ((ptN L n).2 q).1 ∧ ((ptN L n).2 q).1 < xX n L (s + 1)) := by
  rintro ⟨h1, h2⟩
  obtain ⟨t, ht, e⟩ := xX_of hL hq
  rw [← e] at h1 h2
  rcases Nat.lt_trichotomy t s with c | c | c
  · have := xX_lt hL c (by omega); grind
  · rw [c] at h1; exact Rat.lt_irrefl h1
  · by_cases c2 : t = s + 1
    · rw [c2] at h2; exact Rat.lt_irrefl h2
    · have := xX_lt hL (show s + 1 < t by omega) ht; grind
/-- whether a line goes through the slab between two x's -/
def spB (n : Nat) (L : Nat → Sg) (s l : Nat) : Bool := slB (L l) && decide (((L l).1 : Rat) ≤ xX n L s) && decide (xX n L (s + 1) ≤ ((L l).2.2.1 : Rat))
def mdX (n : Nat) (L : Nat → Sg) (s : Nat) : Rat := (xX n L s + xX n L (s + 1)) / 2
theorem spB_e {n : Nat} {L : Nat → Sg} {s l : Nat} : spB n L s l = true ↔ isSl (L l) ∧ ((L l).1 : Rat) ≤ xX n L s ∧ xX n L (s + 1) ≤ ((L l).2.2.1 : Rat) := by
  unfold spB slB isSl
  rw [Bool.and_eq_true, Bool.and_eq_true, decide_eq_true_iff, decide_eq_true_iff, decide_eq_true_iff, and_assoc]
theorem mdX_b {n : Nat} {L : Nat → Sg} (hL : LOk n L) {s : Nat} (hs : s + 1 < nX n L) : xX n L s < mdX n L s ∧ mdX n L s < xX n L (s + 1) := by
  have := xX_lt hL (Nat.lt_succ_self s) hs
  unfold mdX
  grind
/-- to span the middle is to go through -/
theorem spB_m {n : Nat} {L : Nat → Sg} (hL : LOk n L) {s l : Nat} (hs : s + 1 < nX n L) (hl : l < n) : spB n L s l = (slB (L l) && (decide (((L l).1 : Rat) ≤ mdX n L s) && decide (mdX n L s ≤ ((L l).2.2.1 : Rat)))) := by
  obtain ⟨m1, m2⟩ := mdX_b hL hs
  obtain ⟨⟨i, hi, ei⟩, j, hj, ej⟩ := pt_ends (L := L) hl
  have g1 := xX_gap hL hs hi
  have g2 := xX_gap hL hs hj
  rw [ei] at g1
  rw [ej] at g2
  have g1 : ¬ (xX n L s < ((L l).1 : Rat) ∧ ((L l).1 : Rat) < xX n L (s + 1)) := g1
  have g2 : ¬ (xX n L s < ((L l).2.2.1 : Rat) ∧ ((L l).2.2.1 : Rat) < xX n L (s + 1)) := g2
  have k1 : (((L l).1 : Rat) ≤ xX n L s) ↔ (((L l).1 : Rat) ≤ mdX n L s) := by
    constructor
    · intro w; grind
    · intro w; grind
  have k2 : (xX n L (s + 1) ≤ ((L l).2.2.1 : Rat)) ↔ (mdX n L s ≤ ((L l).2.2.1 : Rat)) := by
    constructor
    · intro w; grind
    · intro w; grind
  unfold spB
  rw [Bool.and_assoc, decide_eq_decide.mpr k1, decide_eq_decide.mpr k2]
def slp (s : Sg) : Rat := ((s.2.2.2 : Rat) - (s.2.1 : Rat)) / ddx s
theorem yv_s (s : Sg) (x : Rat) : yv s x = (s.2.1 : Rat) + (x - (s.1 : Rat)) * slp s := by
  unfold yv slp
  rw [Rat.div_def, Rat.div_def]
  grind
theorem yv_mid (s : Sg) (x0 x1 : Rat) : yv s ((x0 + x1) / 2) = (yv s x0 + yv s x1) / 2 := by
  rw [yv_s, yv_s, yv_s]
  grind
theorem par_slp {a b : Sg} (sa : isSl a) (sb : isSl b) (h : mD a b = 0) : slp a = slp b := by
  have pa := ddx_p sa
  have pb := ddx_p sb
  have e := congrArg (fun z : Int => (z : Rat)) h
  unfold mD at e
  simp only [Rat.intCast_sub, Rat.intCast_mul] at e
  have ma : slp a * ddx a = (a.2.2.2 : Rat) - (a.2.1 : Rat) := Rat.div_mul_cancel (rne pa)
  have mb : slp b * ddx b = (b.2.2.2 : Rat) - (b.2.1 : Rat) := Rat.div_mul_cancel (rne pb)
  rw [← ma, ← mb] at e
  have e' : slp a * (ddx a * ddx b) = slp b * (ddx a * ddx b) := by
    unfold ddx at *
    have e0 : ((0 : Int) : Rat) = 0 := rfl
    rw [e0] at e
    grind
  exact mul_inj (Rat.mul_pos pa pb) e'
/-- two that change their order have a place in common between -/
theorem cross_at {a b : Sg} {x0 x1 : Rat} (h01 : x0 < x1) (h0 : yv a x0 < yv b x0) (h1 : yv b x1 < yv a x1) : ∃ x, x0 < x ∧ x < x1 ∧ yv a x = yv b x := by
  have D : 0 < (yv b x0 - yv a x0) + (yv a x1 - yv b x1) := by grind
  have e := Rat.div_mul_cancel (a := (yv b x0 - yv a x0) * (x1 - x0)) (rne D)
  generalize hx : (yv b x0 - yv a x0) * (x1 - x0) / ((yv b x0 - yv a x0) + (yv a x1 - yv b x1)) = d at e
  refine ⟨x0 + d, ?_, ?_, ?_⟩
  · have : 0 < d := by
      have p : 0 < d * ((yv b x0 - yv a x0) + (yv a x1 - yv b x1)) := by rw [e]; exact Rat.mul_pos (by grind) (by grind)
      exact (Rat.mul_pos_iff_of_pos_right D).mp p
    grind
  · have : 0 < (x1 - x0) - d := by
      have p : 0 < ((x1 - x0) - d) * ((yv b x0 - yv a x0) + (yv a x1 - yv b x1)) := by
        have q : ((x1 - x0) - d) * ((yv b x0 - yv a x0) + (yv a x1 - yv b x1)) = (x1 - x0) * (yv a x1 - yv b x1) := by grind
        rw [q]; exact Rat.mul_pos (by grind) (by grind)
      exact (Rat.mul_pos_iff_of_pos_right D).mp p
    grind
  · rw [yv_s a x0, yv_s a x1, yv_s b x0, yv_s b x1] at *
    rw [yv_s, yv_s]
    grind
/-- in a slab the order at the middle is that at its left, then at its right -/
theorem slab_ord {n : Nat} {L : Nat → Sg} (hL : LOk n L) {s : Nat} (hs : s + 1 < nX n L) {a b : Nat} (ha : a < n) (hb : b < n) (pa : spB n L s a = true) (pb : spB n L s b = true) : sg (yv (L a) (mdX n L s)) (yv (L b) (mdX n L s)) = if sg (yv (L a) (xX n L s)) (yv (L b) (xX n L s)) = 0 then sg (yv (L a) (xX n L (s + 1))) (yv (L b) (xX n L (s + 1))) else sg (yv (L a) (xX n L s)) (yv (L b) (xX n L s)) := by
  obtain ⟨a1, a2, a3⟩ := spB_e.mp pa
  obtain ⟨b1, b2, b3⟩ := spB_e.mp pb
  have x01 := xX_lt hL (Nat.lt_succ_self s) hs
  have no : ∀ {c d : Nat}, c < n → d < n → spB n L s c = true → spB n L s d = true → yv (L c) (xX n L s) < yv (L d) (xX n L s) → ¬ yv (L d) (xX n L (s + 1)) < yv (L c) (xX n L (s + 1)) := by
    intro c d hc hd pc pd h0 h1
    obtain ⟨c1, c2, c3⟩ := spB_e.mp pc
    obtain ⟨d1, d2, d3⟩ := spB_e.mp pd
    obtain ⟨x, g1, g2, g3⟩ := cross_at x01 h0 h1
    have d0 : mD (L c) (L d) ≠ 0 := by
      intro z
      have := par_slp c1 d1 z
      rw [yv_s (L c), yv_s (L d), this] at h0 h1
      grind
    obtain ⟨i, hi, e⟩ := pt_cross hL hc hd d0 (q := (x, yv (L c) x)) ((onB_sl (hL.2 c hc) c1).mpr ⟨by grind, by grind, rfl⟩) ((onB_sl (hL.2 d hd) d1).mpr ⟨by grind, by grind, g3⟩)
    refine xX_gap hL hs hi ⟨?_, ?_⟩ <;> rw [e] <;> assumption
  have m1 := yv_mid (L a) (xX n L s) (xX n L (s + 1))
  have m2 := yv_mid (L b) (xX n L s) (xX n L (s + 1))
  have n1 := no ha hb pa pb
  have n2 := no hb ha pb pa
  unfold mdX
  rw [m1, m2]
  generalize yv (L a) (xX n L s) = p at *
  generalize yv (L b) (xX n L s) = q at *
  generalize yv (L a) (xX n L (s + 1)) = r at *
  generalize yv (L b) (xX n L (s + 1)) = t at *
  clear no m1 m2
  unfold sg
  grind (splits := 30)
