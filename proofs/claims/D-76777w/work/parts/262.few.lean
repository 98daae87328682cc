/-! FEW FACES: no more than 46 -/
set_option maxRecDepth 100000
theorem cn_inj : ∀ (l : Nat) (C : Nat → Bool) (V : Nat) (g : Nat → Nat), (∀ q, q < V → C q = true → g q < l) → (∀ q r, q < V → r < V → C q = true → C r = true → g q = g r → q = r) → cn C V ≤ l := by
  intro l
  induction l with
  | zero =>
    intro C V g h _
    have : cn C V = 0 := cn_z (fun i hi => by
      cases c : C i with
      | false => rfl
      | true => exact absurd (h i hi c) (Nat.not_lt_zero _))
    omega
  | succ l ih =>
    intro C V g h hi
    by_cases w : ∃ q, q < V ∧ C q = true ∧ g q = l
    · obtain ⟨q, q1, q2, q3⟩ := w
      have d := cn_del q1 q2
      have := ih (fun i => C i && !decide (i = q)) V g (fun r hr c => by
        rw [Bool.and_eq_true] at c
        have ne : r ≠ q := by simpa using c.2
        have := h r hr c.1
        have : g r ≠ l := fun z => ne (hi r q hr q1 c.1 q2 (z.trans q3.symm))
        omega) (fun r s hr hs c d e => by
        rw [Bool.and_eq_true] at c d
        exact hi r s hr hs c.1 d.1 e)
      omega
    · have := ih C V g (fun r hr c => by
        have := h r hr c
        have : g r ≠ l := fun z => w ⟨r, hr, c, z⟩
        omega) hi
      omega
/-- of two common places, what is between on the one is on the other -/
theorem mid_on {s u : Sg} (hu : sgOk u) {p w q : Pt} (ps : onB s p = true) (qs : onB s q = true) (pu : onB u p = true) (qu : onB u q = true) (wu : onB u w = true) (h1 : lxc p w < 0) (h2 : lxc w q < 0) : onB s w = true := by
  unfold onB at *
  simp only [Bool.and_eq_true, decide_eq_true_iff] at *
  have lex := hu.2.2.2.2
  have zs : sd s w = 0 := by
    have pq := lxc_lt.mp (lxc_tr h1 h2)
    have nu : ¬ ((u.2.2.1 : Rat) - (u.1 : Rat) = 0 ∧ (u.2.2.2 : Rat) - (u.2.1 : Rat) = 0) := by
      rintro ⟨a, b⟩
      have a' : (u.2.2.1 : Rat) = (u.1 : Rat) := by grind
      have b' : (u.2.2.2 : Rat) = (u.2.1 : Rat) := by grind
      have := Rat.intCast_inj.mp a'
      have := Rat.intCast_inj.mp b'
      omega
    have a1 := ps.1.1
    have a2 := qs.1.1
    have b1 := pu.1.1
    have b2 := qu.1.1
    have b3 := wu.1.1
    unfold sd at *
    generalize (u.2.2.1 : Rat) - (u.1 : Rat) = ux at *
    generalize (u.2.2.2 : Rat) - (u.2.1 : Rat) = uy at *
    generalize (s.2.2.1 : Rat) - (s.1 : Rat) = sx at *
    generalize (s.2.2.2 : Rat) - (s.2.1 : Rat) = sy at *
    generalize (s.1 : Rat) = s1 at *
    generalize (s.2.1 : Rat) = s2 at *
    generalize (u.1 : Rat) = u1 at *
    generalize (u.2.1 : Rat) = u2 at *
    -- the cross product of q - p and w - p
    have c1 : ux * ((q.1 - p.1) * (w.2 - p.2) - (q.2 - p.2) * (w.1 - p.1)) = 0 := by grind
    have c2 : uy * ((q.1 - p.1) * (w.2 - p.2) - (q.2 - p.2) * (w.1 - p.1)) = 0 := by grind
    have c : (q.1 - p.1) * (w.2 - p.2) - (q.2 - p.2) * (w.1 - p.1) = 0 := by
      rcases Rat.mul_eq_zero.mp c1 with z | z
      · rcases Rat.mul_eq_zero.mp c2 with y | y
        · exact absurd ⟨z, y⟩ nu
        · exact y
      · exact z
    have d1 : (q.1 - p.1) * (sx * (w.2 - s2) - sy * (w.1 - s1)) = 0 := by grind
    have d2 : (q.2 - p.2) * (sx * (w.2 - s2) - sy * (w.1 - s1)) = 0 := by grind
    rcases Rat.mul_eq_zero.mp d1 with z | z
    · rcases Rat.mul_eq_zero.mp d2 with y | y
      · exfalso
        rcases pq with v | v
        · grind
        · have := v.2; grind
      · exact y
    · exact z
  refine ⟨⟨zs, ?_⟩, ?_⟩
  · have := ps.1.2
    by_cases e : lxc (ptA s) p = 0
    · rw [lxc_eq.mp e]; omega
    · have := lxc_tr (show lxc (ptA s) p < 0 by omega) h1
      omega
  · have := qs.2
    by_cases e : lxc q (ptB s) = 0
    · rw [← lxc_eq.mp e]; omega
    · have := lxc_tr h2 (show lxc q (ptB s) < 0 by omega)
      omega
section FW
variable {n : Nat} {L : Nat → Sg}
theorem clos_in (hL : LOk n L) {x : Nat × (Nat → Pt)} (hx : srt x.1 x.2) {l j q a r : Nat} (hl : l < n) (hj : j < l) (hq : onB (L l) (x.2 q) = true) (jq : onB (L j) (x.2 q) = true) (jr : onB (L j) (x.2 r) = true) (hqr : q < r) (hr : r < x.1) (c : cons2 (fun p => onB (L l) (x.2 p)) x.1 (a, r)) : (a, r) ∈ pcA L x l := by
  obtain ⟨c1, c2, c3, c4, c5⟩ := c
  have c1 : a < r := c1
  have c3 : onB (L l) (x.2 a) = true := c3
  have c4 : onB (L l) (x.2 r) = true := c4
  have qa : q ≤ a := Nat.not_lt.mp fun w => by
    have := c5 q w hqr
    exact absurd (this.symm.trans hq) (by decide)
  have ja : onB (L j) (x.2 a) = true := by
    by_cases e : a = q
    · rw [e]; exact jq
    · exact mid_on (hL.2 l hl) jq jr hq c4 c3 (hx q a (by omega) (by omega)) (hx a r c1 hr)
  refine pcA_mem.mpr ⟨j, hj, c1, hr, ja, jr, fun i i1 i2 => ?_⟩
  cases o : onB (L j) (x.2 i) with
  | false => exact o
  | true =>
    have := mid_on (hL.2 j (by omega)) c3 c4 ja jr o (hx a i i1 (by have : i < r := i2; omega)) (hx i r i2 hr)
    have t := c5 i i1 i2
    exact absurd (t.symm.trans this) (by decide)
/-- the pieces that close at a point of a line -/
noncomputable def cloQ (f : Nat → Bool) (es : List EuE) (q : Nat) : Bool := f q && pB (∃ a, lst f q = some a ∧ (a, q) ∉ es ∧ ∃ e ∈ es, e.1 = q ∨ e.2 = q)
theorem clo_len (f : Nat → Bool) (es : List EuE) : ∀ p, (eu_k (pcE f es p)).length ≤ (eu_k es).length + cn (cloQ f es) p := by
  intro p
  induction p with
  | zero => exact Nat.le_refl _
  | succ p ih =>
    rw [cn_s]
    unfold pcE
    by_cases c : f p = true
    · rw [if_pos c]
      cases hl : lst f p with
      | none => simp only; omega
      | some a =>
        simp only
        show (if (a, p) ∈ pcE f es p then eu_k (pcE f es p) else if eu_l (pcE f es p) a = eu_l (pcE f es p) p then (a, p) :: eu_k (pcE f es p) else eu_k (pcE f es p)).length ≤ _
        by_cases m : (a, p) ∈ pcE f es p
        · rw [if_pos m]; omega
        · rw [if_neg m]
          by_cases k : eu_l (pcE f es p) a = eu_l (pcE f es p) p
          · rw [if_pos k]
            have lt := (lst_e.mp hl).1
            have t : cloQ f es p = true := by
              unfold cloQ
              rw [c, Bool.true_and]
              refine pB_t ⟨a, hl, fun w => m (pcE_mem.mpr (Or.inl w)), ?_⟩
              refine Classical.byContradiction fun no => ?_
              have := eu_l_R k (fun v => if v = p then 1 else 0) (fun e he => by
                have h1 : e.1 ≠ p ∧ e.2 ≠ p := by
                  rcases pcE_mem.mp he with w | w
                  · exact ⟨fun z => no ⟨e, w, Or.inl z⟩, fun z => no ⟨e, w, Or.inr z⟩⟩
                  · have := w.1
                    have := w.2.1
                    omega
                simp only [if_neg h1.1, if_neg h1.2])
              simp only [if_neg (show ¬ a = p by omega), if_true] at this
              exact absurd this (by decide)
            rw [t]
            simp
            omega
          · rw [if_neg k]; omega
    · rw [if_neg c]; omega
def tr2 : Nat → Nat
  | 0 => 0
  | k + 1 => tr2 k + k
theorem closing_le (hL : LOk n L) {x : Nat × (Nat → Pt)} (hx : srt x.1 x.2) : ∀ k, k ≤ n → (eu_k (pcA L x k)).length ≤ tr2 k := by
  intro k
  induction k with
  | zero => intro _; exact Nat.le_refl _
  | succ k ih =>
    intro hk
    have i := ih (by omega)
    have cl := clo_len (fun p => onB (L k) (x.2 p)) (pcA L x k) x.1
    have on1 : ∀ q, cloQ (fun p => onB (L k) (x.2 p)) (pcA L x k) q = true → ∃ j, j < k ∧ onB (L j) (x.2 q) = true := by
      intro q c
      unfold cloQ at c
      rw [Bool.and_eq_true] at c
      obtain ⟨a, -, -, e, he, h⟩ := pB_e.mp c.2
      obtain ⟨j, hj, -, -, h3, h4, -⟩ := pcA_mem.mp he
      rcases h with w | w
      · exact ⟨j, hj, by rw [← w]; exact h3⟩
      · exact ⟨j, hj, by rw [← w]; exact h4⟩
    have two : ∀ q r j, q < x.1 → r < x.1 → q < r → cloQ (fun p => onB (L k) (x.2 p)) (pcA L x k) q = true → cloQ (fun p => onB (L k) (x.2 p)) (pcA L x k) r = true → j < k → onB (L j) (x.2 q) = true → onB (L j) (x.2 r) = true → False := by
      intro q r j hq hr hqr cq cr hj jq jr
      unfold cloQ at cq cr
      rw [Bool.and_eq_true] at cq cr
      obtain ⟨a, e1, e2, -⟩ := pB_e.mp cr.2
      obtain ⟨l1, l2, l3⟩ := lst_e.mp e1
      exact e2 (clos_in hL hx (show k < n by omega) hj cq.1 jq jr hqr hr ⟨l1, hr, l2, cr.1, l3⟩)
    have c := cn_inj k (cloQ (fun p => onB (L k) (x.2 p)) (pcA L x k)) x.1 (fun q => fst1 (fun j => onB (L j) (x.2 q)) k) (fun q hq cq => by
      obtain ⟨j, j1, j2⟩ := on1 q cq
      obtain ⟨-, f2, -⟩ := @fst1_e (fun j => onB (L j) (x.2 q)) k
      exact Nat.not_le.mp fun w => by
        have := f2 j (by omega)
        exact absurd (this.symm.trans j2) (by decide)) (fun q r hq hr cq cr e => by
      obtain ⟨j, j1, j2⟩ := on1 q cq
      obtain ⟨j', j1', j2'⟩ := on1 r cr
      obtain ⟨-, f2, f3⟩ := @fst1_e (fun j => onB (L j) (x.2 q)) k
      obtain ⟨-, g2, g3⟩ := @fst1_e (fun j => onB (L j) (x.2 r)) k
      have lt : fst1 (fun j => onB (L j) (x.2 q)) k < k := Nat.not_le.mp fun w => by
        have := f2 j (by omega)
        exact absurd (this.symm.trans j2) (by decide)
      have a1 := f3 lt
      have e' : fst1 (fun j => onB (L j) (x.2 q)) k = fst1 (fun j => onB (L j) (x.2 r)) k := e
      have a2 := g3 (by omega)
      rw [← e'] at a2
      rcases Nat.lt_trichotomy q r with w | w | w
      · exact (two q r _ hq hr w cq cr lt a1 a2).elim
      · exact w
      · exact (two r q _ hr hq w cr cq lt a2 a1).elim)
    show (eu_k (pcE (fun p => onB (L k) (x.2 p)) (pcA L x k) x.1)).length ≤ tr2 k + k
    omega
theorem tr2_le : ∀ k, k ≤ 10 → tr2 k ≤ 45 := by decide
theorem nFc_46 (hL : LOk n L) : nFc n L ≤ 46 := by
  have a := faces_k hL
  have b := closing_le hL (ptN_G hL n (Nat.le_refl _)).1 n (Nat.le_refl _)
  have c := tr2_le n hL.1
  omega
end FW
