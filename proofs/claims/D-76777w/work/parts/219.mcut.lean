/-! THE MODEL'S CUT OF A SLAB -/
set_option maxRecDepth 100000
/-- the model's x's -/
def MXs (σ : MSt) (n : Nat) (L : Nat → Sg) : Prop := gI σ 22 = i32 ((nX n L + 1 : Nat) : Int) ∧ ∀ s, s < nX n L → gL σ 25 (s + 1) = i64 (xX n L s).num ∧ gL σ 26 (s + 1) = i64 ((xX n L s).den : Int)
theorem MXs.fr {ks : List Nat} {σ σ' : MSt} {n : Nat} {L : Nat → Sg} (h : MXs σ n L) (hf : mfr ks σ σ') (hk : 22 ∉ ks ∧ 25 ∉ ks ∧ 26 ∉ ks) : MXs σ' n L := ⟨by rw [hf.gI 22 hk.1]; exact h.1, fun s hs => ⟨by rw [hf.gL 25 hk.2.1]; exact (h.2 s hs).1, by rw [hf.gL 26 hk.2.2]; exact (h.2 s hs).2⟩⟩
theorem agT_e {N : Nat} {σ : MSt} {n : Nat} {L : Nat → Sg} (h : MLn σ n L) (hL : LOk n L) (hx : MXs σ n L) {s : Nat} (hs : s + 1 < nX n L) {a b : Nat} (ha : a < n) (hb : b < n) (pa : spB n L s a = true) (pb : spB n L s b = true) : F_againstThrough N σ (i32 (a : Int)) (i32 (b : Int)) (i32 ((s + 1 : Nat) : Int)) = some (i32 (sg (yv (L a) (mdX n L s)) (yv (L b) (mdX n L s)))) := by
  have m65 := nX_65 hL
  have S : ∀ {α : Type} (f : Nat → Option α), ck (i32 ((s + 1 : Nat) : Int)) 81 f = f (s + 1) := fun f => ck_n (by omega) (by decide) f
  have S' : ∀ {α : Type} (f : Nat → Option α), ck (i32 ((s + 1 : Nat) : Int) + 1) 81 f = f (s + 1 + 1) := fun f => by rw [i32_s]; exact ck_n (by omega) (by decide) f
  have f0 := xX_fb hL (show s < nX n L by omega)
  have f1 := xX_fb hL hs
  have d0 : 0 < ((xX n L s).den : Int) ∧ ((xX n L s).den : Int) ≤ 4000 := ⟨by have := (xX n L s).den_pos; omega, by have := f0.2; omega⟩
  have d1 : 0 < ((xX n L (s + 1)).den : Int) ∧ ((xX n L (s + 1)).den : Int) ≤ 4000 := ⟨by have := (xX n L (s + 1)).den_pos; omega, by have := f1.2; omega⟩
  have g0 := yAg_e (N := N) h hL ha hb (spB_e.mp pa).1 (spB_e.mp pb).1 f0.1 d0.1 d0.2
  have g1 := yAg_e (N := N) h hL ha hb (spB_e.mp pa).1 (spB_e.mp pb).1 f1.1 d1.1 d1.2
  rw [rat_q] at g0 g1
  have r0 := sg_r (yv (L a) (xX n L s)) (yv (L b) (xX n L s))
  have k0 := hx.2 s (by omega)
  have k1 := hx.2 (s + 1) hs
  unfold F_againstThrough
  simp only [S, S', k0.1, k0.2, k1.1, k1.2, (yAb_e (N := N) h hL ha _ _).1, (yAb_e (N := N) h hL hb _ _).1, fun B => (yAb_e (N := N) h hL ha 0 B).2, fun B => (yAb_e (N := N) h hL hb 0 B).2, Option.bind_some, g0, g1]
  rw [i32_0 (by omega), slab_ord hL hs ha hb pa pb]
  split <;> rfl
/-- the lines of the first k that go through, in order -/
def OT (n : Nat) (L : Nat → Sg) (s k c : Nat) (th : Nat → Nat) : Prop := c ≤ k ∧ (∀ j, j < c → th j < k ∧ spB n L s (th j) = true) ∧ (∀ l, l < k → spB n L s l = true → ∃ j, j < c ∧ th j = l) ∧ ∀ i j, i < j → j < c → yv (L (th i)) (mdX n L s) < yv (L (th j)) (mdX n L s) ∨ (yv (L (th i)) (mdX n L s) = yv (L (th j)) (mdX n L s) ∧ th i < th j)
def MTh (σ : MSt) (c : Nat) (th : Nat → Nat) : Prop := ∀ j, j < c → gA σ 32 j = i32 ((th j : Nat) : Int)
def insN (P : Nat → Nat) (k p : Nat) : Nat → Nat := fun i => if i < k then P i else if i = k then p else P (i - 1)
/-- a line is put in -/
theorem ot_ins {n : Nat} {L : Nat → Sg} {s k c r : Nat} {th : Nat → Nat} (h : OT n L s k c th) (hk : spB n L s k = true) (hr : r ≤ c) (h1 : ∀ j, j < r → yv (L (th j)) (mdX n L s) ≤ yv (L k) (mdX n L s)) (h2 : ∀ j, r ≤ j → j < c → yv (L k) (mdX n L s) < yv (L (th j)) (mdX n L s)) : OT n L s (k + 1) (c + 1) (insN th r k) := by
  obtain ⟨o1, o2, o3, o4⟩ := h
  refine ⟨by omega, fun j hj => ?_, fun l hl hsp => ?_, fun i j hij hj => ?_⟩
  · unfold insN
    split
    · have := o2 j (by omega); exact ⟨by omega, this.2⟩
    · split
      · exact ⟨by omega, hk⟩
      · have := o2 (j - 1) (by omega); exact ⟨by omega, this.2⟩
  · by_cases e : l = k
    · exact ⟨r, by omega, by unfold insN; rw [if_neg (by omega), if_pos rfl, e]⟩
    · obtain ⟨j, j1, j2⟩ := o3 l (by omega) hsp
      by_cases w : j < r
      · exact ⟨j, by omega, by unfold insN; rw [if_pos w, j2]⟩
      · exact ⟨j + 1, by omega, by unfold insN; rw [if_neg (by omega), if_neg (by omega)]; exact j2⟩
  · unfold insN
    by_cases i1 : i < r
    · rw [if_pos i1]
      by_cases j1 : j < r
      · rw [if_pos j1]; exact o4 i j hij (by omega)
      · rw [if_neg j1]
        by_cases j2 : j = r
        · rw [if_pos j2]
          have a := h1 i i1
          have b := (o2 i (by omega)).1
          by_cases e : yv (L (th i)) (mdX n L s) = yv (L k) (mdX n L s)
          · exact Or.inr ⟨e, b⟩
          · exact Or.inl (Rat.lt_of_le_of_ne a e)
        · rw [if_neg j2]; exact o4 i (j - 1) (by omega) (by omega)
    · rw [if_neg i1, if_neg (show ¬ j < r by omega), if_neg (show ¬ j = r by omega)]
      by_cases i2 : i = r
      · rw [if_pos i2]; exact Or.inl (h2 _ (by omega) (by omega))
      · rw [if_neg i2]; exact o4 _ _ (by omega) (by omega)
theorem ot_skip {n : Nat} {L : Nat → Sg} {s k c : Nat} {th : Nat → Nat} (h : OT n L s k c th) (hk : ¬ spB n L s k = true) : OT n L s (k + 1) c th := by
  obtain ⟨o1, o2, o3, o4⟩ := h
  refine ⟨by omega, fun j hj => ?_, fun l hl hsp => ?_, o4⟩
  · have := o2 j hj; exact ⟨by omega, this.2⟩
  · have : l ≠ k := fun e => hk (by rw [← e]; exact hsp)
    exact o3 l (by omega) hsp
theorem cins_e {N : Nat} {n : Nat} {L : Nat → Sg} (hL : LOk n L) {s : Nat} (hs : s + 1 < nX n L) {k c : Nat} (hk : k < n) (pk : spB n L s k = true) {th : Nat → Nat} (ho : OT n L s k c th) (r4 : MSt → Int32 → Int32 → Int32 → Option MSt) :
    ∀ (p m : Nat) (σ : MSt), p ≤ c → p < m → MLn σ n L → MXs σ n L → (∀ j, j < p → gA σ 32 j = i32 ((th j : Nat) : Int)) → (∀ j, p < j → j ≤ c → gA σ 32 j = i32 ((th (j - 1) : Nat) : Int)) → (∀ j, p ≤ j → j < c → yv (L k) (mdX n L s) < yv (L (th j)) (mdX n L s)) → ∃ σ' r, F_cut_L78 N r4 m σ (i32 ((s + 1 : Nat) : Int)) (i32 (c : Int)) (i32 (k : Int)) (i32 (p : Int)) = r4 σ' (i32 ((s + 1 : Nat) : Int)) (i32 ((c + 1 : Nat) : Int)) (i32 ((k + 1 : Nat) : Int)) ∧ mfr [32] σ σ' ∧ MTh σ' (c + 1) (insN th r k) ∧ OT n L s (k + 1) (c + 1) (insN th r k) := by
  have hn10 := hL.1
  have fin : ∀ (p : Nat) (σ : MSt), p ≤ c → (∀ j, j < p → gA σ 32 j = i32 ((th j : Nat) : Int)) → (∀ j, p < j → j ≤ c → gA σ 32 j = i32 ((th (j - 1) : Nat) : Int)) → (∀ j, p ≤ j → j < c → yv (L k) (mdX n L s) < yv (L (th j)) (mdX n L s)) → (∀ j, j < p → yv (L (th j)) (mdX n L s) ≤ yv (L k) (mdX n L s)) → ∃ σ' r, F_cut_b123 N r4 σ (i32 ((s + 1 : Nat) : Int)) (i32 (c : Int)) (i32 (k : Int)) (i32 (p : Int)) = r4 σ' (i32 ((s + 1 : Nat) : Int)) (i32 ((c + 1 : Nat) : Int)) (i32 ((k + 1 : Nat) : Int)) ∧ mfr [32] σ σ' ∧ MTh σ' (c + 1) (insN th r k) ∧ OT n L s (k + 1) (c + 1) (insN th r k) := by
    intro p σ hp g1 g2 g3 g4
    have oc := ho.1
    refine ⟨sA σ 32 p (i32 (k : Int)), p, ?_, (mfr.rf _ σ).A (by decide) _ _, fun j hj => ?_, ot_ins ho pk hp g4 g3⟩
    · unfold F_cut_b123 F_cut_b134
      rw [ck_n (by omega) (by decide)]
      simp only [i32_s]
    · rw [gA_sA, if_pos rfl]
      unfold insN
      by_cases c1 : j = p
      · rw [if_pos c1, if_neg (by omega), if_pos c1]
      · rw [if_neg c1]
        by_cases c2 : j < p
        · rw [if_pos c2]; exact g1 j c2
        · rw [if_neg c2, if_neg c1]; exact g2 j (by omega) (by omega)
  intro p
  induction p with
  | zero =>
    intro m σ hp hm h hx g1 g2 g3
    obtain ⟨m, rfl⟩ : ∃ j, m = j + 1 := ⟨m - 1, by omega⟩
    have f := fin 0 σ hp g1 g2 g3 (fun j hj => absurd hj (Nat.not_lt_zero _))
    unfold F_cut_L78
    rw [if_pos (by decide)]
    exact f
  | succ p ih =>
    intro m σ hp hm h hx g1 g2 g3
    obtain ⟨m, rfl⟩ : ∃ j, m = j + 1 := ⟨m - 1, by omega⟩
    have oc := ho.1
    have f := fin (p + 1) σ hp g1 g2 g3
    obtain ⟨t1, t2⟩ := ho.2.1 p (by omega)
    have r := sg_r (yv (L k) (mdX n L s)) (yv (L (th p)) (mdX n L s))
    have lt := @sg_lt (yv (L k) (mdX n L s)) (yv (L (th p)) (mdX n L s))
    have P : ∀ {α : Type} (f : Nat → Option α), ck (i32 (p : Int)) 10 f = f p := fun f => ck_n (by omega) (by decide) f
    have Q : ∀ {α : Type} (f : Nat → Option α), ck (i32 ((p + 1 : Nat) : Int)) 10 f = f (p + 1) := fun f => ck_n (by omega) (by decide) f
    unfold F_cut_L78
    rw [if_neg (by rw [show (0 : Int32) = i32 0 from rfl, i32_le (by omega) (by omega)]; omega)]
    simp only [i32_s', P, Q, g1 p (by omega), agT_e (N := N) h hL hx hs hk (show th p < n by omega) pk t2, Option.bind_some, i32_m']
    rw [i32_nn (by omega)]
    by_cases c0 : 0 ≤ sg (yv (L k) (mdX n L s)) (yv (L (th p)) (mdX n L s))
    · rw [if_pos c0]
      refine f (fun j hj => ?_)
      have le : yv (L (th p)) (mdX n L s) ≤ yv (L k) (mdX n L s) := Rat.not_lt.mp fun w => by have := lt.mpr w; omega
      by_cases e : j = p
      · rw [e]; exact le
      · rcases ho.2.2.2 j p (by omega) (by omega) with w | ⟨w, -⟩
        · exact Rat.le_trans (Rat.le_of_lt w) le
        · rw [w]; exact le
    · rw [if_neg c0]
      have lt' := lt.mp (by omega)
      obtain ⟨σ', r, q1, q2, q3, q4⟩ := ih m (sA σ 32 (p + 1) (i32 ((th p : Nat) : Int))) (by omega) (by omega) (h.fr ((mfr.rf [32] σ).A (by decide) _ _) (by decide)) (hx.fr ((mfr.rf [32] σ).A (by decide) _ _) (by decide)) (fun j hj => by rw [gA_sA, if_pos rfl, if_neg (by omega)]; exact g1 j (by omega)) (fun j j1 j2 => by
        rw [gA_sA, if_pos rfl]
        by_cases e : j = p + 1
        · rw [if_pos e, e]; rfl
        · rw [if_neg e]; exact g2 j (by omega) j2) (fun j j1 j2 => by
        by_cases e : j = p
        · rw [e]; exact lt'
        · exact g3 j (by omega) j2)
      exact ⟨σ', r, q1, ((mfr.rf _ σ).A (by decide) _ _).tr q2, q3, q4⟩
theorem isUp_e {N : Nat} {σ : MSt} {n : Nat} {L : Nat → Sg} (h : MLn σ n L) (hL : LOk n L) {l : Nat} (hl : l < n) : F_isUpright N σ (i32 (l : Int)) = some (bi (!slB (L l))) := by
  have A : ∀ {α : Type} (f : Nat → Option α), ck (i32 (l : Int)) 10 f = f l := fun f => ck_n (by have := hL.1; omega) (by decide) f
  obtain ⟨p1, p2, p3, p4⟩ := h.2 l hl
  obtain ⟨h1, h2, h3, h4, h5⟩ := hL.2 l hl
  unfold F_isUpright
  simp only [A, p1, p3]
  rw [ite_ii (i32_eq (a := (L l).1) (b := (L l).2.2.1) (by omega) (by omega))]
  unfold slB bi
  by_cases c : (L l).1 < (L l).2.2.1
  · rw [if_neg (by omega), decide_eq_true c]; rfl
  · rw [if_pos (by omega), decide_eq_false c]; rfl
/-- to stand at or ahead of an x, in whole numbers -/
theorem le_x {X : Rat} {k : Int} : (X.num < k * (X.den : Int) ↔ ¬ (k : Rat) ≤ X) ∧ (X.num ≤ k * (X.den : Int) ↔ X ≤ (k : Rat)) := by
  have d := @le_q X.num (X.den : Int) k (by have := X.den_pos; omega)
  rw [rat_q] at d
  rw [d.1, d.2]
  constructor
  · constructor
    · intro w z; exact z w
    · intro w; omega
  · omega
theorem cuts_e {N : Nat} (hN : 100 ≤ N) {n : Nat} {L : Nat → Sg} (hL : LOk n L) {s : Nat} (hs : s + 1 < nX n L) :
    ∀ (d k m c : Nat) (th : Nat → Nat) (σ : MSt), k + d = n → d < m → MLn σ n L → MXs σ n L → MTh σ c th → OT n L s k c th → ∃ (σ' : MSt) (c' : Nat) (th' : Nat → Nat), F_cut_L4 N m σ (i32 ((s + 1 : Nat) : Int)) (i32 (c : Int)) (i32 (k : Int)) = F_cut_L145 N N σ' (i32 ((s + 1 : Nat) : Int)) (i32 (c' : Int)) 0 0 ∧ mfr [32] σ σ' ∧ MTh σ' c' th' ∧ OT n L s n c' th' := by
  have hn10 := hL.1
  have m65 := nX_65 hL
  intro d
  induction d with
  | zero =>
    intro k m c th σ hk hm h hx ht ho
    obtain ⟨m, rfl⟩ : ∃ j, m = j + 1 := ⟨m - 1, by omega⟩
    have e : k = n := by omega
    subst e
    refine ⟨σ, c, th, ?_, mfr.rf _ _, ht, ho⟩
    unfold F_cut_L4
    rw [h.1, if_pos ((i32_le (by omega) (by omega)).mpr (Int.le_refl _))]
  | succ d ih =>
    intro k m c th σ hk hm h hx ht ho
    obtain ⟨m, rfl⟩ : ∃ j, m = j + 1 := ⟨m - 1, by omega⟩
    have hk' : k < n := by omega
    have A : ∀ {α : Type} (f : Nat → Option α), ck (i32 (k : Int)) 10 f = f k := fun f => ck_n (by omega) (by decide) f
    have S : ∀ {α : Type} (f : Nat → Option α), ck (i32 ((s + 1 : Nat) : Int)) 81 f = f (s + 1) := fun f => ck_n (by omega) (by decide) f
    have S' : ∀ {α : Type} (f : Nat → Option α), ck (i32 ((s + 1 + 1 : Nat) : Int)) 81 f = f (s + 1 + 1) := fun f => ck_n (by omega) (by decide) f
    obtain ⟨p1, p2, p3, p4⟩ := h.2 k hk'
    obtain ⟨h1, h2, h3, h4, h5⟩ := hL.2 k hk'
    have f0 := xX_fb hL (show s < nX n L by omega)
    have f1 := xX_fb hL hs
    have k0 := hx.2 s (by omega)
    have k1 := hx.2 (s + 1) hs
    have b0 : bn ((xX n L s).den : Int) 4000 := by have := f0.2; unfold bn; omega
    have b1 : bn ((xX n L (s + 1)).den : Int) 4000 := by have := f1.2; unfold bn; omega
    have e0 : F_cut_L4 N (m + 1) σ (i32 ((s + 1 : Nat) : Int)) (i32 (c : Int)) (i32 (k : Int)) = if spB n L s k = true then F_cut_L78 N (F_cut_L4 N m) N σ (i32 ((s + 1 : Nat) : Int)) (i32 (c : Int)) (i32 (k : Int)) (i32 (c : Int)) else F_cut_L4 N m σ (i32 ((s + 1 : Nat) : Int)) (i32 (c : Int)) (i32 ((k + 1 : Nat) : Int)) := by
      rw [F_cut_L4, h.1, if_neg (fun z => by have := (i32_le (by omega) (by omega)).mp z; omega), isUp_e h hL hk', Option.bind_some, bi_0]
      unfold F_cut_b134
      simp only [A, S, S', p1, p3, k0.1, k0.2, k1.1, k1.2, i32_s]
      rw [i32_to64 (by omega), i32_to64 (by omega), i64_mul, i64_mul, ite_ii (i64_lt (bn_64 f0.1 (by decide)) (bn_64 (bn_mul (show bn (L k).1 40 from bn_of (by omega)) b0) (by decide))), ite_ii (i64_le (bn_64 f1.1 (by decide)) (bn_64 (bn_mul (show bn (L k).2.2.1 40 from bn_of (by omega)) b1) (by decide))), ite_ii (@le_x (xX n L s) (L k).1).1, ite_ii (@le_x (xX n L (s + 1)) (L k).2.2.1).2]
      unfold spB
      cases slB (L k)
      · simp
      · by_cases c1 : ((L k).1 : Rat) ≤ xX n L s
        · by_cases c2 : xX n L (s + 1) ≤ ((L k).2.2.1 : Rat)
          · simp [c1, c2]
          · simp [c1, c2]
        · simp [c1]
    rw [e0]
    by_cases c0 : spB n L s k = true
    · rw [if_pos c0]
      have oc := ho.1
      obtain ⟨σ1, r, q1, q2, q3, q4⟩ := cins_e (N := N) hL hs hk' c0 ho (F_cut_L4 N m) c N σ (Nat.le_refl _) (by omega) h hx ht (fun j j1 j2 => by omega) (fun j j1 j2 => by omega)
      obtain ⟨σ2, c2, th2, u1, u2, u3, u4⟩ := ih (k + 1) m (c + 1) (insN th r k) σ1 (by omega) (by omega) (h.fr q2 (by decide)) (hx.fr q2 (by decide)) q3 q4
      exact ⟨σ2, c2, th2, q1.trans u1, q2.tr u2, u3, u4⟩
    · rw [if_neg c0]
      exact ih (k + 1) m c th σ (by omega) (by omega) h hx ht (ot_skip ho c0)
