/-! THE COMPONENT'S SLICE: the lines through a slab, by what they have in its midst -/
set_option maxRecDepth 100000
theorem lxc_v (a b : Rat) : lxc (a, 0) (b, 0) = sg a b := by
  unfold lxc
  have z : sg (0 : Rat) 0 = 0 := sg_eq.mpr rfl
  simp only [z]
  split
  · rename_i h; exact h.symm
  · rfl
def gpS (n : Nat) (L : Nat → Sg) (s : Nat) : Nat → Nat × (Nat → Pt)
  | 0 => (0, fun _ => (0, 0))
  | l + 1 => if spB n L s l then addP (gpS n L s l) (yv (L l) (mdX n L s), 0) else gpS n L s l
def vlS (n : Nat) (L : Nat → Sg) (s k g : Nat) : Rat := ((gpS n L s k).2 g).1
/-- the lines, of the first k, that have the g-th of the values -/
def stS (n : Nat) (L : Nat → Sg) (s k g : Nat) : Nat := ms (fun l => spB n L s l && decide (yv (L l) (mdX n L s) = vlS n L s k g)) k
theorem gp_le (n : Nat) (L : Nat → Sg) (s : Nat) : ∀ k, (gpS n L s k).1 ≤ k := by
  intro k
  induction k with
  | zero => exact Nat.le_refl _
  | succ k ih =>
    unfold gpS
    split
    · have := addP_le (gpS n L s k) (yv (L k) (mdX n L s), 0); omega
    · omega
theorem gp_srt (n : Nat) (L : Nat → Sg) (s : Nat) : ∀ k, srt (gpS n L s k).1 (gpS n L s k).2 := by
  intro k
  induction k with
  | zero => intro i j _ h; exact absurd h (Nat.not_lt_zero _)
  | succ k ih =>
    unfold gpS
    split
    · exact addP_srt ih
    · exact ih
theorem gp_mem {n : Nat} {L : Nat → Sg} {s : Nat} {q : Pt} : ∀ {k : Nat}, (∃ g, g < (gpS n L s k).1 ∧ (gpS n L s k).2 g = q) ↔ ∃ l, l < k ∧ spB n L s l = true ∧ q = (yv (L l) (mdX n L s), 0) := by
  intro k
  induction k with
  | zero =>
    constructor
    · rintro ⟨i, hi, -⟩; exact absurd hi (Nat.not_lt_zero _)
    · rintro ⟨i, hi, -⟩; exact absurd hi (Nat.not_lt_zero _)
  | succ k ih =>
    unfold gpS
    by_cases c : spB n L s k = true
    · rw [if_pos c, addP_mem, ih]
      constructor
      · rintro (h | ⟨l, h1, h2⟩)
        · exact ⟨k, Nat.lt_succ_self _, c, h⟩
        · exact ⟨l, by omega, h2⟩
      · rintro ⟨l, h1, h2, h3⟩
        by_cases e : l = k
        · left; rw [← e]; exact h3
        · exact Or.inr ⟨l, by omega, h2, h3⟩
    · rw [if_neg c, ih]
      constructor
      · rintro ⟨l, h1, h2⟩; exact ⟨l, by omega, h2⟩
      · rintro ⟨l, h1, h2, h3⟩
        have : l ≠ k := fun e => c (by rw [← e]; exact h2)
        exact ⟨l, by omega, h2, h3⟩
theorem gp_v {n : Nat} {L : Nat → Sg} {s k g : Nat} (hg : g < (gpS n L s k).1) : (gpS n L s k).2 g = (vlS n L s k g, 0) ∧ ∃ l, l < k ∧ spB n L s l = true ∧ yv (L l) (mdX n L s) = vlS n L s k g := by
  obtain ⟨l, h1, h2, h3⟩ := gp_mem.mp ⟨g, hg, rfl⟩
  unfold vlS
  rw [h3]
  exact ⟨rfl, l, h1, h2, rfl⟩
theorem vl_lt {n : Nat} {L : Nat → Sg} {s k i j : Nat} (hij : i < j) (hj : j < (gpS n L s k).1) : vlS n L s k i < vlS n L s k j := by
  have h := gp_srt n L s k i j hij hj
  rw [(gp_v (show i < _ by omega)).1, (gp_v hj).1, lxc_v] at h
  exact sg_lt.mp h
theorem vl_inj {n : Nat} {L : Nat → Sg} {s k i j : Nat} (hi : i < (gpS n L s k).1) (hj : j < (gpS n L s k).1) (h : vlS n L s k i = vlS n L s k j) : i = j := by
  rcases Nat.lt_trichotomy i j with c | c | c
  · have := vl_lt c hj; rw [h] at this; exact absurd this Rat.lt_irrefl
  · exact c
  · have := vl_lt c hi; rw [h] at this; exact absurd this Rat.lt_irrefl
/-- the least line of a set has its value -/
theorem st_least {n : Nat} {L : Nat → Sg} {s k g : Nat} (hk : k ≤ n) (hn : n ≤ 10) (hg : g < (gpS n L s k).1) (N : Nat) : stS n L s k g < 1024 ∧ stS n L s k g ≠ 0 ∧ ∃ t : Nat, t < k ∧ F_J15_numberOfTrailingZeros N (nI (stS n L s k g)) = some (i32 (t : Int)) ∧ spB n L s t = true ∧ yv (L t) (mdX n L s) = vlS n L s k g ∧ ∀ i, i < t → (stS n L s k g).testBit i = false := by
  have b := ms_31 (fun l => spB n L s l && decide (yv (L l) (mdX n L s) = vlS n L s k g)) (n := k) (by omega)
  obtain ⟨-, l, h1, h2, h3⟩ := gp_v hg
  have z : stS n L s k g ≠ 0 := by
    intro w
    have := ms_z.mp w l h1
    rw [h2, decide_eq_true h3] at this
    cases this
  refine ⟨b, z, ?_⟩
  obtain ⟨t, t1, t2, t3, t4⟩ := ntz_e N b z
  have t3' : (stS n L s k g).testBit t = true := t3
  unfold stS at t3'
  rw [ms_bit, Bool.and_eq_true, Bool.and_eq_true, decide_eq_true_iff, decide_eq_true_iff] at t3'
  exact ⟨t, t3'.1, t2, t3'.2.1, t3'.2.2, t4⟩
theorem half_e {N : Nat} (hN : 100 ≤ N) {a b : Rat} (ha : fb a 256000 4000) (hb : fb b 256000 4000) : F_X7_half N (rf a) (rf b) = some (rf ((a + b) / 2)) ∧ mq ((a + b) / 2) := by
  have ad : bn (a.den : Int) 4000 := by have := ha.2; unfold bn; omega
  have bd : bn (b.den : Int) 4000 := by have := hb.2; unfold bn; omega
  have ap : 0 < (a.den : Int) := by have := a.den_pos; omega
  have bp : 0 < (b.den : Int) := by have := b.den_pos; omega
  have n1 := bn_add (bn_mul ha.1 bd) (bn_mul hb.1 ad)
  have n2 := bn_mul (bn_mul (show bn 2 2 from bn_of (by omega)) ad) bd
  have p2 : 0 < 2 * (a.den : Int) * (b.den : Int) := Int.mul_pos (Int.mul_pos (by decide) ap) bp
  have e : Rat.divInt (a.num * (b.den : Int) + b.num * (a.den : Int)) (2 * (a.den : Int) * (b.den : Int)) = (a + b) / 2 := by
    have d1 := divI_mul (a.num * (b.den : Int) + b.num * (a.den : Int)) (2 * (a.den : Int) * (b.den : Int)) (by omega)
    refine mul_inj (Rat.intCast_pos.mpr p2) ?_
    rw [d1]
    simp only [Rat.intCast_add, Rat.intCast_mul, rat_num a, rat_num b, Rat.intCast_natCast]
    have e2 : ((2 : Int) : Rat) = 2 := rfl
    rw [e2]
    grind
  have f := X7_init_e (N := N) (k := 25) (a := a.num * (b.den : Int) + b.num * (a.den : Int)) (b := 2 * (a.den : Int) * (b.den : Int)) (bn_le n1 (by decide)) (by omega) (by unfold bn at n2; omega) (by decide) (by omega)
  constructor
  · unfold F_X7_half
    simp only [rf, i64_mul, i64_add, show (2 : Int64) = i64 2 from rfl]
    rw [f, Option.bind_some, e]
    rfl
  · rw [← e]
    have g := fb_div (a.num * (b.den : Int) + b.num * (a.den : Int)) (2 * (a.den : Int) * (b.den : Int))
    unfold bn at n1 n2
    exact ⟨Nat.le_trans g.1 (by omega), Nat.le_trans g.2 (by omega)⟩
/-- the rows of a slab S, k lines done -/
def CSl (κ : CSt) (n : Nat) (L : Nat → Sg) (s k : Nat) : Prop := cA κ 13 (s + 1) = i32 (((gpS n L s k).1 : Nat) : Int) ∧ ∀ g, g < (gpS n L s k).1 → cA κ 12 (10 * (s + 1) + g) = nI (stS n L s k g)
theorem least_e {N : Nat} {κ : CSt} {n : Nat} {L : Nat → Sg} (h : CLn κ n L) (hL : LOk n L) {w t : Nat} (hw : F_J15_numberOfTrailingZeros N (nI w) = some (i32 (t : Int))) (ht : t < n) (hs : isSl (L t)) : F_X1_least N κ (nI w) = some (lnOf (L t)) := by
  have hn10 := hL.1
  obtain ⟨tg, e⟩ := h.2 t ht
  unfold F_X1_least
  rw [hw, Option.bind_some, ck_n (by omega) (by decide), e]
  show ckS (lnOf (L t)) (some (lnOf (L t))) = _
  unfold ckS
  rw [if_neg (fun z => (kd_sl (hL.2 t ht)).mp z hs)]
theorem sfind_e {N : Nat} {κ : CSt} {n : Nat} {L : Nat → Sg} (h : CLn κ n L) (hL : LOk n L) {s k : Nat} (hs : s + 1 < nX n L) (hk : k < n) (hsl : isSl (L k)) (hc : CSl κ n L s k) (hm : mq (mdX n L s)) (r2 : CSt → Int32 → Fr → Int32 → Option CSt) :
    ∀ (d at' m : Nat), at' + d = rkP (gpS n L s k).1 (gpS n L s k).2 (yv (L k) (mdX n L s), 0) → d < m → F_X1_slice_L54 N r2 m κ (i32 ((s + 1 : Nat) : Int)) (rf (mdX n L s)) (i32 (k : Int)) (lnOf (L k)) (i32 (at' : Int)) (i32 ((10 * (s + 1) : Nat) : Int)) = F_X1_slice_b91 N r2 κ (i32 ((s + 1 : Nat) : Int)) (rf (mdX n L s)) (i32 (k : Int)) (lnOf (L k)) (i32 ((rkP (gpS n L s k).1 (gpS n L s k).2 (yv (L k) (mdX n L s), 0) : Nat) : Int)) (i32 ((10 * (s + 1) : Nat) : Int)) := by
  have hn10 := hL.1
  have m65 := nX_65 hL
  have l := rkP_le (gpS n L s k).1 (gpS n L s k).2 (yv (L k) (mdX n L s), 0)
  have sp := rkP_e (yv (L k) (mdX n L s), 0) (gp_srt n L s k)
  have gl := gp_le n L s k
  have S : ∀ {α : Type} (f : Nat → Option α), ck (i32 ((s + 1 : Nat) : Int)) 67 f = f (s + 1) := fun f => ck_n (by omega) (by decide) f
  intro d
  induction d with
  | zero =>
    intro at' m ha hm'
    obtain ⟨m, rfl⟩ : ∃ j, m = j + 1 := ⟨m - 1, by omega⟩
    have e : at' = rkP (gpS n L s k).1 (gpS n L s k).2 (yv (L k) (mdX n L s), 0) := by omega
    rw [← e] at l sp ⊢
    unfold F_X1_slice_L54
    simp only [S, hc.1]
    rw [ite_ii (i32_le (a := (((gpS n L s k).1 : Nat) : Int)) (b := (at' : Int)) (by omega) (by omega))]
    by_cases c : (((gpS n L s k).1 : Nat) : Int) ≤ (at' : Int)
    · rw [if_pos c]
    · have ha' : at' < (gpS n L s k).1 := by omega
      obtain ⟨b1, b2, t, t1, t2, t3, t4, -⟩ := st_least (N := N) (by omega) hn10 ha'
      have r := sg_r (vlS n L s k at') (yv (L k) (mdX n L s))
      have nl : ¬ sg (vlS n L s k at') (yv (L k) (mdX n L s)) < 0 := by
        intro z
        have := (sp at' ha').mpr (by rw [(gp_v ha').1, lxc_v]; exact z)
        omega
      rw [if_neg c, i32_add, show ((10 * (s + 1) : Nat) : Int) + (at' : Int) = ((10 * (s + 1) + at' : Nat) : Int) by omega, ck_n (by omega) (by decide), hc.2 at' ha']
      unfold F_X1_compareAt
      rw [least_e h hL t2 (by omega) (spB_e.mp t3).1, Option.bind_some, cmpAt_e (hL.2 t (by omega)) (hL.2 k hk) (spB_e.mp t3).1 hsl hm, t4, Option.bind_some, Option.bind_some, i32_nn (by omega), if_pos (by omega)]
  | succ d ih =>
    intro at' m ha hm'
    obtain ⟨m, rfl⟩ : ∃ j, m = j + 1 := ⟨m - 1, by omega⟩
    have ha' : at' < (gpS n L s k).1 := by omega
    obtain ⟨b1, b2, t, t1, t2, t3, t4, -⟩ := st_least (N := N) (by omega) hn10 ha'
    have r := sg_r (vlS n L s k at') (yv (L k) (mdX n L s))
    have nl : sg (vlS n L s k at') (yv (L k) (mdX n L s)) < 0 := by
      have := (sp at' ha').mp (by omega)
      rw [(gp_v ha').1, lxc_v] at this
      exact this
    unfold F_X1_slice_L54
    simp only [S, hc.1]
    rw [ite_ii (i32_le (a := (((gpS n L s k).1 : Nat) : Int)) (b := (at' : Int)) (by omega) (by omega)), if_neg (by omega), i32_add, show ((10 * (s + 1) : Nat) : Int) + (at' : Int) = ((10 * (s + 1) + at' : Nat) : Int) by omega, ck_n (by omega) (by decide), hc.2 at' ha']
    unfold F_X1_compareAt
    rw [least_e h hL t2 (by omega) (spB_e.mp t3).1, Option.bind_some, cmpAt_e (hL.2 t (by omega)) (hL.2 k hk) (spB_e.mp t3).1 hsl hm, t4, Option.bind_some, Option.bind_some, i32_nn (by omega), if_neg (by omega), i32_s]
    exact ih (at' + 1) m (by omega) (by omega)
theorem gp_step {n : Nat} {L : Nat → Sg} {s k : Nat} (c : spB n L s k = true) : gpS n L s (k + 1) = addP (gpS n L s k) (yv (L k) (mdX n L s), 0) := if_pos c
theorem gp_skip {n : Nat} {L : Nat → Sg} {s k : Nat} (c : ¬ spB n L s k = true) : gpS n L s (k + 1) = gpS n L s k := if_neg c
theorem st_skip {n : Nat} {L : Nat → Sg} {s k g : Nat} (c : ¬ spB n L s k = true) : stS n L s (k + 1) g = stS n L s k g := by
  unfold stS vlS
  rw [gp_skip c, ms, if_neg (by simp [c])]
/-- one line more, through the slab -/
theorem sput_e {N : Nat} {κ : CSt} {n : Nat} {L : Nat → Sg} (h : CLn κ n L) (hL : LOk n L) {s k : Nat} (hs : s + 1 < nX n L) (hk : k < n) (pk : spB n L s k = true) (hc : CSl κ n L s k) (hm : mq (mdX n L s)) (r2 : CSt → Int32 → Fr → Int32 → Option CSt) :
    ∃ κ', F_X1_slice_b91 N r2 κ (i32 ((s + 1 : Nat) : Int)) (rf (mdX n L s)) (i32 (k : Int)) (lnOf (L k)) (i32 ((rkP (gpS n L s k).1 (gpS n L s k).2 (yv (L k) (mdX n L s), 0) : Nat) : Int)) (i32 ((10 * (s + 1) : Nat) : Int)) = r2 κ' (i32 ((s + 1 : Nat) : Int)) (rf (mdX n L s)) (i32 ((k + 1 : Nat) : Int)) ∧ cfr [12, 13] κ κ' ∧ (∀ j, j ≠ s + 1 → cA κ' 13 j = cA κ 13 j) ∧ (∀ j, j < 10 * (s + 1) ∨ 10 * (s + 1) + 10 ≤ j → cA κ' 12 j = cA κ 12 j) ∧ CSl κ' n L s (k + 1) := by
  have hn10 := hL.1
  have m65 := nX_65 hL
  have hsl := (spB_e.mp pk).1
  have l := rkP_le (gpS n L s k).1 (gpS n L s k).2 (yv (L k) (mdX n L s), 0)
  have sp := rkP_e (yv (L k) (mdX n L s), 0) (gp_srt n L s k)
  have gl := gp_le n L s k
  have S : ∀ {α : Type} (f : Nat → Option α), ck (i32 ((s + 1 : Nat) : Int)) 67 f = f (s + 1) := fun f => ck_n (by omega) (by decide) f
  have st := gp_step pk
  unfold addP at st
  generalize hr : rkP (gpS n L s k).1 (gpS n L s k).2 (yv (L k) (mdX n L s), 0) = r at *
  have R : ∀ {α : Type} (f : Nat → Option α), r ≤ (gpS n L s k).1 → ck (i32 ((10 * (s + 1) : Nat) : Int) + i32 (r : Int)) 670 f = f (10 * (s + 1) + r) := fun f _ => by
    rw [i32_add, show ((10 * (s + 1) : Nat) : Int) + (r : Int) = ((10 * (s + 1) + r : Nat) : Int) by omega]
    exact ck_n (by omega) (by decide) f
  have nx : i32 (k : Int) + 1 = i32 ((k + 1 : Nat) : Int) := i32_s k
  -- it is put in anew
  have ins : ¬ (r < (gpS n L s k).1 ∧ lxc ((gpS n L s k).2 r) (yv (L k) (mdX n L s), 0) = 0) → ∃ κ', F_X1_slice_b141 N r2 κ (i32 ((s + 1 : Nat) : Int)) (rf (mdX n L s)) (i32 (k : Int)) (i32 (r : Int)) (i32 ((10 * (s + 1) : Nat) : Int)) = r2 κ' (i32 ((s + 1 : Nat) : Int)) (rf (mdX n L s)) (i32 ((k + 1 : Nat) : Int)) ∧ cfr [12, 13] κ κ' ∧ (∀ j, j ≠ s + 1 → cA κ' 13 j = cA κ 13 j) ∧ (∀ j, j < 10 * (s + 1) ∨ 10 * (s + 1) + 10 ≤ j → cA κ' 12 j = cA κ 12 j) ∧ CSl κ' n L s (k + 1) := by
    intro nq
    rw [if_neg nq] at st
    have cp : cpC κ 12 670 (i32 ((10 * (s + 1) : Nat) : Int) + i32 (r : Int)) (i32 ((10 * (s + 1) : Nat) : Int) + i32 (r : Int) + 1) (cA κ 13 (s + 1) - i32 (r : Int)) = some (csR κ 12 (va_cpy (cA κ 12) (cA κ 12) (10 * (s + 1) + r) (10 * (s + 1) + r + 1) ((gpS n L s k).1 - r))) := by
      unfold cpC
      rw [hc.1, i32_add, show ((10 * (s + 1) : Nat) : Int) + (r : Int) = ((10 * (s + 1) + r : Nat) : Int) by omega, i32_s, i32_sub, show ((((gpS n L s k).1 : Nat) : Int) - (r : Int)) = (((gpS n L s k).1 - r : Nat) : Int) by omega, i32_n (by omega), i32_n (by omega), i32_n (by omega), if_neg]
      rw [show (0 : Int32) = i32 0 from rfl, i32_lt (by omega) (by omega), i32_lt (by omega) (by omega), i32_lt (by omega) (by omega)]
      omega
    have nv : ∀ i, i < k → spB n L s i = true → ¬ yv (L i) (mdX n L s) = yv (L k) (mdX n L s) := by
      intro i hi hsp e
      obtain ⟨g, g1, g2⟩ := gp_mem.mpr ⟨i, hi, hsp, rfl⟩
      rw [e] at g2
      by_cases w : g < r
      · have := (sp g g1).mp w
        rw [g2, lxc_irr] at this
        exact absurd this (by decide)
      · by_cases w2 : g = r
        · exact nq ⟨by omega, by rw [← w2, g2]; exact lxc_irr _⟩
        · have a := gp_srt n L s k r g (by omega) g1
          rw [g2] at a
          have := (sp r (by omega)).mpr a
          omega
    refine ⟨csA (csA (csR κ 12 (va_cpy (cA κ 12) (cA κ 12) (10 * (s + 1) + r) (10 * (s + 1) + r + 1) ((gpS n L s k).1 - r))) 12 (10 * (s + 1) + r) (1 <<< (i32 (k : Int) &&& 31))) 13 (s + 1) (cA κ 13 (s + 1) + 1), ?_, (((cfr.rf _ κ).R (by decide) _).A (by decide) _ _).A (by decide) _ _, fun j hj => ?_, fun j hj => ?_, ?_, fun g hg => ?_⟩
    · unfold F_X1_slice_b141 F_X1_slice_b196
      simp only [S]
      rw [cp, Option.bind_some, R _ l]
      simp only [nx]
      rfl
    · rw [cA_csA, if_pos rfl, if_neg hj]; rfl
    · rw [cA_csA, if_neg (by decide), cA_csA, if_pos rfl, if_neg (by omega), cA_csR, if_pos rfl, pk_cpy_out (by omega)]
    · rw [cA_csA, if_pos rfl, if_pos rfl, hc.1, i32_s, st]
    · have g' : g < (gpS n L s k).1 + 1 := by rw [st] at hg; exact hg
      rw [cA_csA, if_neg (by decide), cA_csA, if_pos rfl]
      have vl' : vlS n L s (k + 1) g = (insF (gpS n L s k).2 r (yv (L k) (mdX n L s), 0) g).1 := by unfold vlS; rw [st]
      unfold insF at vl'
      by_cases c1 : g < r
      · rw [if_pos c1] at vl'
        rw [if_neg (by omega), cA_csR, if_pos rfl, pk_cpy_out (by omega), hc.2 g (by omega)]
        have e : stS n L s (k + 1) g = stS n L s k g := by
          unfold stS
          rw [ms, if_neg]
          · refine ms_cong (fun i _ => ?_)
            rw [vl']; rfl
          · rw [Bool.and_eq_true, decide_eq_true_iff, vl']
            rintro ⟨-, w⟩
            have := (sp g (by omega)).mp c1
            rw [(gp_v (show g < _ by omega)).1] at this
            unfold vlS at this
            rw [← w, lxc_irr] at this
            exact absurd this (by decide)
        rw [e]
      · rw [if_neg c1] at vl'
        by_cases c2 : g = r
        · rw [if_pos c2] at vl'
          rw [c2, if_pos rfl, sh_1 (by omega), ← c2]
          congr 1
          unfold stS
          rw [ms, if_pos]
          · have : ms (fun l => spB n L s l && decide (yv (L l) (mdX n L s) = vlS n L s (k + 1) g)) k = 0 := by
              rw [ms_z]
              intro i hi
              rw [vl']
              by_cases w : spB n L s i = true
              · rw [w, decide_eq_false (nv i hi w)]; rfl
              · simp [w]
            rw [this, Nat.zero_or]
          · rw [pk, vl']; simp
        · rw [if_neg c2] at vl'
          rw [if_neg (by omega), cA_csR, if_pos rfl, pk_cpy_in (by omega) (by omega), show 10 * (s + 1) + r + (10 * (s + 1) + g - (10 * (s + 1) + r + 1)) = 10 * (s + 1) + (g - 1) by omega, hc.2 (g - 1) (by omega)]
          have e : stS n L s (k + 1) g = stS n L s k (g - 1) := by
            unfold stS
            rw [ms, if_neg]
            · refine ms_cong (fun i _ => ?_)
              rw [vl']; rfl
            · rw [Bool.and_eq_true, decide_eq_true_iff, vl']
              rintro ⟨-, w⟩
              obtain ⟨i, i1, i2, i3⟩ := (gp_v (show g - 1 < (gpS n L s k).1 by omega)).2
              exact nv i i1 i2 (by rw [i3, w]; rfl)
          rw [e]
  unfold F_X1_slice_b91
  simp only [S, hc.1]
  rw [ite_ii (i32_le (a := (((gpS n L s k).1 : Nat) : Int)) (b := (r : Int)) (by omega) (by omega))]
  by_cases c : (((gpS n L s k).1 : Nat) : Int) ≤ (r : Int)
  · rw [if_pos c]
    exact ins (fun w => by omega)
  · have hr' : r < (gpS n L s k).1 := by omega
    obtain ⟨b1, b2, t, t1, t2, t3, t4, -⟩ := st_least (N := N) (by omega) hn10 hr'
    have rg := sg_r (vlS n L s k r) (yv (L k) (mdX n L s))
    rw [if_neg c]
    simp only [R _ l, hc.2 r hr']
    unfold F_X1_compareAt
    rw [least_e h hL t2 (by omega) (spB_e.mp t3).1, Option.bind_some, cmpAt_e (hL.2 t (by omega)) (hL.2 k hk) (spB_e.mp t3).1 hsl hm, t4, Option.bind_some, Option.bind_some, i32_0 (by omega)]
    have lx : lxc ((gpS n L s k).2 r) (yv (L k) (mdX n L s), 0) = sg (vlS n L s k r) (yv (L k) (mdX n L s)) := by rw [(gp_v hr').1, lxc_v]
    by_cases c2 : sg (vlS n L s k r) (yv (L k) (mdX n L s)) = 0
    · rw [if_pos c2]
      rw [if_pos ⟨hr', by rw [lx]; exact c2⟩] at st
      have ve : vlS n L s k r = yv (L k) (mdX n L s) := sg_eq.mp c2
      have vl' : ∀ g, vlS n L s (k + 1) g = vlS n L s k g := fun g => by unfold vlS; rw [st]
      refine ⟨csA κ 12 (10 * (s + 1) + r) (nI (stS n L s k r) ||| (1 <<< (i32 (k : Int) &&& 31))), ?_, (cfr.rf _ κ).A (by decide) _ _, fun j hj => ?_, fun j hj => ?_, ?_, fun g hg => ?_⟩
      · unfold F_X1_slice_b196
        rw [nx]
      · rw [cA_csA, if_neg (by decide)]
      · rw [cA_csA, if_pos rfl, if_neg (by omega)]
      · rw [cA_csA, if_neg (by decide), hc.1, st]
      · have g' : g < (gpS n L s k).1 := by rw [st] at hg; exact hg
        rw [cA_csA, if_pos rfl]
        by_cases e : g = r
        · rw [e, if_pos rfl]
          have := ms_step (f := fun l => spB n L s l && decide (yv (L l) (mdX n L s) = vlS n L s k r)) (show k < 31 by omega)
          unfold stS
          rw [this, vl' r, ms, if_pos]
          rw [pk, ve]; simp
        · rw [if_neg (by omega), hc.2 g g']
          congr 1
          unfold stS
          rw [vl' g, ms, if_neg]
          rw [Bool.and_eq_true, decide_eq_true_iff]
          rintro ⟨-, w⟩
          exact e (vl_inj g' hr' (by rw [← w, ve]))
    · rw [if_neg c2]
      exact ins (fun w => c2 (by rw [← lx]; exact w.2))
theorem slice_e {N : Nat} (hN : 100 ≤ N) {n : Nat} {L : Nat → Sg} (hL : LOk n L) {s : Nat} (hs : s + 1 < nX n L) (hm : mq (mdX n L s)) :
    ∀ (d k m : Nat) (κ : CSt), k + d = n → d < m → CLn κ n L → CSl κ n L s k → ∃ κ', F_X1_slice_L2 N m κ (i32 ((s + 1 : Nat) : Int)) (rf (mdX n L s)) (i32 (k : Int)) = some κ' ∧ cfr [12, 13] κ κ' ∧ (∀ j, j ≠ s + 1 → cA κ' 13 j = cA κ 13 j) ∧ (∀ j, j < 10 * (s + 1) ∨ 10 * (s + 1) + 10 ≤ j → cA κ' 12 j = cA κ 12 j) ∧ CSl κ' n L s n := by
  have hn10 := hL.1
  have m65 := nX_65 hL
  intro d
  induction d with
  | zero =>
    intro k m κ hk hm' h hc
    obtain ⟨m, rfl⟩ : ∃ j, m = j + 1 := ⟨m - 1, by omega⟩
    have e : k = n := by omega
    subst e
    refine ⟨κ, ?_, cfr.rf _ _, fun _ _ => rfl, fun _ _ => rfl, hc⟩
    unfold F_X1_slice_L2
    rw [h.1, if_pos ((i32_le (by omega) (by omega)).mpr (Int.le_refl _))]
  | succ d ih =>
    intro k m κ hk hm' h hc
    obtain ⟨m, rfl⟩ : ∃ j, m = j + 1 := ⟨m - 1, by omega⟩
    have hk' : k < n := by omega
    have A : ∀ {α : Type} (f : Nat → Option α), ck (i32 (k : Int)) 10 f = f k := fun f => ck_n (by omega) (by decide) f
    obtain ⟨t, e1⟩ := h.2 k hk'
    have sm := spB_m hL hs hk'
    have kd := kd_sl (hL.2 k hk')
    have e0 : F_X1_slice_L2 N (m + 1) κ (i32 ((s + 1 : Nat) : Int)) (rf (mdX n L s)) (i32 (k : Int)) = if spB n L s k = true then F_X1_slice_L54 N (F_X1_slice_L2 N m) N κ (i32 ((s + 1 : Nat) : Int)) (rf (mdX n L s)) (i32 (k : Int)) (lnOf (L k)) (i32 ((0 : Nat) : Int)) (i32 ((10 * (s + 1) : Nat) : Int)) else F_X1_slice_L2 N m κ (i32 ((s + 1 : Nat) : Int)) (rf (mdX n L s)) (i32 ((k + 1 : Nat) : Int)) := by
      rw [F_X1_slice_L2, h.1, if_neg (fun z => by have := (i32_le (by omega) (by omega)).mp z; omega)]
      unfold F_X1_slice_b196
      simp only [A, e1, nn, spans_e (hL.2 k hk') hm, Option.bind_some, bi_0, i32_s]
      rw [show (10 : Int32) * i32 ((s + 1 : Nat) : Int) = i32 ((10 * (s + 1) : Nat) : Int) by rw [show (10 : Int32) = i32 10 from rfl, i32_mul]; congr 1, sm]
      by_cases c : isSl (L k)
      · rw [if_neg (fun z => kd.mp z c), show slB (L k) = true from decide_eq_true c, Bool.true_and]
        rfl
      · rw [if_pos (kd.mpr c), show slB (L k) = false from decide_eq_false c, Bool.false_and, if_neg (by decide)]
    rw [e0]
    by_cases c : spB n L s k = true
    · rw [if_pos c]
      have f := sfind_e (N := N) h hL hs hk' (spB_e.mp c).1 hc hm (F_X1_slice_L2 N m) _ 0 N (Nat.zero_add _) (by have := rkP_le (gpS n L s k).1 (gpS n L s k).2 (yv (L k) (mdX n L s), 0); have := gp_le n L s k; omega)
      rw [f]
      obtain ⟨κ1, q1, q2, q3, q4, q5⟩ := sput_e (N := N) h hL hs hk' c hc hm (F_X1_slice_L2 N m)
      obtain ⟨κ2, u1, u2, u3, u4, u5⟩ := ih (k + 1) m κ1 (by omega) (by omega) (h.fr q2 (by decide)) q5
      exact ⟨κ2, q1.trans u1, q2.tr u2, fun j hj => (u3 j hj).trans (q3 j hj), fun j hj => (u4 j hj).trans (q4 j hj), u5⟩
    · rw [if_neg c]
      exact ih (k + 1) m κ (by omega) (by omega) h ⟨by rw [gp_skip c]; exact hc.1, fun g hg => by rw [gp_skip c] at hg; rw [st_skip c]; exact hc.2 g hg⟩
