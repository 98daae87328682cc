/-! BORDERS, the model: uprights beside a cell at one of its sides -/
set_option maxRecDepth 100000
/-- an upright at x that has more than a place between lo and hi -/
def upM (L : Nat → Sg) (x lo hi : Rat) (l : Nat) : Bool := (!slB (L l) && decide (((L l).1 : Rat) = x)) && decide ((if ((L l).2.1 : Rat) ≤ lo then lo else ((L l).2.1 : Rat)) < (if hi ≤ ((L l).2.2.2 : Rat) then hi else ((L l).2.2.2 : Rat)))
section MB
variable {N n : Nat} {L : Nat → Sg} {μ : MSt}
theorem hasMore_e (h : MLn μ n L) (hL : LOk n L) {lo hi : Rat} (hf : MFT μ lo hi) {l : Nat} (hl : l < n) : F_hasMore N μ (i32 (l : Int)) = some (bi (decide ((if ((L l).2.1 : Rat) ≤ lo then lo else ((L l).2.1 : Rat)) < (if hi ≤ ((L l).2.2.2 : Rat) then hi else ((L l).2.2.2 : Rat))))) := by
  have hn10 := hL.1
  have A : ∀ {α : Type} (f : Nat → Option α), ck (i32 (l : Int)) 10 f = f l := fun f => ck_n (by omega) (by decide) f
  obtain ⟨p1, p2, p3, p4⟩ := h.2 l hl
  have hs := hL.2 l hl
  obtain ⟨a, b, c, d, e1, e2, e3, e4, f1, f2⟩ := hf
  have b2 := hs.2.1
  have b4 := hs.2.2.2.1
  have i2 : frB (L l).2.1 1 ((L l).2.1 : Rat) := fr_i (bn_of (by omega))
  have i4 : frB (L l).2.2.2 1 ((L l).2.2.2 : Rat) := fr_i (bn_of (by omega))
  have fin : ∀ {A B C D : Int} {p q : Rat}, frB A B p → frB C D q → F_hasMore_b116 N μ (i64 A) (i64 B) (i64 C) (i64 D) = some (bi (decide (p < q))) := by
    intro A B C D p q h1 h2
    have r := sg_r p q
    unfold F_hasMore_b116
    rw [ag_fr h1 h2, Option.bind_some, i32_nn (by omega)]
    unfold bi
    by_cases w : p < q
    · rw [if_neg (Int.not_le.mpr (sg_lt.mpr w)), decide_eq_true w]; rfl
    · rw [if_pos (Int.not_lt.mp fun z => w (sg_lt.mp z)), decide_eq_false w]; rfl
  have r1 := sg_r ((L l).2.1 : Rat) lo
  have r2 := sg_r ((L l).2.2.2 : Rat) hi
  have g1 := ag_fr (N := N) i2 f1
  have g2 := ag_fr (N := N) i4 f2
  have o1 : (1 : Int64) = i64 1 := by decide
  unfold F_hasMore F_hasMore_b27 F_hasMore_b55 F_hasMore_b74 F_hasMore_b86 F_hasMore_b104
  simp only [o1, A, p2, p4, i32_to64 (a := (L l).2.1) (by omega), i32_to64 (a := (L l).2.2.2) (by omega), e1, e2, e3, e4, g1, g2, Option.bind_some, if_true, show ((1 : Int32) = 0) = False from eq_false (by decide), if_false]
  rw [show (0 : Int32) = i32 0 from rfl]
  have q1 : sg ((L l).2.1 : Rat) lo ≤ 0 ↔ ((L l).2.1 : Rat) ≤ lo := by
    have := @sg_gt ((L l).2.1 : Rat) lo
    constructor
    · intro w; exact Rat.not_lt.mp fun z => by have := this.mpr z; omega
    · intro w
      refine Int.not_lt.mp fun z => ?_
      have := this.mp z
      grind
  have q2 : 0 ≤ sg ((L l).2.2.2 : Rat) hi ↔ hi ≤ ((L l).2.2.2 : Rat) := by
    have := @sg_lt ((L l).2.2.2 : Rat) hi
    constructor
    · intro w; exact Rat.not_lt.mp fun z => by have := this.mpr z; omega
    · intro w
      refine Int.not_lt.mp fun z => ?_
      have := this.mp z
      grind
  have q1 := (i32_le (a := sg ((L l).2.1 : Rat) lo) (b := 0) (by omega) (by omega)).trans q1
  have q2 := (i32_le (a := 0) (b := sg ((L l).2.2.2 : Rat) hi) (by omega) (by omega)).trans q2
  by_cases w1 : ((L l).2.1 : Rat) ≤ lo
  · rw [if_pos (q1.mpr w1), if_pos w1]
    by_cases w2 : hi ≤ ((L l).2.2.2 : Rat)
    · rw [if_pos (q2.mpr w2), if_pos w2]; exact fin f1 f2
    · rw [if_neg (fun z => w2 (q2.mp z)), if_neg w2]; exact fin f1 i4
  · rw [if_neg (fun z => w1 (q1.mp z)), if_neg w1]
    by_cases w2 : hi ≤ ((L l).2.2.2 : Rat)
    · rw [if_pos (q2.mpr w2), if_pos w2]; exact fin i2 f2
    · rw [if_neg (fun z => w2 (q2.mp z)), if_neg w2]; exact fin i2 i4
/-- the uprights beside a cell at x of place t -/
def bdM (n : Nat) (L : Nat → Sg) (t S g : Nat) : Nat := ms (upM L (xX n L t) (nwL (-100000) (loY n L S g (xX n L t))) (nwH 100000 (hiY n L S g (xX n L t)))) n
theorem bordersAt_e (hN : 2000 ≤ N) (hL : LOk n L) (h : MLn μ n L) (hx : MXs μ n L) (hc : MCS μ n L (nX n L + 1)) {t S g : Nat} (ht : t < nX n L) (hS : S ≤ nX n L) (hg : g ≤ nGr n L S) : ∃ μ', F_bordersAt N μ (i32 ((fcN n L S + g : Nat) : Int)) (i32 ((t + 1 : Nat) : Int)) = some (nI (bdM n L t S g), μ') ∧ mfr ksF μ μ' := by
  have hn10 := hL.1
  have m65 := nX_65 hL
  have fx := xX_fb hL ht
  obtain ⟨μ1, a1, a2, a3⟩ := wide_e N μ
  have hx1 : gL μ1 25 (t + 1) = i64 (xX n L t).num ∧ gL μ1 26 (t + 1) = i64 ((xX n L t).den : Int) := by
    rw [a2.gL 25 (by decide), a2.gL 26 (by decide)]; exact hx.2 t ht
  obtain ⟨μ2, b1, b2, b3⟩ := narrow_e (N := N) (h.fr a2 (by decide)) hL (hc.fr a2 (by decide)) a3 fx hS hg
  have f2 := a2.tr b2
  have h2 := h.fr f2 (by decide)
  have hx2 : gL μ2 25 (t + 1) = i64 (xX n L t).num ∧ gL μ2 26 (t + 1) = i64 ((xX n L t).den : Int) := by
    rw [f2.gL 25 (by decide), f2.gL 26 (by decide)]; exact hx.2 t ht
  have main : ∀ (d l m : Nat), l + d = n → d < m → F_bordersAt_L26 N m μ2 (i32 ((t + 1 : Nat) : Int)) (nI (ms (upM L (xX n L t) (nwL (-100000) (loY n L S g (xX n L t))) (nwH 100000 (hiY n L S g (xX n L t)))) l)) (i32 (l : Int)) = some (nI (bdM n L t S g), μ2) := by
    intro d
    induction d with
    | zero =>
      intro l m hl hm
      obtain ⟨m, rfl⟩ : ∃ j, m = j + 1 := ⟨m - 1, by omega⟩
      have e : l = n := by omega
      subst e
      unfold F_bordersAt_L26
      rw [h2.1, if_pos ((i32_le (by omega) (by omega)).mpr (Int.le_refl _))]
      rfl
    | succ d ih =>
      intro l m hl hm
      obtain ⟨m, rfl⟩ : ∃ j, m = j + 1 := ⟨m - 1, by omega⟩
      have i := ih (l + 1) m (by omega) (by omega)
      have ms1 : ∀ f : Nat → Bool, ms f (l + 1) = if f l = true then ms f l ||| 2 ^ l else ms f l := fun f => rfl
      rw [ms1] at i
      unfold F_bordersAt_L26
      rw [h2.1, if_neg (fun z => by have := (i32_le (by omega) (by omega)).mp z; omega), ck_n (by omega) (by decide), ck_n (by omega) (by decide), hx2.1, hx2.2, upAt_e h2 hL (show l < n by omega) fx, Option.bind_some, bi_0, hasMore_e h2 hL b3 (show l < n by omega)]
      unfold F_bordersAt_b72
      simp only [Option.bind_some, bi_0, i32_s, ms_step (f := upM L (xX n L t) (nwL (-100000) (loY n L S g (xX n L t))) (nwH 100000 (hiY n L S g (xX n L t)))) (show l < 31 by omega)]
      by_cases w1 : (!slB (L l) && decide (((L l).1 : Rat) = xX n L t)) = true
      · rw [if_pos w1]
        by_cases w2 : decide ((if ((L l).2.1 : Rat) ≤ nwL (-100000) (loY n L S g (xX n L t)) then nwL (-100000) (loY n L S g (xX n L t)) else ((L l).2.1 : Rat)) < (if nwH 100000 (hiY n L S g (xX n L t)) ≤ ((L l).2.2.2 : Rat) then nwH 100000 (hiY n L S g (xX n L t)) else ((L l).2.2.2 : Rat))) = true
        · rw [if_pos w2]
          have : upM L (xX n L t) (nwL (-100000) (loY n L S g (xX n L t))) (nwH 100000 (hiY n L S g (xX n L t))) l = true := by unfold upM; rw [w1, w2]; rfl
          rw [if_pos this] at i
          exact i
        · rw [if_neg w2]
          have : ¬ upM L (xX n L t) (nwL (-100000) (loY n L S g (xX n L t))) (nwH 100000 (hiY n L S g (xX n L t))) l = true := by
            unfold upM; rw [w1, Bool.true_and]; exact w2
          rw [if_neg this] at i
          exact i
      · rw [if_neg w1]
        have : ¬ upM L (xX n L t) (nwL (-100000) (loY n L S g (xX n L t))) (nwH 100000 (hiY n L S g (xX n L t))) l = true := by
          unfold upM; rw [Bool.and_eq_true]; exact fun z => w1 z.1
        rw [if_neg this] at i
        exact i
  refine ⟨μ2, ?_, f2⟩
  unfold F_bordersAt
  rw [a1, Option.bind_some, ck_n (by omega) (by decide), ck_n (by omega) (by decide), hx1.1, hx1.2, b1, Option.bind_some]
  exact main n 0 N (by omega) (by omega)
end MB
