/-! THE MODEL: what two cells have in common at an x; whether it is open -/
set_option maxRecDepth 100000
def frB (A B : Int) (q : Rat) : Prop := 0 < B ∧ B ≤ 160000 ∧ bn A 24000000 ∧ (A : Rat) / (B : Rat) = q
def MFT (σ : MSt) (lo hi : Rat) : Prop := ∃ A B C D : Int, gJ σ 33 = i64 A ∧ gJ σ 34 = i64 B ∧ gJ σ 35 = i64 C ∧ gJ σ 36 = i64 D ∧ frB A B lo ∧ frB C D hi
theorem ag_fr {N : Nat} {A B C D : Int} {p q : Rat} (h : frB A B p) (h' : frB C D q) : F_against N (i64 A) (i64 B) (i64 C) (i64 D) = some (i32 (sg p q)) := by
  obtain ⟨b1, b2, b3, b4⟩ := h
  obtain ⟨d1, d2, d3, d4⟩ := h'
  have bB : bn B 160000 := bn_of (by omega)
  have bD : bn D 160000 := bn_of (by omega)
  rw [against_e (bn_le (bn_mul b3 bD) (by decide)) (bn_le (bn_mul d3 bB) (by decide)), sgi_q b1 d1, b4, d4]
theorem fr_i {z : Int} (h : bn z 24000000) : frB z 1 (z : Rat) := ⟨by decide, by decide, h, by rw [← Rat.divInt_eq_div, divI_1]⟩
theorem fr_y {n : Nat} {L : Nat → Sg} (hL : LOk n L) {l : Nat} (hl : l < n) (sl : isSl (L l)) {x : Rat} (hx : fb x 256000 4000) : frB (Ab (L l) x.num (x.den : Int)) (((L l).2.2.1 - (L l).1) * (x.den : Int)) (yv (L l) x) := by
  have xp : 0 < (x.den : Int) := by have := x.den_pos; omega
  have xd : bn (x.den : Int) 4000 := by have := hx.2; unfold bn; omega
  have b1 := Ab_bd (hL.2 l hl) hx.1 xd
  have d1 : bn ((L l).2.2.1 - (L l).1) 40 := bn_of (by have := (hL.2 l hl).1; have := (hL.2 l hl).2.2.1; omega)
  have b2 := bn_mul d1 xd
  have q := Ab_q sl (X := x.num) xp
  rw [rat_q] at q
  exact ⟨Int.mul_pos (by unfold isSl at sl; omega) xp, by unfold bn at b2; omega, bn_le b1 (by decide), q⟩
abbrev ksF : List Nat := [33, 34, 35, 36]
theorem wide_e (N : Nat) (σ : MSt) : ∃ σ', F_wide N σ = some σ' ∧ mfr ksF σ σ' ∧ MFT σ' (-100000) 100000 := by
  refine ⟨_, rfl, ((((mfr.rf _ σ).J (by decide) _).J (by decide) _).J (by decide) _).J (by decide) _, -100000, 1, 100000, 1, by simp [gJ_sJ]; rfl, by simp [gJ_sJ]; rfl, by simp [gJ_sJ]; rfl, by simp [gJ_sJ]; rfl, ?_, ?_⟩
  · exact fr_i (z := -100000) (bn_of (by omega))
  · exact fr_i (z := 100000) (bn_of (by omega))
def nwL (lo : Rat) (o : Option Rat) : Rat := match o with
  | none => lo
  | some v => if lo < v then v else lo
def nwH (hi : Rat) (o : Option Rat) : Rat := match o with
  | none => hi
  | some v => if v < hi then v else hi
theorem leastOf_e {n : Nat} {L : Nat → Sg} (hL : LOk n L) (N : Nat) {S g : Nat} : (g < nGr n L S → F_leastOf N (nI (stG n L S g)) = some (i32 ((lea n L S g : Nat) : Int))) ∧ F_leastOf N (nI 0) = some (i32 (-1)) := by
  constructor
  · intro hg
    obtain ⟨b1, b2, -, b4, -⟩ := lea_e hL hg N
    unfold F_leastOf
    rw [nI_z0 (by omega), if_neg b2, b4]
    rfl
  · unfold F_leastOf
    rw [if_pos (show nI 0 = 0 from rfl)]; rfl
section NARROW
variable {N n : Nat} {L : Nat → Sg} {σ : MSt}
theorem narrowH_e (h : MLn σ n L) (hL : LOk n L) {lo hi : Rat} (hf : MFT σ lo hi) {x : Rat} (hx : fb x 256000 4000) {S g : Nat} (hg : g < nGr n L S) : ∃ σ', F_narrow_b84 N σ (i64 x.num) (i64 (x.den : Int)) (i32 ((lea n L S g : Nat) : Int)) = some σ' ∧ mfr ksF σ σ' ∧ MFT σ' lo (nwH hi (some (vY n L S g x))) := by
  have hn10 := hL.1
  obtain ⟨-, -, a3, -, a5, -⟩ := lea_e hL hg N
  have sl := (spB_e.mp a5).1
  have fy := fr_y hL a3 sl hx
  obtain ⟨A, B, C, D, e1, e2, e3, e4, f1, f2⟩ := hf
  obtain ⟨y1, y2⟩ := yAb_e (N := N) h hL a3 x.num (x.den : Int)
  have r := sg_r (yv (L (lea n L S g)) x) hi
  have lt := @sg_lt (yv (L (lea n L S g)) x) hi
  have h1 : MLn (sJ σ 35 (i64 (Ab (L (lea n L S g)) x.num (x.den : Int)))) n L := h.fr (ks := [35]) ((mfr.rf _ σ).J (by decide) _) (by decide)
  obtain ⟨-, y3⟩ := yAb_e (N := N) h1 hL a3 x.num (x.den : Int)
  unfold F_narrow_b84
  rw [if_neg (fun z => by rw [show (-1 : Int32) = i32 (-1) from rfl, i32_eq (by omega) (by omega)] at z; omega), y1, Option.bind_some, y2, Option.bind_some, e3, e4, ag_fr fy f2, Option.bind_some, i32_nn (by omega)]
  unfold nwH vY
  by_cases c : yv (L (lea n L S g)) x < hi
  · rw [if_neg (by have := lt.mpr c; omega), Option.bind_some]
    simp only [if_pos c]
    rw [y3, Option.bind_some]
    exact ⟨_, rfl, ((mfr.rf _ σ).J (by decide) _).J (by decide) _, A, B, _, _, by simp [gJ_sJ, e1], by simp [gJ_sJ, e2], by simp [gJ_sJ], by simp [gJ_sJ], f1, fy⟩
  · rw [if_pos (by have : ¬ sg (yv (L (lea n L S g)) x) hi < 0 := fun w => c (lt.mp w); omega)]
    simp only [if_neg c]
    exact ⟨σ, rfl, mfr.rf _ _, A, B, C, D, e1, e2, e3, e4, f1, f2⟩
/-- what a cell leaves of it -/
theorem narrow_e (h : MLn σ n L) (hL : LOk n L) (hc : MCS σ n L (nX n L + 1)) {lo hi : Rat} (hf : MFT σ lo hi) {x : Rat} (hx : fb x 256000 4000) {S g : Nat} (hS : S ≤ nX n L) (hg : g ≤ nGr n L S) : ∃ σ', F_narrow N σ (i32 ((fcN n L S + g : Nat) : Int)) (i64 x.num) (i64 (x.den : Int)) = some σ' ∧ mfr ksF σ σ' ∧ MFT σ' (nwL lo (loY n L S g x)) (nwH hi (hiY n L S g x)) := by
  have hn10 := hL.1
  have m65 := nX_65 hL
  have fl := fcN_le hn10 L S
  have gl := nGr_le n L S
  have A : ∀ {α : Type} (f : Nat → Option α), ck (i32 ((fcN n L S + g : Nat) : Int)) 900 f = f (fcN n L S + g) := fun f => ck_n (by omega) (by decide) f
  obtain ⟨-, c1, c2⟩ := hc.2.2 S (by omega) g hg
  -- the upper side, whatever the lower
  have up : ∀ (σ1 : MSt) (lo1 : Rat), mfr ksF σ σ1 → MFT σ1 lo1 hi → ∃ σ', (F_leastOf N (nI (hiS n L S g))).bind (fun w17 => F_narrow_b84 N σ1 (i64 x.num) (i64 (x.den : Int)) w17) = some σ' ∧ mfr ksF σ σ' ∧ MFT σ' lo1 (nwH hi (hiY n L S g x)) := by
    intro σ1 lo1 f1 m1
    by_cases c : g < nGr n L S
    · have e1 : hiS n L S g = stG n L S g := if_pos c
      have e2 : hiY n L S g x = some (vY n L S g x) := if_pos c
      rw [e1, e2, (leastOf_e hL N).1 c, Option.bind_some]
      obtain ⟨σ', q1, q2, q3⟩ := narrowH_e (N := N) (h.fr f1 (by decide)) hL m1 hx c
      exact ⟨σ', q1, f1.tr q2, q3⟩
    · have e1 : hiS n L S g = 0 := if_neg c
      have e2 : hiY n L S g x = none := if_neg c
      rw [e1, e2, (leastOf_e hL N (S := 0) (g := 0)).2, Option.bind_some]
      refine ⟨σ1, ?_, f1, m1⟩
      unfold F_narrow_b84
      rw [if_pos (show i32 (-1) = -1 from rfl)]
  unfold F_narrow
  simp only [A, c1, c2]
  have hiL : ∃ w17, F_leastOf N (nI (hiS n L S g)) = some w17 := by
    by_cases c : g < nGr n L S
    · rw [show hiS n L S g = stG n L S g from if_pos c]; exact ⟨_, (leastOf_e hL N).1 c⟩
    · rw [show hiS n L S g = 0 from if_neg c]; exact ⟨_, (leastOf_e hL N (S := 0) (g := 0)).2⟩
  obtain ⟨w17, hw⟩ := hiL
  rw [hw] at up ⊢
  simp only [Option.bind_some] at up ⊢
  by_cases c : g = 0
  · have e1 : loS n L S g = 0 := if_pos c
    have e2 : loY n L S g x = none := if_pos c
    rw [e1, e2, (leastOf_e hL N (S := 0) (g := 0)).2, Option.bind_some, if_pos (show i32 (-1) = -1 from rfl)]
    exact up σ lo (mfr.rf _ _) hf
  · have e1 : loS n L S g = stG n L S (g - 1) := if_neg c
    have e2 : loY n L S g x = some (vY n L S (g - 1) x) := if_neg c
    have hg1 : g - 1 < nGr n L S := by omega
    obtain ⟨-, -, a3, -, a5, -⟩ := lea_e hL hg1 N
    have sl := (spB_e.mp a5).1
    have fy := fr_y hL a3 sl hx
    obtain ⟨A', B', C', D', q1, q2, q3, q4, f1, f2⟩ := hf
    obtain ⟨y1, y2⟩ := yAb_e (N := N) h hL a3 x.num (x.den : Int)
    have r := sg_r (yv (L (lea n L S (g - 1))) x) lo
    have gt := @sg_gt (yv (L (lea n L S (g - 1))) x) lo
    have h1 : MLn (sJ σ 33 (i64 (Ab (L (lea n L S (g - 1))) x.num (x.den : Int)))) n L := h.fr (ks := [33]) ((mfr.rf _ σ).J (by decide) _) (by decide)
    obtain ⟨-, y3⟩ := yAb_e (N := N) h1 hL a3 x.num (x.den : Int)
    rw [e1, e2, (leastOf_e hL N).1 hg1, Option.bind_some, if_neg (fun z => by rw [show (-1 : Int32) = i32 (-1) from rfl, i32_eq (by omega) (by omega)] at z; omega), y1, Option.bind_some, y2, Option.bind_some, q1, q2, ag_fr fy f1, Option.bind_some, show (0 : Int32) = i32 0 from rfl, ite_ii (i32_le (a := sg (yv (L (lea n L S (g - 1))) x) lo) (b := 0) (by omega) (by omega))]
    by_cases d : lo < yv (L (lea n L S (g - 1))) x
    · have e3 : nwL lo (some (vY n L S (g - 1) x)) = yv (L (lea n L S (g - 1))) x := by unfold nwL vY; simp only [if_pos d]
      rw [if_neg (by have := gt.mpr d; omega), Option.bind_some, e3, y3, Option.bind_some]
      exact up _ _ (((mfr.rf _ σ).J (by decide) _).J (by decide) _) ⟨_, _, C', D', by simp [gJ_sJ], by simp [gJ_sJ], by simp [gJ_sJ, q3], by simp [gJ_sJ, q4], fy, f2⟩
    · have e3 : nwL lo (some (vY n L S (g - 1) x)) = lo := by unfold nwL vY; simp only [if_neg d]
      rw [if_pos (by have : ¬ 0 < sg (yv (L (lea n L S (g - 1))) x) lo := fun w => d (gt.mp w); omega), e3]
      exact up σ lo (mfr.rf _ _) ⟨A', B', C', D', q1, q2, q3, q4, f1, f2⟩
theorem more_e {lo hi : Rat} (hf : MFT σ lo hi) : F_isMoreThanOne N σ = some (bi (decide (lo < hi))) := by
  obtain ⟨A, B, C, D, e1, e2, e3, e4, f1, f2⟩ := hf
  have r := sg_r lo hi
  have lt := @sg_lt lo hi
  unfold F_isMoreThanOne
  rw [e1, e2, e3, e4, ag_fr f1 f2, Option.bind_some, i32_nn (by omega)]
  unfold bi
  by_cases c : lo < hi
  · rw [if_neg (by have := lt.mpr c; omega), decide_eq_true c]; rfl
  · rw [if_pos (by have : ¬ sg lo hi < 0 := fun w => c (lt.mp w); omega), decide_eq_false c]; rfl
theorem upAt_e (h : MLn σ n L) (hL : LOk n L) {l : Nat} (hl : l < n) {x : Rat} (hx : fb x 256000 4000) : F_isUprightAt N σ (i32 (l : Int)) (i64 x.num) (i64 (x.den : Int)) = some (bi (!slB (L l) && decide (((L l).1 : Rat) = x))) := by
  have A : ∀ {α : Type} (f : Nat → Option α), ck (i32 (l : Int)) 10 f = f l := fun f => ck_n (by have := hL.1; omega) (by decide) f
  obtain ⟨p1, -, -, -⟩ := h.2 l hl
  have h1 := (hL.2 l hl).1
  have xd : bn (x.den : Int) 4000 := by have := hx.2; unfold bn; omega
  have xp : 0 < (x.den : Int) := by have := x.den_pos; omega
  have r1 := bn_64 (bn_mul (show bn (L l).1 40 from bn_of (by omega)) xd) (by decide)
  have r2 := bn_64 hx.1 (by decide)
  have eq : (L l).1 * (x.den : Int) = x.num ↔ ((L l).1 : Rat) = x := by
    have d := @le_x x (L l).1
    constructor
    · intro w
      refine Rat.le_antisymm (Classical.byContradiction fun z => ?_) (d.2.mp (by omega))
      have := d.1.mpr z
      omega
    · intro w
      have a := d.2.mpr (by rw [w]; exact Rat.le_refl)
      have b : ¬ x.num < (L l).1 * (x.den : Int) := fun z => d.1.mp z (by rw [w]; exact Rat.le_refl)
      omega
  unfold F_isUprightAt
  rw [isUp_e h hL hl, Option.bind_some, bi_0]
  simp only [A, p1]
  rw [i32_to64 (by omega), i64_mul, ite_ii (i64_eq r1 r2), ite_ii eq]
  unfold bi
  cases slB (L l)
  · by_cases c : ((L l).1 : Rat) = x
    · simp [c]
    · simp [c]
  · simp
/-- whether from lo to hi there is a place with no upright upwards from it -/
def opnR (n : Nat) (L : Nat → Sg) (x lo hi : Rat) : Prop := ∃ y, lo ≤ y ∧ y < hi ∧ ∀ l, l < n → upA L x l → ¬ (((L l).2.1 : Rat) ≤ y ∧ y < ((L l).2.2.2 : Rat))
theorem mpass_e (h : MLn σ n L) (hL : LOk n L) {x : Rat} (hx : fb x 256000 4000) (r15 : Int64 → Int64 → Int64 → Int64 → Int32 → Option Int32) :
    ∀ (d k m : Nat) (A B : Int) (now : Rat) (fl : Bool), k + d = n → d < m → frB A B now → ∃ A' B' now' fl', F_isOpen_L26 N σ r15 m (i64 x.num) (i64 (x.den : Int)) (i64 A) (i64 B) (bi fl) (i32 (k : Int)) = r15 (i64 x.num) (i64 (x.den : Int)) (i64 A') (i64 B') (bi fl') ∧ frB A' B' now' ∧ now ≤ now' ∧ (∀ y, now ≤ y → y < now' → ∃ l, l < n ∧ upA L x l ∧ ((L l).2.1 : Rat) ≤ y ∧ y < ((L l).2.2.2 : Rat)) ∧ (now' = now ∨ ∃ l, l < n ∧ upA L x l ∧ now' = ((L l).2.2.2 : Rat) ∧ now < now') ∧ (fl' = false → fl = false ∧ now' = now ∧ ∀ l, k ≤ l → l < n → upA L x l → ¬ (((L l).2.1 : Rat) ≤ now ∧ now < ((L l).2.2.2 : Rat))) ∧ (fl' = true → fl = true ∨ now < now') := by
  have hn10 := hL.1
  intro d
  induction d with
  | zero =>
    intro k m A B now fl hk hm hf
    obtain ⟨m, rfl⟩ : ∃ j, m = j + 1 := ⟨m - 1, by omega⟩
    have e : k = n := by omega
    subst e
    refine ⟨A, B, now, fl, ?_, hf, Rat.le_refl, fun y h1 h2 => absurd h2 (Rat.not_lt.mpr h1), Or.inl rfl, fun e => ⟨e, rfl, fun l h1 h2 => by omega⟩, Or.inl⟩
    unfold F_isOpen_L26
    rw [h.1, if_pos ((i32_le (by omega) (by omega)).mpr (Int.le_refl _))]
  | succ d ih =>
    intro k m A B now fl hk hm hf
    obtain ⟨m, rfl⟩ : ∃ j, m = j + 1 := ⟨m - 1, by omega⟩
    have hk' : k < n := by omega
    have K : ∀ {α : Type} (f : Nat → Option α), ck (i32 (k : Int)) 10 f = f k := fun f => ck_n (by omega) (by decide) f
    obtain ⟨-, p2, -, p4⟩ := h.2 k hk'
    obtain ⟨s1, s2, s3, s4, -⟩ := hL.2 k hk'
    have f2 : frB (L k).2.1 1 ((L k).2.1 : Rat) := fr_i (bn_of (by omega))
    have f4 : frB (L k).2.2.2 1 ((L k).2.2.2 : Rat) := fr_i (bn_of (by omega))
    have r2 := sg_r ((L k).2.1 : Rat) now
    have r4 := sg_r ((L k).2.2.2 : Rat) now
    have g2 := @sg_gt ((L k).2.1 : Rat) now
    have g4 := @sg_gt ((L k).2.2.2 : Rat) now
    have stay : ¬ (upA L x k ∧ ((L k).2.1 : Rat) ≤ now ∧ now < ((L k).2.2.2 : Rat)) → ∃ A' B' now' fl', F_isOpen_L26 N σ r15 m (i64 x.num) (i64 (x.den : Int)) (i64 A) (i64 B) (bi fl) (i32 ((k + 1 : Nat) : Int)) = r15 (i64 x.num) (i64 (x.den : Int)) (i64 A') (i64 B') (bi fl') ∧ frB A' B' now' ∧ now ≤ now' ∧ (∀ y, now ≤ y → y < now' → ∃ l, l < n ∧ upA L x l ∧ ((L l).2.1 : Rat) ≤ y ∧ y < ((L l).2.2.2 : Rat)) ∧ (now' = now ∨ ∃ l, l < n ∧ upA L x l ∧ now' = ((L l).2.2.2 : Rat) ∧ now < now') ∧ (fl' = false → fl = false ∧ now' = now ∧ ∀ l, k ≤ l → l < n → upA L x l → ¬ (((L l).2.1 : Rat) ≤ now ∧ now < ((L l).2.2.2 : Rat))) ∧ (fl' = true → fl = true ∨ now < now') := by
      intro no
      obtain ⟨A', B', now', fl', q1, q2, q3, q4, q5, q6, q7⟩ := ih (k + 1) m A B now fl (by omega) (by omega) hf
      refine ⟨A', B', now', fl', q1, q2, q3, q4, q5, fun e => ?_, q7⟩
      obtain ⟨a, b, c⟩ := q6 e
      refine ⟨a, b, fun l l1 l2 hu w => ?_⟩
      by_cases v : l = k
      · rw [v] at hu w; exact no ⟨hu, w⟩
      · exact c l (by omega) l2 hu w
    unfold F_isOpen_L26
    rw [h.1, if_neg (fun z => by have := (i32_le (by omega) (by omega)).mp z; omega), upAt_e h hL hk' hx, Option.bind_some, bi_0]
    unfold F_isOpen_b103
    simp only [K, p2, p4, i32_s]
    rw [i32_to64 (by omega), i32_to64 (by omega), show (1 : Int64) = i64 1 from rfl, ag_fr f2 hf, Option.bind_some, ag_fr f4 hf, Option.bind_some, i32_p (by omega), i32_p (by omega)]
    by_cases c0 : upA L x k
    · have e0 : (!slB (L k) && decide (((L k).1 : Rat) = x)) = true := by
        rw [show slB (L k) = false from decide_eq_false c0.1, decide_eq_true c0.2]; rfl
      rw [e0, if_pos rfl]
      by_cases c1 : 0 < sg ((L k).2.1 : Rat) now
      · rw [if_pos c1]
        exact stay (fun w => Rat.not_le.mpr (g2.mp c1) w.2.1)
      · rw [if_neg c1]
        have l1 : ((L k).2.1 : Rat) ≤ now := Rat.not_lt.mp fun w => c1 (g2.mpr w)
        by_cases c2 : 0 < sg ((L k).2.2.2 : Rat) now
        · rw [if_pos c2]
          have l2 := g4.mp c2
          obtain ⟨A', B', now', fl', q1, q2, q3, q4, q5, q6, q7⟩ := ih (k + 1) m (L k).2.2.2 1 ((L k).2.2.2 : Rat) true (by omega) (by omega) f4
          refine ⟨A', B', now', fl', q1, q2, Rat.le_trans (Rat.le_of_lt l2) q3, fun y y1 y2 => ?_, ?_, fun e => ?_, fun _ => Or.inr ?_⟩
          · by_cases w : y < ((L k).2.2.2 : Rat)
            · exact ⟨k, hk', c0, Rat.le_trans l1 y1, w⟩
            · exact q4 y (Rat.not_lt.mp w) y2
          · right
            rcases q5 with e | ⟨l, a, b, c, d⟩
            · exact ⟨k, hk', c0, e, by rw [e]; exact l2⟩
            · exact ⟨l, a, b, c, by grind⟩
          · have := (q6 e).1; cases this
          · grind
        · rw [if_neg c2]
          exact stay (fun w => c2 (g4.mpr w.2.2))
    · have e0 : (!slB (L k) && decide (((L k).1 : Rat) = x)) = false := by
        cases hh : (!slB (L k) && decide (((L k).1 : Rat) = x)) with
        | false => rfl
        | true =>
          rw [Bool.and_eq_true, decide_eq_true_iff] at hh
          refine absurd ⟨fun w => ?_, hh.2⟩ c0
          rw [show slB (L k) = true from decide_eq_true w] at hh
          exact absurd hh.1 (by decide)
      rw [e0, if_neg (by decide)]
      exact stay (fun w => c0 w.1)
theorem mopen_e (hN : 100 ≤ N) (h : MLn σ n L) (hL : LOk n L) {x : Rat} (hx : fb x 256000 4000) {lo hi : Rat} (hf : MFT σ lo hi) : F_isOpen N σ (i64 x.num) (i64 (x.den : Int)) = some (bi (pB (opnR n L x lo hi))) := by
  have hn10 := hL.1
  obtain ⟨A, B, C, D, e1, e2, e3, e4, f1, f2⟩ := hf
  have fin : ∀ (A B : Int) (now : Rat), frB A B now → lo ≤ now → (∀ y, lo ≤ y → y < now → ∃ l, l < n ∧ upA L x l ∧ ((L l).2.1 : Rat) ≤ y ∧ y < ((L l).2.2.2 : Rat)) → (∀ l, l < n → upA L x l → ¬ (((L l).2.1 : Rat) ≤ now ∧ now < ((L l).2.2.2 : Rat))) → (F_against N (i64 A) (i64 B) (gJ σ 35) (gJ σ 36)).bind (fun w124 => if 0 ≤ w124 then some (0 : Int32) else some 1) = some (bi (pB (opnR n L x lo hi))) := by
    intro A B now g1 g2 g3 g4
    have r := sg_r now hi
    have lt := @sg_lt now hi
    rw [e3, e4, ag_fr g1 f2, Option.bind_some, i32_nn (by omega)]
    by_cases c : now < hi
    · rw [if_neg (by have := lt.mpr c; omega), pB_t (show opnR n L x lo hi from ⟨now, g2, c, g4⟩)]; rfl
    · rw [if_pos (by have : ¬ sg now hi < 0 := fun w => c (lt.mp w); omega), pB_f]
      · rfl
      · rintro ⟨y, y1, y2, y3⟩
        obtain ⟨l, l1, l2, l3⟩ := g3 y y1 (by have := Rat.not_lt.mp c; grind)
        exact y3 l l1 l2 l3
  have main : ∀ (d m : Nat) (A B : Int) (now : Rat) (fl : Bool), cn (fun l => pB (upA L x l) && decide (now < ((L l).2.2.2 : Rat))) n ≤ d → d + 1 < m → frB A B now → lo ≤ now → (∀ y, lo ≤ y → y < now → ∃ l, l < n ∧ upA L x l ∧ ((L l).2.1 : Rat) ≤ y ∧ y < ((L l).2.2.2 : Rat)) → (fl = false → ∀ l, l < n → upA L x l → ¬ (((L l).2.1 : Rat) ≤ now ∧ now < ((L l).2.2.2 : Rat))) → F_isOpen_L15 N σ m (i64 x.num) (i64 (x.den : Int)) (i64 A) (i64 B) (bi fl) = some (bi (pB (opnR n L x lo hi))) := by
    intro d
    induction d with
    | zero =>
      intro m A B now fl hd hm g1 g2 g3 g4
      obtain ⟨m, rfl⟩ : ∃ j, m = j + 1 := ⟨m - 1, by omega⟩
      obtain ⟨m, rfl⟩ : ∃ j, m = j + 1 := ⟨m - 1, by omega⟩
      have none' : ∀ l, l < n → upA L x l → ¬ now < ((L l).2.2.2 : Rat) := by
        intro l hl hu w
        have := cn_lt (f := fun _ => false) (g := fun l => pB (upA L x l) && decide (now < ((L l).2.2.2 : Rat))) hl (fun i _ e => by cases e) rfl (by simp [pB_t hu, w])
        omega
      have f := fin A B now g1 g2 g3 (fun l hl hu w => none' l hl hu w.2)
      unfold F_isOpen_L15
      rw [bi_0]
      cases fl with
      | false => rw [if_neg (by decide)]; exact f
      | true =>
        rw [if_pos rfl]
        obtain ⟨A', B', now', fl', q1, q2, q3, q4, q5, q6, q7⟩ := mpass_e (N := N) h hL hx (F_isOpen_L15 N σ (m + 1)) n 0 N A B now false (by omega) (by omega) g1
        have e : now' = now := by
          rcases q5 with e | ⟨l, a1, a2, a3, a4⟩
          · exact e
          · exact absurd (by rw [← a3]; exact a4) (none' l a1 a2)
        have ef : fl' = false := by
          cases w : fl' with
          | false => rfl
          | true =>
            rcases q7 w with v | v
            · cases v
            · rw [e] at v; exact absurd v Rat.lt_irrefl
        rw [show (0 : Int32) = bi false from rfl]
        refine q1.trans ?_
        rw [ef]
        unfold F_isOpen_L15
        rw [bi_0, if_neg (by decide)]
        exact fin A' B' now' q2 (by rw [e]; exact g2) (by rw [e]; exact g3) (fun l hl hu w => by rw [e] at w; exact none' l hl hu w.2)
    | succ d ih =>
      intro m A B now fl hd hm g1 g2 g3 g4
      obtain ⟨m, rfl⟩ : ∃ j, m = j + 1 := ⟨m - 1, by omega⟩
      unfold F_isOpen_L15
      rw [bi_0]
      cases fl with
      | false => rw [if_neg (by decide)]; exact fin A B now g1 g2 g3 (g4 rfl)
      | true =>
        rw [if_pos rfl]
        obtain ⟨A', B', now', fl', q1, q2, q3, q4, q5, q6, q7⟩ := mpass_e (N := N) h hL hx (F_isOpen_L15 N σ m) n 0 N A B now false (by omega) (by omega) g1
        have cov : ∀ y, lo ≤ y → y < now' → ∃ l, l < n ∧ upA L x l ∧ ((L l).2.1 : Rat) ≤ y ∧ y < ((L l).2.2.2 : Rat) := by
          intro y y1 y2
          by_cases w : y < now
          · exact g3 y y1 w
          · exact q4 y (Rat.not_lt.mp w) y2
        rw [show (0 : Int32) = bi false from rfl]
        refine q1.trans ?_
        cases ef : fl' with
        | false =>
          obtain ⟨-, e, no⟩ := q6 ef
          obtain ⟨m, rfl⟩ : ∃ j, m = j + 1 := ⟨m - 1, by omega⟩
          unfold F_isOpen_L15
          rw [bi_0, if_neg (by decide)]
          exact fin A' B' now' q2 (by rw [e]; exact g2) (by rw [e]; exact g3) (fun l hl hu w => by rw [e] at w; exact no l (Nat.zero_le _) hl hu w)
        | true =>
          have lt : now < now' := by
            rcases q7 ef with v | v
            · cases v
            · exact v
          refine ih m A' B' now' true ?_ (by omega) q2 (Rat.le_trans g2 q3) cov (fun e => by cases e)
          rcases q5 with e | ⟨l, a1, a2, a3, a4⟩
          · rw [e] at lt; exact absurd lt Rat.lt_irrefl
          · have := cn_lt (f := fun l => pB (upA L x l) && decide (now' < ((L l).2.2.2 : Rat))) (g := fun l => pB (upA L x l) && decide (now < ((L l).2.2.2 : Rat))) (M := n) a1 (fun i _ w => by
              rw [Bool.and_eq_true, decide_eq_true_iff] at w ⊢
              exact ⟨w.1, by have := w.2; grind⟩) (by rw [a3]; simp [Rat.lt_irrefl]) (by rw [← a3]; simp [pB_t a2, a4])
            omega
  unfold F_isOpen
  simp only
  rw [e1, e2]
  exact main n N A B lo true (cn_le _ _) (by omega) f1 Rat.le_refl (fun y y1 y2 => absurd y2 (Rat.not_lt.mpr y1)) (fun e => by cases e)
end NARROW
