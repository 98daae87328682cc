/-! TWO CELLS SIDE BY SIDE: what bounds them, uprights between, whether it is open; the component's telling of it -/
set_option maxRecDepth 100000
def fst1 (f : Nat → Bool) : Nat → Nat
  | 0 => 0
  | n + 1 => if fst1 f n < n then fst1 f n else if f n then n else n + 1
theorem fst1_e {f : Nat → Bool} : ∀ {n : Nat}, fst1 f n ≤ n ∧ (∀ i, i < fst1 f n → f i = false) ∧ (fst1 f n < n → f (fst1 f n) = true) := by
  intro n
  induction n with
  | zero => exact ⟨Nat.le_refl _, fun i hi => absurd hi (Nat.not_lt_zero _), fun h => absurd h (Nat.lt_irrefl _)⟩
  | succ n ih =>
    obtain ⟨h1, h2, h3⟩ := ih
    unfold fst1
    by_cases c : fst1 f n < n
    · rw [if_pos c]; exact ⟨by omega, h2, fun _ => h3 c⟩
    · rw [if_neg c]
      have e : fst1 f n = n := by omega
      rw [e] at h2
      by_cases d : f n = true
      · rw [if_pos d]; exact ⟨by omega, h2, fun _ => d⟩
      · rw [if_neg d]
        refine ⟨Nat.le_refl _, fun i hi => ?_, fun h => absurd h (Nat.lt_irrefl _)⟩
        by_cases w : i = n
        · rw [w]; simpa using d
        · exact h2 i (by omega)
/-- the least line of a group -/
def lea (n : Nat) (L : Nat → Sg) (S g : Nat) : Nat := fst1 (stG n L S g).testBit 10
theorem lea_e {n : Nat} {L : Nat → Sg} (hL : LOk n L) {S g : Nat} (hg : g < nGr n L S) (N : Nat) : stG n L S g < 1024 ∧ stG n L S g ≠ 0 ∧ lea n L S g < n ∧ F_J15_numberOfTrailingZeros N (nI (stG n L S g)) = some (i32 ((lea n L S g : Nat) : Int)) ∧ spB n L (S - 1) (lea n L S g) = true ∧ yv (L (lea n L S g)) (mdX n L (S - 1)) = vlS n L (S - 1) n g ∧ 0 < S ∧ S < nX n L := by
  have hn10 := hL.1
  have hS : 0 < S ∧ S < nX n L := by
    refine Classical.byContradiction fun w => ?_
    unfold nGr at hg
    rw [if_neg w] at hg
    exact absurd hg (Nat.not_lt_zero _)
  have e : nGr n L S = (gpS n L (S - 1) n).1 := if_pos hS
  rw [e] at hg
  obtain ⟨b1, b2, t, t1, t2, t3, t4, t5⟩ := st_least (N := N) (Nat.le_refl _) hn10 hg
  have bt : (stG n L S g).testBit t = true := by
    show (stS n L (S - 1) n g).testBit t = true
    unfold stS
    rw [ms_bit, t3, t4]
    simp [t1]
  obtain ⟨f1, f2, f3⟩ := @fst1_e (stG n L S g).testBit 10
  have le : lea n L S g = t := by
    unfold lea
    rcases Nat.lt_trichotomy (fst1 (stG n L S g).testBit 10) t with c | c | c
    · have := f3 (by omega)
      rw [show (stG n L S g).testBit (fst1 (stG n L S g).testBit 10) = false from t5 _ c] at this
      cases this
    · exact c
    · have := f2 t c; rw [bt] at this; cases this
  rw [le]
  exact ⟨b1, b2, t1, t2, t3, t4, hS⟩
def vY (n : Nat) (L : Nat → Sg) (S g : Nat) (x : Rat) : Rat := yv (L (lea n L S g)) x
def loY (n : Nat) (L : Nat → Sg) (S g : Nat) (x : Rat) : Option Rat := if g = 0 then none else some (vY n L S (g - 1) x)
def hiY (n : Nat) (L : Nat → Sg) (S g : Nat) (x : Rat) : Option Rat := if g < nGr n L S then some (vY n L S g x) else none
def gre : Option Rat → Option Rat → Option Rat
  | none, b => b
  | some a, none => some a
  | some a, some b => if b < a then some a else some b
def les : Option Rat → Option Rat → Option Rat
  | none, b => b
  | some a, none => some a
  | some a, some b => if a < b then some a else some b
def rfO (o : Option Rat) : Option Fr := o.map rf
def yqO (o : Option Rat) : Prop := ∀ a, o = some a → yq a
theorem yq_i {z : Int} (h : 0 ≤ z ∧ z ≤ 40) : yq (z : Rat) := ⟨bn_of (by rw [Rat.num_intCast]; omega), by show (1 : Nat) ≤ 160000; decide⟩
theorem gre_yq {a b : Option Rat} (ha : yqO a) (hb : yqO b) : yqO (gre a b) := by
  unfold gre
  split
  · exact hb
  · exact ha
  · split
    · exact ha
    · exact hb
theorem les_yq {a b : Option Rat} (ha : yqO a) (hb : yqO b) : yqO (les a b) := by
  unfold les
  split
  · exact hb
  · exact ha
  · split
    · exact ha
    · exact hb
theorem lessy_e {N : Nat} {a b : Rat} (ha : yq a) (hb : yq b) : F_X7_isLess N (rf a) (rf b) = some (bi (decide (a < b))) := by
  rw [isLess_e ha hb (by decide) (by decide)]
  unfold bi
  by_cases c : a < b
  · rw [if_pos c, decide_eq_true c]; rfl
  · rw [if_neg c, decide_eq_false c]; rfl
theorem greater_e {N : Nat} {a b : Option Rat} (ha : yqO a) (hb : yqO b) : F_X1_greater N (rfO a) (rfO b) = some (rfO (gre a b)) := by
  unfold F_X1_greater F_X1_greater_b20 F_X1_greater_b25
  cases a with
  | none => rfl
  | some a =>
    cases b with
    | none => rfl
    | some b =>
      rw [if_neg (by unfold rfO; simp), if_neg (by unfold rfO; simp)]
      show (F_X7_isLess N (rf b) (rf a)).bind _ = _
      rw [lessy_e (hb _ rfl) (ha _ rfl), Option.bind_some, bi_0]
      show _ = some (rfO (if b < a then some a else some b))
      by_cases c : b < a
      · rw [decide_eq_true c, if_pos rfl, if_pos c]
      · rw [decide_eq_false c, if_neg (by decide), if_neg c]
theorem lesser_e {N : Nat} {a b : Option Rat} (ha : yqO a) (hb : yqO b) : F_X1_lesser N (rfO a) (rfO b) = some (rfO (les a b)) := by
  unfold F_X1_lesser F_X1_lesser_b20 F_X1_lesser_b25
  cases a with
  | none => rfl
  | some a =>
    cases b with
    | none => rfl
    | some b =>
      rw [if_neg (by unfold rfO; simp), if_neg (by unfold rfO; simp)]
      show (F_X7_isLess N (rf a) (rf b)).bind _ = _
      rw [lessy_e (ha _ rfl) (hb _ rfl), Option.bind_some, bi_0]
      show _ = some (rfO (if a < b then some a else some b))
      by_cases c : a < b
      · rw [decide_eq_true c, if_pos rfl, if_pos c]
      · rw [decide_eq_false c, if_neg (by decide), if_neg c]
/-! uprights -/
def mxO (o : Option Rat) (a : Rat) : Rat := match o with
  | none => a
  | some l => if a < l then l else a
def mnO (o : Option Rat) (b : Rat) : Rat := match o with
  | none => b
  | some h => if h < b then h else b
/-- an upright line at x of which there is more than a place between low and high -/
def upB (L : Nat → Sg) (x : Rat) (low high : Option Rat) (l : Nat) : Bool := !slB (L l) && decide (((L l).1 : Rat) = x) && decide (mxO low ((L l).2.1 : Rat) < mnO high ((L l).2.2.2 : Rat))
def upS (n : Nat) (L : Nat → Sg) (x : Rat) (low high : Option Rat) : Nat := ms (upB L x low high) n
theorem gre_mx (o : Option Rat) (a : Rat) : gre o (some a) = some (mxO o a) := by
  cases o with
  | none => rfl
  | some l => show (if a < l then some l else some a) = some (if a < l then l else a); split <;> rfl
theorem les_mn (o : Option Rat) (b : Rat) : les o (some b) = some (mnO o b) := by
  cases o with
  | none => rfl
  | some l => show (if l < b then some l else some b) = some (if l < b then l else b); split <;> rfl
theorem mx_yq {o : Option Rat} (ho : yqO o) {a : Rat} (ha : yq a) : yq (mxO o a) := by
  cases o with
  | none => exact ha
  | some l =>
    unfold mxO
    simp only
    split
    · exact ho _ rfl
    · exact ha
theorem mn_yq {o : Option Rat} (ho : yqO o) {a : Rat} (ha : yq a) : yq (mnO o a) := by
  cases o with
  | none => exact ha
  | some l =>
    unfold mnO
    simp only
    split
    · exact ho _ rfl
    · exact ha
theorem uprights_e {N : Nat} (hN : 100 ≤ N) {κ : CSt} {n : Nat} {L : Nat → Sg} (h : CLn κ n L) (hL : LOk n L) {x : Rat} (hx : fb x 256000 4000) {low high : Option Rat} (hl : yqO low) (hh : yqO high) : F_X1_uprights N κ (rf x) (rfO low) (rfO high) = some (nI (upS n L x low high)) := by
  have hn10 := hL.1
  have hm : mq x := ⟨bn_le hx.1 (by decide), Nat.le_trans hx.2 (by decide)⟩
  have main : ∀ (d k m : Nat), k + d = n → d < m → F_X1_uprights_L6 N κ m (rf x) (rfO low) (rfO high) (nI (ms (upB L x low high) k)) (i32 (k : Int)) = some (nI (ms (upB L x low high) n)) := by
    intro d
    induction d with
    | zero =>
      intro k m hk hm'
      obtain ⟨m, rfl⟩ : ∃ j, m = j + 1 := ⟨m - 1, by omega⟩
      have e : k = n := by omega
      subst e
      unfold F_X1_uprights_L6
      rw [h.1, if_pos ((i32_le (by omega) (by omega)).mpr (Int.le_refl _))]
    | succ d ih =>
      intro k m hk hm'
      obtain ⟨m, rfl⟩ : ∃ j, m = j + 1 := ⟨m - 1, by omega⟩
      have hk' : k < n := by omega
      have A : ∀ {α : Type} (f : Nat → Option α), ck (i32 (k : Int)) 10 f = f k := fun f => ck_n (by omega) (by decide) f
      obtain ⟨t, e1⟩ := h.2 k hk'
      have hs := hL.2 k hk'
      have kd := kd_sl hs
      have y1 : yq ((L k).2.1 : Rat) := yq_i hs.2.1
      have y2 : yq ((L k).2.2.2 : Rat) := yq_i hs.2.2.2.1
      have g1 : F_X1_greater N (rfO low) (some (lnOf (L k)).2.2.2.2.2.1.2) = some (some (rf (mxO low ((L k).2.1 : Rat)))) := by
        have := greater_e (N := N) hl (b := some ((L k).2.1 : Rat)) (fun a e => by cases e; exact y1)
        rw [gre_mx] at this
        exact this
      have g2 : F_X1_lesser N (rfO high) (some (lnOf (L k)).2.2.2.2.2.2.2) = some (some (rf (mnO high ((L k).2.2.2 : Rat)))) := by
        have := lesser_e (N := N) hh (b := some ((L k).2.2.2 : Rat)) (fun a e => by cases e; exact y2)
        rw [les_mn] at this
        exact this
      unfold F_X1_uprights_L6
      rw [h.1, if_neg (fun z => by have := (i32_le (by omega) (by omega)).mp z; omega)]
      unfold F_X1_uprights_b98
      simp only [A, e1, nn, spans_e hs hm, Option.bind_some, bi_0, i32_s, g1, g2, lessy_e (mx_yq hl y1) (mn_yq hh y2), ms_step (f := upB L x low high) (show k < 31 by omega)]
      rw [← ih (k + 1) m (by omega) (by omega)]
      show _ = F_X1_uprights_L6 N κ m (rf x) (rfO low) (rfO high) (nI (if upB L x low high k = true then _ else _)) _
      unfold upB
      by_cases c : isSl (L k)
      · rw [if_neg (fun z => kd.mp z c), show slB (L k) = true from decide_eq_true c]
        simp
      · rw [if_pos (kd.mpr c), show slB (L k) = false from decide_eq_false c]
        have e2 : ((L k).2.2.1 : Rat) = ((L k).1 : Rat) := by
          have := hs.2.2.2.2
          have : (L k).2.2.1 = (L k).1 := by unfold isSl at c; omega
          rw [this]
        rw [e2]
        by_cases c1 : ((L k).1 : Rat) = x
        · have l1 : ((L k).1 : Rat) ≤ x := by rw [c1]; exact Rat.le_refl
          have l2 : x ≤ ((L k).1 : Rat) := by rw [c1]; exact Rat.le_refl
          rw [decide_eq_true l1, decide_eq_true l2, decide_eq_true c1]
          by_cases c2 : mxO low ((L k).2.1 : Rat) < mnO high ((L k).2.2.2 : Rat)
          · simp [c2]
          · simp [c2]
        · have : ¬ (((L k).1 : Rat) ≤ x ∧ x ≤ ((L k).1 : Rat)) := fun w => c1 (Rat.le_antisymm w.1 w.2)
          rw [decide_eq_false c1]
          by_cases c2 : ((L k).1 : Rat) ≤ x
          · have : ¬ x ≤ ((L k).1 : Rat) := fun w => this ⟨c2, w⟩
            simp [this]
          · simp [c2]
  exact main n 0 N (by omega) (by omega)
/-! whether it is open -/
def upA (L : Nat → Sg) (x : Rat) (l : Nat) : Prop := ¬ isSl (L l) ∧ ((L l).1 : Rat) = x
/-- some place from low on, ahead of high, with no upright line upwards from it -/
def opnP (n : Nat) (L : Nat → Sg) (x : Rat) (low high : Option Rat) : Prop := low = none ∨ high = none ∨ ∃ a b y, low = some a ∧ high = some b ∧ a ≤ y ∧ y < b ∧ ∀ l, l < n → upA L x l → ¬ (((L l).2.1 : Rat) ≤ y ∧ y < ((L l).2.2.2 : Rat))
noncomputable def pB (p : Prop) : Bool := @decide p (Classical.propDecidable p)
theorem pB_e {p : Prop} : pB p = true ↔ p := by unfold pB; exact @decide_eq_true_iff p (Classical.propDecidable p)
theorem pB_t {p : Prop} (h : p) : pB p = true := pB_e.mpr h
theorem pB_f {p : Prop} (h : ¬ p) : pB p = false := by
  cases e : pB p with
  | false => rfl
  | true => exact absurd (pB_e.mp e) h
theorem low_clr : ∀ T : Fin 1024, T.1 ≠ 0 → (List.range 10).all (fun t => !(T.1.testBit t && (List.range t).all (fun i => !T.1.testBit i)) || (decide (T.1 &&& (T.1 - 1) < T.1) && (List.range 10).all (fun i => (T.1 &&& (T.1 - 1)).testBit i == (T.1.testBit i && !(i == t))))) = true := by decide +kernel
theorem low_clr' {T t : Nat} (hT : T < 1024) (h0 : T ≠ 0) (ht : t < 10) (h1 : T.testBit t = true) (h2 : ∀ i, i < t → T.testBit i = false) : T &&& (T - 1) < T ∧ ∀ i, (T &&& (T - 1)).testBit i = (T.testBit i && !(i == t)) := by
  have h := List.all_eq_true.mp (low_clr ⟨T, hT⟩ h0) t (List.mem_range.mpr ht)
  simp only at h
  have h3 : (List.range t).all (fun i => !T.testBit i) = true := by
    rw [List.all_eq_true]
    intro i hi
    rw [h2 i (List.mem_range.mp hi)]; rfl
  rw [h1, h3] at h
  simp only [Bool.and_self, Bool.not_true, Bool.false_or, Bool.and_eq_true, decide_eq_true_iff] at h
  refine ⟨h.1, fun i => ?_⟩
  by_cases w : i < 10
  · have := List.all_eq_true.mp h.2 i (List.mem_range.mpr w)
    simpa using this
  · have a : T < 2 ^ i := Nat.lt_of_lt_of_le hT (Nat.pow_le_pow_right (n := 2) (by decide) (show 10 ≤ i by omega))
    rw [Nat.testBit_lt_two_pow (Nat.lt_trans h.1 a), Nat.testBit_lt_two_pow a]; rfl
theorem nI_pred' {a : Nat} (h : 0 < a) : nI a - 1 = nI (a - 1) := by
  rw [← i32_nI, ← i32_nI, show (1 : Int32) = i32 1 from rfl, i32_sub]
  congr 1
  omega
section OPEN
variable {N n : Nat} {κ : CSt} {L : Nat → Sg}
/-- one pass over a set of uprights -/
theorem pass_e (h : CLn κ n L) (hL : LOk n L) (r30 : Option Fr → Int32 → Option Fr → Int32 → Option Int32) (v3 : Option Fr) (v4 : Int32) {S : Nat} (hS : ∀ l, S.testBit l = true → l < n) :
    ∀ (T m : Nat) (now : Rat) (fl : Bool), T < m → T < 1024 → (∀ l, T.testBit l = true → S.testBit l = true) → yq now → ∃ now' fl', F_X1_isOpen_L42 N κ r30 m v3 v4 (some (rf now)) (bi fl) (nI T) = r30 v3 v4 (some (rf now')) (bi fl') ∧ now ≤ now' ∧ yq now' ∧ (∀ y, now ≤ y → y < now' → ∃ l, S.testBit l = true ∧ ((L l).2.1 : Rat) ≤ y ∧ y < ((L l).2.2.2 : Rat)) ∧ (now' = now ∨ ∃ l, S.testBit l = true ∧ now' = ((L l).2.2.2 : Rat) ∧ now < now') ∧ (fl' = false → fl = false ∧ now' = now ∧ ∀ l, T.testBit l = true → ¬ (((L l).2.1 : Rat) ≤ now ∧ now < ((L l).2.2.2 : Rat))) ∧ (fl' = true → fl = true ∨ now < now') := by
  have hn10 := hL.1
  intro T
  induction T using Nat.strongRecOn with
  | _ T ih =>
    intro m now fl hm hT hsub hy
    obtain ⟨m, rfl⟩ : ∃ j, m = j + 1 := ⟨m - 1, by omega⟩
    unfold F_X1_isOpen_L42
    rw [nI_z0 (by omega)]
    by_cases c0 : T = 0
    · rw [if_pos c0]
      refine ⟨now, fl, rfl, Rat.le_refl, hy, fun y h1 h2 => absurd h2 (Rat.not_lt.mpr h1), Or.inl rfl, fun e => ⟨e, rfl, fun l hl => by rw [c0, Nat.zero_testBit] at hl; cases hl⟩, fun e => Or.inl e⟩
    · rw [if_neg c0]
      obtain ⟨t, t1, t2, t3, t4⟩ := ntz_e N hT c0
      obtain ⟨w1, w2⟩ := low_clr' hT c0 t1 t3 t4
      have st := hsub t t3
      have tn := hS t st
      obtain ⟨tg, e1⟩ := h.2 t tn
      have A : ∀ {α : Type} (f : Nat → Option α), ck (i32 (t : Int)) 10 f = f t := fun f => ck_n (by omega) (by decide) f
      have hs := hL.2 t tn
      have y1 : yq ((L t).2.1 : Rat) := yq_i hs.2.1
      have y2 : yq ((L t).2.2.2 : Rat) := yq_i hs.2.2.2.1
      have l1 : F_X7_isLess N (rf now) (lnOf (L t)).2.2.2.2.2.1.2 = some (bi (decide (now < ((L t).2.1 : Rat)))) := lessy_e hy y1
      have l2 : F_X7_isLess N (rf now) (rf ((L t).2.2.2 : Rat)) = some (bi (decide (now < ((L t).2.2.2 : Rat)))) := lessy_e hy y2
      have e2 : (lnOf (L t)).2.2.2.2.2.2.2 = rf ((L t).2.2.2 : Rat) := rfl
      rw [t2, Option.bind_some]
      unfold F_X1_isOpen_b107
      simp only [A, e1, nn, l1, l2, Option.bind_some, bi_0, nI_pred' (Nat.pos_of_ne_zero c0), nx_and, e2]
      have sub' : ∀ l, (T &&& (T - 1)).testBit l = true → S.testBit l = true := fun l hl => by
        rw [w2, Bool.and_eq_true] at hl
        exact hsub l hl.1
      by_cases c : ((L t).2.1 : Rat) ≤ now ∧ now < ((L t).2.2.2 : Rat)
      · rw [decide_eq_false (Rat.not_lt.mpr c.1), decide_eq_true c.2, if_neg (by decide), if_pos rfl]
        obtain ⟨now', fl', q1, q2, q3, q4, q5, q6, q7⟩ := ih (T &&& (T - 1)) w1 m ((L t).2.2.2 : Rat) true (by omega) (by omega) sub' y2
        refine ⟨now', fl', q1, Rat.le_trans (Rat.le_of_lt c.2) q2, q3, fun y h1 h2 => ?_, ?_, fun e => ?_, fun _ => Or.inr ?_⟩
        · by_cases d : y < ((L t).2.2.2 : Rat)
          · exact ⟨t, st, Rat.le_trans c.1 h1, d⟩
          · exact q4 y (Rat.not_lt.mp d) h2
        · right
          rcases q5 with e | ⟨l, a, b, d⟩
          · exact ⟨t, st, e, by rw [e]; exact c.2⟩
          · exact ⟨l, a, b, by have := c.2; grind⟩
        · have := (q6 e).1; cases this
        · have := c.2; grind
      · have stay : ∃ now' fl', F_X1_isOpen_L42 N κ r30 m v3 v4 (some (rf now)) (bi fl) (nI (T &&& (T - 1))) = r30 v3 v4 (some (rf now')) (bi fl') ∧ now ≤ now' ∧ yq now' ∧ (∀ y, now ≤ y → y < now' → ∃ l, S.testBit l = true ∧ ((L l).2.1 : Rat) ≤ y ∧ y < ((L l).2.2.2 : Rat)) ∧ (now' = now ∨ ∃ l, S.testBit l = true ∧ now' = ((L l).2.2.2 : Rat) ∧ now < now') ∧ (fl' = false → fl = false ∧ now' = now ∧ ∀ l, T.testBit l = true → ¬ (((L l).2.1 : Rat) ≤ now ∧ now < ((L l).2.2.2 : Rat))) ∧ (fl' = true → fl = true ∨ now < now') := by
          obtain ⟨now', fl', q1, q2, q3, q4, q5, q6, q7⟩ := ih (T &&& (T - 1)) w1 m now fl (by omega) (by omega) sub' hy
          refine ⟨now', fl', q1, q2, q3, q4, q5, fun e => ?_, q7⟩
          obtain ⟨a, b, d⟩ := q6 e
          refine ⟨a, b, fun l hl => ?_⟩
          by_cases v : l = t
          · rw [v]; exact c
          · exact d l (by rw [w2, hl]; simp [v])
        by_cases d : now < ((L t).2.1 : Rat)
        · rw [decide_eq_true d, if_pos rfl]; exact stay
        · have d2 : ¬ now < ((L t).2.2.2 : Rat) := fun w => c ⟨Rat.not_lt.mp d, w⟩
          rw [decide_eq_false d, decide_eq_false d2, if_neg (by decide), if_neg (by decide)]; exact stay
theorem cn_lt {f g : Nat → Bool} {M a : Nat} (ha : a < M) (h : ∀ i, i < M → f i = true → g i = true) (hf : f a = false) (hg : g a = true) : cn f M < cn g M := by
  have le : ∀ {f g : Nat → Bool} {M : Nat}, (∀ i, i < M → f i = true → g i = true) → cn f M ≤ cn g M := by
    intro f g M
    induction M with
    | zero => intro _; exact Nat.le_refl _
    | succ M ih =>
      intro h
      have a := ih (fun i hi => h i (by omega))
      have b := h M (by omega)
      unfold cn
      cases x : f M <;> cases y : g M <;> simp [x, y] at b ⊢ <;> omega
  have d := cn_del ha hg
  have := le (f := f) (g := fun i => g i && !decide (i = a)) (M := M) (fun i hi w => by
    have ne : i ≠ a := fun e => by rw [e, hf] at w; cases w
    simp [h i hi w, ne])
  omega
theorem open_e (hN : 2000 ≤ N) (h : CLn κ n L) (hL : LOk n L) {x : Rat} (hx : fb x 256000 4000) {low high : Option Rat} (hl : yqO low) (hh : yqO high) (hlt : ∀ a b, low = some a → high = some b → a < b) : F_X1_isOpen N κ (rf x) (rfO low) (rfO high) = some (bi (pB (opnP n L x low high))) := by
  have hn10 := hL.1
  unfold F_X1_isOpen
  rw [uprights_e (by omega) h hL hx hl hh, Option.bind_some]
  have hS : ∀ l, (upS n L x low high).testBit l = true ↔ l < n ∧ upB L x low high l = true := by
    intro l
    unfold upS
    rw [ms_bit, Bool.and_eq_true, decide_eq_true_iff]
  have S10 : upS n L x low high < 1024 := ms_31 _ hn10
  rw [nI_z0 (by omega)]
  match low, high, hl, hh, hlt, hS, S10 with
  | none, high, hl, hh, hlt, hS, S10 =>
    rw [pB_t (show opnP n L x none high from Or.inl rfl)]
    split <;> rfl
  | some a, none, hl, hh, hlt, hS, S10 =>
    rw [pB_t (show opnP n L x (some a) none from Or.inr (Or.inl rfl))]
    split <;> rfl
  | some a, some b, hl, hh, hlt, hS, S10 =>
    have ab := hlt a b rfl rfl
    have ya := hl a rfl
    have yb := hh b rfl
    -- what stands from y on upwards, below b, is of the set
    have ofS : ∀ l y, l < n → upA L x l → a ≤ y → y < b → ((L l).2.1 : Rat) ≤ y → y < ((L l).2.2.2 : Rat) → (upS n L x (some a) (some b)).testBit l = true := by
      intro l y hln ⟨u1, u2⟩ h1 h2 h3 h4
      rw [hS]
      refine ⟨hln, ?_⟩
      unfold upB
      rw [show slB (L l) = false from decide_eq_false u1, decide_eq_true u2]
      have : mxO (some a) ((L l).2.1 : Rat) < mnO (some b) ((L l).2.2.2 : Rat) := by
        unfold mxO mnO
        simp only
        grind
      rw [decide_eq_true this]
      rfl
    have inS : ∀ l, (upS n L x (some a) (some b)).testBit l = true → l < n ∧ upA L x l := by
      intro l hl
      obtain ⟨h1, h2⟩ := (hS l).mp hl
      unfold upB at h2
      rw [Bool.and_eq_true, Bool.and_eq_true] at h2
      refine ⟨h1, fun w => ?_, of_decide_eq_true h2.1.2⟩
      rw [show slB (L l) = true from decide_eq_true w] at h2
      exact absurd h2.1.1 (by decide)
    by_cases c0 : upS n L x (some a) (some b) = 0
    · rw [if_pos c0, pB_t]
      · rfl
      · refine Or.inr (Or.inr ⟨a, b, a, rfl, rfl, Rat.le_refl, ab, fun l hln hu w => ?_⟩)
        have := ofS l a hln hu Rat.le_refl ab w.1 w.2
        rw [c0, Nat.zero_testBit] at this
        cases this
    · rw [if_neg c0, if_neg (by unfold rfO; simp), if_neg (by unfold rfO; simp)]
      generalize hU : upS n L x (some a) (some b) = S at *
      have main : ∀ (d m : Nat) (now : Rat) (fl : Bool), cn (fun l => S.testBit l && decide (now < ((L l).2.2.2 : Rat))) 10 ≤ d → d + 1 < m → a ≤ now → yq now → (∀ y, a ≤ y → y < now → ∃ l, S.testBit l = true ∧ ((L l).2.1 : Rat) ≤ y ∧ y < ((L l).2.2.2 : Rat)) → (fl = false → ∀ l, S.testBit l = true → ¬ (((L l).2.1 : Rat) ≤ now ∧ now < ((L l).2.2.2 : Rat))) → F_X1_isOpen_L30 N κ m (rfO (some b)) (nI S) (some (rf now)) (bi fl) = some (bi (pB (opnP n L x (some a) (some b)))) := by
        have fin : ∀ (now : Rat), a ≤ now → yq now → (∀ y, a ≤ y → y < now → ∃ l, S.testBit l = true ∧ ((L l).2.1 : Rat) ≤ y ∧ y < ((L l).2.2.2 : Rat)) → (∀ l, S.testBit l = true → ¬ (((L l).2.1 : Rat) ≤ now ∧ now < ((L l).2.2.2 : Rat))) → (F_X7_isLess N (rf now) (rf b)).bind (fun w125 => rb w125 (some w125)) = some (bi (pB (opnP n L x (some a) (some b)))) := by
          intro now h1 h2 h3 h4
          rw [lessy_e h2 yb, Option.bind_some]
          by_cases c : now < b
          · rw [decide_eq_true c, pB_t]
            · rfl
            · exact Or.inr (Or.inr ⟨a, b, now, rfl, rfl, h1, c, fun l hln hu w => h4 l (ofS l now hln hu h1 c w.1 w.2) w⟩)
          · rw [decide_eq_false c, pB_f]
            · rfl
            · rintro (w | w | ⟨a', b', y, e1, e2, y1, y2, y3⟩)
              · cases w
              · cases w
              · cases e1
                cases e2
                obtain ⟨l, l1, l2⟩ := h3 y y1 (by have := Rat.not_lt.mp c; grind)
                obtain ⟨l3, l4⟩ := inS l l1
                exact y3 l l3 l4 l2
        intro d
        induction d with
        | zero =>
          intro m now fl hd hm h1 h2 h3 h4
          obtain ⟨m, rfl⟩ : ∃ j, m = j + 1 := ⟨m - 1, by omega⟩
          obtain ⟨m, rfl⟩ : ∃ j, m = j + 1 := ⟨m - 1, by omega⟩
          have none' : ∀ l, S.testBit l = true → ¬ now < ((L l).2.2.2 : Rat) := by
            intro l hl w
            have l10 : l < 10 := by have := (inS l hl).1; omega
            have := cn_lt (f := fun _ => false) (g := fun l => S.testBit l && decide (now < ((L l).2.2.2 : Rat))) l10 (fun i _ e => by cases e) rfl (by simp [hl, w])
            omega
          have f := fin now h1 h2 h3 (fun l hl w => none' l hl w.2)
          unfold F_X1_isOpen_L30
          rw [bi_0]
          cases fl with
          | false => rw [if_neg (by decide)]; exact f
          | true =>
            rw [if_pos rfl]
            obtain ⟨now', fl', q1, q2, q3, q4, q5, q6, q7⟩ := pass_e (N := N) h hL (F_X1_isOpen_L30 N κ (m + 1)) (rfO (some b)) (nI S) (S := S) (fun l hl => (inS l hl).1) S N now false (by omega) S10 (fun l hl => hl) h2
            have e : now' = now := by
              rcases q5 with e | ⟨l, a1, a2, a3⟩
              · exact e
              · exact absurd (by rw [← a2]; exact a3) (none' l a1)
            have ef : fl' = false := by
              cases w : fl' with
              | false => rfl
              | true =>
                rcases q7 w with v | v
                · cases v
                · rw [e] at v; exact absurd v Rat.lt_irrefl
            rw [show (0 : Int32) = bi false from rfl, q1, e, ef]
            unfold F_X1_isOpen_L30
            rw [bi_0, if_neg (by decide)]
            exact f
        | succ d ih =>
          intro m now fl hd hm h1 h2 h3 h4
          obtain ⟨m, rfl⟩ : ∃ j, m = j + 1 := ⟨m - 1, by omega⟩
          unfold F_X1_isOpen_L30
          rw [bi_0]
          cases fl with
          | false => rw [if_neg (by decide)]; exact fin now h1 h2 h3 (h4 rfl)
          | true =>
            rw [if_pos rfl]
            obtain ⟨now', fl', q1, q2, q3, q4, q5, q6, q7⟩ := pass_e (N := N) h hL (F_X1_isOpen_L30 N κ m) (rfO (some b)) (nI S) (S := S) (fun l hl => (inS l hl).1) S N now false (by omega) S10 (fun l hl => hl) h2
            rw [show (0 : Int32) = bi false from rfl, q1]
            have cov : ∀ y, a ≤ y → y < now' → ∃ l, S.testBit l = true ∧ ((L l).2.1 : Rat) ≤ y ∧ y < ((L l).2.2.2 : Rat) := by
              intro y y1 y2
              by_cases w : y < now
              · exact h3 y y1 w
              · exact q4 y (Rat.not_lt.mp w) y2
            cases ef : fl' with
            | false =>
              obtain ⟨-, e, no⟩ := q6 ef
              obtain ⟨m, rfl⟩ : ∃ j, m = j + 1 := ⟨m - 1, by omega⟩
              unfold F_X1_isOpen_L30
              rw [bi_0, if_neg (by decide), e]
              exact fin now h1 h2 h3 no
            | true =>
              refine ih m now' true ?_ (by omega) (Rat.le_trans h1 q2) q3 cov (fun e => by cases e)
              have lt : now < now' := by
                rcases q7 ef with v | v
                · cases v
                · exact v
              rcases q5 with e | ⟨l, a1, a2, a3⟩
              · rw [e] at lt; exact absurd lt Rat.lt_irrefl
              · have l10 : l < 10 := by have := (inS l a1).1; omega
                have := cn_lt (f := fun l => S.testBit l && decide (now' < ((L l).2.2.2 : Rat))) (g := fun l => S.testBit l && decide (now < ((L l).2.2.2 : Rat))) (M := 10) l10 (fun i _ w => by
                  rw [Bool.and_eq_true, decide_eq_true_iff] at w ⊢
                  exact ⟨w.1, by have := w.2; grind⟩) (by rw [a2]; simp [Rat.lt_irrefl]) (by rw [← a2]; simp [a1, a3])
                omega
      exact main 10 N a true (cn_le _ _) (by omega) Rat.le_refl ya (fun y y1 y2 => absurd y2 (Rat.not_lt.mpr y1)) (fun e => by cases e)
end OPEN
