/-! HEIGHTS: at an upright through points; the cells to its left and right there -/
set_option maxRecDepth 100000
theorem nr_up (l : List Rat) : ∀ {y0 y1 : Rat}, y0 < y1 → ∃ y, y0 < y ∧ y < y1 ∧ ∀ c ∈ l, c ≤ y0 ∨ y < c := by
  induction l with
  | nil => intro y0 y1 h; exact ⟨(y0 + y1) / 2, by grind, by grind, fun c hc => (List.not_mem_nil hc).elim⟩
  | cons c l ih =>
    intro y0 y1 h
    obtain ⟨y, h1, h2, h3⟩ := ih h
    by_cases a : c ≤ y0
    · exact ⟨y, h1, h2, fun d hd => (List.mem_cons.mp hd).elim (fun e => Or.inl (e ▸ a)) (h3 d)⟩
    · by_cases b : y < c
      · exact ⟨y, h1, h2, fun d hd => (List.mem_cons.mp hd).elim (fun e => Or.inr (e ▸ b)) (h3 d)⟩
      · refine ⟨(y0 + c) / 2, by grind, by grind, fun d hd => ?_⟩
        rcases List.mem_cons.mp hd with e | e
        · right; rw [e]; grind
        · rcases h3 d e with w | w
          · exact Or.inl w
          · right; grind
theorem nr_dn (l : List Rat) : ∀ {y0 y1 : Rat}, y0 < y1 → ∃ y, y0 < y ∧ y < y1 ∧ ∀ c ∈ l, c < y ∨ y1 ≤ c := by
  induction l with
  | nil => intro y0 y1 h; exact ⟨(y0 + y1) / 2, by grind, by grind, fun c hc => (List.not_mem_nil hc).elim⟩
  | cons c l ih =>
    intro y0 y1 h
    obtain ⟨y, h1, h2, h3⟩ := ih h
    by_cases a : y1 ≤ c
    · exact ⟨y, h1, h2, fun d hd => (List.mem_cons.mp hd).elim (fun e => Or.inr (e ▸ a)) (h3 d)⟩
    · by_cases b : c < y
      · exact ⟨y, h1, h2, fun d hd => (List.mem_cons.mp hd).elim (fun e => Or.inl (e ▸ b)) (h3 d)⟩
      · refine ⟨(c + y1) / 2, by grind, by grind, fun d hd => ?_⟩
        rcases List.mem_cons.mp hd with e | e
        · left; rw [e]; grind
        · rcases h3 d e with w | w
          · left; grind
          · exact Or.inr w
section HT
variable {n : Nat} {L : Nat → Sg}
/-- no point there, no line through there -/
def gen (n : Nat) (L : Nat → Sg) (t : Nat) (y : Rat) : Prop := (∀ p, p < (ptN L n).1 → ((ptN L n).2 p).1 = xX n L t → ((ptN L n).2 p).2 ≠ y) ∧ (∀ i, i < nGr n L t → vY n L t i (xX n L t) ≠ y) ∧ ∀ i, i < nGr n L (t + 1) → vY n L (t + 1) i (xX n L t) ≠ y
def cvr (n : Nat) (L : Nat → Sg) (t : Nat) (y : Rat) : Prop := ∃ l, l < n ∧ upA L (xX n L t) l ∧ ((L l).2.1 : Rat) < y ∧ y < ((L l).2.2.2 : Rat)
def plc (n : Nat) (L : Nat → Sg) (t a b : Nat) (y : Rat) : Prop := a ≤ nGr n L t ∧ b ≤ nGr n L (t + 1) ∧ (∀ i, i < nGr n L t → (vY n L t i (xX n L t) < y ↔ i < a)) ∧ ∀ i, i < nGr n L (t + 1) → (vY n L (t + 1) i (xX n L t) < y ↔ i < b)
def crl (n : Nat) (L : Nat → Sg) (t : Nat) : List Rat := ((List.range (ptN L n).1).map (fun p => ((ptN L n).2 p).2) ++ (List.range (nGr n L t)).map (fun i => vY n L t i (xX n L t))) ++ (List.range (nGr n L (t + 1))).map (fun i => vY n L (t + 1) i (xX n L t))
theorem crl_p {t p : Nat} (h : p < (ptN L n).1) : ((ptN L n).2 p).2 ∈ crl n L t := List.mem_append_left _ (List.mem_append_left _ (List.mem_map.mpr ⟨p, List.mem_range.mpr h, rfl⟩))
theorem crl_l {t i : Nat} (h : i < nGr n L t) : vY n L t i (xX n L t) ∈ crl n L t := List.mem_append_left _ (List.mem_append_right _ (List.mem_map.mpr ⟨i, List.mem_range.mpr h, rfl⟩))
theorem crl_r {t i : Nat} (h : i < nGr n L (t + 1)) : vY n L (t + 1) i (xX n L t) ∈ crl n L t := List.mem_append_right _ (List.mem_map.mpr ⟨i, List.mem_range.mpr h, rfl⟩)
theorem gen_of {t : Nat} {y : Rat} (h : ∀ c ∈ crl n L t, c ≠ y) : gen n L t y := ⟨fun _ hp _ => h _ (crl_p hp), fun _ hi => h _ (crl_l hi), fun _ hi => h _ (crl_r hi)⟩
theorem up_near (n : Nat) (L : Nat → Sg) (t : Nat) {y0 y1 : Rat} (h : y0 < y1) : ∃ y, y0 < y ∧ y < y1 ∧ gen n L t y ∧ ∀ c ∈ crl n L t, c < y → c ≤ y0 := by
  obtain ⟨y, h1, h2, h3⟩ := nr_up (crl n L t) h
  refine ⟨y, h1, h2, gen_of fun c hc e => ?_, fun c hc w => ?_⟩
  · rcases h3 c hc with w | w <;> grind
  · rcases h3 c hc with v | v
    · exact v
    · grind
theorem dn_near (n : Nat) (L : Nat → Sg) (t : Nat) {y0 y1 : Rat} (h : y0 < y1) : ∃ y, y0 < y ∧ y < y1 ∧ gen n L t y ∧ ∀ c ∈ crl n L t, y < c → y1 ≤ c := by
  obtain ⟨y, h1, h2, h3⟩ := nr_dn (crl n L t) h
  refine ⟨y, h1, h2, gen_of fun c hc e => ?_, fun c hc w => ?_⟩
  · rcases h3 c hc with w | w <;> grind
  · rcases h3 c hc with v | v
    · grind
    · exact v
theorem vY_up (hL : LOk n L) {t i j : Nat} (h : i ≤ j) (hj : j < nGr n L t) : vY n L t i (xX n L t) ≤ vY n L t j (xX n L t) := (vY_mono hL h hj).2
theorem vY_up' (hL : LOk n L) {t i j : Nat} (h : i ≤ j) (hj : j < nGr n L (t + 1)) : vY n L (t + 1) i (xX n L t) ≤ vY n L (t + 1) j (xX n L t) := (vY_mono hL h hj).1
theorem plc1 {m : Nat} {f : Nat → Rat} (h : ∀ i j, i ≤ j → j < m → f i ≤ f j) (y : Rat) : ∃ a, a ≤ m ∧ ∀ i, i < m → (f i < y ↔ i < a) := by
  obtain ⟨a1, a2, a3⟩ := @fst1_e (fun i => decide (y ≤ f i)) m
  refine ⟨_, a1, fun i hi => ⟨fun w => Nat.not_le.mp fun v => ?_, fun w => ?_⟩⟩
  · have := of_decide_eq_true (a3 (by omega))
    have := h _ i v hi
    grind
  · have := of_decide_eq_false (a2 i w)
    exact Rat.not_le.mp this
theorem plc_ex (hL : LOk n L) (t : Nat) (y : Rat) : ∃ a b, plc n L t a b y := by
  obtain ⟨a, a1, a2⟩ := plc1 (fun i j => @vY_up n L hL t i j) y
  obtain ⟨b, b1, b2⟩ := plc1 (fun i j => @vY_up' n L hL t i j) y
  exact ⟨a, b, a1, b1, a2, b2⟩
theorem plc_un {t a b a' b' : Nat} {y y' : Rat} (h : plc n L t a b y) (h' : plc n L t a' b' y') (e1 : ∀ i, i < nGr n L t → (vY n L t i (xX n L t) < y ↔ vY n L t i (xX n L t) < y')) (e2 : ∀ i, i < nGr n L (t + 1) → (vY n L (t + 1) i (xX n L t) < y ↔ vY n L (t + 1) i (xX n L t) < y')) : a = a' ∧ b = b' := by
  obtain ⟨h1, h2, h3, h4⟩ := h
  obtain ⟨k1, k2, k3, k4⟩ := h'
  constructor
  · rcases Nat.lt_trichotomy a a' with w | w | w
    · have := ((h3 a (by omega)).mp ((e1 a (by omega)).mpr ((k3 a (by omega)).mpr w))); omega
    · exact w
    · have := ((k3 a' (by omega)).mp ((e1 a' (by omega)).mp ((h3 a' (by omega)).mpr w))); omega
  · rcases Nat.lt_trichotomy b b' with w | w | w
    · have := ((h4 b (by omega)).mp ((e2 b (by omega)).mpr ((k4 b (by omega)).mpr w))); omega
    · exact w
    · have := ((k4 b' (by omega)).mp ((e2 b' (by omega)).mp ((h4 b' (by omega)).mpr w))); omega
theorem gre_or {p q : Option Rat} {u : Rat} (h : gre p q = some u) : p = some u ∨ q = some u := by
  unfold gre at h
  split at h
  · exact Or.inr h
  · exact Or.inl h
  · split at h
    · exact Or.inl h
    · exact Or.inr h
theorem les_or {p q : Option Rat} {u : Rat} (h : les p q = some u) : p = some u ∨ q = some u := by
  unfold les at h
  split at h
  · exact Or.inr h
  · exact Or.inl h
  · split at h
    · exact Or.inl h
    · exact Or.inr h
theorem gre_no {p q : Option Rat} (h : gre p q = none) : p = none ∧ q = none := by
  cases p with
  | none => exact ⟨rfl, h⟩
  | some a =>
    cases q with
    | none => cases h
    | some b => unfold gre at h; simp only at h; split at h <;> cases h
theorem les_no {p q : Option Rat} (h : les p q = none) : p = none ∧ q = none := by
  cases p with
  | none => exact ⟨rfl, h⟩
  | some a =>
    cases q with
    | none => cases h
    | some b => unfold les at h; simp only at h; split at h <;> cases h
theorem lo_s {S g : Nat} {x u : Rat} (h : loY n L S g x = some u) : g ≠ 0 ∧ u = vY n L S (g - 1) x := by
  unfold loY at h
  split at h
  · cases h
  · rename_i c; exact ⟨c, (Option.some.inj h).symm⟩
theorem hi_s {S g : Nat} {x u : Rat} (h : hiY n L S g x = some u) : g < nGr n L S ∧ u = vY n L S g x := by
  unfold hiY at h
  split at h
  · rename_i c; exact ⟨c, (Option.some.inj h).symm⟩
  · cases h
theorem lo_n {S g : Nat} {x : Rat} (h : loY n L S g x = none) : g = 0 := by
  unfold loY at h
  split at h
  · assumption
  · cases h
theorem hi_n {S g : Nat} {x : Rat} (h : hiY n L S g x = none) : ¬ g < nGr n L S := by
  unfold hiY at h
  split at h
  · cases h
  · assumption
theorem face_of (hL : LOk n L) {t a b : Nat} {y : Rat} (ht : t < nX n L) (hg : gen n L t y) (hc : ¬ cvr n L t y) (hp : plc n L t a b y) : (fcN n L t + a, fcN n L (t + 1) + b) ∈ esJ n L := by
  obtain ⟨p1, p2, p3, p4⟩ := hp
  obtain ⟨g1, g2, g3⟩ := hg
  have lo : ∀ u, lwP n L t a b = some u → u < y := by
    intro u hu
    rcases gre_or hu with w | w
    · obtain ⟨c, e⟩ := lo_s w; rw [e]; exact (p3 _ (by omega)).mpr (by omega)
    · obtain ⟨c, e⟩ := lo_s w; rw [e]; exact (p4 _ (by omega)).mpr (by omega)
  have hi : ∀ u, hgP n L t a b = some u → y < u := by
    intro u hu
    rcases les_or hu with w | w
    · obtain ⟨c, e⟩ := hi_s w
      have := g2 a c
      have : ¬ vY n L t a (xX n L t) < y := fun z => Nat.lt_irrefl _ ((p3 a c).mp z)
      rw [e]; grind
    · obtain ⟨c, e⟩ := hi_s w
      have := g3 b c
      have : ¬ vY n L (t + 1) b (xX n L t) < y := fun z => Nat.lt_irrefl _ ((p4 b c).mp z)
      rw [e]; grind
  refine esJ_e.mpr ⟨t, ht, a, b, p1, p2, fun u v hu hv => ?_, rfl, ?_⟩
  · have := lo u hu
    have := hi v hv
    grind
  · unfold opnP
    cases e1 : lwP n L t a b with
    | none => exact Or.inl rfl
    | some u =>
      cases e2 : hgP n L t a b with
      | none => exact Or.inr (Or.inl rfl)
      | some v =>
        refine Or.inr (Or.inr ⟨u, v, y, rfl, rfl, Rat.le_of_lt (lo u e1), hi v e2, fun l hl up w => hc ⟨l, hl, up, ?_, w.2⟩⟩)
        obtain ⟨⟨ia, ha, ea⟩, -⟩ := pt_ends (L := L) hl
        have := g1 ia ha (by rw [ea]; exact up.2)
        rw [ea] at this
        have : ((L l).2.1 : Rat) ≠ y := this
        have := w.1
        grind
theorem pt_40 (hL : LOk n L) {i : Nat} (hi : i < (ptN L n).1) : 0 ≤ ((ptN L n).2 i).2 ∧ ((ptN L n).2 i).2 ≤ 40 := by
  obtain ⟨l, hl, ho⟩ := pt_on hL hi
  by_cases sl : isSl (L l)
  · obtain ⟨a, b, c⟩ := (onB_sl (hL.2 l hl) sl (x := ((ptN L n).2 i).1) (y := ((ptN L n).2 i).2)).mp ho
    rw [c]
    exact yv_r (hL.2 l hl) sl a b
  · obtain ⟨a, b, c⟩ := (onB_up (hL.2 l hl) sl (x := ((ptN L n).2 i).1) (y := ((ptN L n).2 i).2)).mp ho
    have h := hL.2 l hl
    have z1 : ((0 : Int) : Rat) ≤ ((L l).2.1 : Rat) := Rat.intCast_le_intCast.mpr h.2.1.1
    have z2 : ((L l).2.2.2 : Rat) ≤ ((40 : Int) : Rat) := Rat.intCast_le_intCast.mpr h.2.2.2.1.2
    exact ⟨Rat.le_trans z1 b, Rat.le_trans c z2⟩
theorem far_e (hL : LOk n L) {t a b : Nat} {y : Rat} (ha : a ≤ nGr n L t) (hb : b ≤ nGr n L (t + 1)) (h : (y = -1 ∧ a = 0 ∧ b = 0) ∨ (y = 41 ∧ a = nGr n L t ∧ b = nGr n L (t + 1))) : gen n L t y ∧ ¬ cvr n L t y ∧ plc n L t a b y := by
  have v1 : ∀ i, i < nGr n L t → 0 ≤ vY n L t i (xX n L t) ∧ vY n L t i (xX n L t) ≤ 40 := fun i hi => (vY_r hL hi).2
  have v2 : ∀ i, i < nGr n L (t + 1) → 0 ≤ vY n L (t + 1) i (xX n L t) ∧ vY n L (t + 1) i (xX n L t) ≤ 40 := fun i hi => (vY_r hL hi).1
  have ne : ∀ c : Rat, 0 ≤ c ∧ c ≤ 40 → c ≠ y ∧ (c < y ↔ y = 41) := by
    intro c hc
    rcases h with ⟨e, -⟩ | ⟨e, -⟩ <;> constructor <;> grind
  refine ⟨⟨fun p hp _ => (ne _ (pt_40 hL hp)).1, fun i hi => (ne _ (v1 i hi)).1, fun i hi => (ne _ (v2 i hi)).1⟩, ?_, ha, hb, fun i hi => ?_, fun i hi => ?_⟩
  · rintro ⟨l, hl, -, c1, c2⟩
    have h' := hL.2 l hl
    have z1 : ((0 : Int) : Rat) ≤ ((L l).2.1 : Rat) := Rat.intCast_le_intCast.mpr h'.2.1.1
    have z2 : ((L l).2.2.2 : Rat) ≤ ((40 : Int) : Rat) := Rat.intCast_le_intCast.mpr h'.2.2.2.1.2
    have z3 : ((0 : Int) : Rat) = 0 := rfl
    have z4 : ((40 : Int) : Rat) = 40 := rfl
    rcases h with ⟨e, -⟩ | ⟨e, -⟩ <;> grind
  · rw [(ne _ (v1 i hi)).2]
    rcases h with ⟨e, e1, -⟩ | ⟨e, e1, -⟩
    · have : ¬ y = 41 := by grind
      exact ⟨fun w => absurd w this, fun w => by omega⟩
    · exact ⟨fun _ => by omega, fun _ => e⟩
  · rw [(ne _ (v2 i hi)).2]
    rcases h with ⟨e, -, e1⟩ | ⟨e, -, e1⟩
    · have : ¬ y = 41 := by grind
      exact ⟨fun w => absurd w this, fun w => by omega⟩
    · exact ⟨fun _ => by omega, fun _ => e⟩
theorem cell_at (hL : LOk n L) {t a b : Nat} (ha : a ≤ nGr n L t) (hb : b ≤ nGr n L (t + 1)) (ho : opnP n L (xX n L t) (lwP n L t a b) (hgP n L t a b)) : ∃ y, gen n L t y ∧ ¬ cvr n L t y ∧ plc n L t a b y := by
  rcases ho with w | w | ⟨u, v, y0, e1, e2, h1, h2, h3⟩
  · obtain ⟨w1, w2⟩ := gre_no w
    exact ⟨-1, far_e hL ha hb (Or.inl ⟨rfl, lo_n w1, lo_n w2⟩)⟩
  · obtain ⟨w1, w2⟩ := les_no w
    have := hi_n w1
    have := hi_n w2
    exact ⟨41, far_e hL ha hb (Or.inr ⟨rfl, by omega, by omega⟩)⟩
  · obtain ⟨y, k1, k2, k3, k4⟩ := up_near n L t h2
    refine ⟨y, k3, ?_, ha, hb, fun i hi => ⟨fun w => Nat.not_le.mp fun z => ?_, fun w => ?_⟩, fun i hi => ⟨fun w => Nat.not_le.mp fun z => ?_, fun w => ?_⟩⟩
    · rintro ⟨l, hl, up, c1, c2⟩
      refine h3 l hl up ⟨?_, by grind⟩
      obtain ⟨⟨ia, ha', ea⟩, -⟩ := pt_ends (L := L) hl
      have m := crl_p (n := n) (L := L) (t := t) ha'
      rw [ea] at m
      exact k4 _ m c1
    · have := vY_up hL z hi
      obtain ⟨w', q1, q2⟩ := les_le (p := hiY n L t a (xX n L t)) (q := hiY n L (t + 1) b (xX n L t)) (u := vY n L t a (xX n L t)) (Or.inl (if_pos (by omega)))
      have : w' = v := Option.some.inj (q1.symm.trans e2)
      grind
    · have := vY_up hL (show i ≤ a - 1 by omega) (show a - 1 < nGr n L t by omega)
      obtain ⟨w', q1, q2⟩ := gre_ge (p := loY n L t a (xX n L t)) (q := loY n L (t + 1) b (xX n L t)) (u := vY n L t (a - 1) (xX n L t)) (Or.inl (if_neg (by omega)))
      have : w' = u := Option.some.inj (q1.symm.trans e1)
      grind
    · have := vY_up' hL z hi
      obtain ⟨w', q1, q2⟩ := les_le (p := hiY n L t a (xX n L t)) (q := hiY n L (t + 1) b (xX n L t)) (u := vY n L (t + 1) b (xX n L t)) (Or.inr (if_pos (by omega)))
      have : w' = v := Option.some.inj (q1.symm.trans e2)
      grind
    · have := vY_up' hL (show i ≤ b - 1 by omega) (show b - 1 < nGr n L (t + 1) by omega)
      obtain ⟨w', q1, q2⟩ := gre_ge (p := loY n L t a (xX n L t)) (q := loY n L (t + 1) b (xX n L t)) (u := vY n L (t + 1) (b - 1) (xX n L t)) (Or.inr (if_neg (by omega)))
      have : w' = u := Option.some.inj (q1.symm.trans e1)
      grind
end HT
