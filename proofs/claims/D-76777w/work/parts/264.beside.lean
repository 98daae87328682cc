/-! UPRIGHTS BESIDE A CELL: those between it and one of the cells over there -/
set_option maxRecDepth 100000
section BS
variable {n : Nat} {L : Nat → Sg}
theorem plc_lw {t a b : Nat} {y : Rat} (hg : gen n L t y) (hp : plc n L t a b y) : (∀ u, lwP n L t a b = some u → u < y) ∧ ∀ u, hgP n L t a b = some u → y < u := by
  obtain ⟨p1, p2, p3, p4⟩ := hp
  obtain ⟨g1, g2, g3⟩ := hg
  constructor
  · intro u hu
    rcases gre_or hu with w | w
    · obtain ⟨c, e⟩ := lo_s w; rw [e]; exact (p3 _ (by omega)).mpr (by omega)
    · obtain ⟨c, e⟩ := lo_s w; rw [e]; exact (p4 _ (by omega)).mpr (by omega)
  · intro u hu
    rcases les_or hu with w | w
    · obtain ⟨c, e⟩ := hi_s w
      have := g2 a c
      have : ¬ vY n L t a (xX n L t) < y := fun z => Nat.lt_irrefl _ ((p3 a c).mp z)
      rw [e]; grind
    · obtain ⟨c, e⟩ := hi_s w
      have := g3 b c
      have : ¬ vY n L (t + 1) b (xX n L t) < y := fun z => Nat.lt_irrefl _ ((p4 b c).mp z)
      rw [e]; grind
theorem upS_e {x : Rat} {low high : Option Rat} {l : Nat} : (upS n L x low high).testBit l = true ↔ l < n ∧ upA L x l ∧ mxO low ((L l).2.1 : Rat) < mnO high ((L l).2.2.2 : Rat) := by
  unfold upS upB upA slB isSl
  rw [ms_bit]
  simp only [Bool.and_eq_true, decide_eq_true_iff, Bool.not_eq_true', decide_eq_false_iff_not]
theorem bdM_e {t S g l : Nat} : (bdM n L t S g).testBit l = true ↔ l < n ∧ upA L (xX n L t) l ∧ (if ((L l).2.1 : Rat) ≤ nwL (-100000) (loY n L S g (xX n L t)) then nwL (-100000) (loY n L S g (xX n L t)) else ((L l).2.1 : Rat)) < (if nwH 100000 (hiY n L S g (xX n L t)) ≤ ((L l).2.2.2 : Rat) then nwH 100000 (hiY n L S g (xX n L t)) else ((L l).2.2.2 : Rat)) := by
  unfold bdM upM upA slB isSl
  rw [ms_bit]
  simp only [Bool.and_eq_true, decide_eq_true_iff, Bool.not_eq_true', decide_eq_false_iff_not]
theorem mm_4 {a b lo hi : Rat} : (if a ≤ lo then lo else a) < (if hi ≤ b then hi else b) ↔ lo < hi ∧ lo < b ∧ a < hi ∧ a < b := by
  constructor
  · intro h
    split at h <;> split at h <;> refine ⟨?_, ?_, ?_, ?_⟩ <;> grind
  · rintro ⟨h1, h2, h3, h4⟩
    split <;> split <;> assumption
theorem mxO_lt {o : Option Rat} {a y : Rat} : mxO o a < y ↔ a < y ∧ ∀ u, o = some u → u < y := by
  unfold mxO
  cases o with
  | none => exact ⟨fun h => ⟨h, fun u e => by cases e⟩, fun h => h.1⟩
  | some w =>
    simp only
    constructor
    · intro h
      split at h
      · exact ⟨by grind, fun u e => by cases e; exact h⟩
      · exact ⟨h, fun u e => by cases e; grind⟩
    · rintro ⟨h1, h2⟩
      have := h2 w rfl
      split <;> assumption
theorem mnO_lt {o : Option Rat} {b y : Rat} : y < mnO o b ↔ y < b ∧ ∀ u, o = some u → y < u := by
  unfold mnO
  cases o with
  | none => exact ⟨fun h => ⟨h, fun u e => by cases e⟩, fun h => h.1⟩
  | some w =>
    simp only
    constructor
    · intro h
      split at h
      · exact ⟨by grind, fun u e => by cases e; exact h⟩
      · exact ⟨h, fun u e => by cases e; grind⟩
    · rintro ⟨h1, h2⟩
      have := h2 w rfl
      split <;> assumption
theorem nwL_lt {o : Option Rat} (h : o40 o) {y : Rat} (hy : 0 ≤ y) : nwL (-100000) o < y ↔ ∀ u, o = some u → u < y := by
  unfold nwL
  cases o with
  | none => exact ⟨fun _ => (fun u (e : none = some u) => nomatch e), fun _ => by grind⟩
  | some w =>
    have := h w rfl
    simp only
    rw [if_pos (by grind)]
    exact ⟨fun h u e => by cases e; exact h, fun h => h w rfl⟩
theorem nwH_lt {o : Option Rat} (h : o40 o) {y : Rat} (hy : y ≤ 40) : y < nwH 100000 o ↔ ∀ u, o = some u → y < u := by
  unfold nwH
  cases o with
  | none => exact ⟨fun _ => (fun u (e : none = some u) => nomatch e), fun _ => by grind⟩
  | some w =>
    have := h w rfl
    simp only
    rw [if_pos (by grind)]
    exact ⟨fun h u e => by cases e; exact h, fun h => h w rfl⟩
/-- an upright that has a generic place with a cell has it with one over there -/
theorem wall_at (hL : LOk n L) {t a b l : Nat} {y : Rat} (hl : l < n) (up : upA L (xX n L t) l) (hg : gen n L t y) (hp : plc n L t a b y) (h1 : ((L l).2.1 : Rat) < y) (h2 : y < ((L l).2.2.2 : Rat)) : ovP (lwP n L t a b) (hgP n L t a b) ∧ (upS n L (xX n L t) (lwP n L t a b) (hgP n L t a b)).testBit l = true := by
  obtain ⟨w1, w2⟩ := plc_lw hg hp
  refine ⟨fun u v hu hv => by have := w1 u hu; have := w2 v hv; grind, upS_e.mpr ⟨hl, up, ?_⟩⟩
  have a1 := mxO_lt.mpr ⟨h1, w1⟩
  have a2 := mnO_lt.mpr ⟨h2, w2⟩
  grind
end BS
