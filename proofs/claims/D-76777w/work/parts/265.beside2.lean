/-! UPRIGHTS BESIDE A CELL are those between it and the cells over there -/
set_option maxRecDepth 100000
section BB
variable {n : Nat} {L : Nat → Sg}
theorem bdM_r (hL : LOk n L) {t a l : Nat} (ht : t < nX n L) (hg : a ≤ nGr n L t) : (bdM n L t t a).testBit l = true ↔ ∃ b, b ≤ nGr n L (t + 1) ∧ ovP (lwP n L t a b) (hgP n L t a b) ∧ (upS n L (xX n L t) (lwP n L t a b) (hgP n L t a b)).testBit l = true := by
  rw [bdM_e]
  constructor
  · rintro ⟨hl, up, h⟩
    obtain ⟨y, y1, y2, y3, -⟩ := up_near n L t h
    have hs := hL.2 l hl
    have z1 : ((0 : Int) : Rat) ≤ ((L l).2.1 : Rat) := Rat.intCast_le_intCast.mpr hs.2.1.1
    have z2 : ((L l).2.2.2 : Rat) ≤ ((40 : Int) : Rat) := Rat.intCast_le_intCast.mpr hs.2.2.2.1.2
    have z3 : ((0 : Int) : Rat) = 0 := rfl
    have z4 : ((40 : Int) : Rat) = 40 := rfl
    have q1 : nwL (-100000) (loY n L t a (xX n L t)) < y ∧ ((L l).2.1 : Rat) < y := by
      split at y1 <;> constructor <;> grind
    have q2 : y < nwH 100000 (hiY n L t a (xX n L t)) ∧ y < ((L l).2.2.2 : Rat) := by
      split at y2 <;> constructor <;> grind
    have oL : o40 (loY n L t a (xX n L t)) := (lo_40 hL hg (Nat.zero_le _)).1
    have oH : o40 (hiY n L t a (xX n L t)) := (hi_40 hL t a 0).1
    have w1 := (nwL_lt oL (by grind)).mp q1.1
    have w2 := (nwH_lt oH (by grind)).mp q2.1
    obtain ⟨a', b', p⟩ := plc_ex hL t y
    have p' := p
    obtain ⟨p1, p2, p3, p4⟩ := p'
    have e : a' = a := by
      rcases Nat.lt_trichotomy a' a with c | c | c
      · have := (p3 (a - 1) (by omega)).mp (w1 _ (if_neg (by omega)))
        omega
      · exact c
      · have k1 := (p3 a (by omega)).mpr c
        have k2 := w2 (vY n L t a (xX n L t)) (if_pos (by omega))
        grind
    subst e
    obtain ⟨v1, v2⟩ := wall_at hL hl up y3 p q1.2 q2.2
    exact ⟨b', p2, v1, v2⟩
  · rintro ⟨b, ho, ov, hu⟩
    obtain ⟨hl, up, h⟩ := upS_e.mp hu
    refine ⟨hl, up, ?_⟩
    have hs := hL.2 l hl
    have z1 : ((0 : Int) : Rat) ≤ ((L l).2.1 : Rat) := Rat.intCast_le_intCast.mpr hs.2.1.1
    have z2 : ((L l).2.2.2 : Rat) ≤ ((40 : Int) : Rat) := Rat.intCast_le_intCast.mpr hs.2.2.2.1.2
    have z3 : ((0 : Int) : Rat) = 0 := rfl
    have z4 : ((40 : Int) : Rat) = 40 := rfl
    obtain ⟨y, y1, y2, -⟩ := up_near n L t h
    obtain ⟨q1, q2⟩ := mxO_lt.mp y1
    obtain ⟨q3, q4⟩ := mnO_lt.mp y2
    have oL : o40 (loY n L t a (xX n L t)) := (lo_40 hL hg (Nat.zero_le _)).1
    have oH : o40 (hiY n L t a (xX n L t)) := (hi_40 hL t a 0).1
    have w1 := (nwL_lt oL (y := y) (by grind)).mpr (fun u hu => by
      obtain ⟨w, r1, r2⟩ := gre_ge (p := loY n L t a (xX n L t)) (q := loY n L (t + 1) b (xX n L t)) (u := u) (Or.inl hu)
      have := q2 w r1
      grind)
    have w2 := (nwH_lt oH (y := y) (by grind)).mpr (fun u hu => by
      obtain ⟨w, r1, r2⟩ := les_le (p := hiY n L t a (xX n L t)) (q := hiY n L (t + 1) b (xX n L t)) (u := u) (Or.inl hu)
      have := q4 w r1
      grind)
    exact mm_4.mpr ⟨by grind, by grind, by grind, by grind⟩
theorem bdM_l (hL : LOk n L) {t b l : Nat} (ht : t < nX n L) (hg : b ≤ nGr n L (t + 1)) : (bdM n L t (t + 1) b).testBit l = true ↔ ∃ a, a ≤ nGr n L t ∧ ovP (lwP n L t a b) (hgP n L t a b) ∧ (upS n L (xX n L t) (lwP n L t a b) (hgP n L t a b)).testBit l = true := by
  rw [bdM_e]
  constructor
  · rintro ⟨hl, up, h⟩
    obtain ⟨y, y1, y2, y3, -⟩ := up_near n L t h
    have hs := hL.2 l hl
    have z1 : ((0 : Int) : Rat) ≤ ((L l).2.1 : Rat) := Rat.intCast_le_intCast.mpr hs.2.1.1
    have z2 : ((L l).2.2.2 : Rat) ≤ ((40 : Int) : Rat) := Rat.intCast_le_intCast.mpr hs.2.2.2.1.2
    have z3 : ((0 : Int) : Rat) = 0 := rfl
    have z4 : ((40 : Int) : Rat) = 40 := rfl
    have q1 : nwL (-100000) (loY n L (t + 1) b (xX n L t)) < y ∧ ((L l).2.1 : Rat) < y := by
      split at y1 <;> constructor <;> grind
    have q2 : y < nwH 100000 (hiY n L (t + 1) b (xX n L t)) ∧ y < ((L l).2.2.2 : Rat) := by
      split at y2 <;> constructor <;> grind
    have oL : o40 (loY n L (t + 1) b (xX n L t)) := (lo_40 hL (Nat.zero_le _) hg).2
    have oH : o40 (hiY n L (t + 1) b (xX n L t)) := (hi_40 hL t 0 b).2
    have w1 := (nwL_lt oL (by grind)).mp q1.1
    have w2 := (nwH_lt oH (by grind)).mp q2.1
    obtain ⟨a', b', p⟩ := plc_ex hL t y
    have p' := p
    obtain ⟨p1, p2, p3, p4⟩ := p'
    have e : b' = b := by
      rcases Nat.lt_trichotomy b' b with c | c | c
      · have := (p4 (b - 1) (by omega)).mp (w1 _ (if_neg (by omega)))
        omega
      · exact c
      · have k1 := (p4 b (by omega)).mpr c
        have k2 := w2 (vY n L (t + 1) b (xX n L t)) (if_pos (by omega))
        grind
    subst e
    obtain ⟨v1, v2⟩ := wall_at hL hl up y3 p q1.2 q2.2
    exact ⟨a', p1, v1, v2⟩
  · rintro ⟨a, ho, ov, hu⟩
    obtain ⟨hl, up, h⟩ := upS_e.mp hu
    refine ⟨hl, up, ?_⟩
    have hs := hL.2 l hl
    have z1 : ((0 : Int) : Rat) ≤ ((L l).2.1 : Rat) := Rat.intCast_le_intCast.mpr hs.2.1.1
    have z2 : ((L l).2.2.2 : Rat) ≤ ((40 : Int) : Rat) := Rat.intCast_le_intCast.mpr hs.2.2.2.1.2
    have z3 : ((0 : Int) : Rat) = 0 := rfl
    have z4 : ((40 : Int) : Rat) = 40 := rfl
    obtain ⟨y, y1, y2, -⟩ := up_near n L t h
    obtain ⟨q1, q2⟩ := mxO_lt.mp y1
    obtain ⟨q3, q4⟩ := mnO_lt.mp y2
    have oL : o40 (loY n L (t + 1) b (xX n L t)) := (lo_40 hL (Nat.zero_le _) hg).2
    have oH : o40 (hiY n L (t + 1) b (xX n L t)) := (hi_40 hL t 0 b).2
    have w1 := (nwL_lt oL (y := y) (by grind)).mpr (fun u hu => by
      obtain ⟨w, r1, r2⟩ := gre_ge (p := loY n L t a (xX n L t)) (q := loY n L (t + 1) b (xX n L t)) (u := u) (Or.inr hu)
      have := q2 w r1
      grind)
    have w2 := (nwH_lt oH (y := y) (by grind)).mpr (fun u hu => by
      obtain ⟨w, r1, r2⟩ := les_le (p := hiY n L t a (xX n L t)) (q := hiY n L (t + 1) b (xX n L t)) (u := u) (Or.inr hu)
      have := q4 w r1
      grind)
    exact mm_4.mpr ⟨by grind, by grind, by grind, by grind⟩
end BB
