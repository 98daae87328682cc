/-! THE MODEL'S MEETING OF TWO LINES -/
set_option maxRecDepth 100000
theorem row_e {N : Nat} {σ : MSt} {n : Nat} {L : Nat → Sg} (h : MLn σ n L) (hL : LOk n L) {a b : Nat} (ha : a < n) (hb : b < n) :
    F_meetInRow N σ (i32 a) (i32 b) = some (sJ (sJ (sJ (sI σ 5 (i32 (rwH (L a) (L b)))) 6 (i64 (rwX (L a) (L b)).1)) 7 (i64 (rwX (L a) (L b)).2)) 8 1) := by
  obtain ⟨p1, p2, p3, p4⟩ := h.2 a ha
  obtain ⟨q1, q2, q3, q4⟩ := h.2 b hb
  have A : ∀ {α : Type} (k : Nat → Option α), ck (i32 (a : Int)) 10 k = k a := fun k => ck_n (by have := hL.1; omega) (by decide) k
  have B : ∀ {α : Type} (k : Nat → Option α), ck (i32 (b : Int)) 10 k = k b := fun k => ck_n (by have := hL.1; omega) (by decide) k
  obtain ⟨a1, a2, a3, a4, -⟩ := hL.2 a ha
  obtain ⟨b1, b2, b3, b4, -⟩ := hL.2 b hb
  generalize L a = s at *
  generalize L b = t at *
  obtain ⟨ax, ay, bx, b_y⟩ := s
  obtain ⟨cx, cy, dx, dy⟩ := t
  simp only at p1 p2 p3 p4 q1 q2 q3 q4 a1 a2 a3 a4 b1 b2 b3 b4
  have fin : ∀ (X Y U V : Int), (0 ≤ X ∧ X ≤ 40) → (0 ≤ Y ∧ Y ≤ 40) → (0 ≤ U ∧ U ≤ 40) → (0 ≤ V ∧ V ≤ 40) → F_meetInRow_b141 N σ (i32 X) (i32 Y) (i32 U) (i32 V) = some (sJ (sJ (sJ (sI σ 5 (i32 (if X < U then 3 else if X = U then if V ≤ Y then (if Y = V then 2 else 0) else 3 else 0))) 6 (i64 X)) 7 (i64 Y)) 8 1) := by
    intro X Y U V h1 h2 h3 h4
    unfold F_meetInRow_b141 F_meetInRow_b180 F_meetInRow_b181
    rw [isLess_i (by omega) (by omega) (by omega) (by omega), i32_to64 (by omega), i32_to64 (by omega)]
    simp only [Option.bind_some]
    rw [ite_ii (i32_eq (a := X) (b := U) (by omega) (by omega)), ite_ii (i32_eq (a := Y) (b := V) (by omega) (by omega))]
    by_cases c1 : X < U
    · simp [c1]; rfl
    · by_cases c2 : X = U
      · by_cases c3 : V ≤ Y
        · by_cases c4 : Y = V
          · simp [c2, c4]; rfl
          · simp [c2, c3, c4]; rfl
        · simp [c2, c3]; rfl
      · simp [c1, c2]; rfl
  unfold F_meetInRow F_meetInRow_b76 F_meetInRow_b97 F_meetInRow_b119
  simp only [A, B, p1, p2, p3, p4, q1, q2, q3, q4]
  rw [isLess_i (by omega) (by omega) (by omega) (by omega), isLess_i (by omega) (by omega) (by omega) (by omega)]
  simp only [Option.bind_some]
  rw [fin cx cy bx b_y (by omega) (by omega) (by omega) (by omega), fin cx cy dx dy (by omega) (by omega) (by omega) (by omega), fin ax ay bx b_y (by omega) (by omega) (by omega) (by omega), fin ax ay dx dy (by omega) (by omega) (by omega) (by omega)]
  unfold rwH rwX rwU
  simp only
  by_cases c1 : ax < cx
  · by_cases d1 : bx < dx
    · simp [c1, d1]
    · by_cases d2 : bx = dx
      · by_cases d3 : dy ≤ b_y
        · simp [c1, d2, d3]
        · simp [c1, d2, d3]
      · simp [c1, d1, d2]
  · by_cases c2 : ax = cx
    · by_cases c3 : cy ≤ ay
      · by_cases d1 : bx < dx
        · simp [c2, c3, d1]
        · by_cases d2 : bx = dx
          · by_cases d3 : dy ≤ b_y
            · simp [c2, c3, d2, d3]
            · simp [c2, c3, d2, d3]
          · simp [c2, c3, d1, d2]
      · by_cases d1 : bx < dx
        · simp [c2, c3, d1]
        · by_cases d2 : bx = dx
          · by_cases d3 : dy ≤ b_y
            · simp [c2, c3, d2, d3]
            · simp [c2, c3, d2, d3]
          · simp [c2, c3, d1, d2]
    · by_cases d1 : bx < dx
      · simp [c1, c2, d1]
      · by_cases d2 : bx = dx
        · by_cases d3 : dy ≤ b_y
          · simp [c1, c2, d2, d3]
          · simp [c1, c2, d2, d3]
        · simp [c1, c2, d1, d2]
/-- X, Y over B are the place where two lines meet -/
def isAt (a b : Sg) (σ : MSt) : Prop := ∃ X Y B : Int, gJ σ 6 = i64 X ∧ gJ σ 7 = i64 Y ∧ gJ σ 8 = i64 B ∧ 0 < B ∧ B ≤ 3200 ∧ bn X 256000 ∧ bn Y 256000 ∧ Rat.divInt X B = (atM a b).1 ∧ Rat.divInt Y B = (atM a b).2
theorem divI_1 (z : Int) : Rat.divInt z 1 = (z : Rat) := by
  apply Rat.ext
  · simp [Rat.num_divInt]
  · simp [Rat.den_divInt]
theorem meet_e {N : Nat} {σ : MSt} {n : Nat} {L : Nat → Sg} (h : MLn σ n L) (hL : LOk n L) {a b : Nat} (ha : a < n) (hb : b < n) :
    ∃ σ', F_meet N σ (i32 a) (i32 b) = some σ' ∧ mfr [5, 6, 7, 8] σ σ' ∧ gI σ' 5 = i32 (howM (L a) (L b)) ∧ (howM (L a) (L b) = 1 ∨ howM (L a) (L b) = 2 → isAt (L a) (L b) σ') := by
  have hr := row_e (N := N) (σ := sI σ 5 0) (h.fr ((mfr.rf [5] σ).I (by decide) 0) (by decide)) hL ha hb
  have hb190 := @b190_e N (sI σ 5 0) n L (h.fr ((mfr.rf [5] σ).I (by decide) 0) (by decide)) hL a ha
  obtain ⟨p1, p2, p3, p4⟩ := h.2 a ha
  obtain ⟨q1, q2, q3, q4⟩ := h.2 b hb
  have A : ∀ {α : Type} (k : Nat → Option α), ck (i32 (a : Int)) 10 k = k a := fun k => ck_n (by have := hL.1; omega) (by decide) k
  have B : ∀ {α : Type} (k : Nat → Option α), ck (i32 (b : Int)) 10 k = k b := fun k => ck_n (by have := hL.1; omega) (by decide) k
  have sa := hL.2 a ha
  have sb := hL.2 b hb
  obtain ⟨bD, bT, bU, bX, bY⟩ := met_bd sa sb
  have rx : bn ((L a).2.2.1 - (L a).1) 40 := bn_of (by have := sa.1; have := sa.2.2.1; omega)
  have ry : bn ((L a).2.2.2 - (L a).2.1) 40 := bn_of (by have := sa.2.1; have := sa.2.2.2.1; omega)
  have x1 : bn ((L a).1) 40 := bn_of (by have := sa.1; omega)
  have y1 : bn ((L a).2.1) 40 := bn_of (by have := sa.2.1; omega)
  have r3 := bn_32 bD (by decide)
  have r4 := bn_32 bT (by decide)
  have r5 := bn_32 bU (by decide)
  have e0 : F_meet N σ (i32 a) (i32 b) = if mD (L a) (L b) = 0 then (if mU (L a) (L b) = 0 then (if mT (L a) (L b) = 0 then F_meetInRow N (sI σ 5 0) (i32 a) (i32 b) else some (sI σ 5 0)) else some (sI σ 5 0)) else if 0 ≤ mD (L a) (L b) then F_meet_b190 N (sI σ 5 0) (i32 a) (i32 ((L a).2.2.1 - (L a).1)) (i32 ((L a).2.2.2 - (L a).2.1)) (i32 (mD (L a) (L b))) (i32 (mT (L a) (L b))) (i32 (mU (L a) (L b))) else F_meet_b190 N (sI σ 5 0) (i32 a) (i32 ((L a).2.2.1 - (L a).1)) (i32 ((L a).2.2.2 - (L a).2.1)) (i32 (-(mD (L a) (L b)))) (i32 (-(mT (L a) (L b)))) (i32 (-(mU (L a) (L b)))) := by
    unfold F_meet F_turn
    simp only [A, B, p1, p2, p3, p4, q1, q2, q3, q4, Option.bind_some, i32_sub, i32_mul, i32_neg]
    unfold mD mT mU at *
    rw [i32_0 r3, i32_0 r5, i32_0 r4, i32_nn r3]
    have : ∀ x : Option MSt, (x.bind fun w => some w) = x := fun x => by cases x <;> rfl
    rw [this]
  have bnd : ∀ {c D T U : Int}, (c = 1 ∨ c = -1) → D = c * mD (L a) (L b) → T = c * mT (L a) (L b) → U = c * mU (L a) (L b) → 0 < D → ∃ σ', F_meet_b190 N (sI σ 5 0) (i32 a) (i32 ((L a).2.2.1 - (L a).1)) (i32 ((L a).2.2.2 - (L a).2.1)) (i32 D) (i32 T) (i32 U) = some σ' ∧ mfr [5, 6, 7, 8] σ σ' ∧ gI σ' 5 = i32 (hwD D T U) ∧ (hwD D T U = 1 ∨ hwD D T U = 2 → isAt (L a) (L b) σ') := by
    intro c D T U hc hD hT hU hp
    have d0 : mD (L a) (L b) ≠ 0 := fun z => by rw [z] at hD; omega
    have c1 : bn D 3200 := by rcases hc with rfl | rfl <;> (unfold bn at *; omega)
    have c2 : bn T 3200 := by rcases hc with rfl | rfl <;> (unfold bn at *; omega)
    have c3 : bn U 3200 := by rcases hc with rfl | rfl <;> (unfold bn at *; omega)
    refine ⟨_, hb190 rx ry c1 c2 c3, ?_⟩
    by_cases w : hwD D T U = 0
    · rw [if_pos w, w]
      exact ⟨(mfr.rf _ _).I (by decide) _, rfl, fun z => by omega⟩
    · rw [if_neg w]
      refine ⟨((((mfr.rf _ _).I (by decide) _).I (by decide) _).J (by decide) _).J (by decide) _ |>.J (by decide) _, by simp [gI_sJ, gI_sI], fun _ => ⟨(L a).1 * D + T * ((L a).2.2.1 - (L a).1), (L a).2.1 * D + T * ((L a).2.2.2 - (L a).2.1), D, by simp [gJ_sJ], by simp [gJ_sJ], by simp [gJ_sJ], hp, by unfold bn at c1; omega, bn_add (bn_mul x1 c1) (bn_mul c2 rx), bn_add (bn_mul y1 c1) (bn_mul c2 ry), ?_, ?_⟩⟩
      · unfold atM
        rw [if_neg d0]
        show _ = Rat.divInt _ _
        rcases hc with rfl | rfl
        · rw [hD, hT, Int.one_mul, Int.one_mul]
        · rw [← Rat.neg_divInt_neg ((L a).1 * mD (L a) (L b) + _)]
          congr 1
          · rw [hD, hT]; grind
          · omega
      · unfold atM
        rw [if_neg d0]
        show _ = Rat.divInt _ _
        rcases hc with rfl | rfl
        · rw [hD, hT, Int.one_mul, Int.one_mul]
        · rw [← Rat.neg_divInt_neg ((L a).2.1 * mD (L a) (L b) + _)]
          congr 1
          · rw [hD, hT]; grind
          · omega
  rw [e0]
  unfold howM
  by_cases d0 : mD (L a) (L b) = 0
  · rw [if_pos d0, if_pos d0]
    by_cases u0 : mU (L a) (L b) = 0
    · rw [if_pos u0, if_pos u0]
      by_cases t0 : mT (L a) (L b) = 0
      · rw [if_pos t0, if_pos t0]
        refine ⟨_, hr, ((((mfr.rf _ _).I (by decide) _).I (by decide) _).J (by decide) _).J (by decide) _ |>.J (by decide) _, by simp [gI_sJ, gI_sI], fun _ => ⟨(rwX (L a) (L b)).1, (rwX (L a) (L b)).2, 1, by simp [gJ_sJ], by simp [gJ_sJ], by simp [gJ_sJ]; rfl, by decide, by decide, ?_, ?_, ?_, ?_⟩⟩
        · rcases rwX_k sa sb with ⟨e, -⟩ | ⟨e, -⟩ <;> rw [e]
          · exact bn_le x1 (by decide)
          · exact bn_of (by have := sb.1; show _ ≤ (L b).1 ∧ (L b).1 ≤ _; omega)
        · rcases rwX_k sa sb with ⟨e, -⟩ | ⟨e, -⟩ <;> rw [e]
          · exact bn_le y1 (by decide)
          · exact bn_of (by have := sb.2.1; show _ ≤ (L b).2.1 ∧ (L b).2.1 ≤ _; omega)
        · unfold atM; rw [if_pos d0]; exact divI_1 _
        · unfold atM; rw [if_pos d0]; exact divI_1 _
      · rw [if_neg t0, if_neg t0]
        exact ⟨_, rfl, (mfr.rf _ _).I (by decide) _, rfl, fun z => by omega⟩
    · rw [if_neg u0, if_neg u0]
      exact ⟨_, rfl, (mfr.rf _ _).I (by decide) _, rfl, fun z => by omega⟩
  · rw [if_neg d0, if_neg d0]
    by_cases d1 : mD (L a) (L b) < 0
    · rw [if_pos d1, if_neg (by omega)]
      exact bnd (c := -1) (Or.inr rfl) (by omega) (by omega) (by omega) (by omega)
    · rw [if_neg d1, if_pos (by omega)]
      exact bnd (c := 1) (Or.inl rfl) (by omega) (by omega) (by omega) (by omega)
