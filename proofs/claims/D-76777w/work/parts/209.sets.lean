/-! SETS OF LINES AS BITS; which lines a place is on: the model and the component say the same -/
set_option maxRecDepth 100000
theorem i32_nI (n : Nat) : i32 (n : Int) = nI n := by
  exact Int32.toBitVec_inj.mp (BitVec.ofInt_natCast 32 n)
theorem nx_or (a b : Nat) (ha : a < 2 ^ 31) (hb : b < 2 ^ 31) : nI a ||| nI b = nI (a ||| b) := by
  apply Int32.toBitVec_inj.mp
  rw [Int32.toBitVec_or]
  apply BitVec.eq_of_toNat_eq
  rw [BitVec.toNat_or]
  show (a % 2 ^ 32) ||| (b % 2 ^ 32) = (a ||| b) % 2 ^ 32
  rw [Nat.or_mod_two_pow]
theorem sh_1 {k : Nat} (hk : k < 31) : (1 : Int32) <<< (i32 (k : Int) &&& 31) = nI (2 ^ k) := by
  have : ∀ k : Fin 31, (1 : Int32) <<< (nI k.1 &&& 31) = nI (2 ^ k.1) := by decide +kernel
  rw [i32_nI]
  exact this ⟨k, hk⟩
/-- those of the first n of which f says so, as a number -/
def ms (f : Nat → Bool) : Nat → Nat
  | 0 => 0
  | n + 1 => if f n then ms f n ||| 2 ^ n else ms f n
theorem ms_lt (f : Nat → Bool) (n : Nat) : ms f n < 2 ^ n := by
  induction n with
  | zero => show 0 < 1; omega
  | succ n ih =>
    unfold ms
    have p : 2 ^ n < 2 ^ (n + 1) := by rw [Nat.pow_succ]; have := Nat.two_pow_pos n; omega
    split
    · exact Nat.or_lt_two_pow (by omega) p
    · omega
theorem ms_bit (f : Nat → Bool) (n i : Nat) : (ms f n).testBit i = (decide (i < n) && f i) := by
  induction n with
  | zero => simp [ms]
  | succ n ih =>
    unfold ms
    by_cases c : f n = true
    · rw [if_pos c, Nat.testBit_or, ih, Nat.testBit_two_pow]
      by_cases e : n = i
      · subst e; simp [c]
      · by_cases l : i < n
        · simp [l, e, show i < n + 1 by omega]
        · simp [l, e, show ¬ i < n + 1 by omega]
    · rw [if_neg c, ih]
      by_cases e : i = n
      · subst e; simp [c]
      · by_cases l : i < n
        · simp [l, show i < n + 1 by omega]
        · simp [l, show ¬ i < n + 1 by omega]
theorem ms_cong {f g : Nat → Bool} {n : Nat} (h : ∀ i, i < n → f i = g i) : ms f n = ms g n := by
  induction n with
  | zero => rfl
  | succ n ih =>
    unfold ms
    rw [ih (fun i hi => h i (by omega)), h n (by omega)]
theorem ms_ext {a b : Nat} (h : ∀ i, a.testBit i = b.testBit i) : a = b := Nat.eq_of_testBit_eq h
theorem ms_z {f : Nat → Bool} {n : Nat} : ms f n = 0 ↔ ∀ i, i < n → f i = false := by
  constructor
  · intro h i hi
    have := ms_bit f n i
    rw [h, Nat.zero_testBit] at this
    simpa [hi] using this.symm
  · intro h
    apply ms_ext
    intro i
    rw [ms_bit, Nat.zero_testBit]
    by_cases hi : i < n
    · simp [h i hi]
    · simp [hi]
theorem ms_step {f : Nat → Bool} {k : Nat} (hk : k < 31) : nI (ms f k) ||| ((1 : Int32) <<< (i32 (k : Int) &&& 31)) = nI (ms f k ||| 2 ^ k) := by
  have p : 2 ^ k < 2 ^ 31 := Nat.pow_lt_pow_right (by decide) hk
  have := ms_lt f k
  rw [sh_1 hk, nx_or _ _ (by omega) p]
theorem pw10 {k n : Nat} (h : k < 2 ^ n) (hn : n ≤ 10) : k < 1024 := Nat.lt_of_lt_of_le h (Nat.pow_le_pow_right (by decide) hn)
/-- the least of a set -/
theorem ntz_10 : ∀ x : Fin 1024, x.1 ≠ 0 → ∃ t, t < 10 ∧ F_J15_numberOfTrailingZeros 0 (nI x.1) = some (nI t) ∧ x.1.testBit t = true ∧ ∀ i, i < t → x.1.testBit i = false := by
  have key : ∀ x : Fin 1024, x.1 ≠ 0 → (List.range 10).any (fun t => decide (F_J15_numberOfTrailingZeros 0 (nI x.1) = some (nI t)) && x.1.testBit t && (List.range t).all (fun i => !x.1.testBit i)) = true := by decide +kernel
  intro x hx
  obtain ⟨t, h1, h2⟩ := List.any_eq_true.mp (key x hx)
  rw [Bool.and_eq_true, Bool.and_eq_true, decide_eq_true_iff] at h2
  refine ⟨t, List.mem_range.mp h1, h2.1.1, h2.1.2, fun i hi => ?_⟩
  have := List.all_eq_true.mp h2.2 i (List.mem_range.mpr hi)
  simpa using this
theorem ntz_e (N : Nat) {x : Nat} (hx : x < 1024) (h0 : x ≠ 0) : ∃ t : Nat, t < 10 ∧ F_J15_numberOfTrailingZeros N (nI x) = some (i32 (t : Int)) ∧ x.testBit t = true ∧ ∀ i : Nat, i < t → x.testBit i = false := by
  obtain ⟨t, h1, h2, h3, h4⟩ := ntz_10 ⟨x, hx⟩ h0
  exact ⟨t, h1, by rw [i32_nI]; exact h2, h3, h4⟩
/-! the component: which lines a place is on -/
theorem onOf_e {N : Nat} (hN : 100 ≤ N) {n : Nat} {L : Nat → Sg} (hL : LOk n L) {κ : CSt} (h : CLn κ n L) {p : Pt} (hp : pq p) : F_X1_onOf N κ (rfP p) = some (nI (ms (fun l => onB (L l) p) n)) := by
  have hn10 := hL.1
  have main : ∀ (d k m : Nat), k + d = n → d < m → F_X1_onOf_L4 N κ m (rfP p) (nI (ms (fun l => onB (L l) p) k)) (i32 (k : Int)) = some (nI (ms (fun l => onB (L l) p) n)) := by
    intro d
    induction d with
    | zero =>
      intro k m hk hm
      obtain ⟨m, rfl⟩ : ∃ j, m = j + 1 := ⟨m - 1, by omega⟩
      have e : k = n := by omega
      subst e
      unfold F_X1_onOf_L4
      rw [h.1, if_pos ((i32_le (by omega) (by omega)).mpr (Int.le_refl _))]
    | succ d ih =>
      intro k m hk hm
      obtain ⟨m, rfl⟩ : ∃ j, m = j + 1 := ⟨m - 1, by omega⟩
      obtain ⟨t, e1⟩ := h.2 k (by omega)
      have A : ∀ {α : Type} (f : Nat → Option α), ck (i32 (k : Int)) 10 f = f k := fun f => ck_n (by omega) (by decide) f
      unfold F_X1_onOf_L4
      rw [h.1, if_neg (fun z => by have := (i32_le (by omega) (by omega)).mp z; omega)]
      unfold F_X1_onOf_b31
      simp only [A, e1, nn, isOn_e (hL.2 k (by omega)) hp, Option.bind_some, bi_0, ms_step (f := fun l => onB (L l) p) (show k < 31 by omega), i32_s]
      rw [← ih (k + 1) m (by omega) (by omega)]
      show (if onB (L k) p = true then _ else _) = F_X1_onOf_L4 N κ m (rfP p) (nI (if onB (L k) p = true then _ else _)) _
      by_cases c : onB (L k) p = true
      · rw [if_pos c, if_pos c]
      · rw [if_neg c, if_neg c]
  exact main n 0 N (by omega) (by omega)
/-! the model -/
theorem jmn_e {a b : Int} (ha : -2147483648 ≤ a ∧ a < 2147483648) (hb : -2147483648 ≤ b ∧ b < 2147483648) : jmin (i32 a) (i32 b) = i32 (min a b) := by
  unfold jmin
  rw [ite_ii (i32_lt hb ha)]
  by_cases c : b < a
  · rw [if_pos c]; congr 1; omega
  · rw [if_neg c]; congr 1; omega
theorem jmx_e {a b : Int} (ha : -2147483648 ≤ a ∧ a < 2147483648) (hb : -2147483648 ≤ b ∧ b < 2147483648) : jmax (i32 a) (i32 b) = i32 (max a b) := by
  unfold jmax
  rw [ite_ii (i32_lt ha hb)]
  by_cases c : a < b
  · rw [if_pos c]; congr 1; omega
  · rw [if_neg c]; congr 1; omega
theorem onB_box {s : Sg} (hs : sgOk s) {x y : Rat} (h : sd s (x, y) = 0) : onB s (x, y) = true ↔ (s.1 : Rat) ≤ x ∧ x ≤ (s.2.2.1 : Rat) ∧ ((min s.2.1 s.2.2.2 : Int) : Rat) ≤ y ∧ y ≤ ((max s.2.1 s.2.2.2 : Int) : Rat) := by
  have hl := hs.lex
  rw [onB_iff]
  have emin : ((min s.2.1 s.2.2.2 : Int) : Rat) ≤ y ↔ (s.2.1 : Rat) ≤ y ∨ (s.2.2.2 : Rat) ≤ y := by
    rcases Int.le_total s.2.1 s.2.2.2 with q | q
    · have := Rat.intCast_le_intCast.mpr q
      rw [Int.min_eq_left q]; grind
    · have := Rat.intCast_le_intCast.mpr q
      rw [Int.min_eq_right q]; grind
  have emax : y ≤ ((max s.2.1 s.2.2.2 : Int) : Rat) ↔ y ≤ (s.2.1 : Rat) ∨ y ≤ (s.2.2.2 : Rat) := by
    rcases Int.le_total s.2.1 s.2.2.2 with q | q
    · have := Rat.intCast_le_intCast.mpr q
      rw [Int.max_eq_right q]; grind
    · have := Rat.intCast_le_intCast.mpr q
      rw [Int.max_eq_left q]; grind
  rw [emin, emax]
  have h0 := h
  unfold sd at h
  simp only at h ⊢
  generalize (s.1 : Rat) = ax at *
  generalize (s.2.1 : Rat) = ay at *
  generalize (s.2.2.1 : Rat) = bx at *
  generalize (s.2.2.2 : Rat) = b_y at *
  clear emin emax
  rcases hl with q | ⟨q, q'⟩
  · have z1 : ∀ z : Rat, (bx - ax) * z = 0 → z = 0 := fun z hz => (Rat.mul_eq_zero.mp hz).resolve_left (fun w => by rw [w] at q; exact Rat.lt_irrefl q)
    have pos : ∀ z : Rat, 0 ≤ (bx - ax) * z ↔ 0 ≤ z := by
      intro z
      have a := Rat.mul_neg_iff_of_pos_left (b := z) q
      constructor
      · intro w
        exact Rat.not_lt.mp fun v => Rat.not_le.mpr (a.mpr v) w
      · intro w; exact Rat.mul_nonneg (Rat.le_of_lt q) w
    have k1 : x = ax → y = ay := by
      intro e
      have := z1 (y - ay) (by rw [e] at h; grind)
      grind
    have k2 : bx = x → b_y = y := by
      intro e
      have := z1 (b_y - y) (by rw [← e] at h; grind)
      grind
    have k3 : ax ≤ x → x ≤ bx → (ay ≤ y ∧ y ≤ b_y) ∨ (b_y ≤ y ∧ y ≤ ay) := by
      intro e1 e2
      rcases Rat.le_total (a := ay) (b := b_y) with g | g
      · left
        have a1 : 0 ≤ (b_y - ay) * (x - ax) := Rat.mul_nonneg (by grind) (by grind)
        have a2 : 0 ≤ (b_y - ay) * (bx - x) := Rat.mul_nonneg (by grind) (by grind)
        have b1 := (pos (y - ay)).mp (by grind)
        have b2 := (pos (b_y - y)).mp (by grind)
        grind
      · right
        have a1 : 0 ≤ (ay - b_y) * (x - ax) := Rat.mul_nonneg (by grind) (by grind)
        have a2 : 0 ≤ (ay - b_y) * (bx - x) := Rat.mul_nonneg (by grind) (by grind)
        have b1 := (pos (ay - y)).mp (by grind)
        have b2 := (pos (y - b_y)).mp (by grind)
        grind
    grind
  · have z1 : (b_y - ay) * (x - ax) = 0 := by rw [q] at h; grind
    have z2 : x = ax := by
      rcases Rat.mul_eq_zero.mp z1 with w | w
      · rw [w] at q'; exact absurd q' Rat.lt_irrefl
      · grind
    grind
/-- a fraction of whole numbers, of the size of places -/
def fqs (a b : Int) : Prop := bn a 256000 ∧ 0 < b ∧ b ≤ 4000
theorem sd_q {s : Sg} {X Xb Y Yb : Int} (h1 : 0 < Xb) (h2 : 0 < Yb) : (((X - s.1 * Xb) * (s.2.2.2 - s.2.1) * Yb = (Y - s.2.1 * Yb) * (s.2.2.1 - s.1) * Xb) ↔ sd s ((X : Rat) / (Xb : Rat), (Y : Rat) / (Yb : Rat)) = 0) := by
  have p1 : (0 : Rat) < (Xb : Rat) := Rat.intCast_pos.mpr h1
  have p2 : (0 : Rat) < (Yb : Rat) := Rat.intCast_pos.mpr h2
  have n1 : (Xb : Rat) ≠ 0 := fun z => by rw [z] at p1; exact Rat.lt_irrefl p1
  have n2 : (Yb : Rat) ≠ 0 := fun z => by rw [z] at p2; exact Rat.lt_irrefl p2
  have e1 := Rat.div_mul_cancel (a := (X : Rat)) n1
  have e2 := Rat.div_mul_cancel (a := (Y : Rat)) n2
  rw [← Rat.intCast_inj]
  simp only [Rat.intCast_sub, Rat.intCast_mul, sd]
  generalize hx : (X : Rat) / (Xb : Rat) = x at *
  generalize hy : (Y : Rat) / (Yb : Rat) = y at *
  rw [← e1, ← e2]
  generalize (Xb : Rat) = b at *
  generalize (Yb : Rat) = d at *
  have key : (x * b - (s.1 : Rat) * b) * ((s.2.2.2 : Rat) - (s.2.1 : Rat)) * d - (y * d - (s.2.1 : Rat) * d) * ((s.2.2.1 : Rat) - (s.1 : Rat)) * b = -((((s.2.2.1 : Rat) - (s.1 : Rat)) * (y - (s.2.1 : Rat)) - ((s.2.2.2 : Rat) - (s.2.1 : Rat)) * (x - (s.1 : Rat))) * (b * d)) := by grind
  constructor
  · intro w
    have z : (((s.2.2.1 : Rat) - (s.1 : Rat)) * (y - (s.2.1 : Rat)) - ((s.2.2.2 : Rat) - (s.2.1 : Rat)) * (x - (s.1 : Rat))) * (b * d) = 0 := by grind
    rcases Rat.mul_eq_zero.mp z with w | w
    · exact w
    · rcases Rat.mul_eq_zero.mp w with w | w
      · exact absurd w n1
      · exact absurd w n2
  · intro w
    rw [w] at key
    grind
theorem le_q {X Xb k : Int} (h1 : 0 < Xb) : ((k : Rat) ≤ (X : Rat) / (Xb : Rat) ↔ ¬ X < k * Xb) ∧ ((X : Rat) / (Xb : Rat) ≤ (k : Rat) ↔ ¬ k * Xb < X) := by
  have p1 : (0 : Rat) < (Xb : Rat) := Rat.intCast_pos.mpr h1
  constructor
  · rw [← Rat.not_lt, Rat.div_lt_iff p1, ← Rat.intCast_mul, Rat.intCast_lt_intCast]
  · rw [← Rat.not_lt, Rat.lt_div_iff p1, ← Rat.intCast_mul, Rat.intCast_lt_intCast]
theorem isOnM_e {N : Nat} {σ : MSt} {n : Nat} {L : Nat → Sg} (h : MLn σ n L) (hL : LOk n L) {l : Nat} (hl : l < n) {X Xb Y Yb : Int} (hx : fqs X Xb) (hy : fqs Y Yb) :
    F_isOn N σ (i32 (l : Int)) (i64 X) (i64 Xb) (i64 Y) (i64 Yb) = some (bi (onB (L l) ((X : Rat) / (Xb : Rat), (Y : Rat) / (Yb : Rat)))) := by
  have A : ∀ {α : Type} (f : Nat → Option α), ck (i32 (l : Int)) 10 f = f l := fun f => ck_n (by have := hL.1; omega) (by decide) f
  obtain ⟨p1, p2, p3, p4⟩ := h.2 l hl
  have hs := hL.2 l hl
  obtain ⟨x1, x2, x3⟩ := hx
  obtain ⟨y1, y2, y3⟩ := hy
  have hq := @sd_q (L l) X Xb Y Yb x2 y2
  have hb := @onB_box (L l) hs ((X : Rat) / (Xb : Rat)) ((Y : Rat) / (Yb : Rat))
  have ho := @onB_sd (L l) ((X : Rat) / (Xb : Rat), (Y : Rat) / (Yb : Rat))
  have c1 := @le_q X Xb (L l).1 x2
  have c2 := @le_q X Xb (L l).2.2.1 x2
  have c3 := @le_q Y Yb (min (L l).2.1 (L l).2.2.2) y2
  have c4 := @le_q Y Yb (max (L l).2.1 (L l).2.2.2) y2
  rw [c1.1, c2.2, c3.1, c4.2] at hb
  clear c1 c2 c3 c4
  generalize onB (L l) ((X : Rat) / (Xb : Rat), (Y : Rat) / (Yb : Rat)) = o at *
  obtain ⟨h1, h2, h3, h4, -⟩ := hs
  have bx : bn Xb 4000 := bn_of (by omega)
  have b_y : bn Yb 4000 := bn_of (by omega)
  have g1 : bn (L l).1 40 := bn_of (by omega)
  have g2 : bn (L l).2.1 40 := bn_of (by omega)
  have g3 : bn (L l).2.2.1 40 := bn_of (by omega)
  have g4 : bn (L l).2.2.2 40 := bn_of (by omega)
  have dx : bn ((L l).2.2.1 - (L l).1) 40 := bn_of (by omega)
  have dy : bn ((L l).2.2.2 - (L l).2.1) 40 := bn_of (by omega)
  have mn : bn (min (L l).2.1 (L l).2.2.2) 40 := bn_of (by omega)
  have mx : bn (max (L l).2.1 (L l).2.2.2) 40 := bn_of (by omega)
  have t1 := i32_to64 (a := (L l).1) (by omega)
  have t2 := i32_to64 (a := (L l).2.1) (by omega)
  have t3 := i32_to64 (a := (L l).2.2.1) (by omega)
  have t5 := i32_to64 (a := (L l).2.2.1 - (L l).1) (by omega)
  have t6 := i32_to64 (a := (L l).2.2.2 - (L l).2.1) (by omega)
  have t7 := i32_to64 (a := min (L l).2.1 (L l).2.2.2) (by omega)
  have t8 := i32_to64 (a := max (L l).2.1 (L l).2.2.2) (by omega)
  have r0 := bn_64 (bn_mul (bn_mul (bn_sub x1 (bn_mul g1 bx)) dy) b_y) (by decide)
  have r1 := bn_64 (bn_mul (bn_mul (bn_sub y1 (bn_mul g2 b_y)) dx) bx) (by decide)
  have rX := bn_64 x1 (by decide)
  have rY := bn_64 y1 (by decide)
  have r2 := bn_64 (bn_mul g1 bx) (by decide)
  have r3 := bn_64 (bn_mul g3 bx) (by decide)
  have r4 := bn_64 (bn_mul mn b_y) (by decide)
  have r5 := bn_64 (bn_mul mx b_y) (by decide)
  unfold F_isOn
  simp only [A, p1, p2, p3, p4, jmn_e (a := (L l).2.1) (b := (L l).2.2.2) (by omega) (by omega), jmx_e (a := (L l).2.1) (b := (L l).2.2.2) (by omega) (by omega), i32_sub, t1, t2, t3, t5, t6, t7, t8, i64_mul, i64_sub]
  rw [ite_ii (i64_eq r0 r1), ite_ii (i64_lt rX r2), ite_ii (i64_lt r3 rX), ite_ii (i64_lt rY r4), ite_ii (i64_lt r5 rY)]
  by_cases c0 : (X - (L l).1 * Xb) * ((L l).2.2.2 - (L l).2.1) * Yb = (Y - (L l).2.1 * Yb) * ((L l).2.2.1 - (L l).1) * Xb
  · rw [if_pos c0]
    have hb' := hb (hq.mp c0)
    by_cases d1 : X < (L l).1 * Xb
    · rw [if_pos d1]
      cases o
      · rfl
      · exact absurd d1 (hb'.mp rfl).1
    · rw [if_neg d1]
      by_cases d2 : (L l).2.2.1 * Xb < X
      · rw [if_pos d2]
        cases o
        · rfl
        · exact absurd d2 (hb'.mp rfl).2.1
      · rw [if_neg d2]
        by_cases d3 : Y < min (L l).2.1 (L l).2.2.2 * Yb
        · rw [if_pos d3]
          cases o
          · rfl
          · exact absurd d3 (hb'.mp rfl).2.2.1
        · rw [if_neg d3]
          by_cases d4 : max (L l).2.1 (L l).2.2.2 * Yb < Y
          · rw [if_pos d4]
            cases o
            · rfl
            · exact absurd d4 (hb'.mp rfl).2.2.2
          · rw [if_neg d4]
            rw [hb'.mpr ⟨d1, d2, d3, d4⟩]
            rfl
  · rw [if_neg c0]
    cases o
    · rfl
    · exact absurd (hq.mpr (ho rfl)) c0
theorem linesOn_e {N : Nat} (hN : 100 ≤ N) {σ : MSt} {n : Nat} {L : Nat → Sg} (h : MLn σ n L) (hL : LOk n L) {X Xb Y Yb : Int} (hx : fqs X Xb) (hy : fqs Y Yb) : F_linesOn N σ (i64 X) (i64 Xb) (i64 Y) (i64 Yb) = some (nI (ms (fun l => onB (L l) ((X : Rat) / (Xb : Rat), (Y : Rat) / (Yb : Rat))) n)) := by
  have hn10 := hL.1
  generalize hp : ((X : Rat) / (Xb : Rat), (Y : Rat) / (Yb : Rat)) = p
  have main : ∀ (d k m : Nat), k + d = n → d < m → F_linesOn_L6 N σ m (i64 X) (i64 Xb) (i64 Y) (i64 Yb) (nI (ms (fun l => onB (L l) p) k)) (i32 (k : Int)) = some (nI (ms (fun l => onB (L l) p) n)) := by
    intro d
    induction d with
    | zero =>
      intro k m hk hm
      obtain ⟨m, rfl⟩ : ∃ j, m = j + 1 := ⟨m - 1, by omega⟩
      have e : k = n := by omega
      subst e
      unfold F_linesOn_L6
      rw [h.1, if_pos ((i32_le (by omega) (by omega)).mpr (Int.le_refl _))]
    | succ d ih =>
      intro k m hk hm
      obtain ⟨m, rfl⟩ : ∃ j, m = j + 1 := ⟨m - 1, by omega⟩
      have io := isOnM_e (N := N) h hL (show k < n by omega) hx hy
      rw [hp] at io
      unfold F_linesOn_L6
      rw [h.1, if_neg (fun z => by have := (i32_le (by omega) (by omega)).mp z; omega)]
      unfold F_linesOn_b39
      simp only [io, Option.bind_some, bi_0, ms_step (f := fun l => onB (L l) p) (show k < 31 by omega), i32_s]
      rw [← ih (k + 1) m (by omega) (by omega)]
      show (if onB (L k) p = true then _ else _) = F_linesOn_L6 N σ m _ _ _ _ (nI (if onB (L k) p = true then _ else _)) _
      by_cases c : onB (L k) p = true
      · rw [if_pos c, if_pos c]
      · rw [if_neg c, if_neg c]
  exact main n 0 N (by omega) (by omega)
theorem pq_fqs {p : Pt} (h : pq p) : fqs p.1.num (p.1.den : Int) ∧ fqs p.2.num (p.2.den : Int) := ⟨⟨h.1.1, by have := p.1.den_pos; omega, by have := h.1.2; omega⟩, h.2.1, by have := p.2.den_pos; omega, by have := h.2.2; omega⟩
theorem linesAt_e {N : Nat} (hN : 100 ≤ N) {σ : MSt} {n : Nat} {L : Nat → Sg} (h : MLn σ n L) (hL : LOk n L) {x : Nat × (Nat → Pt)} (hp : MPt σ x) (hg : ptG x) {i : Nat} (hi : i < x.1) (h80 : x.1 ≤ 80) : F_linesAt N σ (i32 (i : Int)) = some (nI (ms (fun l => onB (L l) (x.2 i)) n)) := by
  have A : ∀ {α : Type} (f : Nat → Option α), ck (i32 (i : Int)) 80 f = f i := fun f => ck_n (by omega) (by decide) f
  have hq := hp.2 i hi
  rw [rfP_1] at hq
  unfold gQ at hq
  simp only [Prod.mk.injEq] at hq
  obtain ⟨⟨e1, e2⟩, e3, e4⟩ := hq
  obtain ⟨f1, f2⟩ := pq_fqs (hg.2 i hi)
  unfold F_linesAt
  simp only [A, e1, e2, e3, e4, linesOn_e hN h hL f1 f2, Option.bind_some, rat_q]
