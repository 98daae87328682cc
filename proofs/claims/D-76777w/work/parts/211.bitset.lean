/-! BITSETS AS SETS OF NUMBERS -/
set_option maxRecDepth 100000
def wd (S : Nat → Bool) (j : Nat) : Nat := ms (fun i => S (64 * j + i)) 64
theorem wd_lt (S : Nat → Bool) (j : Nat) : wd S j < 2 ^ 64 := ms_lt _ _
theorem wd_bit (S : Nat → Bool) (j i : Nat) : (wd S j).testBit i = (decide (i < 64) && S (64 * j + i)) := ms_bit _ _ _
/-- the set S in wn words, u of them in use -/
def BSo (wn : Nat) (β : BSt) (S : Nat → Bool) : Prop := ∃ u, u ≤ wn ∧ β.1 = i32 (u : Int) ∧ (∀ j, j < wn → β.2 j = lN (wd S j)) ∧ ∀ j, u ≤ j → j < wn → wd S j = 0
theorem bsW_2 (β : BSt) (j : Nat) (v : Int64) (i : Nat) : (bsW β j v).2 i = if i = j then v else β.2 i := rfl
theorem wix_e (N : Nat) {a : Nat} (ha : a < 2 ^ 31) : F_J1_wordIndex N (i32 (a : Int)) = some (i32 ((a / 64 : Nat) : Int)) := by
  unfold F_J1_wordIndex
  rw [i32_nI, pk_shrN ha _ 6 (by decide), i32_nI]
theorem msk_e {a : Nat} (ha : a < 2 ^ 31) : ((i32 (a : Int)).toInt64 &&& 63) = ((nI (a % 64)).toInt64 &&& 63) := by
  have h1 := wb_mask (n := a) (k := 6) (by omega) (by decide)
  have h2 := wb_mask (n := a % 64) (k := 6) (by omega) (by decide)
  rw [i32_nI, nI_l (by omega), nI_l (by omega)]
  show lN a &&& lN (2 ^ 6 - 1) = lN (a % 64) &&& lN (2 ^ 6 - 1)
  rw [h1, h2]
  congr 1
  omega
theorem one_e {a : Nat} (ha : a < 2 ^ 31) : (1 : Int64) <<< ((i32 (a : Int)).toInt64 &&& 63) = lN (2 ^ (a % 64)) := by
  rw [msk_e ha, show (1 : Int64) = lN 1 from rfl, wb_shl 1 (by omega), Nat.one_mul]
theorem chk_e (N wn : Nat) (β : BSt) : F_J1_checkInvariants N wn β = some () := by
  unfold F_J1_checkInvariants F_J1_checkInvariants_b37 F_J1_checkInvariants_b70
  rw [if_neg (by decide), if_neg (by decide), if_neg (by decide)]
theorem wd_set (S : Nat → Bool) (a j : Nat) : wd (fun i => S i || decide (i = a)) j = if j = a / 64 then wd S j ||| 2 ^ (a % 64) else wd S j := by
  apply Nat.eq_of_testBit_eq
  intro i
  rw [wd_bit]
  by_cases h : j = a / 64
  · rw [if_pos h, Nat.testBit_or, wd_bit, Nat.testBit_two_pow]
    by_cases l : i < 64
    · have : (64 * j + i = a) ↔ (a % 64 = i) := by omega
      simp [l, this]
    · have : ¬ a % 64 = i := by omega
      simp [l, this]
  · rw [if_neg h, wd_bit]
    by_cases l : i < 64
    · have : ¬ (64 * j + i = a) := by omega
      simp [this]
    · simp [l]
theorem bset_e {N wn : Nat} (hw : wn ≤ 1000) {β : BSt} {S : Nat → Bool} (h : BSo wn β S) {a : Nat} (ha : a < 64 * wn) : ∃ β', F_J1_set N wn β (i32 (a : Int)) = some β' ∧ BSo wn β' (fun i => S i || decide (i = a)) := by
  obtain ⟨u, h1, h2, h3, h4⟩ := h
  have W : ∀ {α : Type} (f : Nat → Option α), ck (i32 ((a / 64 : Nat) : Int)) wn f = f (a / 64) := fun f => ck_n (by omega) (by omega) f
  have ex : ∃ u', u' ≤ wn ∧ a / 64 < u' ∧ u ≤ u' ∧ F_J1_expandTo N wn β (i32 ((a / 64 : Nat) : Int)) = some (i32 (u' : Int), β.2) := by
    unfold F_J1_expandTo F_J1_ensureCapacity
    rw [i32_s, h2]
    simp only
    rw [ite_ii (i32_le (a := ((a / 64 + 1 : Nat) : Int)) (b := (u : Int)) (by omega) (by omega))]
    by_cases c : ((a / 64 + 1 : Nat) : Int) ≤ (u : Int)
    · rw [if_pos c]
      exact ⟨u, h1, by omega, Nat.le_refl _, by rw [← h2]⟩
    · rw [if_neg c, show Int32.ofNat wn = i32 (wn : Int) from (i32_nI wn).symm, if_pos ((i32_le (by omega) (by omega)).mpr (by omega)), Option.bind_some]
      exact ⟨a / 64 + 1, by omega, by omega, by omega, rfl⟩
  obtain ⟨u', e1, e2, e3, e4⟩ := ex
  refine ⟨bsW (i32 (u' : Int), β.2) (a / 64) (β.2 (a / 64) ||| (1 <<< ((i32 (a : Int)).toInt64 &&& 63))), ?_, u', e1, rfl, fun j hj => ?_, fun j j1 j2 => ?_⟩
  · unfold F_J1_set
    rw [if_pos (by rw [show (0 : Int32) = i32 0 from rfl, i32_le (by omega) (by omega)]; omega), wix_e N (by omega), Option.bind_some, e4, Option.bind_some]
    simp only [W, chk_e, Option.bind_some]
  · rw [bsW_2, wd_set]
    by_cases c : j = a / 64
    · rw [if_pos c, if_pos c, ← c, h3 j hj, one_e (by omega), wb_or (wd_lt S j) (Nat.pow_lt_pow_right (by decide) (by omega))]
    · rw [if_neg c, if_neg c]; exact h3 j hj
  · rw [wd_set, if_neg (by omega)]
    exact h4 j (by omega) j2
theorem bs_0 (wn : Nat) : BSo wn (0, fun _ => 0) (fun _ => false) := by
  have z : ∀ j, wd (fun _ => false) j = 0 := fun j => by unfold wd; rw [ms_z]; intros; rfl
  exact ⟨0, Nat.zero_le _, rfl, fun j _ => by rw [z]; rfl, fun j _ _ => z j⟩
theorem cn_wd (S : Nat → Bool) (j : Nat) : cn (wd S j).testBit 64 = cn (fun i => S (64 * j + i)) 64 := cn_cong (fun i hi => by rw [wd_bit]; simp [hi])
theorem cn_z {f : Nat → Bool} {n : Nat} (h : ∀ i, i < n → f i = false) : cn f n = 0 := by
  induction n with
  | zero => rfl
  | succ n ih => unfold cn; rw [ih (fun i hi => h i (by omega)), h n (by omega)]; rfl
theorem wd_z {S : Nat → Bool} {j : Nat} (h : wd S j = 0) : ∀ i, i < 64 → S (64 * j + i) = false := fun i hi => by
  have := wd_bit S j i
  rw [h, Nat.zero_testBit] at this
  simpa [hi] using this.symm
theorem bcard_e {N wn : Nat} (hw : wn ≤ 1000) (hN : wn < N) {β : BSt} {S : Nat → Bool} (h : BSo wn β S) : F_J1_cardinality N wn β = some (nI (cn S (64 * wn))) := by
  obtain ⟨u, h1, h2, h3, h4⟩ := h
  have main : ∀ (d k m : Nat), k + d = u → d < m → F_J1_cardinality_L4 N wn β m (nI (cn S (64 * k))) (i32 (k : Int)) = some (nI (cn S (64 * u))) := by
    intro d
    induction d with
    | zero =>
      intro k m hk hm
      obtain ⟨m, rfl⟩ : ∃ j, m = j + 1 := ⟨m - 1, by omega⟩
      have e : k = u := by omega
      subst e
      unfold F_J1_cardinality_L4
      rw [h2, if_pos ((i32_le (by omega) (by omega)).mpr (Int.le_refl _))]
    | succ d ih =>
      intro k m hk hm
      obtain ⟨m, rfl⟩ : ∃ j, m = j + 1 := ⟨m - 1, by omega⟩
      unfold F_J1_cardinality_L4
      rw [h2, if_neg (fun z => by have := (i32_le (by omega) (by omega)).mp z; omega), ck_n (by omega) (by omega), h3 k (by omega), bitCount_e N (wd_lt S k), Option.bind_some, cn_wd]
      simp only [nI_add, i32_s]
      rw [← cn_add S (64 * k) 64, show 64 * k + 64 = 64 * (k + 1) by omega]
      exact ih (k + 1) m (by omega) (by omega)
  have e := main u 0 N (by omega) (by omega)
  have hz : cn S (64 * wn) = cn S (64 * u) := by
    obtain ⟨r, rfl⟩ : ∃ r, wn = u + r := ⟨wn - u, by omega⟩
    rw [show 64 * (u + r) = 64 * u + 64 * r by omega, cn_add, cn_z (f := fun i => S (64 * u + i)) (fun i hi => ?_), Nat.add_zero]
    have := wd_z (h4 (u + i / 64) (by omega) (by omega)) (i % 64) (by omega)
    rw [show 64 * (u + i / 64) + i % 64 = 64 * u + i by omega] at this
    exact this
  unfold F_J1_cardinality
  rw [hz, ← e]
  rfl
/-! taking one out -/
theorem lN_xr (a b : Nat) : lN a ^^^ lN b = lN (a ^^^ b) := by
  apply wb_inj
  rw [Int64.toBitVec_xor, wb_tb, wb_tb, wb_tb]
  apply BitVec.eq_of_toNat_eq
  rw [BitVec.toNat_xor]
  show (a % 2 ^ 64) ^^^ (b % 2 ^ 64) = (a ^^^ b) % 2 ^ 64
  rw [Nat.xor_mod_two_pow]
theorem wd_clr (S : Nat → Bool) (a j : Nat) : wd (fun i => S i && !decide (i = a)) j = if j = a / 64 then wd S j &&& (2 ^ (a % 64) ^^^ (2 ^ 64 - 1)) else wd S j := by
  apply Nat.eq_of_testBit_eq
  intro i
  rw [wd_bit]
  by_cases h : j = a / 64
  · rw [if_pos h, Nat.testBit_and, wd_bit, Nat.testBit_xor, Nat.testBit_two_pow, Nat.testBit_two_pow_sub_one]
    by_cases l : i < 64
    · have : (64 * j + i = a) ↔ (a % 64 = i) := by omega
      simp [l, this]
    · simp [l]
  · rw [if_neg h, wd_bit]
    by_cases l : i < 64
    · have : ¬ (64 * j + i = a) := by omega
      simp [this]
    · simp [l]
theorem recal_e {N wn : Nat} (hw : wn ≤ 1000) {β : BSt} {S : Nat → Bool} (h3 : ∀ j, j < wn → β.2 j = lN (wd S j)) : ∀ (u n : Nat), u ≤ wn → u < n → (∀ j, u ≤ j → j < wn → wd S j = 0) → ∃ β', F_J1_recalculateWordsInUse_L7 N wn n β (i32 ((u : Int) - 1)) = some β' ∧ BSo wn β' S := by
  intro u
  induction u with
  | zero =>
    intro n h1 h2 h4
    obtain ⟨n, rfl⟩ : ∃ m, n = m + 1 := ⟨n - 1, by omega⟩
    refine ⟨bsU β 0, ?_, 0, Nat.zero_le _, rfl, h3, h4⟩
    unfold F_J1_recalculateWordsInUse_L7
    rw [if_pos (by decide)]
    rfl
  | succ u ih =>
    intro n h1 h2 h4
    obtain ⟨n, rfl⟩ : ∃ m, n = m + 1 := ⟨n - 1, by omega⟩
    rw [show (((u + 1 : Nat) : Int) - 1) = (u : Int) by omega]
    unfold F_J1_recalculateWordsInUse_L7
    rw [if_neg (by rw [show (0 : Int32) = i32 0 from rfl, i32_lt (by omega) (by omega)]; omega), ck_n (by omega) (by omega), h3 u (by omega)]
    by_cases c : wd S u = 0
    · rw [c, if_pos (show lN 0 = 0 from rfl)]
      simp only
      rw [show i32 (u : Int) + (-1) = i32 ((u : Int) - 1) by rw [show (-1 : Int32) = i32 (-1) from rfl, i32_add]; congr 1]
      exact ih n (by omega) (by omega) (fun j j1 j2 => by
        by_cases e : j = u
        · rw [e]; exact c
        · exact h4 j (by omega) j2)
    · rw [if_neg]
      · refine ⟨bsU β (i32 (u : Int) + 1), rfl, u + 1, h1, ?_, h3, h4⟩
        show i32 (u : Int) + 1 = _
        rw [i32_s]
      · intro z
        have : (lN (wd S u)).toBitVec.toNat = (0 : Int64).toBitVec.toNat := by rw [z]
        rw [wb_tn (wd_lt S u)] at this
        exact c this
theorem bclr_e {N wn : Nat} (hw : wn ≤ 1000) (hN : wn < N) {β : BSt} {S : Nat → Bool} (h : BSo wn β S) {a : Nat} (ha : a < 64 * wn) : ∃ β', F_J1_clear N wn β (i32 (a : Int)) = some β' ∧ BSo wn β' (fun i => S i && !decide (i = a)) := by
  obtain ⟨u, h1, h2, h3, h4⟩ := h
  have W : ∀ {α : Type} (f : Nat → Option α), ck (i32 ((a / 64 : Nat) : Int)) wn f = f (a / 64) := fun f => ck_n (by omega) (by omega) f
  unfold F_J1_clear
  rw [if_pos (by rw [show (0 : Int32) = i32 0 from rfl, i32_le (by omega) (by omega)]; omega), wix_e N (by omega), Option.bind_some, h2, ite_ii (i32_lt (by omega) (by omega))]
  by_cases c : ((a / 64 : Nat) : Int) < (u : Int)
  · rw [if_pos c]
    simp only [W]
    have g3 : ∀ j, j < wn → (bsW β (a / 64) (β.2 (a / 64) &&& ((1 <<< ((i32 (a : Int)).toInt64 &&& 63)) ^^^ (-1)))).2 j = lN (wd (fun i => S i && !decide (i = a)) j) := by
      intro j hj
      rw [bsW_2, wd_clr]
      by_cases e : j = a / 64
      · have p : 2 ^ (a % 64) < 2 ^ 64 := Nat.pow_lt_pow_right (by decide) (by omega)
        rw [if_pos e, if_pos e, ← e, h3 j hj, one_e (by omega), show (-1 : Int64) = lN (2 ^ 64 - 1) from rfl, lN_xr, wb_and (wd_lt S j) (Nat.xor_lt_two_pow p (by decide))]
      · rw [if_neg e, if_neg e]; exact h3 j hj
    obtain ⟨β', e1, e2⟩ := recal_e (N := N) hw g3 u N h1 (by omega) (fun j j1 j2 => by rw [wd_clr, if_neg (by omega)]; exact h4 j j1 j2)
    refine ⟨β', ?_, e2⟩
    unfold F_J1_recalculateWordsInUse
    rw [show (bsW β (a / 64) (β.2 (a / 64) &&& ((1 <<< ((i32 (a : Int)).toInt64 &&& 63)) ^^^ (-1)))).1 = i32 (u : Int) from h2, show (1 : Int32) = i32 1 from rfl, i32_sub, e1, Option.bind_some, chk_e, Option.bind_some]
  · rw [if_neg c]
    refine ⟨β, rfl, u, h1, h2, fun j hj => ?_, fun j j1 j2 => ?_⟩
    · rw [h3 j hj, wd_clr]
      by_cases e : j = a / 64
      · rw [if_pos e, h4 j (by omega) hj, Nat.zero_and]
      · rw [if_neg e]
    · rw [wd_clr]
      by_cases e : j = a / 64
      · rw [if_pos e, h4 j (by omega) j2, Nat.zero_and]
      · rw [if_neg e]; exact h4 j j1 j2
