/-! THE MODEL'S STATE: what changes and what stays; fractions in lowest terms; two lines; points -/
set_option maxRecDepth 100000
theorem gI_sI (σ : MSt) (k : Nat) (v : Int32) (k' : Nat) : gI (sI σ k v) k' = if k' = k then v else gI σ k' := rfl
theorem gI_sJ (σ : MSt) (k : Nat) (v : Int64) (k' : Nat) : gI (sJ σ k v) k' = gI σ k' := rfl
theorem gI_sA (σ : MSt) (k j : Nat) (v : Int32) (k' : Nat) : gI (sA σ k j v) k' = gI σ k' := rfl
theorem gI_sL (σ : MSt) (k j : Nat) (v : Int64) (k' : Nat) : gI (sL σ k j v) k' = gI σ k' := rfl
theorem gI_sR (σ : MSt) (k : Nat) (f : Nat → Int32) (k' : Nat) : gI (sR σ k f) k' = gI σ k' := rfl
theorem gJ_sI (σ : MSt) (k : Nat) (v : Int32) (k' : Nat) : gJ (sI σ k v) k' = gJ σ k' := rfl
theorem gJ_sJ (σ : MSt) (k : Nat) (v : Int64) (k' : Nat) : gJ (sJ σ k v) k' = if k' = k then v else gJ σ k' := rfl
theorem gJ_sA (σ : MSt) (k j : Nat) (v : Int32) (k' : Nat) : gJ (sA σ k j v) k' = gJ σ k' := rfl
theorem gJ_sL (σ : MSt) (k j : Nat) (v : Int64) (k' : Nat) : gJ (sL σ k j v) k' = gJ σ k' := rfl
theorem gJ_sR (σ : MSt) (k : Nat) (f : Nat → Int32) (k' : Nat) : gJ (sR σ k f) k' = gJ σ k' := rfl
theorem gA_sI (σ : MSt) (k : Nat) (v : Int32) (k' i : Nat) : gA (sI σ k v) k' i = gA σ k' i := rfl
theorem gA_sJ (σ : MSt) (k : Nat) (v : Int64) (k' i : Nat) : gA (sJ σ k v) k' i = gA σ k' i := rfl
theorem gA_sL (σ : MSt) (k j : Nat) (v : Int64) (k' i : Nat) : gA (sL σ k j v) k' i = gA σ k' i := rfl
theorem gA_sA (σ : MSt) (k j : Nat) (v : Int32) (k' i : Nat) : gA (sA σ k j v) k' i = if k' = k then (if i = j then v else gA σ k' i) else gA σ k' i := by
  unfold gA sA va_up upd
  by_cases h : k' = k
  · subst h; simp
  · simp [h]
theorem gA_sR (σ : MSt) (k : Nat) (f : Nat → Int32) (k' i : Nat) : gA (sR σ k f) k' i = if k' = k then f i else gA σ k' i := by
  unfold gA sR va_up
  by_cases h : k' = k
  · subst h; simp
  · simp [h]
theorem gL_sI (σ : MSt) (k : Nat) (v : Int32) (k' i : Nat) : gL (sI σ k v) k' i = gL σ k' i := rfl
theorem gL_sJ (σ : MSt) (k : Nat) (v : Int64) (k' i : Nat) : gL (sJ σ k v) k' i = gL σ k' i := rfl
theorem gL_sA (σ : MSt) (k j : Nat) (v : Int32) (k' i : Nat) : gL (sA σ k j v) k' i = gL σ k' i := rfl
theorem gL_sR (σ : MSt) (k : Nat) (f : Nat → Int32) (k' i : Nat) : gL (sR σ k f) k' i = gL σ k' i := rfl
theorem gL_sL (σ : MSt) (k j : Nat) (v : Int64) (k' i : Nat) : gL (sL σ k j v) k' i = if k' = k then (if i = j then v else gL σ k' i) else gL σ k' i := by
  unfold gL sL va_up vp_updL
  by_cases h : k' = k
  · subst h; simp
  · simp [h]
/-- nothing changed but these fields -/
def mfr (ks : List Nat) (σ σ' : MSt) : Prop := ∀ k, k ∉ ks → gI σ' k = gI σ k ∧ gJ σ' k = gJ σ k ∧ (∀ j, gA σ' k j = gA σ k j) ∧ ∀ j, gL σ' k j = gL σ k j
theorem mfr.rf (ks : List Nat) (σ : MSt) : mfr ks σ σ := fun _ _ => ⟨rfl, rfl, fun _ => rfl, fun _ => rfl⟩
theorem mfr.tr {ks : List Nat} {σ σ' σ'' : MSt} (h : mfr ks σ σ') (h' : mfr ks σ' σ'') : mfr ks σ σ'' := fun k hk => by
  obtain ⟨a, b, c, d⟩ := h k hk
  obtain ⟨a', b', c', d'⟩ := h' k hk
  exact ⟨a'.trans a, b'.trans b, fun j => (c' j).trans (c j), fun j => (d' j).trans (d j)⟩
theorem mfr.up {ks ks' : List Nat} {σ σ' : MSt} (h : mfr ks σ σ') (hs : ∀ k ∈ ks, k ∈ ks') : mfr ks' σ σ' := fun k hk => h k (fun z => hk (hs k z))
theorem mfr.I {ks : List Nat} {σ σ' : MSt} (h : mfr ks σ σ') {k : Nat} (hk : k ∈ ks) (v : Int32) : mfr ks σ (sI σ' k v) := h.tr (fun k' hk' => ⟨by rw [gI_sI, if_neg (show ¬ k' = k from fun z => hk' (by rw [z]; exact hk))], rfl, fun _ => rfl, fun _ => rfl⟩)
theorem mfr.J {ks : List Nat} {σ σ' : MSt} (h : mfr ks σ σ') {k : Nat} (hk : k ∈ ks) (v : Int64) : mfr ks σ (sJ σ' k v) := h.tr (fun k' hk' => ⟨rfl, by rw [gJ_sJ, if_neg (show ¬ k' = k from fun z => hk' (by rw [z]; exact hk))], fun _ => rfl, fun _ => rfl⟩)
theorem mfr.A {ks : List Nat} {σ σ' : MSt} (h : mfr ks σ σ') {k : Nat} (hk : k ∈ ks) (j : Nat) (v : Int32) : mfr ks σ (sA σ' k j v) := h.tr (fun k' hk' => ⟨rfl, rfl, fun i => by rw [gA_sA, if_neg (show ¬ k' = k from fun z => hk' (by rw [z]; exact hk))], fun _ => rfl⟩)
theorem mfr.L {ks : List Nat} {σ σ' : MSt} (h : mfr ks σ σ') {k : Nat} (hk : k ∈ ks) (j : Nat) (v : Int64) : mfr ks σ (sL σ' k j v) := h.tr (fun k' hk' => ⟨rfl, rfl, fun _ => rfl, fun i => by rw [gL_sL, if_neg (show ¬ k' = k from fun z => hk' (by rw [z]; exact hk))]⟩)
theorem mfr.gI {ks : List Nat} {σ σ' : MSt} (h : mfr ks σ σ') (k : Nat) (hk : k ∉ ks) : gI σ' k = gI σ k := (h k hk).1
theorem mfr.gJ {ks : List Nat} {σ σ' : MSt} (h : mfr ks σ σ') (k : Nat) (hk : k ∉ ks) : gJ σ' k = gJ σ k := (h k hk).2.1
theorem mfr.gA {ks : List Nat} {σ σ' : MSt} (h : mfr ks σ σ') (k : Nat) (hk : k ∉ ks) (j : Nat) : gA σ' k j = gA σ k j := (h k hk).2.2.1 j
theorem mfr.gL {ks : List Nat} {σ σ' : MSt} (h : mfr ks σ σ') (k : Nat) (hk : k ∉ ks) (j : Nat) : gL σ' k j = gL σ k j := (h k hk).2.2.2 j
theorem ck_n {α : Type} {a n : Nat} (h : a < n) (hn : n < 2147483648) (k : Nat → Option α) : ck (i32 (a : Int)) n k = k a := by
  rw [ck_i (by omega) hn]
  rfl
/-- so many lines, each of whole numbers on the sheet -/
def LOk (n : Nat) (L : Nat → Sg) : Prop := n ≤ 10 ∧ ∀ k, k < n → sgOk (L k)
/-- the model has these lines -/
def MLn (σ : MSt) (n : Nat) (L : Nat → Sg) : Prop := gI σ 0 = i32 n ∧ ∀ k, k < n → gA σ 1 k = i32 (L k).1 ∧ gA σ 2 k = i32 (L k).2.1 ∧ gA σ 3 k = i32 (L k).2.2.1 ∧ gA σ 4 k = i32 (L k).2.2.2
theorem MLn.fr {ks : List Nat} {σ σ' : MSt} {n : Nat} {L : Nat → Sg} (h : MLn σ n L) (hf : mfr ks σ σ') (hk : 0 ∉ ks ∧ 1 ∉ ks ∧ 2 ∉ ks ∧ 3 ∉ ks ∧ 4 ∉ ks) : MLn σ' n L := by
  obtain ⟨h0, h1⟩ := h
  refine ⟨by rw [hf.gI 0 hk.1]; exact h0, fun k hk' => ?_⟩
  obtain ⟨a, b, c, d⟩ := h1 k hk'
  exact ⟨by rw [hf.gA 1 hk.2.1]; exact a, by rw [hf.gA 2 hk.2.2.1]; exact b, by rw [hf.gA 3 hk.2.2.2.1]; exact c, by rw [hf.gA 4 hk.2.2.2.2]; exact d⟩
/-! fractions -/
theorem against_e {N : Nat} {a b c d : Int} (h1 : bn (a * d) 4611686018427387904) (h2 : bn (c * b) 4611686018427387903) : F_against N (i64 a) (i64 b) (i64 c) (i64 d) = some (i32 (sgi (a * d - c * b))) := by
  have b1 := bn_64 (bn_sub h1 h2) (by decide)
  unfold F_against
  simp only [i64_mul, i64_sub]
  rw [show (0 : Int64) = i64 0 from rfl, ite_ii (i64_le (by omega) b1), ite_ii (i64_le b1 (by omega))]
  unfold sgi
  by_cases c1 : a * d - c * b < 0
  · rw [if_pos c1, if_neg (by omega)]; rfl
  · rw [if_neg c1, if_pos (by omega)]
    by_cases c2 : a * d - c * b = 0
    · rw [if_pos c2, if_pos (by omega)]; rfl
    · rw [if_neg c2, if_neg (by omega)]; rfl
theorem sgi_q {a b c d : Int} (hb : 0 < b) (hd : 0 < d) : sgi (a * d - c * b) = sg ((a : Rat) / (b : Rat)) ((c : Rat) / (d : Rat)) := by
  have hb' : (0 : Rat) < (b : Rat) := Rat.intCast_pos.mpr hb
  have hd' : (0 : Rat) < (d : Rat) := Rat.intCast_pos.mpr hd
  have e1 : (a : Rat) / (b : Rat) < (c : Rat) / (d : Rat) ↔ a * d - c * b < 0 := by
    rw [Rat.div_lt_iff hb', show (c : Rat) / (d : Rat) * (b : Rat) = (c : Rat) * (b : Rat) / (d : Rat) by rw [Rat.div_def, Rat.div_def]; grind, Rat.lt_div_iff hd', ← Rat.intCast_mul, ← Rat.intCast_mul, Rat.intCast_lt_intCast]
    omega
  have e2 : (c : Rat) / (d : Rat) < (a : Rat) / (b : Rat) ↔ 0 < a * d - c * b := by
    rw [Rat.div_lt_iff hd', show (a : Rat) / (b : Rat) * (d : Rat) = (a : Rat) * (d : Rat) / (b : Rat) by rw [Rat.div_def, Rat.div_def]; grind, Rat.lt_div_iff hb', ← Rat.intCast_mul, ← Rat.intCast_mul, Rat.intCast_lt_intCast]
    omega
  unfold sgi sg
  by_cases c1 : a * d - c * b < 0
  · rw [if_pos c1, if_pos (e1.mpr c1)]
  · rw [if_neg c1, if_neg (fun w => c1 (e1.mp w))]
    by_cases c2 : a * d - c * b = 0
    · rw [if_pos c2, if_pos]
      exact Rat.le_antisymm (Rat.not_lt.mp fun w => by have := e2.mp w; omega) (Rat.not_lt.mp fun w => c1 (e1.mp w))
    · rw [if_neg c2, if_neg]
      intro w
      have := e2.mpr (by omega)
      rw [w] at this
      exact Rat.lt_irrefl this
theorem rat_q (q : Rat) : (q.num : Rat) / ((q.den : Int) : Rat) = q := by rw [← Rat.divInt_eq_div]; exact Rat.num_divInt_den q
theorem fb_div (a b : Int) : fb (Rat.divInt a b) a.natAbs (max 1 b.natAbs) := by
  unfold fb bn
  rw [Rat.num_divInt, Rat.den_divInt]
  constructor
  · refine Nat.le_trans (Int.natAbs_ediv_le_natAbs _ _) ?_
    rw [Int.natAbs_mul]
    have : b.sign.natAbs ≤ 1 := by rcases Int.lt_trichotomy b 0 with h | h | h <;> simp [Int.sign_eq_neg_one_of_neg, Int.sign_eq_one_of_pos, h]
    exact Nat.le_trans (Nat.mul_le_mul_right _ this) (by omega)
  · split
    · omega
    · exact Nat.le_trans (Nat.div_le_self _ _) (by omega)
theorem lowest_e {N : Nat} {a b : Int} (ha : bn a 4611686018427387904) (hb : 0 < b) (hb2 : b < 2 ^ 40) : F_lowest N (i64 a) (i64 b) 0 = some (i64 (Rat.divInt a b).num) ∧ F_lowest N (i64 a) (i64 b) 1 = some (i64 ((Rat.divInt a b).den : Int)) := by
  have r := bn_64 ha (by decide)
  have rb : -9223372036854775808 ≤ b ∧ b < 9223372036854775808 := by omega
  have hs : F_size N (i64 a) = some (i64 (a.natAbs : Int)) := by
    unfold F_size
    rw [show (0 : Int64) = i64 0 from rfl, ite_ii (i64_le (by omega) r), i64_neg]
    split
    · congr 2; omega
    · congr 2; omega
  obtain ⟨m, rfl⟩ : ∃ m : Nat, b = (m : Int) := ⟨b.toNat, by omega⟩
  have hc := common_e 40 100 a.natAbs m (by omega) (by decide) (by unfold bn at ha; omega) (by omega)
  have hg : 0 < Nat.gcd a.natAbs m := Nat.gcd_pos_of_pos_right _ (by omega)
  have hgb : Nat.gcd a.natAbs m ≤ m := Nat.gcd_le_right _ (by omega)
  have hda : ((Nat.gcd a.natAbs m : Nat) : Int) ∣ a := Int.ofNat_dvd_left.mpr (Nat.gcd_dvd_left a.natAbs m)
  have hz : ¬ i64 ((Nat.gcd a.natAbs m : Nat) : Int) = 0 := fun h => by rw [i64_zero (by omega)] at h; omega
  have hgg : (m : Int).gcd a = Nat.gcd a.natAbs m := by unfold Int.gcd; rw [Int.natAbs_natCast]; exact Nat.gcd_comm _ _
  unfold F_lowest F_lowest_b20 dz
  rw [hs]
  simp only [Option.bind_some, hc]
  rw [if_pos trivial, if_neg (show ¬ (1 : Int32) = 0 by decide), if_neg hz, if_neg hz, i64_div r (by omega), i64_div rb (by omega), Rat.num_divInt, Rat.den_divInt, if_neg (by omega), hgg, Int.natAbs_natCast, Int.sign_eq_one_of_pos hb, Int.one_mul, Int.tdiv_eq_ediv_of_dvd hda, Int.ofNat_tdiv]
  exact ⟨rfl, rfl⟩
/-! two lines -/
theorem in_e {N : Nat} {x a b : Int} (h1 : -2147483648 ≤ x ∧ x < 2147483648) (h2 : -2147483648 ≤ a ∧ a < 2147483648) (h3 : -2147483648 ≤ b ∧ b < 2147483648) : F_in N (i32 x) (i32 a) (i32 b) = some (bi (decide (a ≤ x ∧ x ≤ b))) := by
  unfold F_in
  rw [ite_ii (i32_lt h1 h2), ite_ii (i32_lt h3 h1)]
  unfold bi
  by_cases c1 : x < a
  · rw [if_pos c1, decide_eq_false (by omega)]; rfl
  · rw [if_neg c1]
    by_cases c2 : b < x
    · rw [if_pos c2, decide_eq_false (by omega)]; rfl
    · rw [if_neg c2, decide_eq_true (by omega)]; rfl
theorem isLess_i {N : Nat} {x y u v : Int} (h1 : -2147483648 ≤ x ∧ x < 2147483648) (h2 : -2147483648 ≤ y ∧ y < 2147483648) (h3 : -2147483648 ≤ u ∧ u < 2147483648) (h4 : -2147483648 ≤ v ∧ v < 2147483648) : F_isLess N (i32 x) (i32 y) (i32 u) (i32 v) = some (if x < u then 1 else if x = u then if v ≤ y then 0 else 1 else 0) := by
  unfold F_isLess
  rw [ite_ii (i32_lt h1 h3), ite_ii (i32_eq h1 h3), ite_ii (i32_le h4 h2)]
  by_cases c1 : x < u
  · rw [if_pos c1, if_pos c1]
  · rw [if_neg c1, if_neg c1]
    by_cases c2 : x = u
    · rw [if_pos c2, if_pos c2]
      by_cases c3 : v ≤ y
      · rw [if_pos c3, if_pos c3]
      · rw [if_neg c3, if_neg c3]
    · rw [if_neg c2, if_neg c2]
theorem b190_e {N : Nat} {σ : MSt} {n : Nat} {L : Nat → Sg} (h : MLn σ n L) (hL : LOk n L) {a : Nat} (ha : a < n) {rx ry D T U : Int} (h1 : bn rx 40) (h2 : bn ry 40) (h3 : bn D 3200) (h4 : bn T 3200) (h5 : bn U 3200) :
    F_meet_b190 N σ (i32 a) (i32 rx) (i32 ry) (i32 D) (i32 T) (i32 U) = some (if hwD D T U = 0 then σ else sJ (sJ (sJ (sI σ 5 (i32 (hwD D T U))) 6 (i64 ((L a).1 * D + T * rx))) 7 (i64 ((L a).2.1 * D + T * ry))) 8 (i64 D)) := by
  obtain ⟨e1, e2, -, -⟩ := h.2 a ha
  have A : ∀ {α : Type} (k : Nat → Option α), ck (i32 (a : Int)) 10 k = k a := fun k => ck_n (by have := hL.1; omega) (by decide) k
  obtain ⟨a1, a2, -, -, -⟩ := hL.2 a ha
  have r1 := bn_32 h1 (by decide)
  have r2 := bn_32 h2 (by decide)
  have r3 := bn_32 h3 (by decide)
  have r4 := bn_32 h4 (by decide)
  have r5 := bn_32 h5 (by decide)
  have key : ∀ w : Int32, F_meet_b243 N σ (i32 a) (i32 rx) (i32 ry) (i32 D) (i32 T) w = some (sJ (sJ (sJ (sI σ 5 w) 6 (i64 ((L a).1 * D + T * rx))) 7 (i64 ((L a).2.1 * D + T * ry))) 8 (i64 D)) := by
    intro w
    unfold F_meet_b243
    simp only [A, gA_sI, gA_sJ, e1, e2]
    rw [i32_to64 (by omega), i32_to64 r3, i32_to64 r4, i32_to64 r1, i32_to64 r2, i32_to64 (by omega)]
    simp only [i64_mul, i64_add]
  unfold F_meet_b190
  rw [show (0 : Int32) = i32 0 from rfl, in_e r4 (by omega) r3, in_e r5 (by omega) r3]
  simp only [Option.bind_some, key]
  rw [show (i32 0) = (0 : Int32) from rfl, bi_0, bi_0, i32_0 r4, i32_0 r5, ite_ii (i32_eq r4 r3), ite_ii (i32_eq r5 r3)]
  unfold hwD
  by_cases c1 : T < 0
  · simp [c1, show ¬ 0 ≤ T by omega]
  · by_cases c2 : D < T
    · simp [c1, c2, show ¬ T ≤ D by omega]
    · by_cases c3 : U < 0
      · simp [c1, c2, c3, show ¬ 0 ≤ U by omega]
      · by_cases c4 : D < U
        · simp [c1, c2, c3, c4, show ¬ U ≤ D by omega]
        · have g1 : 0 ≤ T ∧ T ≤ D := by omega
          have g2 : 0 ≤ U ∧ U ≤ D := by omega
          rw [if_neg c1, if_neg c2, if_neg c3, if_neg c4, decide_eq_true g1, decide_eq_true g2, if_pos rfl, if_pos rfl]
          by_cases c5 : T = 0
          · simp only [if_pos c5]; rfl
          · simp only [if_neg c5]
            by_cases c6 : T = D
            · simp only [if_pos c6]; rfl
            · simp only [if_neg c6]
              by_cases c7 : U = 0
              · simp only [if_pos c7]; rfl
              · simp only [if_neg c7]
                by_cases c8 : U = D
                · simp only [if_pos c8]; rfl
                · simp only [if_neg c8]; rfl
