/-! ORDER: both put the lines in alike; the call order -/
set_option maxRecDepth 100000
theorem upd_at (f : Nat → Int32) (j : Nat) (v : Int32) (i : Nat) : upd f j v i = if i = j then v else f i := by
  unfold upd
  by_cases h : i = j
  · subst h; simp
  · simp [h]
theorem insO_at {x : Rat} {L : Nat → Sg} {c : Nat} {f : Nat → Nat} {k p : Nat} (hp : posO x L f k c = p) {g : Nat → Int32} (h1 : ∀ j, j < p → g j = i32 ((f j : Nat) : Int)) (h2 : g p = i32 (k : Int)) (h3 : ∀ j, p < j → j ≤ c → g j = i32 ((f (j - 1) : Nat) : Int)) : ∀ j, j < c + 1 → g j = i32 (((insO x L (c, f) k).2 j : Nat) : Int) := by
  intro j hj
  show g j = i32 (((if j < posO x L f k c then f j else if j = posO x L f k c then k else f (j - 1)) : Nat) : Int)
  rw [hp]
  by_cases w : j < p
  · rw [if_pos w]; exact h1 j w
  · rw [if_neg w]
    by_cases v : j = p
    · rw [if_pos v, v]; exact h2
    · rw [if_neg v]; exact h3 j (by omega) (by omega)
section OR
variable {N n : Nat} {L : Nat → Sg} {σ : FSt} {μ : MSt}
theorem cput_e {κ : CSt} (h : CLn κ n L) (hL : LOk n L) {x : Rat} (hx : mq x) (r6 : (Nat → Int32) → Fr → Int32 → Int32 → Int32 → Option (Int32 × (Nat → Int32))) (o : Int32) {k c : Nat} {f : Nat → Nat} (hk : k < n) (hc : c ≤ k) (sk : isSl (L k)) (hf : ∀ j, j < c → f j < n ∧ isSl (L (f j))) : ∀ (v m : Nat) (ρ : Nat → Int32), v ≤ c → v < m → posO x L f k v = posO x L f k c → (∀ j, j < v → ρ j = i32 ((f j : Nat) : Int)) → (∀ j, v < j → j ≤ c → ρ j = i32 ((f (j - 1) : Nat) : Int)) → ∃ ρ', F_X1_order_L61 N κ r6 m ρ (rf x) o (i32 (c : Int)) (i32 (k : Int)) (lnOf (L k)) (i32 (v : Int)) = r6 ρ' (rf x) o (i32 ((c + 1 : Nat) : Int)) (i32 ((k + 1 : Nat) : Int)) ∧ ∀ j, j < c + 1 → ρ' j = i32 (((insO x L (c, f) k).2 j : Nat) : Int) := by
  have hn10 := hL.1
  have stop : ∀ (v : Nat) (ρ : Nat → Int32), v ≤ c → posO x L f k c = v → (∀ j, j < v → ρ j = i32 ((f j : Nat) : Int)) → (∀ j, v < j → j ≤ c → ρ j = i32 ((f (j - 1) : Nat) : Int)) → ∃ ρ', F_X1_order_b105 N κ r6 ρ (rf x) o (i32 (c : Int)) (i32 (k : Int)) (i32 (v : Int)) = r6 ρ' (rf x) o (i32 ((c + 1 : Nat) : Int)) (i32 ((k + 1 : Nat) : Int)) ∧ ∀ j, j < c + 1 → ρ' j = i32 (((insO x L (c, f) k).2 j : Nat) : Int) := by
    intro v ρ hv hp h1 h2
    refine ⟨upd ρ v (i32 (k : Int)), ?_, insO_at hp (fun j hj => ?_) ?_ (fun j j1 j2 => ?_)⟩
    · unfold F_X1_order_b105 F_X1_order_b114
      rw [ck_n (by omega) (by decide)]
      simp only [i32_s]
    · rw [upd_at, if_neg (by omega)]; exact h1 j hj
    · rw [upd_at, if_pos rfl]
    · rw [upd_at, if_neg (by omega)]; exact h2 j j1 j2
  intro v
  induction v with
  | zero =>
    intro m ρ hv hm hp h1 h2
    obtain ⟨m, rfl⟩ : ∃ j, m = j + 1 := ⟨m - 1, by omega⟩
    unfold F_X1_order_L61
    rw [if_pos (show i32 ((0 : Nat) : Int) ≤ 0 by decide)]
    exact stop 0 ρ hv hp.symm h1 h2
  | succ v ih =>
    intro m ρ hv hm hp h1 h2
    obtain ⟨m, rfl⟩ : ∃ j, m = j + 1 := ⟨m - 1, by omega⟩
    obtain ⟨f1, f2⟩ := hf v (by omega)
    obtain ⟨t, e1⟩ := h.2 (f v) f1
    have e2 : i32 ((v + 1 : Nat) : Int) - 1 = i32 (v : Int) := by rw [show (1 : Int32) = i32 1 from rfl, i32_sub]; congr 1; omega
    have e3 : i32 ((v + 1 : Nat) : Int) + -1 = i32 (v : Int) := by rw [show (-1 : Int32) = i32 (-1) from rfl, i32_add]; congr 1; omega
    unfold F_X1_order_L61
    rw [if_neg (fun z => by have := (i32_le (a := ((v + 1 : Nat) : Int)) (b := 0) (by omega) (by omega)).mp z; omega), e2, ck_n (by omega) (by decide), h1 v (by omega), ck_n (by omega) (by decide), e1]
    simp only [nn]
    unfold ckS
    rw [if_neg (fun w => (kd_sl (hL.2 _ f1)).mp w f2), aheadC_e (hL.2 k hk) (hL.2 _ f1) sk f2 hx, Option.bind_some, bi_0]
    have ps : posO x L f k (v + 1) = if ahB x (L k) (L (f v)) then posO x L f k v else v + 1 := rfl
    by_cases w : ahB x (L k) (L (f v)) = true
    · rw [if_pos w, ck_n (by omega) (by decide), ck_n (by omega) (by decide), e3]
      simp only [h1 v (show v < v + 1 by omega)]
      rw [ps, if_pos w] at hp
      exact ih m (upd ρ (v + 1) (i32 ((f v : Nat) : Int))) (by omega) (by omega) hp (fun j hj => by rw [upd_at, if_neg (by omega)]; exact h1 j (by omega)) (fun j j1 j2 => by
        rw [upd_at]
        by_cases q : j = v + 1
        · rw [if_pos q, q]; rfl
        · rw [if_neg q]; exact h2 j (by omega) j2)
    · rw [if_neg w]
      rw [ps, if_neg w] at hp
      exact stop (v + 1) ρ hv hp.symm h1 h2
theorem corder_e (hN : 2000 ≤ N) {κ : CSt} (h : CLn κ n L) (hL : LOk n L) {x : Rat} (hx : mq x) {o : Int} (ho : -2147483648 ≤ o ∧ o < 2147483648) (ρ : Nat → Int32) : ∃ ρ', F_X1_order N κ ρ (rf x) (i32 o) = some (i32 (((ordF x L o n).1 : Nat) : Int), ρ') ∧ ∀ j, j < (ordF x L o n).1 → ρ' j = i32 (((ordF x L o n).2 j : Nat) : Int) := by
  have hn10 := hL.1
  have main : ∀ (d k m : Nat) (ρ : Nat → Int32), k + d = n → d < m → (∀ j, j < (ordF x L o k).1 → ρ j = i32 (((ordF x L o k).2 j : Nat) : Int)) → ∃ ρ', F_X1_order_L6 N κ m ρ (rf x) (i32 o) (i32 (((ordF x L o k).1 : Nat) : Int)) (i32 (k : Int)) = some (i32 (((ordF x L o n).1 : Nat) : Int), ρ') ∧ ∀ j, j < (ordF x L o n).1 → ρ' j = i32 (((ordF x L o n).2 j : Nat) : Int) := by
    intro d
    induction d with
    | zero =>
      intro k m ρ hk hm h1
      obtain ⟨m, rfl⟩ : ∃ j, m = j + 1 := ⟨m - 1, by omega⟩
      have e : k = n := by omega
      subst e
      refine ⟨ρ, ?_, h1⟩
      unfold F_X1_order_L6
      rw [h.1, if_pos ((i32_le (by omega) (by omega)).mpr (Int.le_refl _))]
    | succ d ih =>
      intro k m ρ hk hm h1
      obtain ⟨m, rfl⟩ : ∃ j, m = j + 1 := ⟨m - 1, by omega⟩
      have hk' : k < n := by omega
      obtain ⟨t, e1⟩ := h.2 k hk'
      have hs := hL.2 k hk'
      obtain ⟨G1, G2⟩ := ordF_G x L o k
      have os : ordF x L o (k + 1) = if inO x L o k then insO x L (ordF x L o k) k else ordF x L o k := rfl
      have skip : inO x L o k = false → ∃ ρ', F_X1_order_b114 N κ (F_X1_order_L6 N κ m) ρ (rf x) (i32 o) (i32 (((ordF x L o k).1 : Nat) : Int)) (i32 (k : Int)) = some (i32 (((ordF x L o n).1 : Nat) : Int), ρ') ∧ ∀ j, j < (ordF x L o n).1 → ρ' j = i32 (((ordF x L o n).2 j : Nat) : Int) := by
        intro w
        have e : ordF x L o (k + 1) = ordF x L o k := by rw [os, w]; rfl
        have i := ih (k + 1) m ρ (by omega) (by omega) (by rw [e]; exact h1)
        rw [e] at i
        unfold F_X1_order_b114
        simp only [i32_s]
        exact i
      unfold F_X1_order_L6
      rw [h.1, if_neg (fun z => by have := (i32_le (by omega) (by omega)).mp z; omega), ite_ii (i32_eq (a := (k : Int)) (b := o) (by omega) ho)]
      by_cases c1 : (k : Int) = o
      · rw [if_pos c1]
        exact skip (by unfold inO; rw [decide_eq_true c1]; rfl)
      · rw [if_neg c1, ck_n (by omega) (by decide), e1]
        simp only [nn]
        by_cases c2 : isSl (L k)
        · rw [if_neg (fun w => (kd_sl hs).mp w c2), spans_e hs hx, Option.bind_some, bi_0]
          by_cases c3 : (decide (((L k).1 : Rat) ≤ x) && decide (x ≤ ((L k).2.2.1 : Rat))) = true
          · have yes : inO x L o k = true := by
              unfold inO
              rw [c3, decide_eq_false c1, show slB (L k) = true from decide_eq_true c2]; rfl
            obtain ⟨ρ', q1, q2⟩ := cput_e (N := N) h hL hx (F_X1_order_L6 N κ m) (i32 o) hk' G1 c2 (fun j hj => by
              obtain ⟨g1, g2⟩ := G2 j hj
              exact ⟨by omega, (inO_e.mp g2).2.1⟩) (ordF x L o k).1 N ρ (Nat.le_refl _) (by omega) rfl h1 (fun j j1 j2 => by omega)
            have e : ordF x L o (k + 1) = insO x L (ordF x L o k) k := by rw [os, yes]; rfl
            have i := ih (k + 1) m ρ' (by omega) (by omega) (by rw [e]; exact q2)
            rw [e] at i
            rw [if_pos c3, q1]
            exact i
          · rw [if_neg c3]
            exact skip (by
              unfold inO
              have : (decide (((L k).1 : Rat) ≤ x) && decide (x ≤ ((L k).2.2.1 : Rat))) = false := by simpa using c3
              rw [this]; simp)
        · rw [if_pos ((kd_sl hs).mpr c2)]
          exact skip (by
            unfold inO
            rw [show slB (L k) = false from decide_eq_false c2]; simp)
  exact main n 0 N ρ (by omega) (by omega) (fun j hj => absurd hj (Nat.not_lt_zero _))
theorem mput_e (hL : LOk n L) {X B : Int} (hX : bn X 256000) (hB : 0 < B) (hB2 : B ≤ 4000) (r8 : MSt → Int64 → Int64 → Int32 → Int32 → Option MSt) (o : Int32) {k c : Nat} {f : Nat → Nat} (hk : k < n) (hc : c ≤ k) (sk : isSl (L k)) (hf : ∀ j, j < c → f j < k ∧ isSl (L (f j))) : ∀ (v m : Nat) (μ : MSt), MLn μ n L → gI μ 20 = i32 (c : Int) → v ≤ c → v < m → posO ((X : Rat) / (B : Rat)) L f k v = posO ((X : Rat) / (B : Rat)) L f k c → (∀ j, j < v → gA μ 21 j = i32 ((f j : Nat) : Int)) → (∀ j, v < j → j ≤ c → gA μ 21 j = i32 ((f (j - 1) : Nat) : Int)) → ∃ μ', F_tellOrder_L44 N r8 m μ (i64 X) (i64 B) o (i32 (k : Int)) (i32 (v : Int)) = r8 μ' (i64 X) (i64 B) o (i32 ((k + 1 : Nat) : Int)) ∧ mfr [20, 21] μ μ' ∧ gI μ' 20 = i32 ((c + 1 : Nat) : Int) ∧ ∀ j, j < c + 1 → gA μ' 21 j = i32 (((insO ((X : Rat) / (B : Rat)) L (c, f) k).2 j : Nat) : Int) := by
  have hn10 := hL.1
  have stop : ∀ (v : Nat) (μ : MSt), gI μ 20 = i32 (c : Int) → v ≤ c → posO ((X : Rat) / (B : Rat)) L f k c = v → (∀ j, j < v → gA μ 21 j = i32 ((f j : Nat) : Int)) → (∀ j, v < j → j ≤ c → gA μ 21 j = i32 ((f (j - 1) : Nat) : Int)) → ∃ μ', F_tellOrder_b91 N r8 μ (i64 X) (i64 B) o (i32 (k : Int)) (i32 (v : Int)) = r8 μ' (i64 X) (i64 B) o (i32 ((k + 1 : Nat) : Int)) ∧ mfr [20, 21] μ μ' ∧ gI μ' 20 = i32 ((c + 1 : Nat) : Int) ∧ ∀ j, j < c + 1 → gA μ' 21 j = i32 (((insO ((X : Rat) / (B : Rat)) L (c, f) k).2 j : Nat) : Int) := by
    intro v μ h20 hv hp h1 h2
    refine ⟨sI (sA μ 21 v (i32 (k : Int))) 20 (i32 ((c + 1 : Nat) : Int)), ?_, ((mfr.rf _ μ).A (by decide) _ _).I (by decide) _, rfl, insO_at (g := fun j => gA (sI (sA μ 21 v (i32 (k : Int))) 20 (i32 ((c + 1 : Nat) : Int))) 21 j) hp (fun j hj => ?_) ?_ (fun j j1 j2 => ?_)⟩
    · unfold F_tellOrder_b91 F_tellOrder_b110
      rw [ck_n (by omega) (by decide)]
      simp only [gI_sA, h20, i32_s]
    · show gA (sI (sA μ 21 v (i32 (k : Int))) 20 _) 21 j = _
      rw [gA_sI, gA_sA, if_pos rfl, if_neg (by omega)]; exact h1 j hj
    · show gA (sI (sA μ 21 v (i32 (k : Int))) 20 _) 21 v = _
      rw [gA_sI, gA_sA, if_pos rfl, if_pos rfl]
    · show gA (sI (sA μ 21 v (i32 (k : Int))) 20 _) 21 j = _
      rw [gA_sI, gA_sA, if_pos rfl, if_neg (by omega)]; exact h2 j j1 j2
  intro v
  induction v with
  | zero =>
    intro m μ h h20 hv hm hp h1 h2
    obtain ⟨m, rfl⟩ : ∃ j, m = j + 1 := ⟨m - 1, by omega⟩
    unfold F_tellOrder_L44
    rw [if_pos (show i32 ((0 : Nat) : Int) ≤ 0 by decide)]
    exact stop 0 μ h20 hv hp.symm h1 h2
  | succ v ih =>
    intro m μ h h20 hv hm hp h1 h2
    obtain ⟨m, rfl⟩ : ∃ j, m = j + 1 := ⟨m - 1, by omega⟩
    obtain ⟨f1, f2⟩ := hf v (by omega)
    have e2 : i32 ((v + 1 : Nat) : Int) - 1 = i32 (v : Int) := by rw [show (1 : Int32) = i32 1 from rfl, i32_sub]; congr 1; omega
    have e3 : i32 ((v + 1 : Nat) : Int) + -1 = i32 (v : Int) := by rw [show (-1 : Int32) = i32 (-1) from rfl, i32_add]; congr 1; omega
    unfold F_tellOrder_L44
    rw [if_neg (fun z => by have := (i32_le (a := ((v + 1 : Nat) : Int)) (b := 0) (by omega) (by omega)).mp z; omega), e2, ck_n (by omega) (by decide), h1 v (by omega), aheadM_e h hL hk f1 sk f2 hX hB hB2, Option.bind_some, bi_0]
    have ps : posO ((X : Rat) / (B : Rat)) L f k (v + 1) = if ahB ((X : Rat) / (B : Rat)) (L k) (L (f v)) then posO ((X : Rat) / (B : Rat)) L f k v else v + 1 := rfl
    by_cases w : ahB ((X : Rat) / (B : Rat)) (L k) (L (f v)) = true
    · rw [if_pos w, ck_n (by omega) (by decide), ck_n (by omega) (by decide), e3]
      simp only [h1 v (show v < v + 1 by omega)]
      rw [ps, if_pos w] at hp
      have fr : mfr [20, 21] μ (sA μ 21 (v + 1) (i32 ((f v : Nat) : Int))) := (mfr.rf _ μ).A (by decide) _ _
      obtain ⟨μ', q1, q2, q3⟩ := ih m (sA μ 21 (v + 1) (i32 ((f v : Nat) : Int))) (h.fr fr (by decide)) h20 (by omega) (by omega) hp (fun j hj => by rw [gA_sA, if_pos rfl, if_neg (by omega)]; exact h1 j (by omega)) (fun j j1 j2 => by
        rw [gA_sA, if_pos rfl]
        by_cases q : j = v + 1
        · rw [if_pos q, q]; rfl
        · rw [if_neg q]; exact h2 j (by omega) j2)
      exact ⟨μ', q1, fr.tr q2, q3⟩
    · rw [if_neg w]
      rw [ps, if_neg w] at hp
      exact stop (v + 1) μ h20 hv hp.symm h1 h2
end OR
