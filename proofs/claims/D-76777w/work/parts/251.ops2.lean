/-! CALLS: count (but hulls and twos), told (but hulls), point, cell -/
set_option maxRecDepth 100000
theorem sb_all : ∀ (k : Fin 1024) (a : Fin 10), decide ((((nI k.1) >>> (nI a.1 &&& 31)) &&& 1) = 1) = k.1.testBit a.1 := by decide +kernel
theorem sb_e {k a : Nat} (hk : k < 1024) (ha : a < 10) {α : Type} (x y : α) : (if (((nI k) >>> (i32 (a : Int) &&& 31)) &&& 1) = 1 then x else y) = if k.testBit a = true then x else y := by
  have := sb_all ⟨k, hk⟩ ⟨a, ha⟩
  simp only at this
  rw [i32_nI]
  refine ite_ii ?_
  rw [← this, decide_eq_true_iff]
/-- how many points lie on a line -/
def pOn (n : Nat) (L : Nat → Sg) (a : Nat) : Nat → Nat := cn (fun i => onB (L a) ((ptN L n).2 i))
/-- how many lines end in a point -/
def eAt (L : Nat → Sg) (p : Pt) : Nat → Nat
  | 0 => 0
  | k + 1 => eAt L p k + (decide (ptA (L k) = p)).toNat + (decide (ptB (L k) = p)).toNat
theorem eAt_s (L : Nat → Sg) (p : Pt) (k : Nat) : eAt L p (k + 1) = eAt L p k + (decide (ptA (L k) = p)).toNat + (decide (ptB (L k) = p)).toNat := rfl
theorem rf_int (z : Int) : rf (z : Rat) = (i64 z, 1) := by
  unfold rf
  rw [Rat.num_intCast, Rat.den_intCast]; rfl
theorem rfA_e (s : Sg) : rfP (ptA s) = ((i64 s.1, 1), (i64 s.2.1, 1)) := by
  unfold rfP ptA
  rw [rf_int, rf_int]
theorem rfB_e (s : Sg) : rfP (ptB s) = ((i64 s.2.2.1, 1), (i64 s.2.2.2, 1)) := by
  unfold rfP ptB
  rw [rf_int, rf_int]
theorem eAt_le (L : Nat → Sg) (p : Pt) (k : Nat) : eAt L p k ≤ 2 * k := by
  induction k with
  | zero => exact Nat.le_refl _
  | succ k ih =>
    have := Bool.toNat_le (decide (ptA (L k) = p))
    have := Bool.toNat_le (decide (ptB (L k) = p))
    unfold eAt; omega
section O2
variable {N n : Nat} {L : Nat → Sg} {σ : FSt} {μ : MSt}
theorem pointsOn_e (hN : 2000 ≤ N) (hL : LOk n L) (h : MLn μ n L) (hp : MPt μ (ptN L n)) {a : Nat} (ha : a < n) : F_pointsOn N μ (i32 (a : Int)) = some (i32 ((pOn n L a (ptN L n).1 : Nat) : Int)) := by
  have hn10 := hL.1
  have v65 := ptN_65 hL
  have hg := ptN_G hL n (Nat.le_refl _)
  have main : ∀ (d k m : Nat), k + d = (ptN L n).1 → d < m → F_pointsOn_L4 N μ m (i32 (a : Int)) (i32 ((pOn n L a k : Nat) : Int)) (i32 (k : Int)) = some (i32 ((pOn n L a (ptN L n).1 : Nat) : Int)) := by
    intro d
    induction d with
    | zero =>
      intro k m hk hm
      obtain ⟨m, rfl⟩ : ∃ j, m = j + 1 := ⟨m - 1, by omega⟩
      have e : k = (ptN L n).1 := by omega
      subst e
      unfold F_pointsOn_L4
      rw [hp.1, if_pos ((i32_le (by omega) (by omega)).mpr (Int.le_refl _))]
    | succ d ih =>
      intro k m hk hm
      obtain ⟨m, rfl⟩ : ∃ j, m = j + 1 := ⟨m - 1, by omega⟩
      have i := ih (k + 1) m (by omega) (by omega)
      unfold F_pointsOn_L4
      rw [hp.1, if_neg (fun z => by have := (i32_le (by omega) (by omega)).mp z; omega), linesAt_e (by omega) h hL hp hg (by omega) (by omega), Option.bind_some, sb_e (pw10 (ms_lt _ _) hn10) (by omega), ms_bit, decide_eq_true ha, Bool.true_and]
      unfold F_pointsOn_b28
      simp only [i32_s]
      unfold pOn at i ⊢
      rw [cn_s] at i
      cases c : onB (L a) ((ptN L n).2 k) with
      | true => rw [c] at i; exact i
      | false => rw [c] at i; exact i
  exact main (ptN L n).1 0 N (by omega) (by omega)
theorem told5_e (hN : 2000 ≤ N) (hL : LOk n L) (hp : CPt (fC σ 1) (ptN L n)) {a : Nat} (ha : a < n) : F_X0_told_L123 N N σ (lnOf (L a)) 0 0 = some (i32 ((pOn n L a (ptN L n).1 : Nat) : Int), σ) := by
  have hn10 := hL.1
  have v65 := ptN_65 hL
  have hg := ptN_G hL n (Nat.le_refl _)
  have main : ∀ (d k m : Nat), k + d = (ptN L n).1 → d < m → F_X0_told_L123 N m σ (lnOf (L a)) (i32 ((pOn n L a k : Nat) : Int)) (i32 (k : Int)) = some (i32 ((pOn n L a (ptN L n).1 : Nat) : Int), σ) := by
    intro d
    induction d with
    | zero =>
      intro k m hk hm
      obtain ⟨m, rfl⟩ : ∃ j, m = j + 1 := ⟨m - 1, by omega⟩
      have e : k = (ptN L n).1 := by omega
      subst e
      unfold F_X0_told_L123
      rw [hp.1, if_pos ((i32_le (by omega) (by omega)).mpr (Int.le_refl _))]
    | succ d ih =>
      intro k m hk hm
      obtain ⟨m, rfl⟩ : ∃ j, m = j + 1 := ⟨m - 1, by omega⟩
      have i := ih (k + 1) m (by omega) (by omega)
      unfold F_X0_told_L123
      rw [hp.1, if_neg (fun z => by have := (i32_le (by omega) (by omega)).mp z; omega), ck_n (by omega) (by decide), hp.2 k (by omega)]
      unfold F_X0_told_b155
      simp only [nn, isOn_e (hL.2 a ha) (hg.2 k (by omega)), Option.bind_some, bi_0, i32_s]
      unfold pOn at i ⊢
      rw [cn_s] at i
      cases c : onB (L a) ((ptN L n).2 k) with
      | true => rw [c] at i; exact i
      | false => rw [c] at i; exact i
  exact main (ptN L n).1 0 N (by omega) (by omega)
theorem endsAt_e (hN : 2000 ≤ N) (hL : LOk n L) (h : MLn μ n L) (hp : MPt μ (ptN L n)) {i : Nat} (hi : i < (ptN L n).1) : F_endsAt N μ (i32 (i : Int)) = some (i32 ((eAt L ((ptN L n).2 i) n : Nat) : Int)) := by
  have hn10 := hL.1
  have v65 := ptN_65 hL
  have hg := ptN_G hL n (Nat.le_refl _)
  have main : ∀ (d k m : Nat), k + d = n → d < m → F_endsAt_L4 N μ m (i32 (i : Int)) (i32 ((eAt L ((ptN L n).2 i) k : Nat) : Int)) (i32 (k : Int)) = some (i32 ((eAt L ((ptN L n).2 i) n : Nat) : Int)) := by
    intro d
    induction d with
    | zero =>
      intro k m hk hm
      obtain ⟨m, rfl⟩ : ∃ j, m = j + 1 := ⟨m - 1, by omega⟩
      have e : k = n := by omega
      subst e
      unfold F_endsAt_L4
      rw [h.1, if_pos ((i32_le (by omega) (by omega)).mpr (Int.le_refl _))]
    | succ d ih =>
      intro k m hk hm
      obtain ⟨m, rfl⟩ : ∃ j, m = j + 1 := ⟨m - 1, by omega⟩
      have q := ih (k + 1) m (by omega) (by omega)
      have hs := hL.2 k (by omega)
      obtain ⟨l1, l2, l3, l4⟩ := h.2 k (by omega)
      have rA := lxc_r ((ptN L n).2 i) (ptA (L k))
      have rB := lxc_r ((ptN L n).2 i) (ptB (L k))
      have wA : F_pointAgainst N μ (i32 (i : Int)) (i64 (L k).1) 1 (i64 (L k).2.1) 1 = some (i32 (lxc ((ptN L n).2 i) (ptA (L k)))) := by
        have w := pAg_e (N := N) (σ := μ) (i := i) (by omega) (hp.2 i hi) (hg.2 i hi) (pq_A hs)
        rw [rfA_e] at w
        exact w
      have wB : F_pointAgainst N μ (i32 (i : Int)) (i64 (L k).2.2.1) 1 (i64 (L k).2.2.2) 1 = some (i32 (lxc ((ptN L n).2 i) (ptB (L k)))) := by
        have w := pAg_e (N := N) (σ := μ) (i := i) (by omega) (hp.2 i hi) (hg.2 i hi) (pq_B hs)
        rw [rfB_e] at w
        exact w
      have b1 := hs.1
      have b2 := hs.2.1
      have b3 := hs.2.2.1
      have b4 := hs.2.2.2.1
      unfold F_endsAt_L4
      rw [h.1, if_neg (fun z => by have := (i32_le (by omega) (by omega)).mp z; omega), ck_n (by omega) (by decide), ck_n (by omega) (by decide), l1, l2, i32_to64 (a := (L k).1) (by omega), i32_to64 (a := (L k).2.1) (by omega), wA, Option.bind_some, i32_0 (by omega)]
      unfold F_endsAt_b39 F_endsAt_b66
      simp only [ck_n (show k < 10 by omega) (show 10 < 2147483648 by decide), l3, l4, i32_to64 (a := (L k).2.2.1) (by omega), i32_to64 (a := (L k).2.2.2) (by omega), wB, Option.bind_some, i32_0 (z := lxc ((ptN L n).2 i) (ptB (L k))) (by omega), i32_s]
      rw [eAt_s] at q
      by_cases cA : ptA (L k) = (ptN L n).2 i
      · rw [if_pos (lxc_eq.mpr cA.symm)]
        rw [decide_eq_true cA] at q
        by_cases cB : ptB (L k) = (ptN L n).2 i
        · rw [if_pos (lxc_eq.mpr cB.symm)]
          rw [decide_eq_true cB] at q
          exact q
        · rw [if_neg (fun w => cB (lxc_eq.mp w).symm)]
          rw [decide_eq_false cB] at q
          exact q
      · rw [if_neg (fun w => cA (lxc_eq.mp w).symm)]
        rw [decide_eq_false cA] at q
        by_cases cB : ptB (L k) = (ptN L n).2 i
        · rw [if_pos (lxc_eq.mpr cB.symm)]
          rw [decide_eq_true cB] at q
          exact q
        · rw [if_neg (fun w => cB (lxc_eq.mp w).symm)]
          rw [decide_eq_false cB] at q
          exact q
  exact main n 0 N (by omega) (by omega)
theorem point5_e (hL : LOk n L) (h : CLn (fC σ 1) n L) {p : Pt} (hp : pq p) : F_X0_point_L102 N fu11 σ (some (rfP p)) 0 0 = some (i32 ((eAt L p n : Nat) : Int), σ) := by
  have hn10 := hL.1
  have main : ∀ (d k m : Nat), k + d = n → d < m → F_X0_point_L102 N m σ (some (rfP p)) (i32 ((eAt L p k : Nat) : Int)) (i32 (k : Int)) = some (i32 ((eAt L p n : Nat) : Int), σ) := by
    intro d
    induction d with
    | zero =>
      intro k m hk hm
      obtain ⟨m, rfl⟩ : ∃ j, m = j + 1 := ⟨m - 1, by omega⟩
      have e : k = n := by omega
      subst e
      unfold F_X0_point_L102
      rw [h.1, if_pos ((i32_le (by omega) (by omega)).mpr (Int.le_refl _))]
    | succ d ih =>
      intro k m hk hm
      obtain ⟨m, rfl⟩ : ∃ j, m = j + 1 := ⟨m - 1, by omega⟩
      have q := ih (k + 1) m (by omega) (by omega)
      have hs := hL.2 k (by omega)
      obtain ⟨t, e1⟩ := h.2 k (by omega)
      have rA := lxc_r (ptA (L k)) p
      have rB := lxc_r (ptB (L k)) p
      have wA : F_X6_compareTo N (lnOf (L k)).2.2.2.2.2.1 (rfP p) = some (i32 (lxc (ptA (L k)) p)) := lxc_pq (pq_A hs) hp
      have wB : F_X6_compareTo N (lnOf (L k)).2.2.2.2.2.2 (rfP p) = some (i32 (lxc (ptB (L k)) p)) := lxc_pq (pq_B hs) hp
      unfold F_X0_point_L102
      rw [h.1, if_neg (fun z => by have := (i32_le (by omega) (by omega)).mp z; omega), ck_n (by omega) (by decide), e1]
      unfold F_ends
      simp only [nn, wA, wB, Option.bind_some, i32_0 (z := lxc (ptA (L k)) p) (by omega), i32_0 (z := lxc (ptB (L k)) p) (by omega), i32_s]
      rw [eAt_s] at q
      by_cases cA : ptA (L k) = p
      · rw [if_pos (lxc_eq.mpr cA)]
        rw [decide_eq_true cA] at q
        by_cases cB : ptB (L k) = p
        · rw [if_pos (lxc_eq.mpr cB)]
          rw [decide_eq_true cB] at q
          simp only [i32_s]
          exact q
        · rw [if_neg (fun w => cB (lxc_eq.mp w))]
          rw [decide_eq_false cB] at q
          exact q
      · rw [if_neg (fun w => cA (lxc_eq.mp w))]
        rw [decide_eq_false cA] at q
        by_cases cB : ptB (L k) = p
        · rw [if_pos (lxc_eq.mpr cB)]
          rw [decide_eq_true cB] at q
          simp only [i32_s]
          exact q
        · rw [if_neg (fun w => cB (lxc_eq.mp w))]
          rw [decide_eq_false cB] at q
          exact q
  exact main n 0 fu11 (by omega) (by unfold fu11; omega)
end O2
