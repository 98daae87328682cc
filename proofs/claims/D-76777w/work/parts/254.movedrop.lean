/-! CALLS THAT CHANGE LINES: move, drop -/
set_option maxRecDepth 100000
section MD
variable {N n : Nat} {L : Nat → Sg} {σ : FSt} {μ : MSt}
theorem put_op (h : RL1 n L σ μ) {a : Nat} (ha : a < n) {s : Sg} (ok : sgOk s) (v : Int32) : OpX σ μ (some (v, fsC (fsC σ 1 (csL (fC σ 1) a (some (0, lnOf s)))) 1 (csI (fC (fsC σ 1 (csL (fC σ 1) a (some (0, lnOf s)))) 1) 2 1))) (some (v, put4 μ a s)) := by
  have pf := put4_f μ a s
  refine ⟨_, _, _, n, setL L a s, rfl, rfl, ⟨rfl, rfl, fun _ => rfl⟩, pf.up (by decide), ⟨h.1.1, fun k hk => ?_⟩, ⟨h.2.1.1, fun k hk => ?_⟩, Or.inl rfl, ?_, fun k hk => ?_⟩
  · unfold setL
    by_cases e : k = a
    · rw [if_pos e]; exact ok
    · rw [if_neg e]; exact h.1.2 k hk
  · show ∃ t : Nat, cL (csL (fC σ 1) a (some (0, lnOf s))) k = some (t, lnOf (setL L a s k))
    unfold setL
    by_cases e : k = a
    · rw [if_pos e, e]
      exact ⟨0, by rw [cL_csL, if_pos rfl]⟩
    · obtain ⟨t', e'⟩ := h.2.1.2 k hk
      rw [if_neg e]
      exact ⟨t', by rw [cL_csL, if_neg e]; exact e'⟩
  · rw [pf.gI 0 (by decide)]; exact h.2.2.2.1
  · obtain ⟨p1, p2, p3, p4⟩ := put4_g μ a s k
    rw [p1, p2, p3, p4]
    unfold setL
    by_cases e : k = a
    · rw [if_pos e, if_pos e, if_pos e, if_pos e, if_pos e]; exact ⟨rfl, rfl, rfl, rfl⟩
    · rw [if_neg e, if_neg e, if_neg e, if_neg e, if_neg e]
      exact h.2.2.2.2 k hk
theorem move_op (hN : 2000 ≤ N) (h : RL1 n L σ μ) {l w x y : Int} (hl : -2147483648 ≤ l ∧ l < 2147483648) (hw : -2147483648 ≤ w ∧ w < 2147483648) (hx : -2147483648 ≤ x ∧ x < 2147483648) (hy : -2147483648 ≤ y ∧ y < 2147483648) : OpX σ μ (F_X0_move N σ (i32 l) (i32 w) (i32 x) (i32 y)) (F_move N μ (i32 l) (i32 w) (i32 x) (i32 y)) := by
  obtain ⟨x1, x2⟩ := lineC_e (N := N) h hl
  have hn10 := h.1.1
  unfold F_X0_move F_move
  rw [x1, x2, Option.bind_some, Option.bind_some, bi_0, bi_0]
  by_cases cl : 0 ≤ l ∧ l ≤ (n : Int) - 1
  · rw [decide_eq_true cl, if_pos rfl, if_pos rfl, inx_e (A := 0) (B := 1) 0 1 rfl rfl hw (by omega) (by omega), inm_e (A := 0) (B := 1) 0 1 rfl rfl hw (by omega) (by omega), Option.bind_some, Option.bind_some, bi_0, bi_0]
    by_cases cw : 0 ≤ w ∧ w ≤ 1
    · rw [decide_eq_true cw, if_pos rfl, if_pos rfl]
      have k0 : ∀ {α : Type} (f : Nat → Option α), ck (0 : Int32) 2 f = f 0 := fun f => ck_n (a := 0) (n := 2) (by decide) (by decide) f
      have k1 : ∀ {α : Type} (f : Nat → Option α), ck (1 : Int32) 2 f = f 1 := fun f => ck_n (a := 1) (n := 2) (by decide) (by decide) f
      simp only [k0, k1]
      rw [areOn_e (N := N) (rl := 2) (by decide) (ρ := fun j => if j = 0 then x else y) (fun j => by
        show -2147483648 ≤ (if j = 0 then x else y) ∧ (if j = 0 then x else y) < 2147483648
        split
        · exact hx
        · exact hy) (fun j hj => by
        have : j = 0 ∨ j = 1 := by omega
        rcases this with rfl | rfl <;> rfl) (by omega), onSh_e hx, onSh_e hy]
      simp only [Option.bind_some, bi_0]
      by_cases c : ∀ j, j < 2 → 0 ≤ (if j = 0 then x else y) ∧ (if j = 0 then x else y) ≤ 40
      · have b1 : 0 ≤ x ∧ x ≤ 40 := c 0 (by decide)
        have b2 : 0 ≤ y ∧ y ≤ 40 := c 1 (by decide)
        rw [pB_t c, decide_eq_true b1, decide_eq_true b2]
        simp only [if_true]
        obtain ⟨a, rfl⟩ : ∃ a : Nat, l = a := ⟨l.toNat, by omega⟩
        have ha : a < n := by omega
        obtain ⟨t, e1⟩ := h.2.1.2 a ha
        have hs := h.1.2 a ha
        obtain ⟨l1, l2, l3, l4⟩ := h.2.2.2.2 a ha
        have A : ∀ {α : Type} (f : Nat → Option α), ck (i32 (a : Int)) 10 f = f a := fun f => ck_n (by omega) (by decide) f
        have go : ∀ X Y : Int, (0 ≤ X ∧ X ≤ 40) → (0 ≤ Y ∧ Y ≤ 40) → OpX σ μ (F_X0_move_b86 N σ (i32 (a : Int)) (i32 x) (i32 y) (i32 X) (i32 Y)) (F_move_b75 N μ (i32 (a : Int)) (i32 x) (i32 y) (i32 X) (i32 Y)) := by
          intro X Y b3 b4
          unfold F_X0_move_b86 F_move_b75
          rw [ite_ii (i32_eq (a := X) (b := x) (by omega) (by omega)), ite_ii (i32_eq (a := Y) (b := y) (by omega) (by omega)), ite_ii (i32_eq (a := x) (b := X) (by omega) (by omega)), ite_ii (i32_eq (a := y) (b := Y) (by omega) (by omega))]
          have put : ¬ (x = X ∧ y = Y) → OpX σ μ (F_X0_move_b104 N σ (i32 (a : Int)) (i32 x) (i32 y) (i32 X) (i32 Y)) (F_move_b93 N μ (i32 (a : Int)) (i32 x) (i32 y) (i32 X) (i32 Y)) := by
            intro ne
            unfold F_X0_move_b104 F_move_b93
            rw [made_e (by omega) b1 b2 b3 b4, stands_e (by omega) b1 b2 b3 b4]
            simp only [Option.bind_some, A]
            exact put_op h ha (sgOk.mk b1 b2 b3 b4 ne) 1
          by_cases c1 : x = X
          · rw [if_pos c1.symm, if_pos c1]
            by_cases c2 : y = Y
            · rw [if_pos c2.symm, if_pos c2]; exact h.rfX _
            · rw [if_neg (fun w => c2 w.symm), if_neg c2]; exact put (fun w => c2 w.2)
          · rw [if_neg (fun w => c1 w.symm), if_neg c1]; exact put (fun w => c1 w.1)
        unfold F_move_b54 F_X0_move_b67
        simp only [A, e1, nn, l1, l2, l3, l4]
        have w2 : w = 0 ∨ w = 1 := by omega
        rcases w2 with rfl | rfl
        · simp only [show (i32 0 = 0) = True from eq_true (by decide), if_true]
          exact go (L a).2.2.1 (L a).2.2.2 hs.2.2.1 hs.2.2.2.1
        · simp only [show (i32 1 = 0) = False from eq_false (by decide), if_false]
          exact go (L a).1 (L a).2.1 hs.1 hs.2.1
      · rw [pB_f c]
        have nb : ¬ ((0 ≤ x ∧ x ≤ 40) ∧ (0 ≤ y ∧ y ≤ 40)) := by
          rintro ⟨b1, b2⟩
          refine c fun j hj => ?_
          have : j = 0 ∨ j = 1 := by omega
          rcases this with rfl | rfl
          · exact b1
          · exact b2
        rw [if_neg (show ¬ (false = true) by decide)]
        by_cases b1 : 0 ≤ x ∧ x ≤ 40
        · rw [decide_eq_true b1, if_pos rfl, decide_eq_false (fun b2 => nb ⟨b1, b2⟩), if_neg (show ¬ (false = true) by decide)]; exact h.rfX _
        · rw [decide_eq_false b1, if_neg (show ¬ (false = true) by decide)]; exact h.rfX _
    · rw [decide_eq_false cw, if_neg (show ¬ (false = true) by decide), if_neg (show ¬ (false = true) by decide)]; exact h.rfX _
  · rw [decide_eq_false cl, if_neg (show ¬ (false = true) by decide), if_neg (show ¬ (false = true) by decide)]; exact h.rfX _
/-- lines with the a-th left out -/
def outL (L : Nat → Sg) (a : Nat) : Nat → Sg := fun k => if k < a then L k else L (k + 1)
/-- so far moved down -/
def dwn (L : Nat → Sg) (a k : Nat) : Nat → Sg := fun j => if a ≤ j ∧ j < k then L (j + 1) else L j
theorem cdrops_e (hN : 2000 ≤ N) {κ : CSt} (h : CLn κ n L) (hn : n ≤ 10) {a : Nat} (ha : a < n) : ∃ κ', F_X1_drops N κ (i32 (a : Int)) = some κ' ∧ CLn κ' (n - 1) (outL L a) ∧ cI κ' 2 = 1 := by
  have main : ∀ (d k m : Nat) (κ : CSt), k + d = n - 1 → d < m → a ≤ k → cI κ 1 = i32 ((n - 1 : Nat) : Int) → (∀ j, j < n → ∃ t : Nat, cL κ j = some (t, lnOf (dwn L a k j))) → ∃ κ', F_X1_drops_L12 N m κ (i32 (k : Int)) = some κ' ∧ CLn κ' (n - 1) (outL L a) ∧ cI κ' 2 = 1 := by
    intro d
    induction d with
    | zero =>
      intro k m κ hk hm hak h1 h2
      obtain ⟨m, rfl⟩ : ∃ j, m = j + 1 := ⟨m - 1, by omega⟩
      refine ⟨csI (csL κ (n - 1) none) 2 1, ?_, ⟨h1, fun j hj => ?_⟩, rfl⟩
      · unfold F_X1_drops_L12
        rw [h1, if_pos ((i32_le (by omega) (by omega)).mpr (by omega)), ck_n (by omega) (by decide)]
      · obtain ⟨t, e⟩ := h2 j (by omega)
        refine ⟨t, ?_⟩
        rw [cL_csI, cL_csL, if_neg (by omega), e]
        unfold dwn outL
        by_cases w : j < a
        · rw [if_neg (by omega), if_pos w]
        · rw [if_pos (by omega), if_neg w]
    | succ d ih =>
      intro k m κ hk hm hak h1 h2
      obtain ⟨m, rfl⟩ : ∃ j, m = j + 1 := ⟨m - 1, by omega⟩
      obtain ⟨t, e⟩ := h2 (k + 1) (by omega)
      obtain ⟨κ', q1, q2, q3⟩ := ih (k + 1) m (csL κ k (cL κ (k + 1))) (by omega) (by omega) (by omega) h1 (fun j hj => by
        rw [cL_csL]
        by_cases w : j = k
        · rw [if_pos w, e]
          refine ⟨t, ?_⟩
          unfold dwn
          rw [if_neg (by omega), if_pos (by omega), w]
        · rw [if_neg w]
          obtain ⟨t', e'⟩ := h2 j hj
          refine ⟨t', ?_⟩
          rw [e']
          unfold dwn
          by_cases v : a ≤ j ∧ j < k
          · rw [if_pos v, if_pos (by omega)]
          · rw [if_neg v, if_neg (by omega)])
      refine ⟨κ', ?_, q2, q3⟩
      unfold F_X1_drops_L12
      rw [h1, if_neg (fun z => by have := (i32_le (by omega) (by omega)).mp z; omega), i32_s, ck_n (by omega) (by decide), ck_n (by omega) (by decide)]
      exact q1
  obtain ⟨κ', q1, q2, q3⟩ := main (n - 1 - a) a N (csI κ 1 (i32 ((n - 1 : Nat) : Int))) (by omega) (by omega) (Nat.le_refl _) rfl (fun j hj => by
    obtain ⟨t, e⟩ := h.2 j hj
    refine ⟨t, ?_⟩
    rw [cL_csI, e]
    unfold dwn
    rw [if_neg (by omega)])
  refine ⟨κ', ?_, q2, q3⟩
  unfold F_X1_drops
  rw [h.1, show i32 (n : Int) - 1 = i32 ((n - 1 : Nat) : Int) by rw [show (1 : Int32) = i32 1 from rfl, i32_sub]; congr 1; omega]
  exact q1
theorem mdrops_e (hN : 2000 ≤ N) (hL : LOk n L) (h : MLn μ n L) {a : Nat} (ha : a < n) : ∃ μ', F_drops N μ (i32 (a : Int)) = some μ' ∧ MLn μ' (n - 1) (outL L a) ∧ mfr [0, 1, 2, 3, 4] μ μ' := by
  have hn := hL.1
  have main : ∀ (d k m : Nat) (ρ : MSt), k + d = n - 1 → d < m → a ≤ k → mfr [0, 1, 2, 3, 4] μ ρ → MLn ρ n (dwn L a k) → ∃ μ', F_drops_L4 N m ρ (i32 ((k + 1 : Nat) : Int)) = some μ' ∧ MLn μ' (n - 1) (outL L a) ∧ mfr [0, 1, 2, 3, 4] μ μ' := by
    intro d
    induction d with
    | zero =>
      intro k m ρ hk hm hak hf h1
      obtain ⟨m, rfl⟩ : ∃ j, m = j + 1 := ⟨m - 1, by omega⟩
      refine ⟨sI ρ 0 (i32 ((n - 1 : Nat) : Int)), ?_, ⟨rfl, fun j hj => ?_⟩, hf.I (by decide) _⟩
      · unfold F_drops_L4
        rw [h1.1, if_pos ((i32_le (by omega) (by omega)).mpr (by omega)), show i32 (n : Int) - 1 = i32 ((n - 1 : Nat) : Int) by rw [show (1 : Int32) = i32 1 from rfl, i32_sub]; congr 1; omega]
      · have := h1.2 j (by omega)
        rw [gA_sI, gA_sI, gA_sI, gA_sI]
        have e : outL L a j = dwn L a k j := by
          unfold dwn outL
          by_cases w : j < a
          · rw [if_pos w, if_neg (by omega)]
          · rw [if_neg w, if_pos (by omega)]
        rw [e]; exact this
    | succ d ih =>
      intro k m ρ hk hm hak hf h1
      obtain ⟨m, rfl⟩ : ∃ j, m = j + 1 := ⟨m - 1, by omega⟩
      have ek : dwn L a k (k + 1) = L (k + 1) := by unfold dwn; rw [if_neg (by omega)]
      obtain ⟨l1, l2, l3, l4⟩ := h1.2 (k + 1) (by omega)
      rw [ek] at l1 l2 l3 l4
      have hs := hL.2 (k + 1) (by omega)
      have st := stands_e (N := N) (μ := ρ) (a := k) (by omega) hs.1 hs.2.1 hs.2.2.1 hs.2.2.2.1
      rw [mkSg_ok hs] at st
      have pf := put4_f ρ k (L (k + 1))
      obtain ⟨μ', q1, q2, q3⟩ := ih (k + 1) m (put4 ρ k (L (k + 1))) (by omega) (by omega) (by omega) (hf.tr (pf.up (by decide))) ⟨by rw [pf.gI 0 (by decide)]; exact h1.1, fun j hj => by
        obtain ⟨p1, p2, p3, p4⟩ := put4_g ρ k (L (k + 1)) j
        rw [p1, p2, p3, p4]
        by_cases w : j = k
        · have : dwn L a (k + 1) j = L (k + 1) := by unfold dwn; rw [if_pos (by omega), w]
          rw [if_pos w, if_pos w, if_pos w, if_pos w, this]; exact ⟨rfl, rfl, rfl, rfl⟩
        · have : dwn L a (k + 1) j = dwn L a k j := by
            unfold dwn
            by_cases v : a ≤ j ∧ j < k
            · rw [if_pos v, if_pos (by omega)]
            · rw [if_neg v, if_neg (by omega)]
          rw [if_neg w, if_neg w, if_neg w, if_neg w, this]; exact h1.2 j hj⟩
      refine ⟨μ', ?_, q2, q3⟩
      unfold F_drops_L4
      rw [h1.1, if_neg (fun z => by have := (i32_le (by omega) (by omega)).mp z; omega), ck_n (by omega) (by decide), ck_n (by omega) (by decide), ck_n (by omega) (by decide), ck_n (by omega) (by decide), l1, l2, l3, l4, show i32 ((k + 1 : Nat) : Int) - 1 = i32 (k : Int) by rw [show (1 : Int32) = i32 1 from rfl, i32_sub]; congr 1; omega, st, Option.bind_some]
      simp only [i32_s]
      exact q1
  obtain ⟨μ', q1, q2, q3⟩ := main (n - 1 - a) a N μ (by omega) (by omega) (Nat.le_refl _) (mfr.rf _ _) ⟨h.1, fun j hj => by
    have : dwn L a a j = L j := by unfold dwn; rw [if_neg (by omega)]
    rw [this]; exact h.2 j hj⟩
  refine ⟨μ', ?_, q2, q3⟩
  unfold F_drops
  rw [i32_s]
  exact q1
theorem drop_op (hN : 2000 ≤ N) (h : RL1 n L σ μ) {l : Int} (hl : -2147483648 ≤ l ∧ l < 2147483648) : OpX σ μ (F_X0_drop N σ (i32 l)) (F_drop N μ (i32 l)) := by
  obtain ⟨x1, x2⟩ := lineC_e (N := N) h hl
  have hn10 := h.1.1
  unfold F_X0_drop F_drop
  rw [x1, x2, Option.bind_some, Option.bind_some, bi_0, bi_0]
  by_cases cl : 0 ≤ l ∧ l ≤ (n : Int) - 1
  · rw [decide_eq_true cl, if_pos rfl, if_pos rfl]
    obtain ⟨a, rfl⟩ : ∃ a : Nat, l = a := ⟨l.toNat, by omega⟩
    have ha : a < n := by omega
    obtain ⟨κ', c1, c2, c3⟩ := cdrops_e hN h.2.1 hn10 ha
    obtain ⟨μ', m1, m2, m3⟩ := mdrops_e hN h.1 h.2.2.2 ha
    rw [c1, m1]
    simp only [Option.bind_some]
    show OpX σ μ (some (cI κ' 1, _)) _
    rw [c2.1, m2.1]
    refine ⟨_, _, _, n - 1, outL L a, rfl, rfl, ⟨rfl, rfl, fun _ => rfl⟩, m3.up (by decide), ⟨by omega, fun k hk => ?_⟩, c2, Or.inl c3, m2⟩
    unfold outL
    split
    · exact h.1.2 k (by omega)
    · exact h.1.2 (k + 1) (by omega)
  · rw [decide_eq_false cl, if_neg (show ¬ (false = true) by decide), if_neg (show ¬ (false = true) by decide)]; exact h.rfX _
end MD
