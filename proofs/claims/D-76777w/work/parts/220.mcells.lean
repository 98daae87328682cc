/-! THE MODEL'S CELLS -/
set_option maxRecDepth 100000
def loS (n : Nat) (L : Nat → Sg) (S g : Nat) : Nat := if g = 0 then 0 else stG n L S (g - 1)
def hiS (n : Nat) (L : Nat → Sg) (S g : Nat) : Nat := if g < nGr n L S then stG n L S g else 0
/-- cells of slab S below g are there, those ahead too -/
def MCg (σ : MSt) (n : Nat) (L : Nat → Sg) (S g : Nat) : Prop := gI σ 23 = i32 ((fcN n L S + g : Nat) : Int) ∧ ∀ q, q < g → gA σ 28 (fcN n L S + q) = i32 (S : Int) ∧ gA σ 29 (fcN n L S + q) = nI (loS n L S q) ∧ gA σ 30 (fcN n L S + q) = nI (hiS n L S q)
theorem addCell_e {N : Nat} {σ : MSt} {c : Nat} (h : gI σ 23 = i32 (c : Int)) (hc : c < 900) (v1 v2 v3 : Int32) : F_addCell N σ v1 v2 v3 = some (sI (sA (sA (sA σ 28 c v1) 29 c v2) 30 c v3) 23 (i32 ((c + 1 : Nat) : Int))) := by
  have A : ∀ {α : Type} (f : Nat → Option α), ck (i32 (c : Int)) 900 f = f c := fun f => ck_n hc (by decide) f
  unfold F_addCell
  simp only [gI_sA, h, A, i32_s]
abbrev ksC : List Nat := [23, 28, 29, 30]
theorem mc_add {N : Nat} {σ : MSt} {n : Nat} {L : Nat → Sg} {S g : Nat} (h : MCg σ n L S g) (hb : fcN n L S + g < 900) {lo hi : Nat} (hl : lo = loS n L S g) (hh : hi = hiS n L S g) : ∃ σ', F_addCell N σ (i32 (S : Int)) (nI lo) (nI hi) = some σ' ∧ mfr ksC σ σ' ∧ MCg σ' n L S (g + 1) ∧ ∀ j, j < fcN n L S → gA σ' 28 j = gA σ 28 j ∧ gA σ' 29 j = gA σ 29 j ∧ gA σ' 30 j = gA σ 30 j := by
  refine ⟨_, addCell_e h.1 hb _ _ _, ((((mfr.rf _ σ).A (by decide) _ _).A (by decide) _ _).A (by decide) _ _).I (by decide) _, ⟨by rw [gI_sI, if_pos rfl]; rfl, fun q hq => ?_⟩, fun j hj => ?_⟩
  · by_cases e : q = g
    · subst e
      refine ⟨by simp [gA_sI, gA_sA], by simp [gA_sI, gA_sA, hl], by simp [gA_sI, gA_sA, hh]⟩
    · obtain ⟨a, b, c⟩ := h.2 q (by omega)
      have ne : ¬ fcN n L S + q = fcN n L S + g := by omega
      refine ⟨by simp [gA_sI, gA_sA, e, a], by simp [gA_sI, gA_sA, e, b], by simp [gA_sI, gA_sA, e, c]⟩
  · have ne : ¬ j = fcN n L S + g := by omega
    refine ⟨by simp [gA_sI, gA_sA, ne], by simp [gA_sI, gA_sA, ne], by simp [gA_sI, gA_sA, ne]⟩
section GRP
variable {N n s c : Nat} {L : Nat → Sg} {th : Nat → Nat}
theorem ot_le (ho : OT n L s n c th) {i j : Nat} (hij : i ≤ j) (hj : j < c) : yv (L (th i)) (mdX n L s) ≤ yv (L (th j)) (mdX n L s) := by
  by_cases e : i = j
  · rw [e]; exact Rat.le_refl
  · rcases ho.2.2.2 i j (by omega) hj with w | ⟨w, -⟩
    · exact Rat.le_of_lt w
    · rw [w]; exact Rat.le_refl
def GI (n : Nat) (L : Nat → Sg) (s c : Nat) (th : Nat → Nat) (k g : Nat) : Prop := k ≤ c ∧ g ≤ (gpS n L s n).1 ∧ (∀ j, j < k → ∃ g', g' < g ∧ yv (L (th j)) (mdX n L s) = vlS n L s n g') ∧ ∀ j, k ≤ j → j < c → ∀ g', g' < g → vlS n L s n g' < yv (L (th j)) (mdX n L s)
theorem vl_of {l' : Nat} (hsp : spB n L s l' = true) (hl : l' < n) : ∃ g, g < (gpS n L s n).1 ∧ yv (L l') (mdX n L s) = vlS n L s n g := by
  obtain ⟨g, g1, g2⟩ := gp_mem.mpr ⟨l', hl, hsp, rfl⟩
  refine ⟨g, g1, ?_⟩
  unfold vlS
  rw [g2]
theorem gi_at (ho : OT n L s n c th) {k g : Nat} (h : GI n L s c th k g) (hk : k < c) : g < (gpS n L s n).1 ∧ yv (L (th k)) (mdX n L s) = vlS n L s n g := by
  obtain ⟨h1, h2, h3, h4⟩ := h
  obtain ⟨t1, t2⟩ := ho.2.1 k hk
  obtain ⟨g2, v1, v2⟩ := vl_of t2 t1
  have ge : g ≤ g2 := by
    refine Nat.not_lt.mp fun w => ?_
    have := h4 k (Nat.le_refl _) hk g2 w
    rw [v2] at this
    exact Rat.lt_irrefl this
  have eq : g2 = g := by
    refine Classical.byContradiction fun w => ?_
    have gG : g < (gpS n L s n).1 := by omega
    obtain ⟨-, l, l1, l2, l3⟩ := gp_v gG
    obtain ⟨j, j1, j2⟩ := ho.2.2.1 l l1 l2
    rw [← j2] at l3
    by_cases c1 : j < k
    · obtain ⟨g', a, b⟩ := h3 j c1
      have := vl_inj (show g' < (gpS n L s n).1 by omega) gG (by rw [← b, l3])
      omega
    · have a := ot_le ho (show k ≤ j by omega) j1
      rw [v2, l3] at a
      have b := vl_lt (n := n) (L := L) (s := s) (k := n) (show g < g2 by omega) v1
      exact Rat.not_le.mpr b a
  rw [eq] at v1 v2
  exact ⟨v1, v2⟩
theorem gi_end (ho : OT n L s n c th) {g : Nat} (h : GI n L s c th c g) : g = (gpS n L s n).1 := by
  obtain ⟨h1, h2, h3, h4⟩ := h
  refine Classical.byContradiction fun w => ?_
  have gG : g < (gpS n L s n).1 := by omega
  obtain ⟨-, l, l1, l2, l3⟩ := gp_v gG
  obtain ⟨j, j1, j2⟩ := ho.2.2.1 l l1 l2
  rw [← j2] at l3
  obtain ⟨g', a, b⟩ := h3 j j1
  have := vl_inj (show g' < (gpS n L s n).1 by omega) gG (by rw [← b, l3])
  omega
/-- a group is gone through -/
theorem grp1_e (hL : LOk n L) (hs : s + 1 < nX n L) (ho : OT n L s n c th) {σ : MSt} (h : MLn σ n L) (hx : MXs σ n L) (ht : MTh σ c th) (r145 : MSt → Int32 → Int32 → Int32 → Int32 → Option MSt) (v3 : Int32) {k0 : Nat} (hk0 : k0 < c) :
    ∀ (d k m T : Nat), k + d = c → d < m → k0 < k → T < 1024 → (∀ j, k0 ≤ j → j < k → yv (L (th j)) (mdX n L s) = yv (L (th k0)) (mdX n L s)) → (∀ l, T.testBit l = true ↔ ∃ j, k0 ≤ j ∧ j < k ∧ th j = l) → ∃ k' T', F_cut_L174 N r145 m σ (i32 ((s + 1 : Nat) : Int)) (i32 (c : Int)) v3 (i32 (k : Int)) (nI T) (i32 ((th k0 : Nat) : Int)) = F_cut_b217 N r145 σ (i32 ((s + 1 : Nat) : Int)) (i32 (c : Int)) v3 (i32 ((k' : Nat) : Int)) (nI T') ∧ k0 < k' ∧ k' ≤ c ∧ T' < 1024 ∧ (∀ j, k0 ≤ j → j < k' → yv (L (th j)) (mdX n L s) = yv (L (th k0)) (mdX n L s)) ∧ (∀ l, T'.testBit l = true ↔ ∃ j, k0 ≤ j ∧ j < k' ∧ th j = l) ∧ (k' < c → yv (L (th k')) (mdX n L s) ≠ yv (L (th k0)) (mdX n L s)) := by
  have hn10 := hL.1
  have oc := ho.1
  intro d
  induction d with
  | zero =>
    intro k m T hk hm hk0' hT h1 h2
    obtain ⟨m, rfl⟩ : ∃ j, m = j + 1 := ⟨m - 1, by omega⟩
    have e : k = c := by omega
    subst e
    refine ⟨k, T, ?_, hk0', Nat.le_refl _, hT, h1, h2, fun w => absurd w (Nat.lt_irrefl _)⟩
    unfold F_cut_L174
    rw [if_pos ((i32_le (by omega) (by omega)).mpr (Int.le_refl _))]
  | succ d ih =>
    intro k m T hk hm hk0' hT h1 h2
    obtain ⟨m, rfl⟩ : ∃ j, m = j + 1 := ⟨m - 1, by omega⟩
    have hkc : k < c := by omega
    have A : ∀ {α : Type} (f : Nat → Option α), ck (i32 (k : Int)) 10 f = f k := fun f => ck_n (by omega) (by decide) f
    obtain ⟨t1, t2⟩ := ho.2.1 k hkc
    obtain ⟨u1, u2⟩ := ho.2.1 k0 hk0
    have r := sg_r (yv (L (th k0)) (mdX n L s)) (yv (L (th k)) (mdX n L s))
    have z := @sg_eq (yv (L (th k0)) (mdX n L s)) (yv (L (th k)) (mdX n L s))
    unfold F_cut_L174
    rw [if_neg (fun z => by have := (i32_le (by omega) (by omega)).mp z; omega)]
    simp only [A, ht k hkc, agT_e (N := N) h hL hx hs u1 t1 u2 t2, Option.bind_some, i32_s]
    rw [i32_0 (by omega)]
    by_cases c0 : sg (yv (L (th k0)) (mdX n L s)) (yv (L (th k)) (mdX n L s)) = 0
    · rw [if_pos c0, sh_1 (by omega), nx_or _ _ (by omega) (Nat.pow_lt_pow_right (by decide) (by omega))]
      have e := z.mp c0
      refine ih (k + 1) m (T ||| 2 ^ (th k)) (by omega) (by omega) (by omega) (Nat.or_lt_two_pow (n := 10) hT (Nat.pow_lt_pow_right (by decide) (by omega))) (fun j j1 j2 => ?_) (fun l => ?_)
      · by_cases w : j = k
        · rw [w]; exact e.symm
        · exact h1 j j1 (by omega)
      · rw [Nat.testBit_or, Bool.or_eq_true, h2, Nat.testBit_two_pow, decide_eq_true_iff]
        constructor
        · rintro (⟨j, a, b, c⟩ | w)
          · exact ⟨j, a, by omega, c⟩
          · exact ⟨k, by omega, by omega, w⟩
        · rintro ⟨j, a, b, c⟩
          by_cases w : j = k
          · right; rw [← w]; exact c
          · left; exact ⟨j, a, by omega, c⟩
    · rw [if_neg c0]
      exact ⟨k, T, rfl, hk0', by omega, hT, h1, h2, fun _ w => c0 (z.mpr w.symm)⟩
theorem grps_e (hN : 100 ≤ N) (hL : LOk n L) (hs : s + 1 < nX n L) (ho : OT n L s n c th) :
    ∀ (d k m g : Nat) (σ : MSt), c - k ≤ d → d < m → MLn σ n L → MXs σ n L → MTh σ c th → GI n L s c th k g → MCg σ n L (s + 1) g → ∃ σ', F_cut_L145 N m σ (i32 ((s + 1 : Nat) : Int)) (i32 (c : Int)) (nI (loS n L (s + 1) g)) (i32 (k : Int)) = some σ' ∧ mfr ksC σ σ' ∧ MCg σ' n L (s + 1) (nGr n L (s + 1) + 1) ∧ ∀ j, j < fcN n L (s + 1) → gA σ' 28 j = gA σ 28 j ∧ gA σ' 29 j = gA σ 29 j ∧ gA σ' 30 j = gA σ 30 j := by
  have hn10 := hL.1
  have m65 := nX_65 hL
  have oc := ho.1
  have nG : nGr n L (s + 1) = (gpS n L s n).1 := if_pos ⟨by omega, hs⟩
  have gl := gp_le n L s n
  have fl := fcN_le hn10 L (s + 1)
  -- at the end
  have fin : ∀ (m g : Nat) (σ : MSt), GI n L s c th c g → MCg σ n L (s + 1) g → ∃ σ', F_cut_L145 N (m + 1) σ (i32 ((s + 1 : Nat) : Int)) (i32 (c : Int)) (nI (loS n L (s + 1) g)) (i32 (c : Int)) = some σ' ∧ mfr ksC σ σ' ∧ MCg σ' n L (s + 1) (nGr n L (s + 1) + 1) ∧ ∀ j, j < fcN n L (s + 1) → gA σ' 28 j = gA σ 28 j ∧ gA σ' 29 j = gA σ 29 j ∧ gA σ' 30 j = gA σ 30 j := by
    intro m g σ hg hc
    have ge := gi_end ho hg
    obtain ⟨σ', q1, q2, q3, q4⟩ := mc_add (N := N) hc (by omega) (lo := loS n L (s + 1) g) (hi := 0) rfl (by unfold hiS; rw [nG, if_neg (by omega)])
    refine ⟨σ', ?_, q2, by rw [nG, ← ge]; exact q3, q4⟩
    unfold F_cut_L145
    rw [if_pos ((i32_le (by omega) (by omega)).mpr (Int.le_refl _)), show (0 : Int32) = nI 0 from rfl, q1, Option.bind_some]
  intro d
  induction d with
  | zero =>
    intro k m g σ hk hm h hx ht hg hc
    obtain ⟨m, rfl⟩ : ∃ j, m = j + 1 := ⟨m - 1, by omega⟩
    have e : k = c := by have := hg.1; omega
    rw [e] at hg ⊢
    exact fin m g σ hg hc
  | succ d ih =>
    intro k m g σ hk hm h hx ht hg hc
    obtain ⟨m, rfl⟩ : ∃ j, m = j + 1 := ⟨m - 1, by omega⟩
    by_cases e : k = c
    · rw [e] at hg ⊢
      exact fin m g σ hg hc
    · have hkc : k < c := by have := hg.1; omega
      have A : ∀ {α : Type} (f : Nat → Option α), ck (i32 (k : Int)) 10 f = f k := fun f => ck_n (by omega) (by decide) f
      obtain ⟨ga, gb⟩ := gi_at ho hg hkc
      obtain ⟨t1, t2⟩ := ho.2.1 k hkc
      have p2 : 2 ^ th k < 1024 := Nat.pow_lt_pow_right (n := 10) (by decide) (by omega)
      obtain ⟨k', T', q1, q2, q3, q4, q5, q6, q7⟩ := grp1_e (N := N) hL hs ho h hx ht (F_cut_L145 N m) (nI (loS n L (s + 1) g)) hkc (c - (k + 1)) (k + 1) N (2 ^ th k) (by omega) (by omega) (by omega) p2 (fun j j1 j2 => by rw [show j = k by omega]) (fun l => by
        rw [Nat.testBit_two_pow, decide_eq_true_iff]
        constructor
        · intro w; exact ⟨k, Nat.le_refl _, by omega, w⟩
        · rintro ⟨j, a, b, w⟩; rw [show j = k by omega] at w; exact w)
      have hT : T' = stG n L (s + 1) g := by
        apply Nat.eq_of_testBit_eq
        intro l
        have key : T'.testBit l = true ↔ (stG n L (s + 1) g).testBit l = true := by
          rw [q6]
          show _ ↔ (stS n L s n g).testBit l = true
          unfold stS
          rw [ms_bit, Bool.and_eq_true, Bool.and_eq_true, decide_eq_true_iff, decide_eq_true_iff]
          constructor
          · rintro ⟨j, j1, j2, rfl⟩
            obtain ⟨a, b⟩ := ho.2.1 j (by omega)
            exact ⟨a, b, by rw [q5 j j1 j2, gb]⟩
          · rintro ⟨a, b, w⟩
            obtain ⟨j, j1, j2⟩ := ho.2.2.1 l a b
            rw [← j2] at w
            refine ⟨j, ?_, ?_, j2⟩
            · refine Nat.not_lt.mp fun v => ?_
              obtain ⟨g', x1, x2⟩ := hg.2.2.1 j v
              have := vl_inj (show g' < (gpS n L s n).1 by omega) ga (by rw [← x2, w])
              omega
            · refine Nat.not_le.mp fun v => ?_
              have x1 := q7 (by omega)
              have x2 := ot_le ho v j1
              have x3 := ot_le ho (show k ≤ k' by omega) (show k' < c by omega)
              rw [w, ← gb] at x2
              exact x1 (Rat.le_antisymm x2 x3)
        cases a : T'.testBit l <;> cases b : (stG n L (s + 1) g).testBit l <;> simp [a, b] at key ⊢
      obtain ⟨σ1, u1, u2, u3, u4⟩ := mc_add (N := N) hc (by omega) (lo := loS n L (s + 1) g) (hi := T') rfl (by unfold hiS; rw [nG, if_pos ga, hT])
      have lo' : nI T' = nI (loS n L (s + 1) (g + 1)) := by unfold loS; rw [if_neg (by omega), hT]; rfl
      obtain ⟨σ2, v1, v2, v3, v4⟩ := ih k' m (g + 1) σ1 (by omega) (by omega) (h.fr u2 (by decide)) (hx.fr u2 (by decide)) (fun j hj => by rw [u2.gA 32 (by decide)]; exact ht j hj) ⟨q3, by omega, fun j hj => by
          by_cases w : j < k
          · obtain ⟨g', a, b⟩ := hg.2.2.1 j w; exact ⟨g', by omega, b⟩
          · exact ⟨g, by omega, by rw [q5 j (by omega) hj, gb]⟩, fun j j1 j2 g' hg' => by
          by_cases w : g' = g
          · rw [w, ← gb]
            have x1 := q7 (by omega)
            have x2 := ot_le ho j1 j2
            have x3 := ot_le ho (show k ≤ k' by omega) (show k' < c by omega)
            have x4 := Rat.lt_of_le_of_ne x3 (fun z => x1 z.symm)
            exact Rat.not_le.mp fun z => Rat.not_le.mpr x4 (Rat.le_trans x2 z)
          · exact hg.2.2.2 j (by omega) j2 g' (by omega)⟩ u3
      refine ⟨σ2, ?_, u2.tr v2, v3, fun j hj => ?_⟩
      · unfold F_cut_L145
        rw [if_neg (fun z => by have := (i32_le (by omega) (by omega)).mp z; omega)]
        simp only [A, ht k hkc, i32_s]
        rw [sh_1 (by omega), q1]
        unfold F_cut_b217
        rw [u1, Option.bind_some, lo']
        exact v1
      · obtain ⟨a, b, c⟩ := v4 j hj
        obtain ⟨a', b', c'⟩ := u4 j hj
        exact ⟨a.trans a', b.trans b', c.trans c'⟩
theorem cut_e (hN : 100 ≤ N) (hL : LOk n L) (hs : s + 1 < nX n L) {σ : MSt} (h : MLn σ n L) (hx : MXs σ n L) (hc : MCg σ n L (s + 1) 0) : ∃ σ', F_cut N σ (i32 ((s + 1 : Nat) : Int)) = some σ' ∧ mfr (32 :: ksC) σ σ' ∧ MCg σ' n L (s + 1) (nGr n L (s + 1) + 1) ∧ ∀ j, j < fcN n L (s + 1) → gA σ' 28 j = gA σ 28 j ∧ gA σ' 29 j = gA σ 29 j ∧ gA σ' 30 j = gA σ 30 j := by
  have hn10 := hL.1
  obtain ⟨σ1, c', th', q1, q2, q3, q4⟩ := cuts_e hN hL hs n 0 N 0 (fun _ => 0) σ (by omega) (by omega) h hx (fun j hj => absurd hj (Nat.not_lt_zero _)) ⟨Nat.le_refl _, fun j hj => absurd hj (Nat.not_lt_zero _), fun l hl => absurd hl (Nat.not_lt_zero _), fun i j _ hj => absurd hj (Nat.not_lt_zero _)⟩
  have oc := q4.1
  obtain ⟨σ2, u1, u2, u3, u4⟩ := grps_e hN hL hs q4 c' 0 N 0 σ1 (by omega) (by omega) (h.fr q2 (by decide)) (hx.fr q2 (by decide)) q3 ⟨Nat.zero_le _, Nat.zero_le _, fun j hj => absurd hj (Nat.not_lt_zero _), fun j _ _ g' hg' => absurd hg' (Nat.not_lt_zero _)⟩ ⟨by rw [q2.gI 23 (by decide)]; exact hc.1, fun q hq => absurd hq (Nat.not_lt_zero _)⟩
  refine ⟨σ2, ?_, (q2.up (by decide)).tr (u2.up (by decide)), u3, fun j hj => ?_⟩
  · unfold F_cut
    exact q1.trans u1
  · obtain ⟨a, b, c⟩ := u4 j hj
    rw [q2.gA 28 (by decide)] at a
    rw [q2.gA 29 (by decide)] at b
    rw [q2.gA 30 (by decide)] at c
    exact ⟨a, b, c⟩
end GRP
