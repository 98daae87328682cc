/-! FACES: what the component has told -/
set_option maxRecDepth 100000
theorem aP_bd {n : Nat} {L : Nat → Sg} {e : EuE} (h : aP n L (nX n L) (QE n L e)) : e.1 < fcN n L (nX n L + 1) ∧ e.2 < fcN n L (nX n L + 1) := by
  obtain ⟨t, ht, a, b, h1, h2, -, h4, -⟩ := h
  have f1 := fcN_mono (n := n) (L := L) (show t + 1 ≤ nX n L + 1 by omega)
  have f2 := fcN_mono (n := n) (L := L) (show t + 1 + 1 ≤ nX n L + 1 by omega)
  have f3 : fcN n L (t + 1) = fcN n L t + (nGr n L t + 1) := rfl
  have f4 : fcN n L (t + 1 + 1) = fcN n L (t + 1) + (nGr n L (t + 1) + 1) := rfl
  rw [h4]
  constructor
  · show fcN n L t + a < _; omega
  · show fcN n L (t + 1) + b < _; omega
/-- the pairs of cells that are open to one another -/
noncomputable def esJ (n : Nat) (L : Nat → Sg) : List EuE := ((List.range (fcN n L (nX n L + 1))).flatMap (fun a => (List.range (fcN n L (nX n L + 1))).map (fun b => (a, b)))).filter (fun e => pB (aP n L (nX n L) (QE n L e)))
theorem esJ_e {n : Nat} {L : Nat → Sg} {e : EuE} : e ∈ esJ n L ↔ aP n L (nX n L) (QE n L e) := by
  unfold esJ
  rw [List.mem_filter, pB_e, List.mem_flatMap]
  constructor
  · exact fun h => h.2
  · intro h
    obtain ⟨h1, h2⟩ := aP_bd h
    exact ⟨⟨e.1, List.mem_range.mpr h1, List.mem_map.mpr ⟨e.2, List.mem_range.mpr h2, rfl⟩⟩, h⟩
/-- cells that stand for their face; the face of a cell; how many -/
noncomputable def rtC (n : Nat) (L : Nat → Sg) (v : Nat) : Bool := decide (eu_l (esJ n L) v = v)
noncomputable def fcC (n : Nat) (L : Nat → Sg) (c : Nat) : Nat := cn (rtC n L) (eu_l (esJ n L) c)
noncomputable def nFc (n : Nat) (L : Nat → Sg) : Nat := cn (rtC n L) (fcN n L (nX n L + 1))
theorem cn_mono {f : Nat → Bool} {a b : Nat} (h : a ≤ b) : cn f a ≤ cn f b := by
  obtain ⟨d, rfl⟩ : ∃ d, b = a + d := ⟨b - a, by omega⟩
  rw [cn_add]; omega
theorem cn_s (f : Nat → Bool) (n : Nat) : cn f (n + 1) = cn f n + (f n).toNat := rfl
theorem fcC_lt {n : Nat} {L : Nat → Sg} {c : Nat} (hc : c < fcN n L (nX n L + 1)) : fcC n L c < nFc n L := by
  have l := eu_l_le (esJ n L) c
  have i := eu_l_id (esJ n L) c
  unfold fcC nFc
  have : cn (rtC n L) (eu_l (esJ n L) c + 1) ≤ cn (rtC n L) (fcN n L (nX n L + 1)) := cn_mono (by omega)
  rw [cn_s] at this
  have r : rtC n L (eu_l (esJ n L) c) = true := decide_eq_true i
  rw [r] at this
  simp at this
  omega
/-- of one face: of one label -/
theorem fcC_eq {n : Nat} {L : Nat → Sg} {c d : Nat} : fcC n L c = fcC n L d ↔ eu_l (esJ n L) c = eu_l (esJ n L) d := by
  constructor
  · intro h
    have i := eu_l_id (esJ n L) c
    have j := eu_l_id (esJ n L) d
    unfold fcC at h
    have key : ∀ a b : Nat, rtC n L a = true → a < b → cn (rtC n L) a < cn (rtC n L) b := by
      intro a b ha hab
      have : cn (rtC n L) (a + 1) ≤ cn (rtC n L) b := cn_mono (by omega)
      rw [cn_s, ha] at this
      simp at this
      omega
    rcases Nat.lt_trichotomy (eu_l (esJ n L) c) (eu_l (esJ n L) d) with w | w | w
    · have := key _ _ (decide_eq_true i) w; omega
    · exact w
    · have := key _ _ (decide_eq_true j) w; omega
  · intro h; unfold fcC; rw [h]
/-- the k-th face has a cell that stands for it -/
theorem face_rep {n : Nat} {L : Nat → Sg} : ∀ {C k : Nat}, k < cn (rtC n L) C → ∃ c, c < C ∧ rtC n L c = true ∧ cn (rtC n L) c = k := by
  intro C
  induction C with
  | zero => intro k h; exact absurd h (Nat.not_lt_zero _)
  | succ C ih =>
    intro k h
    rw [cn_s] at h
    by_cases w : k < cn (rtC n L) C
    · obtain ⟨c, a, b, d⟩ := ih w; exact ⟨c, by omega, b, d⟩
    · cases r : rtC n L C with
      | false => rw [r] at h; simp at h; omega
      | true => rw [r] at h; simp at h; exact ⟨C, by omega, r, by omega⟩
theorem fcC_rt {n : Nat} {L : Nat → Sg} {c : Nat} (h : rtC n L c = true) : fcC n L c = cn (rtC n L) c := by
  unfold fcC
  rw [of_decide_eq_true h]
theorem ceach_e {N : Nat} (hN : 2000 ≤ N) {n : Nat} {L : Nat → Sg} (hL : LOk n L) : ∀ (d t m : Nat) (κ : CSt), t + d = nX n L → d < m → CLn κ n L → CXs κ n L → CSd κ n L (nX n L + 1) → EJ κ n L t 0 0 → ∃ κ', F_X1_each_L2 N m κ (i32 (t : Int)) = some κ' ∧ cfr [16, 18, 19, 20, 21, 22, 23] κ κ' ∧ EJ κ' n L (nX n L) 0 0 := by
  have hn10 := hL.1
  have m65 := nX_65 hL
  intro d
  induction d with
  | zero =>
    intro t m κ ht hm h hx hc he
    obtain ⟨m, rfl⟩ : ∃ j, m = j + 1 := ⟨m - 1, by omega⟩
    have e : t = nX n L := by omega
    subst e
    refine ⟨κ, ?_, cfr.rf _ _, he⟩
    unfold F_X1_each_L2
    rw [hx.1, if_pos ((i32_le (by omega) (by omega)).mpr (Int.le_refl _))]
  | succ d ih =>
    intro t m κ ht hm h hx hc he
    obtain ⟨m, rfl⟩ : ∃ j, m = j + 1 := ⟨m - 1, by omega⟩
    have ht' : t < nX n L := by omega
    have C : ∀ {α : Type} (f : Nat → Option α), ck (i32 (t : Int)) 65 f = f t := fun f => ck_n (by omega) (by decide) f
    have x1 := xX_fb hL ht'
    obtain ⟨κ1, q1, q2, q3, q4⟩ := fills_e (N := N) (by omega) h hL hc (id := 22) (S := t) (by omega) x1 (Or.inl rfl)
    have h1 := h.fr q2 (by decide)
    have c1 := hc.fr q2 (by decide)
    have X1 := hx.fr q2 (by decide)
    obtain ⟨κ2, u1, u2, u3, u4⟩ := fills_e (N := N) (by omega) h1 hL c1 (id := 23) (S := t + 1) (by omega) x1 (Or.inr rfl)
    have f2 := q2.tr u2
    obtain ⟨κ3, v1, v2, v3⟩ := eall_e hN hL ht' (F_X1_each_L2 N m) ((nGr n L t + 1 - 0) + (nGr n L (t + 1) + 1 - 0)) 0 0 N κ2 (Nat.le_refl _) (by have := nGr_le n L t; have := nGr_le n L (t + 1); omega) (Nat.zero_le _) (Nat.zero_le _) (h.fr f2 (by decide)) (hx.fr f2 (by decide)) (hc.fr f2 (by decide)) (fun k hk => by rw [u4 22 (by decide)]; exact q3 k hk) u3 (EJ_fr he f2 (by decide))
    have f3 : cfr [16, 18, 19, 20, 21, 22, 23] κ κ3 := (f2.up (by decide)).tr (v2.up (by decide))
    obtain ⟨κ4, w1, w2, w3⟩ := ih (t + 1) m κ3 (by omega) (by omega) (h.fr f3 (by decide)) (hx.fr f3 (by decide)) (hc.fr f3 (by decide)) v3
    refine ⟨κ4, ?_, f3.tr w2, w3⟩
    unfold F_X1_each_L2
    rw [hx.1, if_neg (fun z => by have := (i32_le (by omega) (by omega)).mp z; omega)]
    simp only [C, hx.2 t ht', nn, q1, Option.bind_some, X1.2 t ht', i32_s, u1]
    rw [← w1]
    exact v1
/-- faces and walls as they are told -/
def CFc (κ : CSt) (n : Nat) (L : Nat → Sg) : Prop := cI κ 11 = i32 ((nFc n L : Nat) : Int) ∧ (∀ c, c < fcN n L (nX n L + 1) → cA κ 16 c = i32 ((fcC n L c : Nat) : Int)) ∧ (∀ c, c < fcN n L (nX n L + 1) → rtC n L c = true → cA κ 17 (cn (rtC n L) c) = i32 (c : Int)) ∧ ∃ wl, CWl κ wl ∧ (∀ w, w ∈ wl ↔ aP n L (nX n L) (QW n L w)) ∧ wl.length ≤ 1480
theorem cren_e {N : Nat} {n : Nat} {L : Nat → Sg} (hC : fcN n L (nX n L + 1) ≤ 740) : ∀ (d k m : Nat) (κ : CSt), k + d = fcN n L (nX n L + 1) → d < m → cI κ 10 = i32 ((fcN n L (nX n L + 1) : Nat) : Int) → cI κ 11 = i32 ((cn (rtC n L) k : Nat) : Int) → (∀ c, c < k → cA κ 16 c = i32 ((fcC n L c : Nat) : Int)) → (∀ c, k ≤ c → c < fcN n L (nX n L + 1) → cA κ 16 c = i32 ((eu_l (esJ n L) c : Nat) : Int)) → (∀ c, c < k → rtC n L c = true → cA κ 17 (cn (rtC n L) c) = i32 (c : Int)) → ∃ κ', F_X1_joins_L45 N m κ (i32 (k : Int)) = some κ' ∧ cfr [11, 16, 17] κ κ' ∧ cI κ' 11 = i32 ((nFc n L : Nat) : Int) ∧ (∀ c, c < fcN n L (nX n L + 1) → cA κ' 16 c = i32 ((fcC n L c : Nat) : Int)) ∧ ∀ c, c < fcN n L (nX n L + 1) → rtC n L c = true → cA κ' 17 (cn (rtC n L) c) = i32 (c : Int) := by
  intro d
  induction d with
  | zero =>
    intro k m κ hk hm h10 h11 h1 h2 h3
    obtain ⟨m, rfl⟩ : ∃ j, m = j + 1 := ⟨m - 1, by omega⟩
    have e : k = fcN n L (nX n L + 1) := by omega
    subst e
    refine ⟨κ, ?_, cfr.rf _ _, h11, h1, h3⟩
    unfold F_X1_joins_L45
    rw [h10, if_pos ((i32_le (by omega) (by omega)).mpr (Int.le_refl _))]
  | succ d ih =>
    intro k m κ hk hm h10 h11 h1 h2 h3
    obtain ⟨m, rfl⟩ : ∃ j, m = j + 1 := ⟨m - 1, by omega⟩
    have hk' : k < fcN n L (nX n L + 1) := by omega
    have A : ∀ {α : Type} (f : Nat → Option α), ck (i32 (k : Int)) 740 f = f k := fun f => ck_n (by omega) (by decide) f
    have lk := eu_l_le (esJ n L) k
    have ck' := cn_le (rtC n L) k
    have F : ∀ {α : Type} (f : Nat → Option α), ck (i32 ((cn (rtC n L) k : Nat) : Int)) 740 f = f (cn (rtC n L) k) := fun f => ck_n (by omega) (by decide) f
    have K : ∀ {α : Type} (f : Nat → Option α), ck (i32 ((eu_l (esJ n L) k : Nat) : Int)) 740 f = f (eu_l (esJ n L) k) := fun f => ck_n (by omega) (by decide) f
    have e0 : F_X1_joins_L45 N (m + 1) κ (i32 (k : Int)) = if eu_l (esJ n L) k = k then F_X1_joins_L45 N m (csI (csA (csA κ 17 (cn (rtC n L) k) (i32 (k : Int))) 16 k (i32 ((cn (rtC n L) k : Nat) : Int))) 11 (i32 ((cn (rtC n L) k + 1 : Nat) : Int))) (i32 ((k + 1 : Nat) : Int)) else F_X1_joins_L45 N m (csA κ 16 k (cA κ 16 (eu_l (esJ n L) k))) (i32 ((k + 1 : Nat) : Int)) := by
      rw [F_X1_joins_L45, h10, if_neg (fun z => by have := (i32_le (by omega) (by omega)).mp z; omega)]
      unfold F_X1_joins_b113
      simp only [A, h2 k (Nat.le_refl _) hk', h11, F, K, cI_csA, i32_s]
      refine ite_ii ?_
      rw [i32_eq (by omega) (by omega)]
      omega
    rw [e0]
    by_cases c : eu_l (esJ n L) k = k
    · rw [if_pos c]
      have r : rtC n L k = true := decide_eq_true c
      obtain ⟨κ', q1, q2, q3, q4, q5⟩ := ih (k + 1) m (csI (csA (csA κ 17 (cn (rtC n L) k) (i32 (k : Int))) 16 k (i32 ((cn (rtC n L) k : Nat) : Int))) 11 (i32 ((cn (rtC n L) k + 1 : Nat) : Int))) (by omega) (by omega) h10 (by rw [cI_csI, if_pos rfl, cn_s, r]; rfl) (fun v hv => by
        rw [cA_csI, cA_csA, if_pos rfl]
        by_cases e : v = k
        · subst e; rw [if_pos rfl, fcC_rt r]
        · rw [if_neg e, cA_csA, if_neg (by decide)]; exact h1 v (by omega)) (fun v v1 v2 => by
        rw [cA_csI, cA_csA, if_pos rfl, if_neg (by omega), cA_csA, if_neg (by decide)]; exact h2 v (by omega) v2) (fun v hv hr => by
        rw [cA_csI, cA_csA, if_neg (by decide), cA_csA, if_pos rfl]
        by_cases e : v = k
        · subst e; rw [if_pos rfl]
        · have lt : cn (rtC n L) (v + 1) ≤ cn (rtC n L) k := cn_mono (by omega)
          rw [cn_s, hr] at lt
          simp at lt
          rw [if_neg (by omega)]; exact h3 v (by omega) hr)
      exact ⟨κ', q1, ((((cfr.rf _ κ).A (by decide) _ _).A (by decide) _ _).I (by decide) _).tr q2, q3, q4, q5⟩
    · rw [if_neg c]
      have r : rtC n L k = false := decide_eq_false c
      have old := h1 (eu_l (esJ n L) k) (by omega)
      have fe : fcC n L (eu_l (esJ n L) k) = fcC n L k := fcC_eq.mpr (eu_l_id _ _)
      obtain ⟨κ', q1, q2, q3, q4, q5⟩ := ih (k + 1) m (csA κ 16 k (cA κ 16 (eu_l (esJ n L) k))) (by omega) (by omega) h10 (by rw [cI_csA, h11, cn_s, r]; rfl) (fun v hv => by
        rw [cA_csA, if_pos rfl]
        by_cases e : v = k
        · subst e; rw [if_pos rfl, old, fe]
        · rw [if_neg e]; exact h1 v (by omega)) (fun v v1 v2 => by
        rw [cA_csA, if_pos rfl, if_neg (by omega)]; exact h2 v (by omega) v2) (fun v hv hr => by
        rw [cA_csA, if_neg (by decide)]
        have : v ≠ k := fun e => by rw [e, r] at hr; cases hr
        exact h3 v (by omega) hr)
      exact ⟨κ', q1, ((cfr.rf _ κ).A (by decide) _ _).tr q2, q3, q4, q5⟩
theorem cinit_e {N : Nat} {C : Nat} (hC : C ≤ 740) : ∀ (d k m : Nat) (κ : CSt), k + d = C → d < m → cI κ 10 = i32 (C : Int) → (∀ c, c < k → cA κ 16 c = i32 (c : Int)) → ∃ κ', F_X1_joins_L2 N m κ (i32 (k : Int)) = (F_X1_each N (csI κ' 21 0)).bind (fun w35 => F_X1_joins_L45 N N (csI w35 11 0) 0) ∧ cfr [16] κ κ' ∧ ∀ c, c < C → cA κ' 16 c = i32 (c : Int) := by
  intro d
  induction d with
  | zero =>
    intro k m κ hk hm h10 h1
    obtain ⟨m, rfl⟩ : ∃ j, m = j + 1 := ⟨m - 1, by omega⟩
    have e : k = C := by omega
    subst e
    refine ⟨κ, ?_, cfr.rf _ _, h1⟩
    unfold F_X1_joins_L2
    rw [h10, if_pos ((i32_le (by omega) (by omega)).mpr (Int.le_refl _))]
  | succ d ih =>
    intro k m κ hk hm h10 h1
    obtain ⟨m, rfl⟩ : ∃ j, m = j + 1 := ⟨m - 1, by omega⟩
    have A : ∀ {α : Type} (f : Nat → Option α), ck (i32 (k : Int)) 740 f = f k := fun f => ck_n (by omega) (by decide) f
    obtain ⟨κ', q1, q2, q3⟩ := ih (k + 1) m (csA κ 16 k (i32 (k : Int))) (by omega) (by omega) h10 (fun v hv => by
      rw [cA_csA, if_pos rfl]
      by_cases e : v = k
      · rw [if_pos e, e]
      · rw [if_neg e]; exact h1 v (by omega))
    refine ⟨κ', ?_, ((cfr.rf _ κ).A (by decide) _ _).tr q2, q3⟩
    unfold F_X1_joins_L2
    rw [h10, if_neg (fun z => by have := (i32_le (by omega) (by omega)).mp z; omega)]
    simp only [A, i32_s]
    exact q1
theorem cjoins_e {N : Nat} (hN : 2000 ≤ N) {n : Nat} {L : Nat → Sg} (hL : LOk n L) {κ : CSt} (h : CLn κ n L) (hx : CXs κ n L) (hc : CSd κ n L (nX n L + 1)) : ∃ κ', F_X1_joins N κ = some κ' ∧ cfr [11, 16, 17, 18, 19, 20, 21, 22, 23] κ κ' ∧ CFc κ' n L := by
  have hn10 := hL.1
  have m65 := nX_65 hL
  have fl := fcN_le hn10 L (nX n L + 1)
  obtain ⟨κ1, q1, q2, q3⟩ := cinit_e (N := N) (show fcN n L (nX n L + 1) ≤ 740 by omega) (fcN n L (nX n L + 1)) 0 N κ (by omega) (by omega) hc.2.2.2.1 (fun c hc => absurd hc (Nat.not_lt_zero _))
  have f1 : cfr [16, 21] κ (csI κ1 21 0) := (q2.up (by decide)).I (by decide) _
  have nA : ∀ Q, ¬ (aP n L 0 Q ∨ inP n L 0 0 0 (Q 0)) := by
    rintro Q (⟨t, ht, -⟩ | ⟨a, b, -, -, h3, -⟩)
    · exact absurd ht (Nat.not_lt_zero _)
    · rcases h3 with w | w <;> exact absurd w (Nat.not_lt_zero _)
  obtain ⟨κ2, u1, u2, es, wl, u3, u4, u5, u6, u7⟩ := ceach_e hN hL (nX n L) 0 fu70 (csI κ1 21 0) (by omega) (by unfold fu70; omega) (h.fr f1 (by decide)) (hx.fr f1 (by decide)) (hc.fr f1 (by decide)) ⟨[], [], q3, ⟨rfl, fun i w hw => by simp at hw⟩, fun e => ⟨fun w => (List.not_mem_nil w).elim, fun w => (nA _ w).elim⟩, fun e => ⟨fun w => (List.not_mem_nil w).elim, fun w => (nA _ w).elim⟩, Nat.zero_le _⟩
  have no : ∀ (P : Nat → Nat → Prop), ¬ inP n L (nX n L) 0 0 P := by
    rintro P ⟨a, b, -, -, h3, -⟩
    rcases h3 with w | w <;> exact absurd w (Nat.not_lt_zero _)
  have same : ∀ e, e ∈ es ↔ e ∈ esJ n L := fun e => by
    rw [u5 e, esJ_e]
    exact ⟨fun w => w.resolve_right (no _), Or.inl⟩
  have f2 : cfr [11, 16, 17, 18, 19, 20, 21, 22, 23] κ (csI κ2 11 0) := ((f1.up (by decide)).tr (u2.up (by decide))).I (by decide) _
  obtain ⟨κ3, v1, v2, v3, v4, v5⟩ := cren_e (N := N) (n := n) (L := L) (by omega) (fcN n L (nX n L + 1)) 0 N (csI κ2 11 0) (by omega) (by omega) (by rw [f2.cI 10 (by decide)]; exact hc.2.2.2.1) rfl (fun c hc => absurd hc (Nat.not_lt_zero _)) (fun c _ hc => by
    rw [← eu_l_set same]; exact u3 c hc) (fun c hc => absurd hc (Nat.not_lt_zero _))
  refine ⟨κ3, ?_, f2.tr (v2.up (by decide)), v3, v4, v5, wl, ⟨by rw [v2.cI 21 (by decide)]; exact u4.1, fun i w hw => by rw [v2.cA 18 (by decide), v2.cA 19 (by decide), v2.cA 20 (by decide)]; exact u4.2 i w hw⟩, fun w => ?_, by omega⟩
  · unfold F_X1_joins
    refine q1.trans ?_
    unfold F_X1_each
    rw [show (0 : Int32) = i32 ((0 : Nat) : Int) from rfl] at u1 v1 ⊢
    rw [u1, Option.bind_some, v1]
  · rw [u6 w]
    exact ⟨fun v => v.resolve_right (no _), Or.inl⟩
/-- all is told -/
def CTd (κ : CSt) (n : Nat) (L : Nat → Sg) : Prop := CPt κ (ptN L n) ∧ CPa κ (ptN L n).1 (pcA L (ptN L n) n) ∧ cI κ 5 = i32 ((eu_d (pcA L (ptN L n) n) : Nat) : Int) ∧ CXs κ n L ∧ CSd κ n L (nX n L + 1) ∧ cA κ 14 (nX n L + 1) = i32 ((fcN n L (nX n L + 1) : Nat) : Int) ∧ CFc κ n L
theorem told_e {N : Nat} (hN : 2000 ≤ N) {n : Nat} {L : Nat → Sg} (hL : LOk n L) {κ : CSt} (h : CLn κ n L) (hv : cI κ 2 = 1 ∨ (cI κ 2 = 0 ∧ CTd κ n L)) : ∃ κ', F_X1_told N κ = some κ' ∧ (∀ j, cL κ' j = cL κ j) ∧ cI κ' 1 = cI κ 1 ∧ cI κ' 2 = 0 ∧ CTd κ' n L := by
  rcases hv with hv | ⟨hv, ht⟩
  · have f0 : cfr [2] κ (csI κ 2 0) := (cfr.rf _ κ).I (by decide) _
    obtain ⟨κ1, a1, a2, a3, a4, a5⟩ := points_e (N := N) (by omega) hL (h.fr f0 (by decide))
    have f1 : cfr [2, 3, 4, 5, 6, 7] κ κ1 := (f0.up (by decide)).tr (a2.up (by decide))
    obtain ⟨κ2, b1, b2, b3, b4, b5⟩ := slices_e (N := N) (by omega) hL (h.fr f1 (by decide)) a3
    have f2 : cfr [2, 3, 4, 5, 6, 7, 8, 9, 10, 12, 13, 14, 15] κ κ2 := (f1.up (by decide)).tr (b2.up (by decide))
    obtain ⟨κ3, c1, c2, c3⟩ := cjoins_e hN hL (h.fr f2 (by decide)) b3 b4
    have f3 : cfr [2, 3, 4, 5, 6, 7, 8, 9, 10, 11, 12, 13, 14, 15, 16, 17, 18, 19, 20, 21, 22, 23] κ κ3 := (f2.up (by decide)).tr (c2.up (by decide))
    refine ⟨κ3, ?_, fun j => f3.cL (by decide) j, f3.cI 1 (by decide), ?_, (a3.fr b2 (by decide)).fr c2 (by decide), ⟨fun v hv => ?_, ?_⟩, ?_, b3.fr c2 (by decide), b4.fr c2 (by decide), ?_, c3⟩
    · unfold F_X1_told
      rw [hv, if_neg (by decide)]
      simp only
      rw [a1, Option.bind_some, b1, Option.bind_some, c1, Option.bind_some]
    · rw [c2.cI 2 (by decide), b2.cI 2 (by decide), a2.cI 2 (by decide)]; rfl
    · rw [c2.cA 7 (by decide), b2.cA 7 (by decide)]; exact a4.1 v hv
    · rw [c2.cI 6 (by decide), b2.cI 6 (by decide)]; exact a4.2
    · rw [c2.cI 5 (by decide), b2.cI 5 (by decide)]; exact a5
    · rw [c2.cA 14 (by decide)]; exact b5
  · refine ⟨κ, ?_, fun _ => rfl, rfl, hv, ht⟩
    unfold F_X1_told
    rw [hv, if_pos rfl]
