/-! THE COMPONENT'S PIECES AND PARTS -/
set_option maxRecDepth 100000
def CPa (κ : CSt) (V : Nat) (es : List EuE) : Prop := (∀ v, v < V → cA κ 7 v = i32 ((eu_l es v : Nat) : Int)) ∧ cI κ 6 = i32 ((V : Int) - ((eu_t es : Nat) : Int))
theorem relab_e {N : Nat} {V : Nat} (hV : V ≤ 65) {l : Nat → Nat} (hl : ∀ v, l v ≤ v) {p q : Nat} (hp : p < V) (hq : q < V) :
    ∀ (d k m : Nat) (κ : CSt) (β : BSt), k + d = V → d < m → cI κ 4 = i32 (V : Int) → (∀ v, v < V → cA κ 7 v = i32 (((if v < k then eu_u l (p, q) v else l v) : Nat) : Int)) → ∃ κ', F_X1_piece_L47 N m κ β (i32 ((l p : Nat) : Int)) (i32 ((l q : Nat) : Int)) (i32 (k : Int)) = some (κ', β) ∧ cfr [7] κ κ' ∧ ∀ v, v < V → cA κ' 7 v = i32 ((eu_u l (p, q) v : Nat) : Int) := by
  have lp := hl p
  have lq := hl q
  intro d
  induction d with
  | zero =>
    intro k m κ β hk hm h4 h7
    obtain ⟨m, rfl⟩ : ∃ j, m = j + 1 := ⟨m - 1, by omega⟩
    have e : k = V := by omega
    subst e
    refine ⟨κ, ?_, cfr.rf _ _, fun v hv => by rw [h7 v hv, if_pos hv]⟩
    unfold F_X1_piece_L47
    rw [h4, if_pos ((i32_le (by omega) (by omega)).mpr (Int.le_refl _))]
  | succ d ih =>
    intro k m κ β hk hm h4 h7
    obtain ⟨m, rfl⟩ : ∃ j, m = j + 1 := ⟨m - 1, by omega⟩
    have hk' : k < V := by omega
    have A : ∀ {α : Type} (f : Nat → Option α), ck (i32 (k : Int)) 65 f = f k := fun f => ck_n (by omega) (by decide) f
    have lk := hl k
    have e7 := h7 k hk'
    rw [if_neg (Nat.lt_irrefl k)] at e7
    have mx : jmax (i32 ((l p : Nat) : Int)) (i32 ((l q : Nat) : Int)) = i32 ((max (l p) (l q) : Nat) : Int) := by rw [jmx_e (by omega) (by omega)]; congr 1; omega
    have mn : jmin (i32 ((l p : Nat) : Int)) (i32 ((l q : Nat) : Int)) = i32 ((min (l p) (l q) : Nat) : Int) := by rw [jmn_e (by omega) (by omega)]; congr 1; omega
    have e0 : F_X1_piece_L47 N (m + 1) κ β (i32 ((l p : Nat) : Int)) (i32 ((l q : Nat) : Int)) (i32 (k : Int)) = if l k = max (l p) (l q) then F_X1_piece_L47 N m (csA κ 7 k (i32 ((min (l p) (l q) : Nat) : Int))) β (i32 ((l p : Nat) : Int)) (i32 ((l q : Nat) : Int)) (i32 ((k + 1 : Nat) : Int)) else F_X1_piece_L47 N m κ β (i32 ((l p : Nat) : Int)) (i32 ((l q : Nat) : Int)) (i32 ((k + 1 : Nat) : Int)) := by
      rw [F_X1_piece_L47, h4, if_neg (fun z => by have := (i32_le (by omega) (by omega)).mp z; omega)]
      unfold F_X1_piece_b87
      simp only [A, e7, mx, mn, i32_s]
      refine ite_ii ?_
      rw [i32_eq (by omega) (by omega)]
      omega
    rw [e0]
    by_cases c : l k = max (l p) (l q)
    · rw [if_pos c]
      obtain ⟨κ', q1, q2, q3⟩ := ih (k + 1) m (csA κ 7 k (i32 ((min (l p) (l q) : Nat) : Int))) β (by omega) (by omega) h4 (fun v hv => by
        rw [cA_csA, if_pos rfl]
        by_cases e : v = k
        · subst e
          rw [if_pos rfl, if_pos (Nat.lt_succ_self _)]
          unfold eu_u
          rw [if_pos c]
        · rw [if_neg e, h7 v hv]
          by_cases w : v < k
          · rw [if_pos w, if_pos (by omega)]
          · rw [if_neg w, if_neg (by omega)])
      exact ⟨κ', q1, ((cfr.rf _ κ).A (by decide) _ _).tr q2, q3⟩
    · rw [if_neg c]
      exact ih (k + 1) m κ β (by omega) (by omega) h4 (fun v hv => by
        rw [h7 v hv]
        by_cases e : v = k
        · subst e
          rw [if_neg (Nat.lt_irrefl _), if_pos (Nat.lt_succ_self _)]
          unfold eu_u
          rw [if_neg c]
        · by_cases w : v < k
          · rw [if_pos w, if_pos (by omega)]
          · rw [if_neg w, if_neg (by omega)])
theorem piece_e {N : Nat} (hN : 100 ≤ N) {V : Nat} (hV : V ≤ 65) {κ : CSt} {β : BSt} {es : List EuE} (h4 : cI κ 4 = i32 (V : Int)) (hp : CPa κ V es) (hb : BSo 67 β (sE es)) {p q : Nat} (hpV : p < V) (hqV : q < V) :
    ∃ κ' β', F_X1_piece N κ β (i32 (p : Int)) (i32 (q : Int)) = some (κ', β') ∧ cfr [6, 7] κ κ' ∧ CPa κ' V ((p, q) :: es) ∧ BSo 67 β' (sE ((p, q) :: es)) := by
  obtain ⟨β', b1, b2⟩ := bset_e (N := N) (by decide) hb (a := 65 * p + q) (by omega)
  have A : ∀ {α : Type} (f : Nat → Option α), ck (i32 (p : Int)) 65 f = f p := fun f => ck_n (by omega) (by decide) f
  have B : ∀ {α : Type} (f : Nat → Option α), ck (i32 (q : Int)) 65 f = f q := fun f => ck_n (by omega) (by decide) f
  have lp := eu_l_le es p
  have lq := eu_l_le es q
  have e65 : 65 * i32 (p : Int) + i32 (q : Int) = i32 ((65 * p + q : Nat) : Int) := by
    rw [show (65 : Int32) = i32 65 from rfl, i32_mul, i32_add]; congr 1
  have e0 : F_X1_piece N κ β (i32 (p : Int)) (i32 (q : Int)) = if eu_l es p = eu_l es q then some (κ, β') else F_X1_piece_L47 N N (csI κ 6 (cI κ 6 - 1)) β' (i32 ((eu_l es p : Nat) : Int)) (i32 ((eu_l es q : Nat) : Int)) (i32 ((0 : Nat) : Int)) := by
    unfold F_X1_piece
    rw [e65, b1, Option.bind_some]
    simp only [A, B, hp.1 p hpV, hp.1 q hqV]
    refine ite_ii ?_
    rw [i32_eq (by omega) (by omega)]
    omega
  rw [e0]
  by_cases c : eu_l es p = eu_l es q
  · rw [if_pos c]
    refine ⟨κ, β', rfl, cfr.rf _ _, ⟨fun v hv => ?_, ?_⟩, b2⟩
    · rw [show eu_l ((p, q) :: es) = eu_l es from eu_u_same c]; exact hp.1 v hv
    · rw [show eu_t ((p, q) :: es) = eu_t es from if_pos c]; exact hp.2
  · rw [if_neg c]
    obtain ⟨κ', q1, q2, q3⟩ := relab_e (N := N) hV (eu_l_le es) hpV hqV V 0 N (csI κ 6 (cI κ 6 - 1)) β' (by omega) (by omega) h4 (fun v hv => by rw [if_neg (Nat.not_lt_zero _)]; exact hp.1 v hv)
    refine ⟨κ', β', q1, ((cfr.rf _ κ).I (by decide) _).tr (q2.up (by decide)), ⟨q3, ?_⟩, b2⟩
    rw [q2.cI 6 (by decide), cI_csI, if_pos rfl, hp.2, show eu_t ((p, q) :: es) = eu_t es + 1 from if_neg c, show (1 : Int32) = i32 1 from rfl, i32_sub]
    congr 1
    omega
def lv (o : Option Nat) : Int := match o with
  | none => -1
  | some a => (a : Int)
theorem scan_e {N : Nat} (hN : 100 ≤ N) {n : Nat} {L : Nat → Sg} (hL : LOk n L) {x : Nat × (Nat → Pt)} (hg : ptG x) (hV : x.1 ≤ 65) (r149 : CSt → BSt → Int32 → Option CSt) {l : Nat} (hl : l < n) {es : List EuE} :
    ∀ (d k m : Nat) (κ : CSt) (β : BSt), k + d = x.1 → d < m → CLn κ n L → CPt κ x → CPa κ x.1 (pcE (fun p => onB (L l) (x.2 p)) es k) → BSo 67 β (sE (pcE (fun p => onB (L l) (x.2 p)) es k)) → ∃ κ' β', F_X1_points_L162 N r149 m κ β (i32 (l : Int)) (i32 (lv (lst (fun p => onB (L l) (x.2 p)) k))) (i32 (k : Int)) = r149 κ' β' (i32 ((l + 1 : Nat) : Int)) ∧ cfr [6, 7] κ κ' ∧ CPa κ' x.1 (pcE (fun p => onB (L l) (x.2 p)) es x.1) ∧ BSo 67 β' (sE (pcE (fun p => onB (L l) (x.2 p)) es x.1)) := by
  intro d
  induction d with
  | zero =>
    intro k m κ β hk hm h hp ha hb
    obtain ⟨m, rfl⟩ : ∃ j, m = j + 1 := ⟨m - 1, by omega⟩
    have e : k = x.1 := by omega
    subst e
    refine ⟨κ, β, ?_, cfr.rf _ _, ha, hb⟩
    unfold F_X1_points_L162
    rw [hp.1, if_pos ((i32_le (by omega) (by omega)).mpr (Int.le_refl _))]
    simp only [i32_s]
  | succ d ih =>
    intro k m κ β hk hm h hp ha hb
    obtain ⟨m, rfl⟩ : ∃ j, m = j + 1 := ⟨m - 1, by omega⟩
    have hn10 := hL.1
    have hk' : k < x.1 := by omega
    have A : ∀ {α : Type} (f : Nat → Option α), ck (i32 (l : Int)) 10 f = f l := fun f => ck_n (by omega) (by decide) f
    have B : ∀ {α : Type} (f : Nat → Option α), ck (i32 (k : Int)) 65 f = f k := fun f => ck_n (by omega) (by decide) f
    obtain ⟨t, e1⟩ := h.2 l hl
    have lr : -1 ≤ lv (lst (fun p => onB (L l) (x.2 p)) k) ∧ lv (lst (fun p => onB (L l) (x.2 p)) k) < 65 := by
      cases hl : lst (fun p => onB (L l) (x.2 p)) k with
      | none => simp [lv]
      | some a => have := (lst_e.mp hl).1; simp only [lv]; omega
    have e0 : F_X1_points_L162 N r149 (m + 1) κ β (i32 (l : Int)) (i32 (lv (lst (fun p => onB (L l) (x.2 p)) k))) (i32 (k : Int)) = if onB (L l) (x.2 k) then (if lv (lst (fun p => onB (L l) (x.2 p)) k) = -1 then F_X1_points_L162 N r149 m κ β (i32 (l : Int)) (i32 (k : Int)) (i32 ((k + 1 : Nat) : Int)) else (F_X1_piece N κ β (i32 (lv (lst (fun p => onB (L l) (x.2 p)) k))) (i32 (k : Int))).bind (fun w => F_X1_points_L162 N r149 m w.1 w.2 (i32 (l : Int)) (i32 (k : Int)) (i32 ((k + 1 : Nat) : Int)))) else F_X1_points_L162 N r149 m κ β (i32 (l : Int)) (i32 (lv (lst (fun p => onB (L l) (x.2 p)) k))) (i32 ((k + 1 : Nat) : Int)) := by
      rw [F_X1_points_L162, hp.1, if_neg (fun z => by have := (i32_le (by omega) (by omega)).mp z; omega)]
      unfold F_X1_points_b206 F_X1_points_b209
      simp only [A, B, e1, hp.2 k hk', nn, isOn_e (hL.2 l hl) (hg.2 k hk'), Option.bind_some, bi_0, i32_s]
      rw [show (-1 : Int32) = i32 (-1) from rfl, ite_ii (i32_eq (a := lv (lst (fun p => onB (L l) (x.2 p)) k)) (b := -1) (by omega) (by omega))]
    rw [e0]
    by_cases c : onB (L l) (x.2 k) = true
    · rw [if_pos c]
      have s1 : lst (fun p => onB (L l) (x.2 p)) (k + 1) = some k := if_pos c
      cases hl' : lst (fun p => onB (L l) (x.2 p)) k with
      | none =>
        rw [if_pos (show lv none = -1 from rfl)]
        have s2 : pcE (fun p => onB (L l) (x.2 p)) es (k + 1) = pcE (fun p => onB (L l) (x.2 p)) es k := by
          show (if onB (L l) (x.2 k) = true then (match lst (fun p => onB (L l) (x.2 p)) k with | none => _ | some a => _) else _) = _
          rw [if_pos c, hl']
        have := ih (k + 1) m κ β (by omega) (by omega) h hp (by rw [s2]; exact ha) (by rw [s2]; exact hb)
        rw [s1] at this
        exact this
      | some a =>
        rw [if_neg (show ¬ lv (some a) = -1 by show ¬ ((a : Nat) : Int) = -1; omega)]
        have s2 : pcE (fun p => onB (L l) (x.2 p)) es (k + 1) = (a, k) :: pcE (fun p => onB (L l) (x.2 p)) es k := by
          show (if onB (L l) (x.2 k) = true then (match lst (fun p => onB (L l) (x.2 p)) k with | none => _ | some a => _) else _) = _
          rw [if_pos c, hl']
        have ak := (lst_e.mp hl').1
        obtain ⟨κ1, β1, q1, q2, q3, q4⟩ := piece_e hN hV hp.1 ha hb (show a < x.1 by omega) hk'
        obtain ⟨κ2, β2, u1, u2, u3, u4⟩ := ih (k + 1) m κ1 β1 (by omega) (by omega) (h.fr q2 (by decide)) (hp.fr q2 (by decide)) (by rw [s2]; exact q3) (by rw [s2]; exact q4)
        rw [s1] at u1
        refine ⟨κ2, β2, ?_, q2.tr u2, u3, u4⟩
        show (F_X1_piece N κ β (i32 ((a : Nat) : Int)) (i32 (k : Int))).bind _ = _
        rw [q1, Option.bind_some]
        exact u1
    · rw [if_neg c]
      have s1 : lst (fun p => onB (L l) (x.2 p)) (k + 1) = lst (fun p => onB (L l) (x.2 p)) k := if_neg c
      have s2 : pcE (fun p => onB (L l) (x.2 p)) es (k + 1) = pcE (fun p => onB (L l) (x.2 p)) es k := if_neg c
      have := ih (k + 1) m κ β (by omega) (by omega) h hp (by rw [s2]; exact ha) (by rw [s2]; exact hb)
      rw [s1] at this
      exact this
theorem scans_e {N : Nat} (hN : 100 ≤ N) {n : Nat} {L : Nat → Sg} (hL : LOk n L) {x : Nat × (Nat → Pt)} (hg : ptG x) (hV : x.1 ≤ 65) :
    ∀ (d k m : Nat) (κ : CSt) (β : BSt), k + d = n → d < m → CLn κ n L → CPt κ x → CPa κ x.1 (pcA L x k) → BSo 67 β (sE (pcA L x k)) → ∃ κ', F_X1_points_L149 N m κ β (i32 (k : Int)) = some κ' ∧ cfr [5, 6, 7] κ κ' ∧ CPa κ' x.1 (pcA L x n) ∧ cI κ' 5 = i32 ((eu_d (pcA L x n) : Nat) : Int) := by
  intro d
  induction d with
  | zero =>
    intro k m κ β hk hm h hp ha hb
    obtain ⟨m, rfl⟩ : ∃ j, m = j + 1 := ⟨m - 1, by omega⟩
    have hn10 := hL.1
    have e : k = n := by omega
    subst e
    refine ⟨csI κ 5 (nI (cn (sE (pcA L x k)) (64 * 67))), ?_, (cfr.rf _ κ).I (by decide) _, ha, ?_⟩
    · unfold F_X1_points_L149
      rw [h.1, if_pos ((i32_le (by omega) (by omega)).mpr (Int.le_refl _)), bcard_e (by decide) (by omega) hb]
      rfl
    · rw [cI_csI, if_pos rfl, show 64 * 67 = 4288 from rfl, sE_cn (fun e he => by have := pcA_lt e he; omega), i32_nI]
  | succ d ih =>
    intro k m κ β hk hm h hp ha hb
    obtain ⟨m, rfl⟩ : ∃ j, m = j + 1 := ⟨m - 1, by omega⟩
    have hn10 := hL.1
    obtain ⟨κ1, β1, q1, q2, q3, q4⟩ := scan_e hN hL hg hV (F_X1_points_L149 N m) (show k < n by omega) (es := pcA L x k) x.1 0 N κ β (by omega) (by omega) h hp ha hb
    obtain ⟨κ2, u1, u2, u3, u4⟩ := ih (k + 1) m κ1 β1 (by omega) (by omega) (h.fr q2 (by decide)) (hp.fr q2 (by decide)) q3 q4
    refine ⟨κ2, ?_, (q2.up (by decide)).tr u2, u3, u4⟩
    unfold F_X1_points_L149
    rw [h.1, if_neg (fun z => by have := (i32_le (by omega) (by omega)).mp z; omega), ← u1]
    exact q1
theorem init_e {N : Nat} {V : Nat} (hV : V ≤ 65) : ∀ (d k m : Nat) (κ : CSt) (β : BSt), k + d = V → d < m → cI κ 4 = i32 (V : Int) → (∀ v, v < k → cA κ 7 v = i32 (v : Int)) → ∃ κ', F_X1_points_L126 N m κ β (i32 (k : Int)) = F_X1_points_L149 N N κ' β 0 ∧ cfr [7] κ κ' ∧ ∀ v, v < V → cA κ' 7 v = i32 (v : Int) := by
  intro d
  induction d with
  | zero =>
    intro k m κ β hk hm h4 h7
    obtain ⟨m, rfl⟩ : ∃ j, m = j + 1 := ⟨m - 1, by omega⟩
    have e : k = V := by omega
    subst e
    refine ⟨κ, ?_, cfr.rf _ _, h7⟩
    unfold F_X1_points_L126
    rw [h4, if_pos ((i32_le (by omega) (by omega)).mpr (Int.le_refl _))]
  | succ d ih =>
    intro k m κ β hk hm h4 h7
    obtain ⟨m, rfl⟩ : ∃ j, m = j + 1 := ⟨m - 1, by omega⟩
    have A : ∀ {α : Type} (f : Nat → Option α), ck (i32 (k : Int)) 65 f = f k := fun f => ck_n (by omega) (by decide) f
    obtain ⟨κ', q1, q2, q3⟩ := ih (k + 1) m (csA κ 7 k (i32 (k : Int))) β (by omega) (by omega) h4 (fun v hv => by
      rw [cA_csA, if_pos rfl]
      by_cases e : v = k
      · rw [if_pos e, e]
      · rw [if_neg e]; exact h7 v (by omega))
    refine ⟨κ', ?_, ((cfr.rf _ κ).A (by decide) _ _).tr q2, q3⟩
    unfold F_X1_points_L126
    rw [h4, if_neg (fun z => by have := (i32_le (by omega) (by omega)).mp z; omega)]
    simp only [A, i32_s]
    exact q1
/-- what the component's points() leaves -/
theorem points_e {N : Nat} (hN : 100 ≤ N) {n : Nat} {L : Nat → Sg} (hL : LOk n L) {κ : CSt} (h : CLn κ n L) : ∃ κ', F_X1_points N κ = some κ' ∧ cfr [3, 4, 5, 6, 7] κ κ' ∧ CPt κ' (ptN L n) ∧ CPa κ' (ptN L n).1 (pcA L (ptN L n) n) ∧ cI κ' 5 = i32 ((eu_d (pcA L (ptN L n) n) : Nat) : Int) := by
  have hn10 := hL.1
  have hg := ptN_G hL n (Nat.le_refl _)
  have hV : (ptN L n).1 ≤ 65 := by
    cases n with
    | zero => exact Nat.zero_le _
    | succ m =>
      have := ptN_le L (m + 1)
      have t := tri_le (l := m) (by omega)
      exact Nat.le_trans this t
  obtain ⟨κ1, e1, f1, p1, i1⟩ := cpts_e hN hL h
  obtain ⟨κ2, e2, f2, p2⟩ := init_e (N := N) hV (ptN L n).1 0 N κ1 ((0, fun _ => 0) : BSt) (by omega) (by omega) p1.1 (fun v hv => absurd hv (Nat.not_lt_zero _))
  have h2 : CLn κ2 n L := (h.fr f1 (by decide)).fr f2 (by decide)
  have c2 : CPt κ2 (ptN L n) := p1.fr f2 (by decide)
  obtain ⟨κ3, e3, f3, p3, i3⟩ := scans_e hN hL hg hV n 0 N κ2 ((0, fun _ => 0) : BSt) (by omega) (by omega) h2 c2 ⟨p2, by rw [f2.cI 6 (by decide), i1]; show _ = i32 (((ptN L n).1 : Int) - 0); rw [Int.sub_zero]⟩ (bs_0 67)
  refine ⟨κ3, ?_, ((f1.up (by decide)).tr (f2.up (by decide))).tr (f3.up (by decide)), c2.fr f3 (by decide), p3, i3⟩
  rw [e1, ← e3]
  exact e2
