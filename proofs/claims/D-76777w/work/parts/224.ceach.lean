/-! THE COMPONENT'S JOINS -/
set_option maxRecDepth 100000
def CFa (κ : CSt) (nC : Nat) (l : Nat → Nat) : Prop := ∀ c, c < nC → cA κ 16 c = i32 ((l c : Nat) : Int)
abbrev Wl : Type := Nat × Nat × Nat
def CWl (κ : CSt) (wl : List Wl) : Prop := cI κ 21 = i32 ((wl.length : Nat) : Int) ∧ ∀ (i : Nat) (w : Wl), wl[i]? = some w → cA κ 18 i = i32 ((w.1 : Nat) : Int) ∧ cA κ 19 i = i32 ((w.2.1 : Nat) : Int) ∧ cA κ 20 i = nI w.2.2
theorem jrelab_e {N : Nat} {nC : Nat} (hC : nC ≤ 740) {l : Nat → Nat} (hl : ∀ v, l v ≤ v) {p q : Nat} (hp : p < nC) (hq : q < nC) :
    ∀ (d k m : Nat) (κ : CSt), k + d = nC → d < m → cI κ 10 = i32 (nC : Int) → CFa κ nC (fun v => if v < k then eu_u l (p, q) v else l v) → ∃ κ', F_X1_joined_L25 N m κ (i32 ((l p : Nat) : Int)) (i32 ((l q : Nat) : Int)) (i32 (k : Int)) = some κ' ∧ cfr [16] κ κ' ∧ CFa κ' nC (eu_u l (p, q)) := by
  have lp := hl p
  have lq := hl q
  intro d
  induction d with
  | zero =>
    intro k m κ hk hm h4 h7
    obtain ⟨m, rfl⟩ : ∃ j, m = j + 1 := ⟨m - 1, by omega⟩
    have e : k = nC := by omega
    subst e
    refine ⟨κ, ?_, cfr.rf _ _, fun v hv => by rw [h7 v hv]; simp only [if_pos hv]⟩
    unfold F_X1_joined_L25
    rw [h4, if_pos ((i32_le (by omega) (by omega)).mpr (Int.le_refl _))]
  | succ d ih =>
    intro k m κ hk hm h4 h7
    obtain ⟨m, rfl⟩ : ∃ j, m = j + 1 := ⟨m - 1, by omega⟩
    have hk' : k < nC := by omega
    have A : ∀ {α : Type} (f : Nat → Option α), ck (i32 (k : Int)) 740 f = f k := fun f => ck_n (by omega) (by decide) f
    have lk := hl k
    have e7 := h7 k hk'
    simp only [if_neg (Nat.lt_irrefl k)] at e7
    have mx : jmax (i32 ((l p : Nat) : Int)) (i32 ((l q : Nat) : Int)) = i32 ((max (l p) (l q) : Nat) : Int) := by rw [jmx_e (by omega) (by omega)]; congr 1; omega
    have mn : jmin (i32 ((l p : Nat) : Int)) (i32 ((l q : Nat) : Int)) = i32 ((min (l p) (l q) : Nat) : Int) := by rw [jmn_e (by omega) (by omega)]; congr 1; omega
    have e0 : F_X1_joined_L25 N (m + 1) κ (i32 ((l p : Nat) : Int)) (i32 ((l q : Nat) : Int)) (i32 (k : Int)) = if l k = max (l p) (l q) then F_X1_joined_L25 N m (csA κ 16 k (i32 ((min (l p) (l q) : Nat) : Int))) (i32 ((l p : Nat) : Int)) (i32 ((l q : Nat) : Int)) (i32 ((k + 1 : Nat) : Int)) else F_X1_joined_L25 N m κ (i32 ((l p : Nat) : Int)) (i32 ((l q : Nat) : Int)) (i32 ((k + 1 : Nat) : Int)) := by
      rw [F_X1_joined_L25, h4, if_neg (fun z => by have := (i32_le (by omega) (by omega)).mp z; omega)]
      unfold F_X1_joined_b63
      simp only [A, e7, mx, mn, i32_s]
      refine ite_ii ?_
      rw [i32_eq (by omega) (by omega)]
      omega
    rw [e0]
    by_cases c : l k = max (l p) (l q)
    · rw [if_pos c]
      obtain ⟨κ', q1, q2, q3⟩ := ih (k + 1) m (csA κ 16 k (i32 ((min (l p) (l q) : Nat) : Int))) (by omega) (by omega) h4 (fun v hv => by
        rw [cA_csA, if_pos rfl]
        by_cases e : v = k
        · subst e
          simp only [if_pos (Nat.lt_succ_self v), if_true]
          unfold eu_u
          rw [if_pos c]
        · rw [if_neg e, h7 v hv]
          by_cases w : v < k
          · simp only [if_pos w, if_pos (show v < k + 1 by omega)]
          · simp only [if_neg w, if_neg (show ¬ v < k + 1 by omega)])
      exact ⟨κ', q1, ((cfr.rf _ κ).A (by decide) _ _).tr q2, q3⟩
    · rw [if_neg c]
      exact ih (k + 1) m κ (by omega) (by omega) h4 (fun v hv => by
        rw [h7 v hv]
        by_cases e : v = k
        · subst e
          simp only [if_neg (Nat.lt_irrefl v), if_pos (Nat.lt_succ_self v)]
          unfold eu_u
          rw [if_neg c]
        · by_cases w : v < k
          · simp only [if_pos w, if_pos (show v < k + 1 by omega)]
          · simp only [if_neg w, if_neg (show ¬ v < k + 1 by omega)])
theorem cjoined_e {N : Nat} (hN : 2000 ≤ N) {nC : Nat} (hC : nC ≤ 740) {κ : CSt} {es : List EuE} (h10 : cI κ 10 = i32 (nC : Int)) (hf : CFa κ nC (eu_l es)) {p q : Nat} (hp : p < nC) (hq : q < nC) : ∃ κ', F_X1_joined N κ (i32 (p : Int)) (i32 (q : Int)) = some κ' ∧ cfr [16] κ κ' ∧ CFa κ' nC (eu_l ((p, q) :: es)) := by
  have A : ∀ {α : Type} (f : Nat → Option α), ck (i32 (p : Int)) 740 f = f p := fun f => ck_n (by omega) (by decide) f
  have B : ∀ {α : Type} (f : Nat → Option α), ck (i32 (q : Int)) 740 f = f q := fun f => ck_n (by omega) (by decide) f
  have lp := eu_l_le es p
  have lq := eu_l_le es q
  have e0 : F_X1_joined N κ (i32 (p : Int)) (i32 (q : Int)) = if eu_l es p = eu_l es q then some κ else F_X1_joined_L25 N N κ (i32 ((eu_l es p : Nat) : Int)) (i32 ((eu_l es q : Nat) : Int)) (i32 ((0 : Nat) : Int)) := by
    unfold F_X1_joined
    simp only [A, B, hf p hp, hf q hq]
    refine ite_ii ?_
    rw [i32_eq (by omega) (by omega)]
    omega
  rw [e0]
  by_cases c : eu_l es p = eu_l es q
  · rw [if_pos c]
    exact ⟨κ, rfl, cfr.rf _ _, by rw [show eu_l ((p, q) :: es) = eu_l es from eu_u_same c]; exact hf⟩
  · rw [if_neg c]
    exact jrelab_e (N := N) hC (eu_l_le es) hp hq nC 0 N κ (by omega) (by omega) h10 (fun v hv => by simp only [if_neg (Nat.not_lt_zero v)]; exact hf v hv)
theorem cwalls_e {N : Nat} {κ : CSt} {wl : List Wl} (h : CWl κ wl) (hb : wl.length < 1480) (p q w : Nat) : ∃ κ', F_X1_walls N κ (i32 (p : Int)) (i32 (q : Int)) (nI w) = some κ' ∧ cfr [18, 19, 20, 21] κ κ' ∧ CWl κ' (wl ++ [(p, q, w)]) := by
  have A : ∀ {α : Type} (f : Nat → Option α), ck (i32 ((wl.length : Nat) : Int)) 1480 f = f wl.length := fun f => ck_n hb (by decide) f
  refine ⟨csI (csA (csA (csA κ 18 wl.length (i32 (p : Int))) 19 wl.length (i32 (q : Int))) 20 wl.length (nI w)) 21 (i32 ((wl.length + 1 : Nat) : Int)), ?_, ((((cfr.rf _ κ).A (by decide) _ _).A (by decide) _ _).A (by decide) _ _).I (by decide) _, ?_, fun i v hv => ?_⟩
  · unfold F_X1_walls
    simp only [cI_csA, h.1, A, i32_s]
  · rw [cI_csI, if_pos rfl, List.length_append]; rfl
  · by_cases e : i = wl.length
    · subst e
      rw [List.getElem?_append_right (Nat.le_refl _), Nat.sub_self] at hv
      have hv : (p, q, w) = v := by simpa using hv
      subst hv
      refine ⟨by simp [cA_csI, cA_csA], by simp [cA_csI, cA_csA], by simp [cA_csI, cA_csA]⟩
    · have lt : i < wl.length := by
        have := (List.getElem?_eq_some_iff.mp hv).1
        rw [List.length_append] at this
        simp at this
        omega
      rw [List.getElem?_append_left lt] at hv
      obtain ⟨a, b, c⟩ := h.2 i v hv
      refine ⟨by simp [cA_csI, cA_csA, e, a], by simp [cA_csI, cA_csA, e, b], by simp [cA_csI, cA_csA, e, c]⟩
/-- what is told of two cells is taken in -/
theorem clam_e {N : Nat} (hN : 2000 ≤ N) {nC : Nat} (hC : nC ≤ 740) {κ : CSt} {es : List EuE} {wl : List Wl} (h10 : cI κ 10 = i32 (nC : Int)) (hf : CFa κ nC (eu_l es)) (hw : CWl κ wl) (hb : wl.length < 1480) {p q : Nat} (hp : p < nC) (hq : q < nC) (o : Bool) {w : Nat} (hw1 : w < 1024) : ∃ κ', F_X1_lambda_joins_0 N κ (i32 (p : Int)) (i32 (q : Int)) (bi o) (nI w) = some κ' ∧ cfr [16, 18, 19, 20, 21] κ κ' ∧ CFa κ' nC (eu_l (if o then (p, q) :: es else es)) ∧ CWl κ' (if w = 0 then wl else wl ++ [(p, q, w)]) := by
  have two : ∀ (κ1 : CSt) (es1 : List EuE), cfr [16] κ κ1 → CFa κ1 nC (eu_l es1) → ∃ κ', F_X1_lambda_joins_0_b10 N κ1 (i32 (p : Int)) (i32 (q : Int)) (nI w) = some κ' ∧ cfr [16, 18, 19, 20, 21] κ κ' ∧ CFa κ' nC (eu_l es1) ∧ CWl κ' (if w = 0 then wl else wl ++ [(p, q, w)]) := by
    intro κ1 es1 f1 c1
    have w1 : CWl κ1 wl := ⟨by rw [f1.cI 21 (by decide)]; exact hw.1, fun i v hv => by rw [f1.cA 18 (by decide), f1.cA 19 (by decide), f1.cA 20 (by decide)]; exact hw.2 i v hv⟩
    unfold F_X1_lambda_joins_0_b10
    rw [nI_z0 (by omega)]
    by_cases c : w = 0
    · rw [if_pos c, if_pos c]
      exact ⟨κ1, rfl, f1.up (by decide), c1, w1⟩
    · rw [if_neg c, if_neg c]
      obtain ⟨κ2, q1, q2, q3⟩ := cwalls_e (N := N) w1 hb p q w
      refine ⟨κ2, by rw [q1]; rfl, (f1.up (by decide)).tr (q2.up (by decide)), fun v hv => by rw [q2.cA 16 (by decide)]; exact c1 v hv, q3⟩
  unfold F_X1_lambda_joins_0
  rw [bi_0]
  cases o with
  | false => rw [if_neg (by decide)]; exact two κ es (cfr.rf _ _) hf
  | true =>
    rw [if_pos rfl]
    obtain ⟨κ1, q1, q2, q3⟩ := cjoined_e hN hC h10 hf hp hq
    rw [q1, Option.bind_some]
    exact two κ1 _ q2 q3
theorem bound_e {N : Nat} {κ : CSt} {id : Nat} {many : Nat} (hm : many ≤ 10) {f : Nat → Rat} (h : ∀ k, k < many → cF κ id k = some (rf (f k))) {k : Int} (hk : -1 ≤ k ∧ k ≤ 10) : F_X1_bound N κ id (i32 (many : Int)) (i32 k) = some (rfO (if 0 ≤ k ∧ k < many then some (f k.toNat) else none)) := by
  unfold F_X1_bound F_X1_bound_b9 F_X1_bound_b16
  rw [show (0 : Int32) = i32 0 from rfl, ite_ii (i32_lt (by omega) (by omega)), ite_ii (i32_lt (by omega) (by omega))]
  by_cases c : k < 0
  · rw [if_pos c, if_neg (by omega)]; rfl
  · rw [if_neg c]
    by_cases d : k < many
    · rw [if_pos d, if_pos ⟨by omega, d⟩, ck_i ⟨by omega, by omega⟩ (by decide), h k.toNat (by omega)]; rfl
    · rw [if_neg d, if_neg (by omega)]; rfl
theorem fills_e {N : Nat} {κ : CSt} {n : Nat} {L : Nat → Sg} (hN : 100 ≤ N) (h : CLn κ n L) (hL : LOk n L) (hc : CSd κ n L (nX n L + 1)) {id : Nat} {S : Nat} (hS : S ≤ nX n L) {x : Rat} (hx : fb x 256000 4000) (hid : id = 22 ∨ id = 23) : ∃ κ', F_X1_fills N id κ (i32 (S : Int)) (rf x) = some (i32 ((nGr n L S : Nat) : Int), κ') ∧ cfr [22, 23] κ κ' ∧ (∀ k, k < nGr n L S → cF κ' id k = some (rf (vY n L S k x))) ∧ ∀ i, i ≠ id → ∀ k, cF κ' i k = cF κ i k := by
  have hn10 := hL.1
  have m65 := nX_65 hL
  have gr := nGr_le n L S
  have A : ∀ {α : Type} (f : Nat → Option α), ck (i32 (S : Int)) 67 f = f S := fun f => ck_n (by omega) (by decide) f
  have main : ∀ (d k m : Nat) (κ1 : CSt), k + d = nGr n L S → d < m → cfr [22, 23] κ κ1 → (∀ j, j < k → cF κ1 id j = some (rf (vY n L S j x))) → (∀ i, i ≠ id → ∀ j, cF κ1 i j = cF κ i j) → ∃ κ', F_X1_fills_L3 N id m κ1 (i32 (S : Int)) (rf x) (i32 (k : Int)) = some (i32 ((nGr n L S : Nat) : Int), κ') ∧ cfr [22, 23] κ κ' ∧ (∀ j, j < nGr n L S → cF κ' id j = some (rf (vY n L S j x))) ∧ ∀ i, i ≠ id → ∀ j, cF κ' i j = cF κ i j := by
    intro d
    induction d with
    | zero =>
      intro k m κ1 hk hm f1 h1 h2
      obtain ⟨m, rfl⟩ : ∃ j, m = j + 1 := ⟨m - 1, by omega⟩
      have e : k = nGr n L S := by omega
      subst e
      refine ⟨κ1, ?_, f1, h1, h2⟩
      unfold F_X1_fills_L3
      simp only [A, f1.cA 13 (by decide), hc.1 S (by omega)]
      rw [if_pos ((i32_le (by omega) (by omega)).mpr (Int.le_refl _))]
    | succ d ih =>
      intro k m κ1 hk hm f1 h1 h2
      obtain ⟨m, rfl⟩ : ∃ j, m = j + 1 := ⟨m - 1, by omega⟩
      obtain ⟨b1, b2, b3, b4, b5, -⟩ := lea_e hL (show k < nGr n L S by omega) N
      have hl1 : CLn κ1 n L := h.fr f1 (by decide)
      obtain ⟨κ', q1, q2, q3, q4⟩ := ih (k + 1) m (csF κ1 id k (some (rf (vY n L S k x)))) (by omega) (by omega) (f1.F (by rcases hid with e | e <;> rw [e] <;> decide) _ _) (fun j hj => by
        rw [cF_csF, if_pos rfl]
        by_cases e : j = k
        · rw [e, if_pos rfl]
        · rw [if_neg e]; exact h1 j (by omega)) (fun i hi j => by rw [cF_csF, if_neg hi]; exact h2 i hi j)
      refine ⟨κ', ?_, q2, q3, q4⟩
      unfold F_X1_fills_L3
      simp only [A, f1.cA 13 (by decide), hc.1 S (by omega)]
      rw [if_neg (fun z => by have := (i32_le (by omega) (by omega)).mp z; omega), show (10 : Int32) * i32 (S : Int) = i32 ((10 * S : Nat) : Int) by rw [show (10 : Int32) = i32 10 from rfl, i32_mul]; congr 1, i32_add, show ((10 * S : Nat) : Int) + (k : Int) = ((10 * S + k : Nat) : Int) by omega, ck_n (by omega) (by decide), f1.cA 12 (by decide), hc.2.1 S (by omega) k (by omega), least_e hl1 hL b4 b3 (spB_e.mp b5).1, Option.bind_some, slat_e hN (hL.2 _ b3) (spB_e.mp b5).1 hx, Option.bind_some, ck_n (by omega) (by decide)]
      simp only [i32_s]
      exact q1
  exact main (nGr n L S) 0 fu11 κ (by omega) (by unfold fu11; omega) (cfr.rf _ _) (fun j hj => absurd hj (Nat.not_lt_zero _)) (fun _ _ _ => rfl)
/-- pairs of places ahead of t -/
def aP (n : Nat) (L : Nat → Sg) (t : Nat) (Q : Nat → Nat → Nat → Prop) : Prop := ∃ t', t' < t ∧ ∃ a b, a ≤ nGr n L t' ∧ b ≤ nGr n L (t' + 1) ∧ ovP (lwP n L t' a b) (hgP n L t' a b) ∧ Q t' a b
def QE (n : Nat) (L : Nat → Sg) (e : EuE) (t a b : Nat) : Prop := e = (fcN n L t + a, fcN n L (t + 1) + b) ∧ opnP n L (xX n L t) (lwP n L t a b) (hgP n L t a b)
def QW (n : Nat) (L : Nat → Sg) (w : Wl) (t a b : Nat) : Prop := w = (fcN n L t + a, fcN n L (t + 1) + b, upS n L (xX n L t) (lwP n L t a b) (hgP n L t a b)) ∧ upS n L (xX n L t) (lwP n L t a b) (hgP n L t a b) ≠ 0
def EJ (κ : CSt) (n : Nat) (L : Nat → Sg) (t l r : Nat) : Prop := ∃ es wl, CFa κ (fcN n L (nX n L + 1)) (eu_l es) ∧ CWl κ wl ∧ (∀ e, e ∈ es ↔ aP n L t (QE n L e) ∨ inP n L t l r (QE n L e t)) ∧ (∀ w, w ∈ wl ↔ aP n L t (QW n L w) ∨ inP n L t l r (QW n L w t)) ∧ wl.length ≤ 22 * t + l + r
theorem inP_end {n : Nat} {L : Nat → Sg} {t l r : Nat} (h : nGr n L t < l ∨ nGr n L (t + 1) < r) (Q : Nat → Nat → Nat → Prop) : (aP n L t Q ∨ inP n L t l r (Q t)) ↔ (aP n L (t + 1) Q ∨ inP n L (t + 1) 0 0 (Q (t + 1))) := by
  have z : ¬ inP n L (t + 1) 0 0 (Q (t + 1)) := by
    rintro ⟨a, b, -, -, h3, -⟩
    rcases h3 with w | w <;> exact absurd w (Nat.not_lt_zero _)
  constructor
  · rintro (⟨t', h1, a, b, h2⟩ | ⟨a, b, h1, h2, h3, h4, h5⟩)
    · exact Or.inl ⟨t', by omega, a, b, h2⟩
    · exact Or.inl ⟨t, by omega, a, b, h1, h2, h4, h5⟩
  · rintro (⟨t', h1, a, b, h2, h3, h4, h5⟩ | w)
    · by_cases e : t' = t
      · subst e
        right
        refine ⟨a, b, h2, h3, ?_, h4, h5⟩
        rcases h with w | w
        · exact Or.inl (by omega)
        · exact Or.inr (by omega)
      · exact Or.inl ⟨t', by omega, a, b, h2, h3, h4, h5⟩
    · exact absurd w z
theorem EJ_end {κ : CSt} {n : Nat} {L : Nat → Sg} {t l r : Nat} (h : EJ κ n L t l r) (he : nGr n L t < l ∨ nGr n L (t + 1) < r) (hb : l + r ≤ 22) : EJ κ n L (t + 1) 0 0 := by
  obtain ⟨es, wl, h1, h2, h3, h4, h5⟩ := h
  exact ⟨es, wl, h1, h2, fun e => by rw [h3 e]; exact inP_end he (QE n L e), fun w => by rw [h4 w]; exact inP_end he (QW n L w), by omega⟩
