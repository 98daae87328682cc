/-! THE MODEL'S JOINING OF CELLS; FACES -/
set_option maxRecDepth 100000
theorem yv_r {s : Sg} (hs : sgOk s) (h : isSl s) {x : Rat} (h1 : (s.1 : Rat) ≤ x) (h2 : x ≤ (s.2.2.1 : Rat)) : 0 ≤ yv s x ∧ yv s x ≤ 40 := by
  have on := (onB_sl hs h).mpr ⟨h1, h2, rfl⟩
  obtain ⟨-, -, a, b⟩ := (onB_box hs (onB_sd on)).mp on
  obtain ⟨-, c, -, d, -⟩ := hs
  have e1 : (0 : Rat) ≤ ((min s.2.1 s.2.2.2 : Int) : Rat) := Rat.intCast_nonneg.mpr (by omega)
  have e2 : ((max s.2.1 s.2.2.2 : Int) : Rat) ≤ ((40 : Int) : Rat) := Rat.intCast_le_intCast.mpr (by omega)
  have e3 : ((40 : Int) : Rat) = 40 := rfl
  rw [e3] at e2
  exact ⟨Rat.le_trans e1 a, Rat.le_trans b e2⟩
def o40 (o : Option Rat) : Prop := ∀ a, o = some a → 0 ≤ a ∧ a ≤ 40
theorem vY_r {n : Nat} {L : Nat → Sg} (hL : LOk n L) {S g : Nat} (hg : g < nGr n L S) : (0 ≤ vY n L S g (xX n L (S - 1)) ∧ vY n L S g (xX n L (S - 1)) ≤ 40) ∧ 0 ≤ vY n L S g (xX n L S) ∧ vY n L S g (xX n L S) ≤ 40 := by
  obtain ⟨-, -, a3, -, a5, -, a7, a8⟩ := lea_e hL hg 0
  obtain ⟨b1, b2, b3⟩ := spB_e.mp a5
  have e : S - 1 + 1 = S := by omega
  rw [e] at b3
  have lt := xX_lt hL (show S - 1 < S by omega) a8
  exact ⟨yv_r (hL.2 _ a3) b1 b2 (by grind), yv_r (hL.2 _ a3) b1 (by grind) b3⟩
theorem lo_40 {n : Nat} {L : Nat → Sg} (hL : LOk n L) {t a b : Nat} (ha : a ≤ nGr n L t) (hb : b ≤ nGr n L (t + 1)) : o40 (loY n L t a (xX n L t)) ∧ o40 (loY n L (t + 1) b (xX n L t)) := by
  constructor
  · intro v e
    unfold loY at e
    split at e
    · cases e
    · cases e; exact (vY_r hL (show a - 1 < nGr n L t by omega)).2
  · intro v e
    unfold loY at e
    split at e
    · cases e
    · cases e; exact (vY_r hL (show b - 1 < nGr n L (t + 1) by omega)).1
theorem hi_40 {n : Nat} {L : Nat → Sg} (hL : LOk n L) (t a b : Nat) : o40 (hiY n L t a (xX n L t)) ∧ o40 (hiY n L (t + 1) b (xX n L t)) := by
  constructor
  · intro v e
    unfold hiY at e
    split at e
    · cases e; exact (vY_r hL (by assumption)).2
    · cases e
  · intro v e
    unfold hiY at e
    split at e
    · rename_i c; cases e; exact (vY_r hL c).1
    · cases e
def loF (o : Option Rat) : Rat := match o with
  | none => -100000
  | some w => w
def hiF (o : Option Rat) : Rat := match o with
  | none => 100000
  | some w => w
theorem nwL_2 {o o' : Option Rat} (h : o40 o) (h' : o40 o') : nwL (nwL (-100000) o) o' = loF (gre o o') := by
  cases o with
  | none =>
    cases o' with
    | none => rfl
    | some v => have := h' v rfl; show (if (-100000 : Rat) < v then v else -100000) = v; rw [if_pos (by grind)]
  | some u =>
    have hu := h u rfl
    have e : nwL (-100000) (some u) = u := by show (if (-100000 : Rat) < u then u else -100000) = u; rw [if_pos (by grind)]
    rw [e]
    cases o' with
    | none => rfl
    | some v =>
      show (if u < v then v else u) = loF (if v < u then some u else some v)
      by_cases c : v < u
      · rw [if_pos c, if_neg (fun w => by grind)]; rfl
      · rw [if_neg c]
        show _ = v
        by_cases d : u < v
        · rw [if_pos d]
        · rw [if_neg d]; exact Rat.le_antisymm (Rat.not_lt.mp c) (Rat.not_lt.mp d)
theorem nwH_2 {o o' : Option Rat} (h : o40 o) (h' : o40 o') : nwH (nwH 100000 o) o' = hiF (les o o') := by
  cases o with
  | none =>
    cases o' with
    | none => rfl
    | some v => have := h' v rfl; show (if v < (100000 : Rat) then v else 100000) = v; rw [if_pos (by grind)]
  | some u =>
    have hu := h u rfl
    have e : nwH 100000 (some u) = u := by show (if u < (100000 : Rat) then u else 100000) = u; rw [if_pos (by grind)]
    rw [e]
    cases o' with
    | none => rfl
    | some v =>
      show (if v < u then v else u) = hiF (if u < v then some u else some v)
      by_cases c : u < v
      · rw [if_pos c, if_neg (fun w => by grind)]; rfl
      · rw [if_neg c]
        show _ = v
        by_cases d : v < u
        · rw [if_pos d]
        · rw [if_neg d]; exact Rat.le_antisymm (Rat.not_lt.mp d) (Rat.not_lt.mp c)
theorem gre_40 {o o' : Option Rat} (h : o40 o) (h' : o40 o') : o40 (gre o o') := by
  unfold gre
  split
  · exact h'
  · exact h
  · split
    · exact h
    · exact h'
theorem les_40 {o o' : Option Rat} (h : o40 o) (h' : o40 o') : o40 (les o o') := by
  unfold les
  split
  · exact h'
  · exact h
  · split
    · exact h
    · exact h'
theorem ov_F {low high : Option Rat} (h : o40 low) (h' : o40 high) : loF low < hiF high ↔ ovP low high := by
  unfold ovP loF hiF
  cases low with
  | none =>
    cases high with
    | none => exact ⟨fun _ a b e => (by cases e), fun _ => by show (-100000 : Rat) < 100000; decide⟩
    | some v => have := h' v rfl; exact ⟨fun _ a b e => (by cases e), fun _ => by show (-100000 : Rat) < v; grind⟩
  | some u =>
    have := h u rfl
    cases high with
    | none => exact ⟨fun _ a b _ e => (by cases e), fun _ => by show u < (100000 : Rat); grind⟩
    | some v => exact ⟨fun w a b e1 e2 => by cases e1; cases e2; exact w, fun w => w u v rfl rfl⟩
theorem opn_F {n : Nat} {L : Nat → Sg} (hL : LOk n L) {x : Rat} {low high : Option Rat} (h : o40 low) (h' : o40 high) : opnR n L x (loF low) (hiF high) ↔ opnP n L x low high := by
  have r1 : ∀ l, l < n → (0 : Rat) ≤ ((L l).2.1 : Rat) ∧ ((L l).2.2.2 : Rat) ≤ 40 := by
    intro l hl
    obtain ⟨-, a, -, b, -⟩ := hL.2 l hl
    have e3 : ((40 : Int) : Rat) = 40 := rfl
    exact ⟨Rat.intCast_nonneg.mpr (by omega), by rw [← e3]; exact Rat.intCast_le_intCast.mpr (by omega)⟩
  cases low with
  | none =>
    refine ⟨fun _ => Or.inl rfl, fun _ => ⟨-100000, Rat.le_refl, ?_, fun l hl _ w => ?_⟩⟩
    · cases high with
      | none => show (-100000 : Rat) < 100000; decide
      | some v => have := h' v rfl; show (-100000 : Rat) < v; grind
    · have := r1 l hl; grind
  | some u =>
    have hu := h u rfl
    cases high with
    | none =>
      refine ⟨fun _ => Or.inr (Or.inl rfl), fun _ => ⟨50, by show u ≤ (50 : Rat); grind, by show (50 : Rat) < 100000; decide, fun l hl _ w => ?_⟩⟩
      have := r1 l hl; grind
    | some v =>
      constructor
      · rintro ⟨y, y1, y2, y3⟩
        exact Or.inr (Or.inr ⟨u, v, y, rfl, rfl, y1, y2, y3⟩)
      · rintro (w | w | ⟨a, b, y, e1, e2, y1, y2, y3⟩)
        · cases w
        · cases w
        · cases e1; cases e2; exact ⟨y, y1, y2, y3⟩
def MFa (σ : MSt) (nC : Nat) (l : Nat → Nat) : Prop := ∀ c, c < nC → gA σ 31 c = i32 ((l c : Nat) : Int)
theorem mjrelab_e {N : Nat} {nC : Nat} (hC : nC ≤ 740) {l : Nat → Nat} (hl : ∀ v, l v ≤ v) {p q : Nat} (hp : p < nC) (hq : q < nC) (r25 : MSt → Int32 → Option MSt) (r42 : MSt → Int32 → Int32 → Option MSt) (r59 : MSt → Int32 → Int32 → Int32 → Option MSt) (v1 v2 : Int32) (j : Nat) :
    ∀ (d k m : Nat) (σ : MSt), k + d = nC → d < m → gI σ 23 = i32 (nC : Int) → MFa σ nC (fun v => if v < k then eu_u l (p, q) v else l v) → ∃ σ', F_joinCells_L175 N r25 r42 r59 m σ v1 v2 (i32 (j : Int)) (i32 ((min (l p) (l q) : Nat) : Int)) (i32 ((max (l p) (l q) : Nat) : Int)) (i32 (k : Int)) = r59 σ' v1 v2 (i32 ((j + 1 : Nat) : Int)) ∧ mfr [31] σ σ' ∧ MFa σ' nC (eu_u l (p, q)) := by
  have lp := hl p
  have lq := hl q
  intro d
  induction d with
  | zero =>
    intro k m σ hk hm h9 h14
    obtain ⟨m, rfl⟩ : ∃ t, m = t + 1 := ⟨m - 1, by omega⟩
    have e : k = nC := by omega
    subst e
    refine ⟨σ, ?_, mfr.rf _ _, fun v hv => by rw [h14 v hv]; simp only [if_pos hv]⟩
    unfold F_joinCells_L175 F_joinCells_b211
    rw [h9, if_pos ((i32_le (by omega) (by omega)).mpr (Int.le_refl _))]
    simp only [i32_s]
  | succ d ih =>
    intro k m σ hk hm h9 h14
    obtain ⟨m, rfl⟩ : ∃ t, m = t + 1 := ⟨m - 1, by omega⟩
    have hk' : k < nC := by omega
    have A : ∀ {α : Type} (f : Nat → Option α), ck (i32 (k : Int)) 900 f = f k := fun f => ck_n (by omega) (by decide) f
    have lk := hl k
    have e7 := h14 k hk'
    simp only [if_neg (Nat.lt_irrefl k)] at e7
    have e0 : F_joinCells_L175 N r25 r42 r59 (m + 1) σ v1 v2 (i32 (j : Int)) (i32 ((min (l p) (l q) : Nat) : Int)) (i32 ((max (l p) (l q) : Nat) : Int)) (i32 (k : Int)) = if l k = max (l p) (l q) then F_joinCells_L175 N r25 r42 r59 m (sA σ 31 k (i32 ((min (l p) (l q) : Nat) : Int))) v1 v2 (i32 (j : Int)) (i32 ((min (l p) (l q) : Nat) : Int)) (i32 ((max (l p) (l q) : Nat) : Int)) (i32 ((k + 1 : Nat) : Int)) else F_joinCells_L175 N r25 r42 r59 m σ v1 v2 (i32 (j : Int)) (i32 ((min (l p) (l q) : Nat) : Int)) (i32 ((max (l p) (l q) : Nat) : Int)) (i32 ((k + 1 : Nat) : Int)) := by
      rw [F_joinCells_L175, h9, if_neg (fun z => by have := (i32_le (by omega) (by omega)).mp z; omega)]
      unfold F_joinCells_b205
      simp only [A, e7, i32_s]
      refine ite_ii ?_
      rw [i32_eq (by omega) (by omega)]
      omega
    rw [e0]
    by_cases c : l k = max (l p) (l q)
    · rw [if_pos c]
      obtain ⟨σ', q1, q2, q3⟩ := ih (k + 1) m (sA σ 31 k (i32 ((min (l p) (l q) : Nat) : Int))) (by omega) (by omega) h9 (fun v hv => by
        rw [gA_sA, if_pos rfl]
        by_cases e : v = k
        · subst e
          simp only [if_pos (Nat.lt_succ_self v), if_true]
          unfold eu_u
          rw [if_pos c]
        · rw [if_neg e, h14 v hv]
          by_cases w : v < k
          · simp only [if_pos w, if_pos (show v < k + 1 by omega)]
          · simp only [if_neg w, if_neg (show ¬ v < k + 1 by omega)])
      exact ⟨σ', q1, ((mfr.rf _ σ).A (by decide) _ _).tr q2, q3⟩
    · rw [if_neg c]
      exact ih (k + 1) m σ (by omega) (by omega) h9 (fun v hv => by
        rw [h14 v hv]
        by_cases e : v = k
        · subst e
          simp only [if_neg (Nat.lt_irrefl v), if_pos (Nat.lt_succ_self v)]
          unfold eu_u
          rw [if_neg c]
        · by_cases w : v < k
          · simp only [if_pos w, if_pos (show v < k + 1 by omega)]
          · simp only [if_neg w, if_neg (show ¬ v < k + 1 by omega)])
/-- pairs of t ahead of (a, b) -/
def inM (n : Nat) (L : Nat → Sg) (t a b : Nat) (P : Nat → Nat → Prop) : Prop := ∃ a' b', a' ≤ nGr n L t ∧ b' ≤ nGr n L (t + 1) ∧ (a' < a ∨ (a' = a ∧ b' < b)) ∧ ovP (lwP n L t a' b') (hgP n L t a' b') ∧ P a' b'
theorem inM_step {n : Nat} {L : Nat → Sg} {t a b : Nat} (ha : a ≤ nGr n L t) (hb : b ≤ nGr n L (t + 1)) (P : Nat → Nat → Prop) : inM n L t a (b + 1) P ↔ inM n L t a b P ∨ (ovP (lwP n L t a b) (hgP n L t a b) ∧ P a b) := by
  constructor
  · rintro ⟨a', b', h1, h2, h3, h4, h5⟩
    by_cases e : a' = a ∧ b' = b
    · rw [e.1, e.2] at h4 h5; exact Or.inr ⟨h4, h5⟩
    · exact Or.inl ⟨a', b', h1, h2, by omega, h4, h5⟩
  · rintro (⟨a', b', h1, h2, h3, h4, h5⟩ | ⟨h4, h5⟩)
    · exact ⟨a', b', h1, h2, by omega, h4, h5⟩
    · exact ⟨a, b, ha, hb, by omega, h4, h5⟩
theorem inM_row {n : Nat} {L : Nat → Sg} {t a : Nat} (P : Nat → Nat → Prop) : inM n L t a (nGr n L (t + 1) + 1) P ↔ inM n L t (a + 1) 0 P := by
  constructor
  · rintro ⟨a', b', h1, h2, h3, h4, h5⟩; exact ⟨a', b', h1, h2, by omega, h4, h5⟩
  · rintro ⟨a', b', h1, h2, h3, h4, h5⟩; exact ⟨a', b', h1, h2, by omega, h4, h5⟩
theorem inM_all {n : Nat} {L : Nat → Sg} {t : Nat} (Q : Nat → Nat → Nat → Prop) : (aP n L t Q ∨ inM n L t (nGr n L t + 1) 0 (Q t)) ↔ (aP n L (t + 1) Q ∨ inM n L (t + 1) 0 0 (Q (t + 1))) := by
  have z : ¬ inM n L (t + 1) 0 0 (Q (t + 1)) := by
    rintro ⟨a, b, -, -, h3, -⟩
    rcases h3 with w | w
    · exact absurd w (Nat.not_lt_zero _)
    · exact absurd w.2 (Nat.not_lt_zero _)
  constructor
  · rintro (⟨t', h1, a, b, h2⟩ | ⟨a, b, h1, h2, h3, h4, h5⟩)
    · exact Or.inl ⟨t', by omega, a, b, h2⟩
    · exact Or.inl ⟨t, by omega, a, b, h1, h2, h4, h5⟩
  · rintro (⟨t', h1, a, b, h2, h3, h4, h5⟩ | w)
    · by_cases e : t' = t
      · subst e; exact Or.inr ⟨a, b, h2, h3, by omega, h4, h5⟩
      · exact Or.inl ⟨t', by omega, a, b, h2, h3, h4, h5⟩
    · exact absurd w z
def EM (σ : MSt) (n : Nat) (L : Nat → Sg) (t a b : Nat) : Prop := ∃ es, MFa σ (fcN n L (nX n L + 1)) (eu_l es) ∧ ∀ e, e ∈ es ↔ aP n L t (QE n L e) ∨ inM n L t a b (QE n L e t)
theorem EM_fr {ks : List Nat} {σ σ' : MSt} {n : Nat} {L : Nat → Sg} {t a b : Nat} (h : EM σ n L t a b) (hf : mfr ks σ σ') (hk : 31 ∉ ks) : EM σ' n L t a b := by
  obtain ⟨es, h1, h2⟩ := h
  exact ⟨es, fun c hc => by rw [hf.gA 31 hk]; exact h1 c hc, h2⟩
theorem MCS.fr {ks : List Nat} {σ σ' : MSt} {n : Nat} {L : Nat → Sg} {S : Nat} (h : MCS σ n L S) (hf : mfr ks σ σ') (hk : 23 ∉ ks ∧ 27 ∉ ks ∧ 28 ∉ ks ∧ 29 ∉ ks ∧ 30 ∉ ks) : MCS σ' n L S := ⟨fun s hs => by rw [hf.gA 27 hk.2.1]; exact h.1 s hs, by rw [hf.gI 23 hk.1]; exact h.2.1, fun s hs g hg => by rw [hf.gA 28 hk.2.2.1, hf.gA 29 hk.2.2.2.1, hf.gA 30 hk.2.2.2.2]; exact h.2.2 s hs g hg⟩
/-- what is had in common by two cells, told -/
theorem commonC_e {N : Nat} {n : Nat} {L : Nat → Sg} (hL : LOk n L) {σ : MSt} (h : MLn σ n L) (hc : MCS σ n L (nX n L + 1)) {t a b : Nat} (ht : t < nX n L) (ha : a ≤ nGr n L t) (hb : b ≤ nGr n L (t + 1)) : ∃ σ1 σ2 σ3, F_wide N σ = some σ1 ∧ F_narrow N σ1 (i32 ((fcN n L t + a : Nat) : Int)) (i64 (xX n L t).num) (i64 ((xX n L t).den : Int)) = some σ2 ∧ F_narrow N σ2 (i32 ((fcN n L (t + 1) + b : Nat) : Int)) (i64 (xX n L t).num) (i64 ((xX n L t).den : Int)) = some σ3 ∧ mfr ksF σ σ1 ∧ mfr ksF σ σ2 ∧ mfr ksF σ σ3 ∧ MFT σ3 (loF (lwP n L t a b)) (hiF (hgP n L t a b)) := by
  have x1 := xX_fb hL ht
  obtain ⟨σ1, p1, p2, p3⟩ := wide_e N σ
  obtain ⟨σ2, q1, q2, q3⟩ := narrow_e (N := N) (h.fr p2 (by decide)) hL (hc.fr p2 (by decide)) p3 x1 (show t ≤ nX n L by omega) ha
  have f2 := p2.tr q2
  obtain ⟨σ3, u1, u2, u3⟩ := narrow_e (N := N) (h.fr f2 (by decide)) hL (hc.fr f2 (by decide)) q3 x1 (show t + 1 ≤ nX n L by omega) hb
  obtain ⟨l1, l2⟩ := lo_40 hL ha hb
  obtain ⟨h1, h2⟩ := hi_40 hL t a b
  rw [nwL_2 l1 l2, nwH_2 h1 h2] at u3
  exact ⟨σ1, σ2, σ3, p1, q1, u1, p2, f2, f2.tr u2, u3⟩
