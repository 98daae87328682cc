/-! PIECES AND PARTS: lists of pieces, labels; the component's -/
set_option maxRecDepth 100000
theorem eu_l_le (es : List EuE) : ∀ v, eu_l es v ≤ v := by
  induction es with
  | nil => intro v; exact Nat.le_refl _
  | cons e es ih =>
    intro v
    show eu_u (eu_l es) e v ≤ v
    unfold eu_u
    have := ih v
    split <;> omega
theorem eu_l_id (es : List EuE) : ∀ v, eu_l es (eu_l es v) = eu_l es v := by
  induction es with
  | nil => intro v; rfl
  | cons e es ih =>
    intro v
    show eu_u (eu_l es) e (eu_u (eu_l es) e v) = eu_u (eu_l es) e v
    have h1 := ih e.1
    have h2 := ih e.2
    have h3 := ih v
    unfold eu_u
    by_cases c : eu_l es v = max (eu_l es e.1) (eu_l es e.2)
    · rw [if_pos c]
      rcases Nat.le_total (eu_l es e.1) (eu_l es e.2) with q | q
      · rw [Nat.min_eq_left q, Nat.max_eq_right q, h1]
        split
        · rename_i w; exact Nat.min_eq_left q ▸ rfl
        · rfl
      · rw [Nat.min_eq_right q, Nat.max_eq_left q, h2]
        split
        · rfl
        · rfl
    · rw [if_neg c, h3, if_neg c]
def eu_R (es : List EuE) (a b : Nat) : Prop := ∀ f : Nat → Nat, (∀ e ∈ es, f e.1 = f e.2) → f a = f b
theorem eu_l_R {es : List EuE} : ∀ {a b : Nat}, eu_l es a = eu_l es b → eu_R es a b := by
  induction es with
  | nil => intro a b h f _; rw [show a = b from h]
  | cons x es ih =>
    intro a b h f hf
    have hf' : ∀ e ∈ es, f e.1 = f e.2 := fun e he => hf e (List.mem_cons_of_mem _ he)
    have hx := hf x (List.mem_cons_self ..)
    rcases eu_u_inv h with h | ⟨h1, h2⟩ | ⟨h1, h2⟩
    · exact ih h f hf'
    · rw [ih h1 f hf', ih h2 f hf', hx]
    · rw [ih h1 f hf', ih h2 f hf', hx]
theorem eu_R_l {es : List EuE} {a b : Nat} (h : eu_R es a b) : eu_l es a = eu_l es b := h _ (fun _ he => eu_l_edge he)
/-- labels come of what pieces there are, in whatever order -/
theorem eu_l_set {es es' : List EuE} (h : ∀ e, e ∈ es ↔ e ∈ es') (v : Nat) : eu_l es v = eu_l es' v := by
  have key : ∀ {es es' : List EuE}, (∀ e, e ∈ es ↔ e ∈ es') → eu_l es' v ≤ eu_l es v := by
    intro es es' h
    have r : eu_R es (eu_l es v) v := eu_l_R (eu_l_id es v)
    have r' : eu_R es' (eu_l es v) v := fun f hf => r f (fun e he => hf e ((h e).mp he))
    rw [← eu_R_l r']
    exact eu_l_le _ _
  exact Nat.le_antisymm (key (fun e => (h e).symm)) (key h)
theorem cn_ins {f : Nat → Bool} {M a : Nat} (ha : a < M) (hf : f a = false) : cn (fun i => f i || decide (i = a)) M = cn f M + 1 := by
  induction M with
  | zero => omega
  | succ M ih =>
    unfold cn
    by_cases e : a = M
    · subst e
      rw [cn_cong (f := fun i => f i || decide (i = a)) (g := f) (fun i hi => by simp [show ¬ i = a by omega]), hf]
      simp
    · rw [ih (by omega)]
      simp only [show ¬ M = a from fun z => e z.symm, decide_false, Bool.or_false]
      omega
theorem cn_del {f : Nat → Bool} {M a : Nat} (ha : a < M) (hf : f a = true) : cn (fun i => f i && !decide (i = a)) M + 1 = cn f M := by
  induction M with
  | zero => omega
  | succ M ih =>
    unfold cn
    by_cases e : a = M
    · subst e
      rw [cn_cong (f := fun i => f i && !decide (i = a)) (g := f) (fun i hi => by simp [show ¬ i = a by omega]), hf]
      simp
    · have := ih (by omega)
      simp only [show ¬ M = a from fun z => e z.symm, decide_false, Bool.not_false, Bool.and_true]
      omega
/-- so many labels as there are vertices but for the tying pieces -/
theorem eu_roots {V : Nat} {es : List EuE} (h : ∀ e ∈ es, e.1 < V ∧ e.2 < V) : cn (fun v => decide (eu_l es v = v)) V + eu_t es = V := by
  induction es with
  | nil =>
    have : ∀ V, cn (fun v => decide (eu_l [] v = v)) V = V := by
      intro V
      induction V with
      | zero => rfl
      | succ V ih => unfold cn; rw [ih]; simp [eu_l]
    rw [this]; rfl
  | cons e es ih =>
    have h1 := h e (List.mem_cons_self ..)
    have ih := ih (fun e he => h e (List.mem_cons_of_mem _ he))
    unfold eu_t
    by_cases c : eu_l es e.1 = eu_l es e.2
    · rw [if_pos c]
      have : eu_l (e :: es) = eu_l es := eu_u_same c
      rw [this]; exact ih
    · rw [if_neg c]
      have i1 := eu_l_id es e.1
      have i2 := eu_l_id es e.2
      have l1 := eu_l_le es e.1
      have l2 := eu_l_le es e.2
      have key : ∀ v, decide (eu_l (e :: es) v = v) = (decide (eu_l es v = v) && !decide (v = max (eu_l es e.1) (eu_l es e.2))) := by
        intro v
        have i3 := eu_l_id es v
        show decide (eu_u (eu_l es) e v = v) = _
        unfold eu_u
        by_cases q : eu_l es v = max (eu_l es e.1) (eu_l es e.2)
        · rw [if_pos q]
          have n1 : ¬ min (eu_l es e.1) (eu_l es e.2) = v := by
            intro z
            have : eu_l es v = v := by
              rw [← z]
              rcases Nat.le_total (eu_l es e.1) (eu_l es e.2) with w | w
              · rw [Nat.min_eq_left w, i1]
              · rw [Nat.min_eq_right w, i2]
            omega
          rw [decide_eq_false n1]
          by_cases r : eu_l es v = v
          · have : v = max (eu_l es e.1) (eu_l es e.2) := r.symm.trans q
            simp [← this]
          · simp [r]
        · rw [if_neg q]
          by_cases r : eu_l es v = v
          · have : ¬ v = max (eu_l es e.1) (eu_l es e.2) := fun z => q (r.trans z)
            simp [r, this]
          · simp [r]
      have hmax : decide (eu_l es (max (eu_l es e.1) (eu_l es e.2)) = max (eu_l es e.1) (eu_l es e.2)) = true := by
        rw [decide_eq_true_iff]
        rcases Nat.le_total (eu_l es e.1) (eu_l es e.2) with w | w
        · rw [Nat.max_eq_right w, i2]
        · rw [Nat.max_eq_left w, i1]
      have := cn_del (f := fun v => decide (eu_l es v = v)) (M := V) (a := max (eu_l es e.1) (eu_l es e.2)) (by omega) hmax
      rw [cn_cong (fun v _ => key v)]
      omega
/-! the pieces of lines -/
def lst (f : Nat → Bool) : Nat → Option Nat
  | 0 => none
  | p + 1 => if f p then some p else lst f p
def pcE (f : Nat → Bool) (es : List EuE) : Nat → List EuE
  | 0 => es
  | p + 1 => if f p then (match lst f p with | none => pcE f es p | some a => (a, p) :: pcE f es p) else pcE f es p
def pcA (L : Nat → Sg) (x : Nat × (Nat → Pt)) : Nat → List EuE
  | 0 => []
  | k + 1 => pcE (fun p => onB (L k) (x.2 p)) (pcA L x k) x.1
theorem lst_e {f : Nat → Bool} : ∀ {n a : Nat}, lst f n = some a ↔ a < n ∧ f a = true ∧ ∀ r, a < r → r < n → f r = false := by
  intro n
  induction n with
  | zero => intro a; simp [lst]
  | succ n ih =>
    intro a
    unfold lst
    by_cases c : f n = true
    · rw [if_pos c]
      constructor
      · intro h; cases h; exact ⟨by omega, c, fun r h1 h2 => by omega⟩
      · rintro ⟨h1, h2, h3⟩
        by_cases e : a = n
        · rw [e]
        · have := h3 n (by omega) (by omega); rw [c] at this; cases this
    · rw [if_neg c, ih]
      constructor
      · rintro ⟨h1, h2, h3⟩
        refine ⟨by omega, h2, fun r r1 r2 => ?_⟩
        by_cases e : r = n
        · rw [e]; simpa using c
        · exact h3 r r1 (by omega)
      · rintro ⟨h1, h2, h3⟩
        have : a ≠ n := fun z => c (z ▸ h2)
        exact ⟨by omega, h2, fun r r1 r2 => h3 r r1 (by omega)⟩
theorem lst_n {f : Nat → Bool} {n : Nat} : lst f n = none ↔ ∀ r, r < n → f r = false := by
  induction n with
  | zero => simp [lst]
  | succ n ih =>
    unfold lst
    by_cases c : f n = true
    · rw [if_pos c]
      constructor
      · intro h; cases h
      · intro h; have := h n (by omega); rw [c] at this; cases this
    · rw [if_neg c, ih]
      constructor
      · intro h r hr
        by_cases e : r = n
        · rw [e]; simpa using c
        · exact h r (by omega)
      · intro h r hr; exact h r (by omega)
/-- two one behind another of those of which f says so -/
def cons2 (f : Nat → Bool) (n : Nat) (e : EuE) : Prop := e.1 < e.2 ∧ e.2 < n ∧ f e.1 = true ∧ f e.2 = true ∧ ∀ r, e.1 < r → r < e.2 → f r = false
theorem pcE_mem {f : Nat → Bool} {es : List EuE} {e : EuE} : ∀ {n : Nat}, e ∈ pcE f es n ↔ e ∈ es ∨ cons2 f n e := by
  intro n
  induction n with
  | zero => unfold pcE cons2; simp
  | succ n ih =>
    unfold pcE
    have mono : cons2 f n e → cons2 f (n + 1) e := fun ⟨a, b, c⟩ => ⟨a, by omega, c⟩
    by_cases c : f n = true
    · rw [if_pos c]
      cases hl : lst f n with
      | none =>
        simp only
        rw [ih]
        constructor
        · rintro (h | h)
          · exact Or.inl h
          · exact Or.inr (mono h)
        · rintro (h | ⟨h1, h2, h3, h4, h5⟩)
          · exact Or.inl h
          · by_cases q : e.2 = n
            · have := lst_n.mp hl e.1 (by omega); rw [h3] at this; cases this
            · exact Or.inr ⟨h1, by omega, h3, h4, h5⟩
      | some a =>
        simp only
        obtain ⟨l1, l2, l3⟩ := lst_e.mp hl
        rw [List.mem_cons, ih]
        constructor
        · rintro (h | h | h)
          · right; rw [h]; exact ⟨l1, by show n < n + 1; omega, l2, c, l3⟩
          · exact Or.inl h
          · exact Or.inr (mono h)
        · rintro (h | ⟨h1, h2, h3, h4, h5⟩)
          · exact Or.inr (Or.inl h)
          · by_cases q : e.2 = n
            · left
              have : e.1 = a := by
                rcases Nat.lt_trichotomy e.1 a with w | w | w
                · have := h5 a w (by omega); rw [l2] at this; cases this
                · exact w
                · have := l3 e.1 w (by omega); rw [h3] at this; cases this
              exact Prod.ext this q
            · exact Or.inr (Or.inr ⟨h1, by omega, h3, h4, h5⟩)
    · rw [if_neg c, ih]
      constructor
      · rintro (h | h)
        · exact Or.inl h
        · exact Or.inr (mono h)
      · rintro (h | ⟨h1, h2, h3, h4, h5⟩)
        · exact Or.inl h
        · have : e.2 ≠ n := fun z => c (z ▸ h4)
          exact Or.inr ⟨h1, by omega, h3, h4, h5⟩
theorem pcA_mem {L : Nat → Sg} {x : Nat × (Nat → Pt)} {e : EuE} : ∀ {n : Nat}, e ∈ pcA L x n ↔ ∃ l, l < n ∧ cons2 (fun p => onB (L l) (x.2 p)) x.1 e := by
  intro n
  induction n with
  | zero => unfold pcA; simp
  | succ n ih =>
    unfold pcA
    rw [pcE_mem, ih]
    constructor
    · rintro (⟨l, h1, h2⟩ | h)
      · exact ⟨l, by omega, h2⟩
      · exact ⟨n, by omega, h⟩
    · rintro ⟨l, h1, h2⟩
      by_cases q : l = n
      · right; rw [← q]; exact h2
      · left; exact ⟨l, by omega, h2⟩
theorem pcA_lt {L : Nat → Sg} {x : Nat × (Nat → Pt)} {n : Nat} : ∀ e ∈ pcA L x n, e.1 < x.1 ∧ e.2 < x.1 := fun e he => by
  obtain ⟨l, -, h1, h2, -⟩ := pcA_mem.mp he
  omega
/-! pieces as a set of numbers -/
def sE : List EuE → Nat → Bool
  | [] => fun _ => false
  | e :: es => fun i => sE es i || decide (i = 65 * e.1 + e.2)
theorem sE_mem {es : List EuE} {i : Nat} : sE es i = true ↔ ∃ e ∈ es, i = 65 * e.1 + e.2 := by
  induction es with
  | nil => simp [sE]
  | cons x es ih => simp [sE, ih, List.mem_cons, or_comm]
theorem sE_cn {es : List EuE} (h : ∀ e ∈ es, e.1 < 65 ∧ e.2 < 65) : cn (sE es) 4288 = eu_d es := by
  induction es with
  | nil => exact cn_z (fun _ _ => rfl)
  | cons x es ih =>
    have hx := h x (List.mem_cons_self ..)
    have ih := ih (fun e he => h e (List.mem_cons_of_mem _ he))
    unfold eu_d
    by_cases c : x ∈ es
    · rw [if_pos c, ← ih]
      refine cn_cong (fun i _ => ?_)
      show (sE es i || decide (i = 65 * x.1 + x.2)) = sE es i
      by_cases q : i = 65 * x.1 + x.2
      · have : sE es i = true := sE_mem.mpr ⟨x, c, q⟩
        rw [this]; rfl
      · simp [q]
    · rw [if_neg c, ← ih]
      refine cn_ins (by omega) ?_
      cases hs : sE es (65 * x.1 + x.2) with
      | false => rfl
      | true =>
        obtain ⟨e, he, q⟩ := sE_mem.mp hs
        have he' := h e (List.mem_cons_of_mem _ he)
        exact absurd (show x ∈ es by rw [show x = e from Prod.ext (by omega) (by omega)]; exact he) c
theorem sE_set {es es' : List EuE} (h : ∀ e, e ∈ es ↔ e ∈ es') : sE es = sE es' := by
  funext i
  have : sE es i = true ↔ sE es' i = true := by
    rw [sE_mem, sE_mem]
    constructor
    · rintro ⟨e, a, b⟩; exact ⟨e, (h e).mp a, b⟩
    · rintro ⟨e, a, b⟩; exact ⟨e, (h e).mpr a, b⟩
  cases a : sE es i <;> cases b : sE es' i <;> simp [a, b] at this ⊢
theorem eu_d_set {es es' : List EuE} (h : ∀ e, e ∈ es ↔ e ∈ es') (hb : ∀ e ∈ es, e.1 < 65 ∧ e.2 < 65) : eu_d es = eu_d es' := by
  rw [← sE_cn hb, ← sE_cn (es := es') (fun e he => hb e ((h e).mpr he)), sE_set h]
