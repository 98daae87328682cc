/-! EULER, no program in sight: chains of pairs, spanning forests, the count of faces -/
set_option maxRecDepth 100000
abbrev EuE : Type := Nat × Nat
/-- how many ends of a chain satisfy P -/
def eu_n (P : Nat → Bool) : List EuE → Nat
  | [] => 0
  | e :: J => (P e.1).toNat + (P e.2).toNat + eu_n P J
def eu_v (v : Nat) : Nat → Bool := fun u => decide (u = v)
def eu_z (J : List EuE) : Prop := ∀ v, eu_n (eu_v v) J % 2 = 0
theorem eu_n_app (P : Nat → Bool) (J K : List EuE) : eu_n P (J ++ K) = eu_n P J + eu_n P K := by
  induction J with
  | nil => simp [eu_n]
  | cons e J ih => simp only [List.cons_append, eu_n, ih]; omega
theorem eu_n_even {P : Nat → Bool} {J : List EuE} (h : ∀ e ∈ J, P e.1 = P e.2) : eu_n P J % 2 = 0 := by
  induction J with
  | nil => rfl
  | cons e J ih =>
    have h1 := h e (List.mem_cons_self ..)
    have h2 := ih (fun e he => h e (List.mem_cons_of_mem _ he))
    simp only [eu_n, h1]
    omega
def eu_s : Nat → (Nat → Nat) → Nat
  | 0, _ => 0
  | n + 1, g => eu_s n g + g n
theorem eu_s_add (n : Nat) (f g : Nat → Nat) : eu_s n (fun v => f v + g v) = eu_s n f + eu_s n g := by
  induction n with
  | zero => rfl
  | succ n ih => simp only [eu_s, ih]; omega
theorem eu_s_ev {n : Nat} {g : Nat → Nat} (h : ∀ v, v < n → g v % 2 = 0) : eu_s n g % 2 = 0 := by
  induction n with
  | zero => rfl
  | succ n ih =>
    have h1 := ih (fun v hv => h v (by omega))
    have h2 := h n (by omega)
    simp only [eu_s]; omega
theorem eu_s_cong {n : Nat} {f g : Nat → Nat} (h : ∀ v, v < n → f v = g v) : eu_s n f = eu_s n g := by
  induction n with
  | zero => rfl
  | succ n ih =>
    simp only [eu_s]
    rw [ih (fun v hv => h v (by omega)), h n (by omega)]
theorem eu_s_zero {n : Nat} {g : Nat → Nat} (h : ∀ v, v < n → g v = 0) : eu_s n g = 0 := by
  induction n with
  | zero => rfl
  | succ n ih =>
    simp only [eu_s]
    rw [ih (fun v hv => h v (by omega)), h n (by omega)]
theorem eu_s_one {n a : Nat} (P : Nat → Bool) (h : a < n) : eu_s n (fun v => if P v then (eu_v v a).toNat else 0) = (P a).toNat := by
  induction n with
  | zero => omega
  | succ n ih =>
    simp only [eu_s]
    by_cases e : a = n
    · subst e
      rw [eu_s_zero (fun v hv => by simp [eu_v, show ¬ a = v by omega])]
      cases hp : P a <;> simp [eu_v]
    · rw [ih (by omega)]
      simp [eu_v, e]
theorem eu_n_sm {n : Nat} (P : Nat → Bool) {J : List EuE} (h : ∀ e ∈ J, e.1 < n ∧ e.2 < n) : eu_s n (fun v => if P v then eu_n (eu_v v) J else 0) = eu_n P J := by
  induction J with
  | nil =>
    show _ = 0
    exact eu_s_zero (fun v _ => by simp [eu_n])
  | cons e J ih =>
    have h1 := h e (List.mem_cons_self ..)
    have e1 : (fun v => if P v then eu_n (eu_v v) (e :: J) else 0) = fun v => ((if P v then (eu_v v e.1).toNat else 0) + (if P v then (eu_v v e.2).toNat else 0)) + (if P v then eu_n (eu_v v) J else 0) := by
      funext v
      by_cases hp : P v <;> simp [hp, eu_n]
    rw [e1, eu_s_add, eu_s_add, eu_s_one P h1.1, eu_s_one P h1.2, ih (fun e he => h e (List.mem_cons_of_mem _ he))]
    rfl
theorem eu_z_any {n : Nat} (P : Nat → Bool) {J : List EuE} (h : ∀ e ∈ J, e.1 < n ∧ e.2 < n) (hc : eu_z J) : eu_n P J % 2 = 0 := by
  rw [← eu_n_sm P h]
  refine eu_s_ev (fun v _ => ?_)
  by_cases hp : P v
  · simp only [hp]; exact hc v
  · simp [hp]
/-- labels: two ends of one label become one -/
def eu_u (l : Nat → Nat) (e : EuE) : Nat → Nat := fun v => if l v = max (l e.1) (l e.2) then min (l e.1) (l e.2) else l v
def eu_l : List EuE → Nat → Nat
  | [] => fun v => v
  | e :: es => eu_u (eu_l es) e
theorem eu_u_same {l : Nat → Nat} {e : EuE} (h : l e.1 = l e.2) : eu_u l e = l := by
  funext v
  unfold eu_u
  rw [h, Nat.max_self, Nat.min_self]
  split
  · rename_i q; exact q.symm
  · rfl
theorem eu_u_ends (l : Nat → Nat) (e : EuE) : eu_u l e e.1 = eu_u l e e.2 := by
  unfold eu_u
  rcases Nat.le_total (l e.1) (l e.2) with h | h
  · rw [Nat.max_eq_right h, Nat.min_eq_left h]
    by_cases q : l e.1 = l e.2
    · simp [q]
    · simp [q]
  · rw [Nat.max_eq_left h, Nat.min_eq_right h]
    by_cases q : l e.2 = l e.1
    · simp [q]
    · simp [q]
theorem eu_u_cong {l : Nat → Nat} {e : EuE} {a b : Nat} (h : l a = l b) : eu_u l e a = eu_u l e b := by unfold eu_u; rw [h]
/-- of one label after it: of one label before it, or tied by it -/
theorem eu_u_inv {l : Nat → Nat} {e : EuE} {a b : Nat} (h : eu_u l e a = eu_u l e b) : l a = l b ∨ (l a = l e.1 ∧ l b = l e.2) ∨ (l a = l e.2 ∧ l b = l e.1) := by
  unfold eu_u at h
  rcases Nat.le_total (l e.1) (l e.2) with q | q
  · rw [Nat.max_eq_right q, Nat.min_eq_left q] at h
    by_cases h1 : l a = l e.2
    · by_cases h2 : l b = l e.2
      · exact Or.inl (h1.trans h2.symm)
      · rw [if_pos h1, if_neg h2] at h
        exact Or.inr (Or.inr ⟨h1, h.symm⟩)
    · by_cases h2 : l b = l e.2
      · rw [if_neg h1, if_pos h2] at h
        exact Or.inr (Or.inl ⟨h, h2⟩)
      · rw [if_neg h1, if_neg h2] at h
        exact Or.inl h
  · rw [Nat.max_eq_left q, Nat.min_eq_right q] at h
    by_cases h1 : l a = l e.1
    · by_cases h2 : l b = l e.1
      · exact Or.inl (h1.trans h2.symm)
      · rw [if_pos h1, if_neg h2] at h
        exact Or.inr (Or.inl ⟨h1, h.symm⟩)
    · by_cases h2 : l b = l e.1
      · rw [if_neg h1, if_pos h2] at h
        exact Or.inr (Or.inr ⟨h, h2⟩)
      · rw [if_neg h1, if_neg h2] at h
        exact Or.inl h
theorem eu_l_edge {es : List EuE} {e : EuE} (h : e ∈ es) : eu_l es e.1 = eu_l es e.2 := by
  induction es with
  | nil => cases h
  | cons x es ih =>
    rcases List.mem_cons.mp h with rfl | h
    · exact eu_u_ends _ _
    · exact eu_u_cong (ih h)
/-- what is tied by a chain -/
def eu_c (es : List EuE) (p q : Nat) : Prop := ∃ J : List EuE, (∀ e ∈ J, e ∈ es) ∧ ∀ v, eu_n (eu_v v) J % 2 = ((eu_v v p).toNat + (eu_v v q).toNat) % 2
theorem eu_c.rf (es : List EuE) (p : Nat) : eu_c es p p := ⟨[], fun e h => (List.not_mem_nil h).elim, fun v => by show 0 % 2 = _; omega⟩
theorem eu_c.sy {es : List EuE} {p q : Nat} (h : eu_c es p q) : eu_c es q p := by
  obtain ⟨J, h1, h2⟩ := h
  exact ⟨J, h1, fun v => by rw [h2 v, Nat.add_comm]⟩
theorem eu_c.tr {es : List EuE} {p q r : Nat} (h : eu_c es p q) (h' : eu_c es q r) : eu_c es p r := by
  obtain ⟨J, h1, h2⟩ := h
  obtain ⟨K, k1, k2⟩ := h'
  refine ⟨J ++ K, fun e he => (List.mem_append.mp he).elim (h1 e) (k1 e), fun v => ?_⟩
  have a := h2 v
  have b := k2 v
  rw [eu_n_app]
  omega
theorem eu_c.mono {es : List EuE} {x : EuE} {p q : Nat} (h : eu_c es p q) : eu_c (x :: es) p q := by
  obtain ⟨J, h1, h2⟩ := h
  exact ⟨J, fun e he => List.mem_cons_of_mem _ (h1 e he), h2⟩
theorem eu_c.edge (es : List EuE) (x : EuE) : eu_c (x :: es) x.1 x.2 := ⟨[x], fun e he => by rw [List.mem_singleton.mp he]; exact List.mem_cons_self .., fun v => by simp [eu_n]⟩
theorem eu_l_chn {es : List EuE} : ∀ {p q : Nat}, eu_l es p = eu_l es q → eu_c es p q := by
  induction es with
  | nil => intro p q h; have : p = q := h; subst this; exact eu_c.rf _ _
  | cons x es ih =>
    intro p q h
    rcases eu_u_inv h with h | ⟨h1, h2⟩ | ⟨h1, h2⟩
    · exact (ih h).mono
    · exact ((ih h1).mono.tr (eu_c.edge es x)).tr (ih h2).mono.sy
    · exact ((ih h1).mono.tr (eu_c.edge es x).sy).tr (ih h2).mono.sy
/-- those that close a ring; those that tie two -/
def eu_k : List EuE → List EuE
  | [] => []
  | e :: es => if e ∈ es then eu_k es else if eu_l es e.1 = eu_l es e.2 then e :: eu_k es else eu_k es
def eu_t : List EuE → Nat
  | [] => 0
  | e :: es => if eu_l es e.1 = eu_l es e.2 then eu_t es else eu_t es + 1
def eu_d : List EuE → Nat
  | [] => 0
  | e :: es => if e ∈ es then eu_d es else eu_d es + 1
theorem eu_d_e (es : List EuE) : eu_d es = eu_t es + (eu_k es).length := by
  induction es with
  | nil => rfl
  | cons e es ih =>
    unfold eu_d eu_t eu_k
    by_cases h : e ∈ es
    · rw [if_pos h, if_pos h, if_pos (eu_l_edge h), ih]
    · rw [if_neg h, if_neg h]
      by_cases q : eu_l es e.1 = eu_l es e.2
      · rw [if_pos q, if_pos q, ih]; simp; omega
      · rw [if_neg q, if_neg q, ih]; omega
theorem eu_k_sub {es : List EuE} {e : EuE} (h : e ∈ eu_k es) : e ∈ es := by
  induction es with
  | nil => exact h
  | cons x es ih =>
    unfold eu_k at h
    by_cases q : x ∈ es
    · rw [if_pos q] at h; exact List.mem_cons_of_mem _ (ih h)
    · rw [if_neg q] at h
      by_cases r : eu_l es x.1 = eu_l es x.2
      · rw [if_pos r] at h
        rcases List.mem_cons.mp h with rfl | h
        · exact List.mem_cons_self ..
        · exact List.mem_cons_of_mem _ (ih h)
      · rw [if_neg r] at h; exact List.mem_cons_of_mem _ (ih h)
theorem eu_k_nd (es : List EuE) : (eu_k es).Nodup := by
  induction es with
  | nil => exact List.nodup_nil
  | cons x es ih =>
    unfold eu_k
    by_cases q : x ∈ es
    · rw [if_pos q]; exact ih
    · rw [if_neg q]
      by_cases r : eu_l es x.1 = eu_l es x.2
      · rw [if_pos r]; exact List.nodup_cons.mpr ⟨fun z => q (eu_k_sub z), ih⟩
      · rw [if_neg r]; exact ih
theorem eu_tie_even {n : Nat} {es J : List EuE} {x : EuE} (hn : ∀ e ∈ x :: es, e.1 < n ∧ e.2 < n) (hJ : ∀ e ∈ J, e ∈ x :: es) (hc : eu_z J) (h : ¬ eu_l es x.1 = eu_l es x.2) : J.count x % 2 = 0 := by
  have key : ∀ K : List EuE, (∀ e ∈ K, e ∈ x :: es) → eu_n (fun v => decide (eu_l es v = eu_l es x.1)) K % 2 = K.count x % 2 := by
    intro K
    induction K with
    | nil => intro _; rfl
    | cons y K ih =>
      intro hK
      have h1 := ih (fun e he => hK e (List.mem_cons_of_mem _ he))
      by_cases e : y = x
      · subst e
        rw [List.count_cons_self]
        have h2 : ¬ eu_l es y.2 = eu_l es y.1 := fun z => h z.symm
        simp only [eu_n, h2, decide_true, decide_false, Bool.toNat_true, Bool.toNat_false]
        omega
      · rw [List.count_cons_of_ne (fun z => e z)]
        have h2 : y ∈ es := (List.mem_cons.mp (hK y (List.mem_cons_self ..))).resolve_left e
        simp only [eu_n, eu_l_edge h2]
        omega
  rw [← key J hJ]
  exact eu_z_any _ (fun e he => hn e (hJ e he)) hc
theorem eu_n_filter (P : Nat → Bool) (x : EuE) (J : List EuE) : eu_n P J = eu_n P (J.filter (fun e => decide (e ≠ x))) + J.count x * ((P x.1).toNat + (P x.2).toNat) := by
  induction J with
  | nil => simp [eu_n]
  | cons y J ih =>
    by_cases e : y = x
    · subst e
      rw [List.count_cons_self, List.filter_cons_of_neg (by simp), eu_n, ih, Nat.add_mul]
      omega
    · rw [List.count_cons_of_ne (fun z => e z), List.filter_cons_of_pos (by simpa using e), eu_n, eu_n, ih]
      omega
/-- a eu_z chain that has none of the closing ones is nothing -/
theorem eu_z_inj {n : Nat} {es : List EuE} (hn : ∀ e ∈ es, e.1 < n ∧ e.2 < n) : ∀ J : List EuE, (∀ e ∈ J, e ∈ es) → eu_z J → (∀ e ∈ eu_k es, J.count e % 2 = 0) → ∀ e, J.count e % 2 = 0 := by
  induction es with
  | nil =>
    intro J hJ _ _ e
    cases J with
    | nil => rfl
    | cons y J => exact (List.not_mem_nil (hJ y (List.mem_cons_self ..))).elim
  | cons x es ih =>
    intro J hJ hc hz
    have hn' : ∀ e ∈ es, e.1 < n ∧ e.2 < n := fun e he => hn e (List.mem_cons_of_mem _ he)
    by_cases q : x ∈ es
    · have : eu_k (x :: es) = eu_k es := by show (if x ∈ es then _ else _) = _; rw [if_pos q]
      rw [this] at hz
      refine ih hn' J (fun e he => ?_) hc hz
      rcases List.mem_cons.mp (hJ e he) with rfl | h
      · exact q
      · exact h
    · have hx : J.count x % 2 = 0 := by
        by_cases r : eu_l es x.1 = eu_l es x.2
        · have : eu_k (x :: es) = x :: eu_k es := by show (if x ∈ es then _ else _) = _; rw [if_neg q, if_pos r]
          rw [this] at hz
          exact hz x (List.mem_cons_self ..)
        · exact eu_tie_even hn hJ hc r
      have hsub : ∀ e ∈ J.filter (fun e => decide (e ≠ x)), e ∈ es := by
        intro e he
        obtain ⟨h1, h2⟩ := List.mem_filter.mp he
        have h2 : e ≠ x := by simpa using h2
        exact (List.mem_cons.mp (hJ e h1)).resolve_left h2
      have hcl : eu_z (J.filter (fun e => decide (e ≠ x))) := by
        intro v
        have h1 := eu_n_filter (eu_v v) x J
        have h2 := hc v
        obtain ⟨k, hk⟩ : ∃ k, J.count x = 2 * k := ⟨J.count x / 2, by omega⟩
        rw [hk, Nat.mul_assoc] at h1
        omega
      have hct : ∀ e, e ≠ x → (J.filter (fun e => decide (e ≠ x))).count e = J.count e := fun e he => List.count_filter (by simpa using he)
      have hcs : ∀ e ∈ eu_k es, e ∈ eu_k (x :: es) := by
        intro e he
        show e ∈ (if x ∈ es then _ else _)
        rw [if_neg q]
        by_cases r : eu_l es x.1 = eu_l es x.2
        · rw [if_pos r]; exact List.mem_cons_of_mem _ he
        · rw [if_neg r]; exact he
      have hne : ∀ e ∈ es, e ≠ x := fun e he z => q (z ▸ he)
      intro e
      by_cases ex : e = x
      · rw [ex]; exact hx
      · rw [← hct e ex]
        exact ih hn' _ hsub hcl (fun e he => by rw [hct e (hne e (eu_k_sub he))]; exact hz e (hcs e he)) e
/-- eu_z chains may be had with any of the closing ones -/
theorem eu_z_sur (es : List EuE) : ∀ t : EuE → Nat, ∃ J : List EuE, (∀ e ∈ J, e ∈ es) ∧ eu_z J ∧ ∀ e ∈ eu_k es, J.count e % 2 = t e % 2 := by
  induction es with
  | nil => intro t; exact ⟨[], fun e h => h, fun v => rfl, fun e h => (List.not_mem_nil h).elim⟩
  | cons x es ih =>
    intro t
    by_cases q : x ∈ es
    · obtain ⟨J, h1, h2, h3⟩ := ih t
      refine ⟨J, fun e he => List.mem_cons_of_mem _ (h1 e he), h2, fun e he => h3 e ?_⟩
      have : eu_k (x :: es) = eu_k es := by show (if x ∈ es then _ else _) = _; rw [if_pos q]
      rw [← this]; exact he
    · by_cases r : eu_l es x.1 = eu_l es x.2
      · have hcl : eu_k (x :: es) = x :: eu_k es := by show (if x ∈ es then _ else _) = _; rw [if_neg q, if_pos r]
        obtain ⟨K, k1, k2⟩ := eu_l_chn r
        by_cases tx : t x % 2 = 0
        · obtain ⟨J, h1, h2, h3⟩ := ih t
          refine ⟨J, fun e he => List.mem_cons_of_mem _ (h1 e he), h2, fun e he => ?_⟩
          rw [hcl] at he
          rcases List.mem_cons.mp he with rfl | he
          · rw [List.count_eq_zero.mpr (fun z => q (h1 _ z))]; omega
          · exact h3 e he
        · obtain ⟨J, h1, h2, h3⟩ := ih (fun e => t e + K.count e)
          refine ⟨J ++ x :: K, fun e he => ?_, fun v => ?_, fun e he => ?_⟩
          · rcases List.mem_append.mp he with he | he
            · exact List.mem_cons_of_mem _ (h1 e he)
            · rcases List.mem_cons.mp he with rfl | he
              · exact List.mem_cons_self ..
              · exact List.mem_cons_of_mem _ (k1 e he)
          · have a := h2 v
            have b := k2 v
            rw [eu_n_app, eu_n]
            omega
          · rw [hcl] at he
            rw [List.count_append]
            rcases List.mem_cons.mp he with rfl | he
            · rw [List.count_cons_self, List.count_eq_zero.mpr (fun z => q (h1 _ z)), List.count_eq_zero.mpr (fun z => q (k1 _ z))]
              omega
            · have hne : e ≠ x := fun z => q (z ▸ eu_k_sub he)
              rw [List.count_cons_of_ne (fun z => hne z.symm)]
              have := h3 e he
              omega
      · obtain ⟨J, h1, h2, h3⟩ := ih t
        refine ⟨J, fun e he => List.mem_cons_of_mem _ (h1 e he), h2, fun e he => h3 e ?_⟩
        have : eu_k (x :: es) = eu_k es := by show (if x ∈ es then _ else _) = _; rw [if_neg q, if_neg r]
        rw [← this]; exact he
/-- of so many pigeons -/
theorem eu_pigeon : ∀ (k m : Nat) (f : Nat → Nat), (∀ i, i < m → f i < k) → (∀ i j, i < m → j < m → f i = f j → i = j) → m ≤ k := by
  intro k
  induction k with
  | zero =>
    intro m f h _
    rcases Nat.eq_zero_or_pos m with h0 | h0
    · omega
    · have := h 0 h0; omega
  | succ k ih =>
    intro m f h hi
    rcases Nat.eq_zero_or_pos m with h0 | h0
    · omega
    · obtain ⟨m, rfl⟩ : ∃ j, m = j + 1 := ⟨m - 1, by omega⟩
      -- what goes to f m's place is sent where k would be
      have := ih m (fun i => if f i = k then f m else f i) (fun i hi' => by
        have h1 := h i (by omega)
        have h2 := h m (by omega)
        by_cases e : f i = k
        · simp only [e, if_true]
          have : f m ≠ k := fun z => by have := hi i m (by omega) (by omega) (e.trans z.symm); omega
          omega
        · simp only [e, if_false]; omega) (fun i j hi' hj' e => by
        by_cases e1 : f i = k <;> by_cases e2 : f j = k
        · exact hi i j (by omega) (by omega) (e1.trans e2.symm)
        · simp only [e1, e2, if_true, if_false] at e
          have := hi m j (by omega) (by omega) e; omega
        · simp only [e1, e2, if_true, if_false] at e
          have := hi i m (by omega) (by omega) e; omega
        · simp only [e1, e2, if_false] at e
          exact hi i j (by omega) (by omega) e)
      omega
/-- a number out of bits -/
def eu_e : Nat → (Nat → Bool) → Nat
  | 0, _ => 0
  | n + 1, g => eu_e n g + (g n).toNat * 2 ^ n
theorem eu_e_lt (n : Nat) (g : Nat → Bool) : eu_e n g < 2 ^ n := by
  induction n with
  | zero => show 0 < 1; omega
  | succ n ih =>
    show eu_e n g + (g n).toNat * 2 ^ n < 2 ^ (n + 1)
    rw [Nat.pow_succ]
    cases g n <;> simp <;> omega
theorem eu_e_inj {n : Nat} {f g : Nat → Bool} (h : eu_e n f = eu_e n g) : ∀ i, i < n → f i = g i := by
  induction n with
  | zero => intro i hi; omega
  | succ n ih =>
    have h1 := eu_e_lt n f
    have h2 := eu_e_lt n g
    have h3 : eu_e n f + (f n).toNat * 2 ^ n = eu_e n g + (g n).toNat * 2 ^ n := h
    have e : f n = g n := by
      cases a : f n <;> cases b : g n <;> simp [a, b] at h3 ⊢ <;> omega
    rw [e] at h3
    intro i hi
    by_cases q : i = n
    · rw [q]; exact e
    · exact ih (by omega) i (by omega)
theorem eu_bits_le {m k : Nat} (φ : (Nat → Bool) → Nat → Bool) (h : ∀ f g : Nat → Bool, (∀ i, i < k → φ f i = φ g i) → ∀ i, i < m → f i = g i) : m ≤ k := by
  have := eu_pigeon (2 ^ k) (2 ^ m) (fun x => eu_e k (φ x.testBit)) (fun x _ => eu_e_lt _ _) (fun x y hx hy e => by
    have h1 := h _ _ (eu_e_inj e)
    refine Nat.eq_of_testBit_eq (fun i => ?_)
    by_cases q : i < m
    · exact h1 i q
    · have hp : 2 ^ m ≤ 2 ^ i := Nat.pow_le_pow_right (by decide) (by omega)
      rw [Nat.testBit_lt_two_pow (by omega), Nat.testBit_lt_two_pow (by omega)])
  exact (Nat.pow_le_pow_iff_right (by decide : 1 < 2)).mp this
/-- what a chain has of the pieces of a list -/
def eu_p (J B : List EuE) : Nat := (B.map (fun e => J.count e)).sum
theorem eu_p_app (J K B : List EuE) : eu_p (J ++ K) B = eu_p J B + eu_p K B := by
  unfold eu_p
  induction B with
  | nil => rfl
  | cons e B ih => simp only [List.map_cons, List.sum_cons, List.count_append] at ih ⊢; omega
theorem eu_p_ev {J : List EuE} (h : ∀ e, J.count e % 2 = 0) (B : List EuE) : eu_p J B % 2 = 0 := by
  unfold eu_p
  induction B with
  | nil => rfl
  | cons e B ih => have := h e; simp only [List.map_cons, List.sum_cons]; omega
/-- EULER: so many faces as closing pieces, and one -/
theorem euler {nV nC F : Nat} {es : List EuE} {bel : Nat → List EuE} {fc : Nat → Nat} {rep : Nat → Nat}
    (hn : ∀ e ∈ es, e.1 < nV ∧ e.2 < nV)
    (hF : ∀ c, c < nC → fc c < F) (hr : ∀ k, k < F → rep k < nC ∧ fc (rep k) = k) (h0 : 0 < nC) (hb0 : bel 0 = [])
    (g1 : ∀ J : List EuE, (∀ e ∈ J, e ∈ es) → eu_z J → ∀ c d, c < nC → d < nC → fc c = fc d → eu_p J (bel c) % 2 = eu_p J (bel d) % 2)
    (g2 : ∀ f : Nat → Bool, (∀ c d, c < nC → d < nC → fc c = fc d → f c = f d) → ∃ J : List EuE, (∀ e ∈ J, e ∈ es) ∧ eu_z J ∧ ∀ c, c < nC → ((f c).toNat + (f 0).toNat) % 2 = eu_p J (bel c) % 2)
    (g3 : ∀ J : List EuE, (∀ e ∈ J, e ∈ es) → eu_z J → (∀ c, c < nC → eu_p J (bel c) % 2 = 0) → ∀ e ∈ es, J.count e % 2 = 0) : F = 1 + (eu_k es).length := by
  have bt : ∀ {a b : Bool}, a.toNat % 2 = b.toNat % 2 → a = b := fun {a b} h => by cases a <;> cases b <;> simp at h ⊢
  apply Nat.le_antisymm
  · -- a function on faces is its value at 0 and the closing pieces of its chain
    have hg : ∀ g : Nat → Bool, ∃ J : List EuE, (∀ e ∈ J, e ∈ es) ∧ eu_z J ∧ ∀ c, c < nC → ((g (fc c)).toNat + (g (fc 0)).toNat) % 2 = eu_p J (bel c) % 2 := fun g => g2 (fun c => g (fc c)) (fun c d _ _ h => by show g (fc c) = g (fc d); rw [h])
    refine eu_bits_le (fun g i => match i with | 0 => g (fc 0) | i + 1 => decide ((Classical.choose (hg g)).count ((eu_k es).getD i (0, 0)) % 2 = 1)) (fun f g h i hi => ?_)
    obtain ⟨j1, j2, j3⟩ := Classical.choose_spec (hg f)
    obtain ⟨k1, k2, k3⟩ := Classical.choose_spec (hg g)
    generalize hJ : Classical.choose (hg f) = J at *
    generalize hK : Classical.choose (hg g) = K at *
    have z0 : f (fc 0) = g (fc 0) := h 0 (by omega)
    have hc : ∀ e ∈ eu_k es, (J ++ K).count e % 2 = 0 := by
      intro e he
      obtain ⟨q, hq, rfl⟩ := List.getElem_of_mem he
      have h1 := h (q + 1) (by omega)
      simp only [hJ, hK, List.getD_eq_getElem?_getD, List.getElem?_eq_getElem hq, Option.getD_some] at h1
      have h2 := decide_eq_decide.mp h1
      rw [List.count_append]
      omega
    have hz := eu_z_inj hn (J ++ K) (fun e he => (List.mem_append.mp he).elim (j1 e) (k1 e)) (fun v => by have a := j2 v; have b := k2 v; rw [eu_n_app]; omega) hc
    obtain ⟨r1, r2⟩ := hr i hi
    have a := j3 (rep i) r1
    have b := k3 (rep i) r1
    have c := eu_p_ev hz (bel (rep i))
    rw [eu_p_app] at c
    rw [r2] at a b
    rw [z0] at a
    refine bt ?_
    omega
  · -- a bit and the closing pieces are a function on faces
    have hs : ∀ t : Nat → Bool, ∃ J : List EuE, (∀ e ∈ J, e ∈ es) ∧ eu_z J ∧ ∀ e ∈ eu_k es, J.count e % 2 = (t (1 + (eu_k es).idxOf e)).toNat % 2 := fun t => eu_z_sur es (fun e => (t (1 + (eu_k es).idxOf e)).toNat)
    refine eu_bits_le (fun t k => decide (((t 0).toNat + eu_p (Classical.choose (hs t)) (bel (rep k))) % 2 = 1)) (fun f g h => ?_)
    obtain ⟨j1, j2, j3⟩ := Classical.choose_spec (hs f)
    obtain ⟨k1, k2, k3⟩ := Classical.choose_spec (hs g)
    generalize hJ : Classical.choose (hs f) = J at *
    generalize hK : Classical.choose (hs g) = K at *
    have all : ∀ c, c < nC → ((f 0).toNat + eu_p J (bel c)) % 2 = ((g 0).toNat + eu_p K (bel c)) % 2 := by
      intro c hc
      obtain ⟨r1, r2⟩ := hr (fc c) (hF c hc)
      have h1 := h (fc c) (hF c hc)
      have h2 := decide_eq_decide.mp h1
      have a := g1 J j1 j2 c (rep (fc c)) hc r1 r2.symm
      have b := g1 K k1 k2 c (rep (fc c)) hc r1 r2.symm
      omega
    have z0 : f 0 = g 0 := by
      have := all 0 h0
      rw [hb0] at this
      exact bt (by simpa [eu_p] using this)
    have hz := g3 (J ++ K) (fun e he => (List.mem_append.mp he).elim (j1 e) (k1 e)) (fun v => by have a := j2 v; have b := k2 v; rw [eu_n_app]; omega) (fun c hc => by have := all c hc; rw [z0] at this; rw [eu_p_app]; omega)
    intro i hi
    cases i with
    | zero => exact z0
    | succ i =>
      have hq : i < (eu_k es).length := by omega
      have he : (eu_k es)[i] ∈ eu_k es := List.getElem_mem hq
      have a := j3 _ he
      have b := k3 _ he
      have c := hz _ (eu_k_sub he)
      rw [List.count_append] at c
      rw [(eu_k_nd es).idxOf_getElem i hq, Nat.add_comm 1 i] at a b
      exact bt (by omega)
