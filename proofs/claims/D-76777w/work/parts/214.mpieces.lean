/-! THE MODEL'S PIECES AND PARTS -/
set_option maxRecDepth 100000
theorem ms_and (f g : Nat → Bool) (n : Nat) : ms f n &&& ms g n = ms (fun l => f l && g l) n := by
  apply Nat.eq_of_testBit_eq
  intro i
  rw [Nat.testBit_and, ms_bit, ms_bit, ms_bit]
  cases decide (i < n) <;> simp
theorem ms_or (f g : Nat → Bool) (n : Nat) : ms f n ||| ms g n = ms (fun l => f l || g l) n := by
  apply Nat.eq_of_testBit_eq
  intro i
  rw [Nat.testBit_or, ms_bit, ms_bit, ms_bit]
  cases decide (i < n) <;> simp
theorem ms_andn (f g : Nat → Bool) {n : Nat} (hn : n ≤ 10) : nI (ms f n) &&& (nI (ms g n) ^^^ (-1)) = nI (ms (fun l => f l && !g l) n) := by
  rw [show (-1 : Int32) = nI (2 ^ 32 - 1) from rfl, nx_xor, nx_and]
  congr 1
  apply Nat.eq_of_testBit_eq
  intro i
  rw [Nat.testBit_and, Nat.testBit_xor, ms_bit, ms_bit, ms_bit, Nat.testBit_two_pow_sub_one]
  by_cases h : i < n
  · simp [h, show i < 32 by omega]
  · simp [h]
def noB (f : Nat → Bool) (i : Nat) : Nat → Bool
  | 0 => true
  | d + 1 => noB f i d && !f (i + 1 + d)
theorem noB_e {f : Nat → Bool} {i : Nat} : ∀ {d : Nat}, noB f i d = true ↔ ∀ r, i < r → r < i + 1 + d → f r = false := by
  intro d
  induction d with
  | zero => simp only [noB, true_iff]; intro r h1 h2; omega
  | succ d ih =>
    unfold noB
    rw [Bool.and_eq_true, ih]
    constructor
    · rintro ⟨h1, h2⟩ r r1 r2
      by_cases e : r = i + 1 + d
      · rw [e]; simpa using h2
      · exact h1 r r1 (by omega)
    · intro h
      exact ⟨fun r r1 r2 => h r r1 (by omega), by rw [h (i + 1 + d) (by omega) (by omega)]; rfl⟩
theorem nI_z0 {a : Nat} (h : a < 2 ^ 31) {α : Type} (x y : α) : (if nI a = 0 then x else y) = if a = 0 then x else y := by
  rw [← i32_nI, i32_0 (by omega)]
  exact ite_ii (by omega)
theorem ms_31 (f : Nat → Bool) {n : Nat} (hn : n ≤ 10) : ms f n < 1024 := pw10 (ms_lt f n) hn
theorem isPiece_e {N : Nat} (hN : 100 ≤ N) {σ : MSt} {n : Nat} {L : Nat → Sg} (h : MLn σ n L) (hL : LOk n L) {x : Nat × (Nat → Pt)} (hp : MPt σ x) (hg : ptG x) (h80 : x.1 ≤ 65) {i j : Nat} (hij : i < j) (hj : j < x.1) : F_isPiece N σ (i32 (i : Int)) (i32 (j : Int)) = some (bi (decide ((i, j) ∈ pcA L x n))) := by
  have hn10 := hL.1
  have main : ∀ (d k m : Nat), i + 1 + k + d = j → d < m → F_isPiece_L17 N σ m (i32 (j : Int)) (nI (ms (fun l => (onB (L l) (x.2 i) && onB (L l) (x.2 j)) && noB (fun r => onB (L l) (x.2 r)) i k) n)) (i32 ((i + 1 + k : Nat) : Int)) = some (bi (decide ((i, j) ∈ pcA L x n))) := by
    intro d
    induction d with
    | zero =>
      intro k m hk hm
      obtain ⟨m, rfl⟩ : ∃ t, m = t + 1 := ⟨m - 1, by omega⟩
      have e : i + 1 + k = j := by omega
      have hz := @ms_z (fun l => (onB (L l) (x.2 i) && onB (L l) (x.2 j)) && noB (fun r => onB (L l) (x.2 r)) i k) n
      have hb := ms_31 (fun l => (onB (L l) (x.2 i) && onB (L l) (x.2 j)) && noB (fun r => onB (L l) (x.2 r)) i k) hn10
      have key : (i, j) ∈ pcA L x n ↔ ¬ ms (fun l => (onB (L l) (x.2 i) && onB (L l) (x.2 j)) && noB (fun r => onB (L l) (x.2 r)) i k) n = 0 := by
        rw [pcA_mem, hz]
        constructor
        · rintro ⟨l, h1, -, -, h3, h4, h5⟩ w
          have := w l h1
          have nb := (noB_e (f := fun r => onB (L l) (x.2 r)) (i := i) (d := k)).mpr (fun r r1 r2 => h5 r r1 (by show r < j; omega))
          simp only at h3 h4
          rw [h3, h4, nb] at this
          cases this
        · intro w
          refine Classical.byContradiction (fun v => w (fun l hl => ?_))
          cases hh : ((onB (L l) (x.2 i) && onB (L l) (x.2 j)) && noB (fun r => onB (L l) (x.2 r)) i k) with
          | false => rfl
          | true =>
            rw [Bool.and_eq_true, Bool.and_eq_true] at hh
            exact absurd ⟨l, hl, hij, hj, hh.1.1, hh.1.2, fun r r1 r2 => noB_e.mp hh.2 r r1 (by have r2 : r < j := r2; omega)⟩ v
      rw [e]
      unfold F_isPiece_L17
      rw [if_pos ((i32_le (by omega) (by omega)).mpr (Int.le_refl _)), nI_z0 (by omega)]
      unfold bi
      by_cases c : ms (fun l => (onB (L l) (x.2 i) && onB (L l) (x.2 j)) && noB (fun r => onB (L l) (x.2 r)) i k) n = 0
      · rw [if_pos c, decide_eq_false (fun w => key.mp w c)]; rfl
      · rw [if_neg c, decide_eq_true (key.mpr c)]; rfl
    | succ d ih =>
      intro k m hk hm
      obtain ⟨m, rfl⟩ : ∃ t, m = t + 1 := ⟨m - 1, by omega⟩
      unfold F_isPiece_L17
      rw [if_neg (fun z => by have := (i32_le (by omega) (by omega)).mp z; omega), linesAt_e hN h hL hp hg (show i + 1 + k < x.1 by omega) (by omega), Option.bind_some]
      simp only
      rw [ms_andn _ _ hn10, i32_s, show i + 1 + k + 1 = i + 1 + (k + 1) by omega, ← ih (k + 1) m (by omega) (by omega)]
      congr 2
      refine ms_cong (fun l _ => ?_)
      show _ = ((onB (L l) (x.2 i) && onB (L l) (x.2 j)) && (noB (fun r => onB (L l) (x.2 r)) i k && !onB (L l) (x.2 (i + 1 + k))))
      rw [Bool.and_assoc, Bool.and_assoc]
  unfold F_isPiece
  rw [linesAt_e hN h hL hp hg (show i < x.1 by omega) (by omega), Option.bind_some, linesAt_e hN h hL hp hg hj (by omega), Option.bind_some]
  simp only
  rw [nx_and, ms_and, i32_s, ← main (j - i - 1) 0 N (by omega) (by omega)]
  congr 2
  refine ms_cong (fun l _ => ?_)
  simp [noB]
/-- pairs in the model's order -/
def tpJ (q : EuE → Bool) (i : Nat) (es : List EuE) : Nat → List EuE
  | 0 => es
  | j + 1 => if decide (i < j) && q (i, j) then (i, j) :: tpJ q i es j else tpJ q i es j
def tpI (q : EuE → Bool) (V : Nat) : Nat → List EuE
  | 0 => []
  | i + 1 => tpJ q i (tpI q V i) V
theorem tpJ_mem {q : EuE → Bool} {i : Nat} {es : List EuE} {e : EuE} : ∀ {j : Nat}, e ∈ tpJ q i es j ↔ e ∈ es ∨ (e.1 = i ∧ i < e.2 ∧ e.2 < j ∧ q e = true) := by
  intro j
  induction j with
  | zero => unfold tpJ; simp
  | succ j ih =>
    unfold tpJ
    by_cases c : (decide (i < j) && q (i, j)) = true
    · rw [if_pos c, List.mem_cons, ih]
      rw [Bool.and_eq_true, decide_eq_true_iff] at c
      constructor
      · rintro (rfl | h | ⟨h1, h2, h3, h4⟩)
        · exact Or.inr ⟨rfl, c.1, by show j < j + 1; omega, c.2⟩
        · exact Or.inl h
        · exact Or.inr ⟨h1, h2, by omega, h4⟩
      · rintro (h | ⟨h1, h2, h3, h4⟩)
        · exact Or.inr (Or.inl h)
        · by_cases w : e.2 = j
          · exact Or.inl (Prod.ext h1 w)
          · exact Or.inr (Or.inr ⟨h1, h2, by omega, h4⟩)
    · rw [if_neg c, ih]
      rw [Bool.and_eq_true, decide_eq_true_iff] at c
      constructor
      · rintro (h | ⟨h1, h2, h3, h4⟩)
        · exact Or.inl h
        · exact Or.inr ⟨h1, h2, by omega, h4⟩
      · rintro (h | ⟨h1, h2, h3, h4⟩)
        · exact Or.inl h
        · by_cases w : e.2 = j
          · exact absurd ⟨by rw [← w]; exact h2, by rw [← h1, ← w]; exact h4⟩ c
          · exact Or.inr ⟨h1, h2, by omega, h4⟩
theorem tpI_mem {q : EuE → Bool} {V : Nat} {e : EuE} : ∀ {i : Nat}, e ∈ tpI q V i ↔ e.1 < i ∧ e.1 < e.2 ∧ e.2 < V ∧ q e = true := by
  intro i
  induction i with
  | zero => unfold tpI; simp
  | succ i ih =>
    unfold tpI
    rw [tpJ_mem, ih]
    constructor
    · rintro (⟨h1, h2⟩ | ⟨h1, h2, h3, h4⟩)
      · exact ⟨by omega, h2⟩
      · exact ⟨by omega, by omega, h3, h4⟩
    · rintro ⟨h1, h2, h3, h4⟩
      by_cases w : e.1 = i
      · exact Or.inr ⟨w, by omega, h3, h4⟩
      · exact Or.inl ⟨by omega, h2, h3, h4⟩
theorem eu_d_cons {e : EuE} {es : List EuE} (h : e ∉ es) : eu_d (e :: es) = eu_d es + 1 := if_neg h
def MPa (σ : MSt) (V : Nat) (l : Nat → Nat) : Prop := ∀ v, v < V → gA σ 14 v = i32 ((l v : Nat) : Int)
theorem mrelab_e {N : Nat} {V : Nat} (hV : V ≤ 65) {l : Nat → Nat} (hl : ∀ v, l v ≤ v) {p q : Nat} (hp : p < V) (hq : q < V) (r27 : MSt → Int32 → Int32 → Option (Int32 × MSt)) (r39 : MSt → Int32 → Int32 → Int32 → Option (Int32 × MSt)) (v1 : Int32) (i j : Nat) :
    ∀ (d k m : Nat) (σ : MSt), k + d = V → d < m → gI σ 9 = i32 (V : Int) → MPa σ V (fun v => if v < k then eu_u l (p, q) v else l v) → ∃ σ', F_tellPieces_L99 N r27 r39 m σ v1 (i32 (i : Int)) (i32 (j : Int)) (i32 ((min (l p) (l q) : Nat) : Int)) (i32 ((max (l p) (l q) : Nat) : Int)) (i32 (k : Int)) = r39 σ' v1 (i32 (i : Int)) (i32 ((j + 1 : Nat) : Int)) ∧ mfr [14] σ σ' ∧ MPa σ' V (eu_u l (p, q)) := by
  have lp := hl p
  have lq := hl q
  intro d
  induction d with
  | zero =>
    intro k m σ hk hm h9 h14
    obtain ⟨m, rfl⟩ : ∃ t, m = t + 1 := ⟨m - 1, by omega⟩
    have e : k = V := by omega
    subst e
    refine ⟨σ, ?_, mfr.rf _ _, fun v hv => by rw [h14 v hv]; simp only [if_pos hv]⟩
    unfold F_tellPieces_L99 F_tellPieces_b135
    rw [h9, if_pos ((i32_le (by omega) (by omega)).mpr (Int.le_refl _))]
    simp only [i32_s]
  | succ d ih =>
    intro k m σ hk hm h9 h14
    obtain ⟨m, rfl⟩ : ∃ t, m = t + 1 := ⟨m - 1, by omega⟩
    have hk' : k < V := by omega
    have A : ∀ {α : Type} (f : Nat → Option α), ck (i32 (k : Int)) 80 f = f k := fun f => ck_n (by omega) (by decide) f
    have lk := hl k
    have e7 := h14 k hk'
    simp only [if_neg (Nat.lt_irrefl k)] at e7
    have e0 : F_tellPieces_L99 N r27 r39 (m + 1) σ v1 (i32 (i : Int)) (i32 (j : Int)) (i32 ((min (l p) (l q) : Nat) : Int)) (i32 ((max (l p) (l q) : Nat) : Int)) (i32 (k : Int)) = if l k = max (l p) (l q) then F_tellPieces_L99 N r27 r39 m (sA σ 14 k (i32 ((min (l p) (l q) : Nat) : Int))) v1 (i32 (i : Int)) (i32 (j : Int)) (i32 ((min (l p) (l q) : Nat) : Int)) (i32 ((max (l p) (l q) : Nat) : Int)) (i32 ((k + 1 : Nat) : Int)) else F_tellPieces_L99 N r27 r39 m σ v1 (i32 (i : Int)) (i32 (j : Int)) (i32 ((min (l p) (l q) : Nat) : Int)) (i32 ((max (l p) (l q) : Nat) : Int)) (i32 ((k + 1 : Nat) : Int)) := by
      rw [F_tellPieces_L99, h9, if_neg (fun z => by have := (i32_le (by omega) (by omega)).mp z; omega)]
      unfold F_tellPieces_b129
      simp only [A, e7, i32_s]
      refine ite_ii ?_
      rw [i32_eq (by omega) (by omega)]
      omega
    rw [e0]
    by_cases c : l k = max (l p) (l q)
    · rw [if_pos c]
      obtain ⟨σ', q1, q2, q3⟩ := ih (k + 1) m (sA σ 14 k (i32 ((min (l p) (l q) : Nat) : Int))) (by omega) (by omega) h9 (fun v hv => by
        rw [gA_sA, if_pos rfl]
        by_cases e : v = k
        · subst e
          simp only [if_pos (Nat.lt_succ_self v), if_true]
          unfold eu_u
          rw [if_pos c]
        · rw [if_neg e, h14 v hv]
          by_cases w : v < k
          · simp only [if_pos w, if_pos (show v < k + 1 by omega)]
          · simp only [if_neg w, if_neg (show ¬ v < k + 1 by omega)])
      exact ⟨σ', q1, ((mfr.rf _ σ).A (by decide) _ _).tr q2, q3⟩
    · rw [if_neg c]
      exact ih (k + 1) m σ (by omega) (by omega) h9 (fun v hv => by
        rw [h14 v hv]
        by_cases e : v = k
        · subst e
          simp only [if_neg (Nat.lt_irrefl v), if_pos (Nat.lt_succ_self v)]
          unfold eu_u
          rw [if_neg c]
        · by_cases w : v < k
          · simp only [if_pos w, if_pos (show v < k + 1 by omega)]
          · simp only [if_neg w, if_neg (show ¬ v < k + 1 by omega)])
theorem tpairJ_e {N : Nat} (hN : 100 ≤ N) {n : Nat} {L : Nat → Sg} (hL : LOk n L) {x : Nat × (Nat → Pt)} (hg : ptG x) (hV : x.1 ≤ 65) (r27 : MSt → Int32 → Int32 → Option (Int32 × MSt)) {i : Nat} (hi : i < x.1) {es : List EuE} (hes : ∀ e ∈ es, e.1 < i) :
    ∀ (d j m : Nat) (σ : MSt), j + d = x.1 → i < j → d < m → MLn σ n L → MPt σ x → MPa σ x.1 (eu_l (tpJ (fun e => decide (e ∈ pcA L x n)) i es j)) → ∃ σ', F_tellPieces_L39 N r27 m σ (i32 ((eu_d (tpJ (fun e => decide (e ∈ pcA L x n)) i es j) : Nat) : Int)) (i32 (i : Int)) (i32 (j : Int)) = r27 σ' (i32 ((eu_d (tpJ (fun e => decide (e ∈ pcA L x n)) i es x.1) : Nat) : Int)) (i32 ((i + 1 : Nat) : Int)) ∧ mfr [14] σ σ' ∧ MPa σ' x.1 (eu_l (tpJ (fun e => decide (e ∈ pcA L x n)) i es x.1)) := by
  intro d
  induction d with
  | zero =>
    intro j m σ hj hij hm h hp ha
    obtain ⟨m, rfl⟩ : ∃ t, m = t + 1 := ⟨m - 1, by omega⟩
    have e : j = x.1 := by omega
    subst e
    refine ⟨σ, ?_, mfr.rf _ _, ha⟩
    unfold F_tellPieces_L39
    rw [hp.1, if_pos ((i32_le (by omega) (by omega)).mpr (Int.le_refl _))]
    simp only [i32_s]
  | succ d ih =>
    intro j m σ hj hij hm h hp ha
    obtain ⟨m, rfl⟩ : ∃ t, m = t + 1 := ⟨m - 1, by omega⟩
    have hj' : j < x.1 := by omega
    have A : ∀ {α : Type} (f : Nat → Option α), ck (i32 (i : Int)) 80 f = f i := fun f => ck_n (by omega) (by decide) f
    have B : ∀ {α : Type} (f : Nat → Option α), ck (i32 (j : Int)) 80 f = f j := fun f => ck_n (by omega) (by decide) f
    unfold F_tellPieces_L39
    rw [hp.1, if_neg (fun z => by have := (i32_le (by omega) (by omega)).mp z; omega), isPiece_e hN h hL hp hg hV hij hj', Option.bind_some, bi_0]
    by_cases c : (i, j) ∈ pcA L x n
    · rw [decide_eq_true c, if_pos rfl]
      have c' : (decide (i < j) && decide ((i, j) ∈ pcA L x n)) = true := by rw [decide_eq_true hij, decide_eq_true c]; rfl
      have s1 : tpJ (fun e => decide (e ∈ pcA L x n)) i es (j + 1) = (i, j) :: tpJ (fun e => decide (e ∈ pcA L x n)) i es j := by
        show (if (decide (i < j) && decide ((i, j) ∈ pcA L x n)) = true then _ else _) = _
        rw [if_pos c']
      have nin : (i, j) ∉ tpJ (fun e => decide (e ∈ pcA L x n)) i es j := by
        rw [tpJ_mem]
        rintro (w | ⟨-, -, w, -⟩)
        · have := hes _ w; exact absurd this (Nat.lt_irrefl _)
        · exact absurd w (Nat.lt_irrefl _)
      generalize hE : tpJ (fun e => decide (e ∈ pcA L x n)) i es j = E at *
      have li := eu_l_le E i
      have lj := eu_l_le E j
      simp only [A, B, ha i hi, ha j hj', i32_s, jmn_e (a := ((eu_l E i : Nat) : Int)) (b := ((eu_l E j : Nat) : Int)) (by omega) (by omega), jmx_e (a := ((eu_l E i : Nat) : Int)) (b := ((eu_l E j : Nat) : Int)) (by omega) (by omega)]
      rw [show (min ((eu_l E i : Nat) : Int) ((eu_l E j : Nat) : Int)) = ((min (eu_l E i) (eu_l E j) : Nat) : Int) by omega, show (max ((eu_l E i : Nat) : Int) ((eu_l E j : Nat) : Int)) = ((max (eu_l E i) (eu_l E j) : Nat) : Int) by omega]
      obtain ⟨σ1, q1, q2, q3⟩ := mrelab_e (N := N) hV (eu_l_le E) hi hj' r27 (F_tellPieces_L39 N r27 m) (i32 ((eu_d E + 1 : Nat) : Int)) i j x.1 0 N σ (by omega) (by omega) hp.1 (fun v hv => by simp only [if_neg (Nat.not_lt_zero v)]; exact ha v hv)
      have h1 : MLn σ1 n L := h.fr q2 (by decide)
      have p1 : MPt σ1 x := hp.fr q2 (by decide)
      obtain ⟨σ2, u1, u2, u3⟩ := ih (j + 1) m σ1 (by omega) (by omega) (by omega) h1 p1 (by rw [s1]; exact q3)
      rw [s1, eu_d_cons nin] at u1
      exact ⟨σ2, q1.trans u1, q2.tr u2, u3⟩
    · rw [decide_eq_false c, if_neg (by decide)]
      have c' : ¬ (decide (i < j) && decide ((i, j) ∈ pcA L x n)) = true := by rw [decide_eq_false c]; simp
      have s1 : tpJ (fun e => decide (e ∈ pcA L x n)) i es (j + 1) = tpJ (fun e => decide (e ∈ pcA L x n)) i es j := by
        show (if (decide (i < j) && decide ((i, j) ∈ pcA L x n)) = true then _ else _) = _
        rw [if_neg c']
      unfold F_tellPieces_b135
      simp only [i32_s]
      have := ih (j + 1) m σ (by omega) (by omega) (by omega) h hp (by rw [s1]; exact ha)
      rw [s1] at this
      exact this
theorem tpJ_low {q : EuE → Bool} {i : Nat} {es : List EuE} : ∀ {j : Nat}, j ≤ i + 1 → tpJ q i es j = es := by
  intro j
  induction j with
  | zero => intro _; rfl
  | succ j ih =>
    intro h
    unfold tpJ
    rw [if_neg (by rw [decide_eq_false (show ¬ i < j by omega)]; simp), ih (by omega)]
theorem tpairI_e {N : Nat} (hN : 100 ≤ N) {n : Nat} {L : Nat → Sg} (hL : LOk n L) {x : Nat × (Nat → Pt)} (hg : ptG x) (hV : x.1 ≤ 65) :
    ∀ (d i m : Nat) (σ : MSt), i + d = x.1 → d < m → MLn σ n L → MPt σ x → MPa σ x.1 (eu_l (tpI (fun e => decide (e ∈ pcA L x n)) x.1 i)) → ∃ σ', F_tellPieces_L27 N m σ (i32 ((eu_d (tpI (fun e => decide (e ∈ pcA L x n)) x.1 i) : Nat) : Int)) (i32 (i : Int)) = some (i32 ((eu_d (tpI (fun e => decide (e ∈ pcA L x n)) x.1 x.1) : Nat) : Int), σ') ∧ mfr [14] σ σ' ∧ MPa σ' x.1 (eu_l (tpI (fun e => decide (e ∈ pcA L x n)) x.1 x.1)) := by
  intro d
  induction d with
  | zero =>
    intro i m σ hi hm h hp ha
    obtain ⟨m, rfl⟩ : ∃ t, m = t + 1 := ⟨m - 1, by omega⟩
    have e : i = x.1 := by omega
    subst e
    refine ⟨σ, ?_, mfr.rf _ _, ha⟩
    unfold F_tellPieces_L27
    rw [hp.1, if_pos ((i32_le (by omega) (by omega)).mpr (Int.le_refl _))]
  | succ d ih =>
    intro i m σ hi hm h hp ha
    obtain ⟨m, rfl⟩ : ∃ t, m = t + 1 := ⟨m - 1, by omega⟩
    have hi' : i < x.1 := by omega
    have lo : tpJ (fun e => decide (e ∈ pcA L x n)) i (tpI (fun e => decide (e ∈ pcA L x n)) x.1 i) (i + 1) = tpI (fun e => decide (e ∈ pcA L x n)) x.1 i := tpJ_low (Nat.le_refl _)
    obtain ⟨σ1, q1, q2, q3⟩ := tpairJ_e hN hL hg hV (F_tellPieces_L27 N m) hi' (es := tpI (fun e => decide (e ∈ pcA L x n)) x.1 i) (fun e he => (tpI_mem.mp he).1) (x.1 - (i + 1)) (i + 1) N σ (by omega) (by omega) (by omega) h hp (by rw [lo]; exact ha)
    rw [lo] at q1
    obtain ⟨σ2, u1, u2, u3⟩ := ih (i + 1) m σ1 (by omega) (by omega) (h.fr q2 (by decide)) (hp.fr q2 (by decide)) q3
    refine ⟨σ2, ?_, q2.tr u2, u3⟩
    unfold F_tellPieces_L27
    rw [hp.1, if_neg (fun z => by have := (i32_le (by omega) (by omega)).mp z; omega)]
    simp only [i32_s]
    exact q1.trans u1
theorem minit_e {N : Nat} {V : Nat} (hV : V ≤ 65) (v1 : Int32) : ∀ (d k m : Nat) (σ : MSt), k + d = V → d < m → gI σ 9 = i32 (V : Int) → (∀ v, v < k → gA σ 14 v = i32 (v : Int)) → ∃ σ', F_tellPieces_L4 N m σ v1 (i32 (k : Int)) = F_tellPieces_L27 N N σ' v1 0 ∧ mfr [14] σ σ' ∧ ∀ v, v < V → gA σ' 14 v = i32 (v : Int) := by
  intro d
  induction d with
  | zero =>
    intro k m σ hk hm h9 h14
    obtain ⟨m, rfl⟩ : ∃ t, m = t + 1 := ⟨m - 1, by omega⟩
    have e : k = V := by omega
    subst e
    refine ⟨σ, ?_, mfr.rf _ _, h14⟩
    unfold F_tellPieces_L4
    rw [h9, if_pos ((i32_le (by omega) (by omega)).mpr (Int.le_refl _))]
  | succ d ih =>
    intro k m σ hk hm h9 h14
    obtain ⟨m, rfl⟩ : ∃ t, m = t + 1 := ⟨m - 1, by omega⟩
    have A : ∀ {α : Type} (f : Nat → Option α), ck (i32 (k : Int)) 80 f = f k := fun f => ck_n (by omega) (by decide) f
    obtain ⟨σ', q1, q2, q3⟩ := ih (k + 1) m (sA σ 14 k (i32 (k : Int))) (by omega) (by omega) h9 (fun v hv => by
      rw [gA_sA, if_pos rfl]
      by_cases e : v = k
      · rw [if_pos e, e]
      · rw [if_neg e]; exact h14 v (by omega))
    refine ⟨σ', ?_, ((mfr.rf _ σ).A (by decide) _ _).tr q2, q3⟩
    unfold F_tellPieces_L4
    rw [h9, if_neg (fun z => by have := (i32_le (by omega) (by omega)).mp z; omega)]
    simp only [A, i32_s]
    exact q1
/-- so many pieces; which points are of one part -/
theorem tellPieces_e {N : Nat} (hN : 100 ≤ N) {n : Nat} {L : Nat → Sg} (hL : LOk n L) {x : Nat × (Nat → Pt)} (hg : ptG x) (hV : x.1 ≤ 65) {σ : MSt} (h : MLn σ n L) (hp : MPt σ x) : ∃ σ', F_tellPieces N σ = some (i32 ((eu_d (pcA L x n) : Nat) : Int), σ') ∧ mfr [14] σ σ' ∧ MPa σ' x.1 (eu_l (pcA L x n)) := by
  obtain ⟨σ1, q1, q2, q3⟩ := minit_e (N := N) hV 0 x.1 0 N σ (by omega) (by omega) hp.1 (fun v hv => absurd hv (Nat.not_lt_zero _))
  obtain ⟨σ2, u1, u2, u3⟩ := tpairI_e hN hL hg hV x.1 0 N σ1 (by omega) (by omega) (h.fr q2 (by decide)) (hp.fr q2 (by decide)) q3
  have same : ∀ e, e ∈ tpI (fun e => decide (e ∈ pcA L x n)) x.1 x.1 ↔ e ∈ pcA L x n := by
    intro e
    rw [tpI_mem, decide_eq_true_iff]
    constructor
    · exact fun w => w.2.2.2
    · intro w
      obtain ⟨l, -, h1, h2, -⟩ := pcA_mem.mp w
      exact ⟨by omega, h1, h2, w⟩
  rw [eu_d_set same (fun e he => by have := (tpI_mem.mp he); omega)] at u1
  refine ⟨σ2, ?_, q2.tr u2, fun v hv => by rw [u3 v hv, eu_l_set same]⟩
  unfold F_tellPieces
  exact q1.trans u1
theorem partsMany_e {N : Nat} (hN : 100 ≤ N) {n : Nat} {L : Nat → Sg} (hL : LOk n L) {x : Nat × (Nat → Pt)} (hg : ptG x) (hV : x.1 ≤ 65) {σ : MSt} (h : MLn σ n L) (hp : MPt σ x) : ∃ σ', F_partsMany N σ = some (i32 ((x.1 : Int) - ((eu_t (pcA L x n) : Nat) : Int)), σ') ∧ mfr [14] σ σ' := by
  obtain ⟨σ1, q1, q2, q3⟩ := tellPieces_e hN hL hg hV h hp
  have p1 : MPt σ1 x := hp.fr q2 (by decide)
  have main : ∀ (d k m : Nat), k + d = x.1 → d < m → F_partsMany_L9 N m σ1 (nI (cn (fun v => decide (eu_l (pcA L x n) v = v)) k)) (i32 (k : Int)) = some (nI (cn (fun v => decide (eu_l (pcA L x n) v = v)) x.1), σ1) := by
    intro d
    induction d with
    | zero =>
      intro k m hk hm
      obtain ⟨m, rfl⟩ : ∃ t, m = t + 1 := ⟨m - 1, by omega⟩
      have e : k = x.1 := by omega
      subst e
      unfold F_partsMany_L9
      rw [p1.1, if_pos ((i32_le (by omega) (by omega)).mpr (Int.le_refl _))]
    | succ d ih =>
      intro k m hk hm
      obtain ⟨m, rfl⟩ : ∃ t, m = t + 1 := ⟨m - 1, by omega⟩
      have A : ∀ {α : Type} (f : Nat → Option α), ck (i32 (k : Int)) 80 f = f k := fun f => ck_n (by omega) (by decide) f
      have lk := eu_l_le (pcA L x n) k
      unfold F_partsMany_L9 F_partsMany_b30
      rw [p1.1, if_neg (fun z => by have := (i32_le (by omega) (by omega)).mp z; omega)]
      simp only [A, q3 k (by omega), i32_s]
      rw [ite_ii (show i32 ((eu_l (pcA L x n) k : Nat) : Int) = i32 (k : Int) ↔ eu_l (pcA L x n) k = k by rw [i32_eq (by omega) (by omega)]; omega), ← ih (k + 1) m (by omega) (by omega)]
      show _ = F_partsMany_L9 N m σ1 (nI (cn _ k + (decide (eu_l (pcA L x n) k = k)).toNat)) _
      by_cases c : eu_l (pcA L x n) k = k
      · rw [if_pos c, decide_eq_true c, show (1 : Int32) = nI 1 from rfl, nI_add]; rfl
      · rw [if_neg c, decide_eq_false c]; rfl
  refine ⟨σ1, ?_, q2⟩
  unfold F_partsMany
  rw [q1, Option.bind_some]
  simp only
  rw [show (0 : Int32) = nI (cn (fun v => decide (eu_l (pcA L x n) v = v)) 0) from rfl]
  have := main x.1 0 N (by omega) (by omega)
  have r := eu_roots (V := x.1) (es := pcA L x n) pcA_lt
  rw [show nI (cn (fun v => decide (eu_l (pcA L x n) v = v)) 0) = i32 ((0 : Nat) : Int) from rfl]
  rw [show nI (cn (fun v => decide (eu_l (pcA L x n) v = v)) 0) = i32 ((0 : Nat) : Int) from rfl] at this
  rw [this, ← i32_nI]
  congr 2
  congr 1
  omega
