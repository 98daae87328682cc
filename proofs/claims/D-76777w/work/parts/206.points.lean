/-! POINTS: rows of places in order, a place put into its place; the model's and the component's doing of it -/
set_option maxRecDepth 100000
def srt (n : Nat) (P : Nat → Pt) : Prop := ∀ i j, i < j → j < n → lxc (P i) (P j) < 0
def rkP : Nat → (Nat → Pt) → Pt → Nat
  | 0, _, _ => 0
  | n + 1, P, p => rkP n P p + if lxc (P n) p < 0 then 1 else 0
def insF (P : Nat → Pt) (k : Nat) (p : Pt) : Nat → Pt := fun i => if i < k then P i else if i = k then p else P (i - 1)
def addP (x : Nat × (Nat → Pt)) (p : Pt) : Nat × (Nat → Pt) := if rkP x.1 x.2 p < x.1 ∧ lxc (x.2 (rkP x.1 x.2 p)) p = 0 then x else (x.1 + 1, insF x.2 (rkP x.1 x.2 p) p)
theorem lxc_tr {a b c : Pt} (h : lxc a b < 0) (h' : lxc b c < 0) : lxc a c < 0 := by
  rw [lxc_lt] at *
  grind
theorem lxc_irr (a : Pt) : lxc a a = 0 := lxc_eq.mpr rfl
theorem rkP_le (n : Nat) (P : Nat → Pt) (p : Pt) : rkP n P p ≤ n := by
  induction n with
  | zero => exact Nat.le_refl _
  | succ n ih => unfold rkP; split <;> omega
theorem rkP_e {n : Nat} {P : Nat → Pt} (p : Pt) (h : srt n P) : ∀ i, i < n → (i < rkP n P p ↔ lxc (P i) p < 0) := by
  induction n with
  | zero => intro i hi; omega
  | succ n ih =>
    intro i hi
    have h' : srt n P := fun i j a b => h i j a (by omega)
    have l := rkP_le n P p
    unfold rkP
    by_cases c : lxc (P n) p < 0
    · rw [if_pos c]
      have all : ∀ j, j < n → lxc (P j) p < 0 := fun j hj => lxc_tr (h j n hj (by omega)) c
      have : rkP n P p = n := by
        rcases Nat.eq_zero_or_pos n with z | z
        · omega
        · have := (ih h' (n - 1) (by omega)).mpr (all _ (by omega)); omega
      by_cases e : i = n
      · subst e; exact ⟨fun _ => c, fun _ => by omega⟩
      · exact ⟨fun _ => all i (by omega), fun _ => by omega⟩
    · rw [if_neg c]
      by_cases e : i = n
      · subst e; exact ⟨fun w => by omega, fun w => absurd w c⟩
      · exact ih h' i (by omega)
theorem addP_srt {x : Nat × (Nat → Pt)} {p : Pt} (h : srt x.1 x.2) : srt (addP x p).1 (addP x p).2 := by
  unfold addP
  have l := rkP_le x.1 x.2 p
  have s := rkP_e p h
  generalize rkP x.1 x.2 p = k at *
  split
  · exact h
  · rename_i c
    have g : ∀ i, k ≤ i → i < x.1 → lxc p (x.2 i) < 0 := by
      intro i h1 h2
      have a := s i h2
      have b := lxc_neg (x.2 i) p
      by_cases e : i = k
      · subst e
        have : ¬ lxc (x.2 i) p = 0 := fun z => c ⟨h2, z⟩
        omega
      · have k1 : ¬ lxc (x.2 k) p < 0 := fun z => by have := (s k (by omega)).mpr z; omega
        have k2 : ¬ lxc (x.2 k) p = 0 := fun z => c ⟨by omega, z⟩
        have k3 := lxc_neg (x.2 k) p
        exact lxc_tr (by omega) (h k i (by omega) h2)
    intro i j hij hj
    show lxc (insF x.2 k p i) (insF x.2 k p j) < 0
    have hj : j < x.1 + 1 := hj
    unfold insF
    by_cases i1 : i < k
    · rw [if_pos i1]
      have := (s i (by omega)).mp i1
      by_cases j1 : j < k
      · rw [if_pos j1]; exact h i j hij (by omega)
      · rw [if_neg j1]
        by_cases j2 : j = k
        · rw [if_pos j2]; exact this
        · rw [if_neg j2]; exact h i (j - 1) (by omega) (by omega)
    · rw [if_neg i1, if_neg (show ¬ j < k by omega), if_neg (show ¬ j = k by omega)]
      by_cases i2 : i = k
      · rw [if_pos i2]; exact g _ (by omega) (by omega)
      · rw [if_neg i2]; exact h _ _ (by omega) (by omega)
theorem addP_pq {x : Nat × (Nat → Pt)} {p : Pt} (hp : pq p) (h : ∀ i, i < x.1 → pq (x.2 i)) : ∀ i, i < (addP x p).1 → pq ((addP x p).2 i) := by
  unfold addP
  have l := rkP_le x.1 x.2 p
  generalize rkP x.1 x.2 p = k at *
  split
  · exact h
  · intro i hi
    have hi : i < x.1 + 1 := hi
    show pq (insF x.2 k p i)
    unfold insF
    split
    · exact h i (by omega)
    · split
      · exact hp
      · exact h _ (by omega)
theorem addP_le (x : Nat × (Nat → Pt)) (p : Pt) : (addP x p).1 ≤ x.1 + 1 := by unfold addP; split <;> simp
/-- what is in it -/
theorem addP_mem {x : Nat × (Nat → Pt)} {p q : Pt} : (∃ i, i < (addP x p).1 ∧ (addP x p).2 i = q) ↔ q = p ∨ ∃ i, i < x.1 ∧ x.2 i = q := by
  unfold addP
  have l := rkP_le x.1 x.2 p
  generalize rkP x.1 x.2 p = k at *
  split
  · rename_i c
    constructor
    · exact Or.inr
    · rintro (rfl | h)
      · exact ⟨k, c.1, lxc_eq.mp c.2⟩
      · exact h
  · show (∃ i, i < x.1 + 1 ∧ insF x.2 k p i = q) ↔ _
    constructor
    · rintro ⟨i, hi, e⟩
      unfold insF at e
      by_cases c1 : i < k
      · rw [if_pos c1] at e; exact Or.inr ⟨i, by omega, e⟩
      · rw [if_neg c1] at e
        by_cases c2 : i = k
        · rw [if_pos c2] at e; exact Or.inl e.symm
        · rw [if_neg c2] at e; exact Or.inr ⟨i - 1, by omega, e⟩
    · rintro (rfl | ⟨i, hi, e⟩)
      · exact ⟨k, by omega, by unfold insF; rw [if_neg (by omega), if_pos rfl]⟩
      · by_cases c1 : i < k
        · exact ⟨i, by omega, by unfold insF; rw [if_pos c1]; exact e⟩
        · exact ⟨i + 1, by omega, by unfold insF; rw [if_neg (by omega), if_neg (by omega)]; exact e⟩
/-! the model -/
def gQ (σ : MSt) (i : Nat) : Pl := ((gL σ 10 i, gL σ 11 i), (gL σ 12 i, gL σ 13 i))
def MPt (σ : MSt) (x : Nat × (Nat → Pt)) : Prop := gI σ 9 = i32 (x.1 : Int) ∧ ∀ i, i < x.1 → gQ σ i = rfP (x.2 i)
theorem rfP_1 (p : Pt) : rfP p = ((i64 p.1.num, i64 (p.1.den : Int)), (i64 p.2.num, i64 (p.2.den : Int))) := rfl
theorem pAg_e {N : Nat} {σ : MSt} {i : Nat} (hi : i < 80) {q p : Pt} (hq : gQ σ i = rfP q) (q1 : pq q) (p1 : pq p) : F_pointAgainst N σ (i32 i) (rfP p).1.1 (rfP p).1.2 (rfP p).2.1 (rfP p).2.2 = some (i32 (lxc q p)) := by
  have A : ∀ {α : Type} (k : Nat → Option α), ck (i32 (i : Int)) 80 k = k i := fun k => ck_n hi (by decide) k
  rw [rfP_1] at hq
  unfold gQ at hq
  simp only [Prod.mk.injEq] at hq
  obtain ⟨⟨e1, e2⟩, e3, e4⟩ := hq
  obtain ⟨⟨a1, a2⟩, a3, a4⟩ := q1
  obtain ⟨⟨b1, b2⟩, b3, b4⟩ := p1
  have d1 : bn (q.1.den : Int) 4000 := by unfold bn; omega
  have d2 : bn (q.2.den : Int) 4000 := by unfold bn; omega
  have d3 : bn (p.1.den : Int) 4000 := by unfold bn; omega
  have d4 : bn (p.2.den : Int) 4000 := by unfold bn; omega
  have g1 : F_against N (i64 q.1.num) (i64 (q.1.den : Int)) (i64 p.1.num) (i64 (p.1.den : Int)) = some (i32 (sg q.1 p.1)) := by
    rw [against_e (bn_le (bn_mul a1 d3) (by decide)) (bn_le (bn_mul b1 d1) (by decide)), sgi_q (by have := q.1.den_pos; omega) (by have := p.1.den_pos; omega), rat_q, rat_q]
  have g2 : F_against N (i64 q.2.num) (i64 (q.2.den : Int)) (i64 p.2.num) (i64 (p.2.den : Int)) = some (i32 (sg q.2 p.2)) := by
    rw [against_e (bn_le (bn_mul a3 d4) (by decide)) (bn_le (bn_mul b3 d2) (by decide)), sgi_q (by have := q.2.den_pos; omega) (by have := p.2.den_pos; omega), rat_q, rat_q]
  have r := sg_r q.1 p.1
  unfold F_pointAgainst lxc
  simp only [A, e1, e2, e3, e4, rfP_1, g1, g2, Option.bind_some]
  rw [i32_0 (by omega)]
  split <;> rfl
def sQ (σ : MSt) (j : Nat) (v : Pl) : MSt := sL (sL (sL (sL σ 10 j v.1.1) 11 j v.1.2) 12 j v.2.1) 13 j v.2.2
theorem gQ_sQ (σ : MSt) (j : Nat) (v : Pl) (i : Nat) : gQ (sQ σ j v) i = if i = j then v else gQ σ i := by
  unfold gQ sQ
  by_cases h : i = j
  · subst h; simp [gL_sL]
  · simp [gL_sL, h]
theorem gQ_sI (σ : MSt) (k : Nat) (v : Int32) (i : Nat) : gQ (sI σ k v) i = gQ σ i := rfl
theorem sQ_fr (σ : MSt) (j : Nat) (v : Pl) : mfr [9, 10, 11, 12, 13] σ (sQ σ j v) := ((((mfr.rf _ _).L (by decide) _ _).L (by decide) _ _).L (by decide) _ _).L (by decide) _ _
/-- a place is shifted in -/
theorem shift_e {N : Nat} (k : Nat) (p : Pl) : ∀ (d n : Nat) (σ : MSt), d < n → k + d < 80 → ∃ σ', F_addPoint_L104 N n σ p.1.1 p.1.2 p.2.1 p.2.2 (i32 k) (i32 ((k + d : Nat) : Int)) = some σ' ∧ mfr [9, 10, 11, 12, 13] σ σ' ∧ gI σ' 9 = gI σ 9 + 1 ∧ (∀ i, i < k → gQ σ' i = gQ σ i) ∧ gQ σ' k = p ∧ (∀ i, k < i → i ≤ k + d → gQ σ' i = gQ σ (i - 1)) ∧ ∀ i, k + d < i → gQ σ' i = gQ σ i := by
  intro d
  induction d with
  | zero =>
    intro n σ hn hk
    obtain ⟨n, rfl⟩ : ∃ m, n = m + 1 := ⟨n - 1, by omega⟩
    have A : ∀ {α : Type} (f : Nat → Option α), ck (i32 (k : Int)) 80 f = f k := fun f => ck_n (by omega) (by decide) f
    refine ⟨sI (sQ σ k p) 9 (gI σ 9 + 1), ?_, (sQ_fr σ k p).I (by decide) _, by simp [gI_sI], fun i hi => ?_, ?_, fun i h1 h2 => by omega, fun i hi => ?_⟩
    · unfold F_addPoint_L104
      rw [Nat.add_zero, if_pos ((i32_le (by omega) (by omega)).mpr (by omega))]
      simp only [A]
      rfl
    · rw [gQ_sI, gQ_sQ, if_neg (by omega)]
    · rw [gQ_sI, gQ_sQ, if_pos rfl]
    · rw [gQ_sI, gQ_sQ, if_neg (by omega)]
  | succ d ih =>
    intro n σ hn hk
    obtain ⟨n, rfl⟩ : ∃ m, n = m + 1 := ⟨n - 1, by omega⟩
    have A : ∀ {α : Type} (f : Nat → Option α), ck (i32 ((k + (d + 1) : Nat) : Int)) 80 f = f (k + (d + 1)) := fun f => ck_n (by omega) (by decide) f
    have em : i32 ((k + (d + 1) : Nat) : Int) - 1 = i32 ((k + d : Nat) : Int) := by rw [show (1 : Int32) = i32 1 from rfl, i32_sub]; congr 1; omega
    have em' : i32 ((k + (d + 1) : Nat) : Int) + (-1) = i32 ((k + d : Nat) : Int) := by rw [show (-1 : Int32) = i32 (-1) from rfl, i32_add]; congr 1; omega
    have B : ∀ {α : Type} (f : Nat → Option α), ck (i32 ((k + d : Nat) : Int)) 80 f = f (k + d) := fun f => ck_n (by omega) (by decide) f
    obtain ⟨σ', h1, h2, h3, h4, h5, h6, h7⟩ := ih n (sQ σ (k + (d + 1)) (gQ σ (k + d))) (by omega) (by omega)
    refine ⟨σ', ?_, (sQ_fr _ _ _).tr h2, ?_, fun i hi => ?_, h5, fun i a b => ?_, fun i hi => ?_⟩
    · unfold F_addPoint_L104
      rw [if_neg (fun z => by have := (i32_le (by omega) (by omega)).mp z; omega)]
      simp only [em, em', A, B]
      rw [← h1]
      rfl
    · rw [h3]; rfl
    · rw [h4 i hi, gQ_sQ, if_neg (by omega)]
    · by_cases c : i = k + (d + 1)
      · subst c
        rw [h7 _ (by omega), gQ_sQ, if_pos rfl]; rfl
      · rw [h6 i a (by omega), gQ_sQ, if_neg (by omega)]
    · rw [h7 i (by omega), gQ_sQ, if_neg (by omega)]
/-- where it is to go -/
theorem find_e {N : Nat} {σ : MSt} {x : Nat × (Nat → Pt)} {p : Pt} (h : MPt σ x) (hs : srt x.1 x.2) (hq : ∀ i, i < x.1 → pq (x.2 i)) (hp : pq p) (hn : x.1 < 80) : ∀ (d n i : Nat), i + d = rkP x.1 x.2 p → d < n → F_addPoint_L39 N n σ (rfP p).1.1 (rfP p).1.2 (rfP p).2.1 (rfP p).2.2 (i32 i) = F_addPoint_b71 N σ (rfP p).1.1 (rfP p).1.2 (rfP p).2.1 (rfP p).2.2 (i32 (rkP x.1 x.2 p : Nat)) := by
  have l := rkP_le x.1 x.2 p
  have s := rkP_e p hs
  intro d
  induction d with
  | zero =>
    intro n i hi hn'
    obtain ⟨n, rfl⟩ : ∃ m, n = m + 1 := ⟨n - 1, by omega⟩
    have e : i = rkP x.1 x.2 p := by omega
    rw [← e]
    unfold F_addPoint_L39
    rw [h.1, ite_ii (i32_le (by omega) (by omega))]
    by_cases c : (x.1 : Int) ≤ (i : Int)
    · rw [if_pos c]
    · have hi' : i < x.1 := by omega
      have r := lxc_r (x.2 i) p
      rw [if_neg c, pAg_e (by omega) (h.2 i hi') (hq i hi') hp, Option.bind_some, i32_nn (by omega), if_pos]
      have g : ¬ lxc (x.2 i) p < 0 := fun w => by have := (s i hi').mpr w; omega
      omega
  | succ d ih =>
    intro n i hi hn'
    obtain ⟨n, rfl⟩ : ∃ m, n = m + 1 := ⟨n - 1, by omega⟩
    have hi' : i < x.1 := by omega
    have r := lxc_r (x.2 i) p
    have lt := (s i hi').mp (by omega)
    unfold F_addPoint_L39
    rw [h.1, ite_ii (i32_le (by omega) (by omega)), if_neg (by omega), pAg_e (by omega) (h.2 i hi') (hq i hi') hp, Option.bind_some, i32_nn (by omega), if_neg (by omega)]
    simp only
    rw [show i32 (i : Int) + 1 = i32 ((i + 1 : Nat) : Int) by rw [show (1 : Int32) = i32 1 from rfl, i32_add]; congr 1]
    exact ih n (i + 1) (by omega) (by omega)
theorem add_e {N : Nat} (hN : 100 ≤ N) {σ : MSt} {x : Nat × (Nat → Pt)} (h : MPt σ x) (hs : srt x.1 x.2) (hq : ∀ i, i < x.1 → pq (x.2 i)) (hn : x.1 < 80) {p : Pt} (hp : pq p) {X Y B : Int} (hX : bn X 256000) (hY : bn Y 256000) (hB : 0 < B) (hB2 : B ≤ 3200) (e1 : Rat.divInt X B = p.1) (e2 : Rat.divInt Y B = p.2) :
    ∃ σ', F_addPoint N σ (i64 X) (i64 Y) (i64 B) = some σ' ∧ mfr [9, 10, 11, 12, 13] σ σ' ∧ MPt σ' (addP x p) := by
  have l := rkP_le x.1 x.2 p
  have s := rkP_e p hs
  obtain ⟨x1, x2⟩ := lowest_e (N := N) (a := X) (b := B) (bn_le hX (by decide)) hB (by omega)
  obtain ⟨y1, y2⟩ := lowest_e (N := N) (a := Y) (b := B) (bn_le hY (by decide)) hB (by omega)
  rw [e1] at x1 x2
  rw [e2] at y1 y2
  have e0 : F_addPoint N σ (i64 X) (i64 Y) (i64 B) = F_addPoint_L39 N N σ (rfP p).1.1 (rfP p).1.2 (rfP p).2.1 (rfP p).2.2 (i32 ((0 : Nat) : Int)) := by
    unfold F_addPoint
    simp only [x1, x2, y1, y2, Option.bind_some]
    rfl
  rw [e0, find_e h hs hq hp hn (rkP x.1 x.2 p) N 0 (by omega) (by omega)]
  unfold F_addPoint_b71 addP
  generalize hk : rkP x.1 x.2 p = k at *
  have go : k ≤ x.1 → ∃ σ', F_addPoint_b98 N σ (rfP p).1.1 (rfP p).1.2 (rfP p).2.1 (rfP p).2.2 (i32 k) = some σ' ∧ mfr [9, 10, 11, 12, 13] σ σ' ∧ MPt σ' (x.1 + 1, insF x.2 k p) := by
    intro hk'
    obtain ⟨σ', h1, h2, h3, h4, h5, h6, -⟩ := shift_e (N := N) k (rfP p) (x.1 - k) N σ (by omega) (by omega)
    rw [show k + (x.1 - k) = x.1 by omega] at h1 h6
    refine ⟨σ', ?_, h2, ?_, fun i hi => ?_⟩
    · unfold F_addPoint_b98
      rw [h.1]
      exact h1
    · rw [h3, h.1, show (1 : Int32) = i32 1 from rfl, i32_add]
      show _ = i32 ((x.1 + 1 : Nat) : Int)
      congr 1
    · have hi : i < x.1 + 1 := hi
      show _ = rfP (insF x.2 k p i)
      unfold insF
      by_cases c1 : i < k
      · rw [if_pos c1, h4 i c1]; exact h.2 i (by omega)
      · rw [if_neg c1]
        by_cases c2 : i = k
        · rw [if_pos c2, c2]; exact h5
        · rw [if_neg c2, h6 i (by omega) (by omega)]; exact h.2 _ (by omega)
  rw [h.1, ite_ii (i32_le (by omega) (by omega))]
  by_cases c : (x.1 : Int) ≤ (k : Int)
  · rw [if_pos c, if_neg (by omega)]
    exact go (by omega)
  · have hk' : k < x.1 := by omega
    have r := lxc_r (x.2 k) p
    rw [if_neg c, pAg_e (by omega) (h.2 k hk') (hq k hk') hp, Option.bind_some, i32_0 (by omega)]
    by_cases c2 : lxc (x.2 k) p = 0
    · rw [if_pos c2, if_pos ⟨hk', c2⟩]
      exact ⟨σ, rfl, mfr.rf _ _, h⟩
    · rw [if_neg c2, if_neg (fun z => c2 z.2)]
      exact go (by omega)
/-! the points of lines -/
def ptJ (L : Nat → Sg) (l : Nat) : Nat → Nat × (Nat → Pt) → Nat × (Nat → Pt)
  | 0, x => x
  | k + 1, x => if howM (L k) (L l) = 1 ∨ howM (L k) (L l) = 2 then addP (ptJ L l k x) (atM (L k) (L l)) else ptJ L l k x
def ptN (L : Nat → Sg) : Nat → Nat × (Nat → Pt)
  | 0 => (0, fun _ => (0, 0))
  | l + 1 => ptJ L l l (addP (addP (ptN L l) (ptA (L l))) (ptB (L l)))
def ptG (x : Nat × (Nat → Pt)) : Prop := srt x.1 x.2 ∧ ∀ i, i < x.1 → pq (x.2 i)
theorem ptG.add {x : Nat × (Nat → Pt)} (h : ptG x) {p : Pt} (hp : pq p) : ptG (addP x p) := ⟨addP_srt h.1, addP_pq hp h.2⟩
theorem pq_M {a b : Sg} (ha : sgOk a) (hb : sgOk b) : pq (atM a b) := by
  unfold atM
  obtain ⟨d, t, u, x, y⟩ := met_bd ha hb
  split
  · rcases rwX_k ha hb with ⟨e, -⟩ | ⟨e, -⟩ <;> rw [e]
    · exact pq_A ha
    · exact pq_A hb
  · rename_i d0
    have f1 := fb_div (a.1 * mD a b + mT a b * (a.2.2.1 - a.1)) (mD a b)
    have f2 := fb_div (a.2.1 * mD a b + mT a b * (a.2.2.2 - a.2.1)) (mD a b)
    unfold bn at d x y
    exact ⟨⟨Nat.le_trans f1.1 x, Nat.le_trans f1.2 (by omega)⟩, Nat.le_trans f2.1 y, Nat.le_trans f2.2 (by omega)⟩
theorem ptJ_G {n : Nat} {L : Nat → Sg} (hL : LOk n L) {l : Nat} (hl : l < n) : ∀ k, k ≤ l → ∀ x, ptG x → ptG (ptJ L l k x) := by
  intro k
  induction k with
  | zero => intro _ x h; exact h
  | succ k ih =>
    intro hk x h
    unfold ptJ
    split
    · exact (ih (by omega) x h).add (pq_M (hL.2 k (by omega)) (hL.2 l hl))
    · exact ih (by omega) x h
theorem ptN_G {n : Nat} {L : Nat → Sg} (hL : LOk n L) : ∀ l, l ≤ n → ptG (ptN L l) := by
  intro l
  induction l with
  | zero => intro _; exact ⟨fun i j _ h => absurd h (Nat.not_lt_zero _), fun i h => absurd h (Nat.not_lt_zero _)⟩
  | succ l ih => intro hl; exact ptJ_G hL (by omega) l (Nat.le_refl _) _ (((ih (by omega)).add (pq_A (hL.2 l (by omega)))).add (pq_B (hL.2 l (by omega))))
theorem ptJ_le (L : Nat → Sg) (l : Nat) : ∀ k x, (ptJ L l k x).1 ≤ x.1 + k := by
  intro k
  induction k with
  | zero => intro x; exact Nat.le_refl _
  | succ k ih =>
    intro x
    unfold ptJ
    have := ih x
    split
    · exact Nat.le_trans (addP_le _ _) (by omega)
    · omega
/-- at most so many -/
def tri : Nat → Nat
  | 0 => 0
  | l + 1 => tri l + l + 2
theorem ptN_le (L : Nat → Sg) : ∀ l, (ptN L l).1 ≤ tri l := by
  intro l
  induction l with
  | zero => exact Nat.le_refl _
  | succ l ih =>
    have h1 := ptJ_le L l l (addP (addP (ptN L l) (ptA (L l))) (ptB (L l)))
    have h2 := addP_le (addP (ptN L l) (ptA (L l))) (ptB (L l))
    have h3 := addP_le (ptN L l) (ptA (L l))
    show (ptJ L l l _).1 ≤ tri l + l + 2
    omega
theorem tri_le {l : Nat} (h : l ≤ 9) : tri l + l + 2 ≤ 65 := by
  have : ∀ l : Fin 10, tri l.1 + l.1 + 2 ≤ 65 := by decide
  exact this ⟨l, by omega⟩
