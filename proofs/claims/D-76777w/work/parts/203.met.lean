/-! WHERE TWO LINES MEET: the component's place, the model's numbers; it is on both, and the only one -/
set_option maxRecDepth 100000
theorem pt_eq {p q : Pt} {d : Int} (hd : d ≠ 0) (h1 : p.1 * (d : Rat) = q.1 * (d : Rat)) (h2 : p.2 * (d : Rat) = q.2 * (d : Rat)) : p = q := by
  have hd' : (d : Rat) ≠ 0 := fun z => hd (Rat.intCast_eq_zero_iff.mp z)
  have key : ∀ x y : Rat, x * (d : Rat) = y * (d : Rat) → x = y := by
    intro x y h
    have := Rat.mul_div_cancel (a := x) hd'
    rw [h, Rat.mul_div_cancel hd'] at this
    exact this.symm
  exact Prod.ext (key _ _ h1) (key _ _ h2)
theorem divI_mul (a d : Int) (hd : d ≠ 0) : Rat.divInt a d * (d : Rat) = (a : Rat) := by
  rw [Rat.divInt_eq_div]
  exact Rat.div_mul_cancel (fun z => hd (Rat.intCast_eq_zero_iff.mp z))
theorem atM_D {a b : Sg} (hd : mD a b ≠ 0) : (atM a b).1 * (mD a b : Rat) = (a.1 : Rat) * (mD a b : Rat) + (mT a b : Rat) * ((a.2.2.1 : Rat) - (a.1 : Rat)) ∧ (atM a b).2 * (mD a b : Rat) = (a.2.1 : Rat) * (mD a b : Rat) + (mT a b : Rat) * ((a.2.2.2 : Rat) - (a.2.1 : Rat)) := by
  unfold atM
  rw [if_neg hd]
  constructor
  · show Rat.divInt _ _ * _ = _
    rw [divI_mul _ _ hd]
    simp only [Rat.intCast_sub, Rat.intCast_mul, Rat.intCast_add]
  · show Rat.divInt _ _ * _ = _
    rw [divI_mul _ _ hd]
    simp only [Rat.intCast_sub, Rat.intCast_mul, Rat.intCast_add]
theorem sgn_r {x e k c : Rat} (he : 0 < e) (hc : 0 < c) (h : x * e = k * c) : (0 < x ↔ 0 < k) ∧ (x < 0 ↔ k < 0) ∧ (x = 0 ↔ k = 0) := by
  have p1 := Rat.mul_pos_iff_of_pos_right (a := x) he
  have p2 := Rat.mul_pos_iff_of_pos_right (a := k) hc
  have n1 := Rat.mul_neg_iff_of_pos_right (a := x) he
  have n2 := Rat.mul_neg_iff_of_pos_right (a := k) hc
  rw [h] at p1 n1
  have a1 : 0 < x ↔ 0 < k := p1.symm.trans p2
  have a2 : x < 0 ↔ k < 0 := n1.symm.trans n2
  refine ⟨a1, a2, ?_⟩
  grind
theorem sgOk.lex {s : Sg} (hs : sgOk s) : (0 : Rat) < (s.2.2.1 : Rat) - (s.1 : Rat) ∨ ((s.2.2.1 : Rat) - (s.1 : Rat) = 0 ∧ (0 : Rat) < (s.2.2.2 : Rat) - (s.2.1 : Rat)) := by
  rcases hs.2.2.2.2 with h | ⟨h, h'⟩
  · left
    have := Rat.intCast_lt_intCast.mpr h
    grind
  · right
    rw [h]
    have := Rat.intCast_lt_intCast.mpr h'
    exact ⟨by grind, by grind⟩
theorem lxc_le {p q : Pt} : lxc p q ≤ 0 ↔ ¬ (q.1 < p.1 ∨ (q.1 = p.1 ∧ q.2 < p.2)) := by
  rw [← lxc_lt, lxc_neg p q]
  omega
theorem onB_iff {s : Sg} {p : Pt} : onB s p = true ↔ sd s p = 0 ∧ ¬ (p.1 < (s.1 : Rat) ∨ (p.1 = (s.1 : Rat) ∧ p.2 < (s.2.1 : Rat))) ∧ ¬ ((s.2.2.1 : Rat) < p.1 ∨ ((s.2.2.1 : Rat) = p.1 ∧ (s.2.2.2 : Rat) < p.2)) := by
  unfold onB
  rw [Bool.and_eq_true, Bool.and_eq_true, decide_eq_true_iff, decide_eq_true_iff, decide_eq_true_iff, lxc_le, lxc_le, and_assoc]
  rfl
theorem onB_par {s : Sg} (hs : sgOk s) {p : Pt} {e t : Rat} (he : 0 < e) (hx : (p.1 - (s.1 : Rat)) * e = t * ((s.2.2.1 : Rat) - (s.1 : Rat))) (hy : (p.2 - (s.2.1 : Rat)) * e = t * ((s.2.2.2 : Rat) - (s.2.1 : Rat))) : onB s p = true ↔ 0 ≤ t ∧ t ≤ e := by
  have hl := hs.lex
  rw [onB_iff]
  unfold sd
  generalize (s.1 : Rat) = ax at *
  generalize (s.2.1 : Rat) = ay at *
  generalize (s.2.2.1 : Rat) = bx at *
  generalize (s.2.2.2 : Rat) = b_y at *
  generalize p.1 = x at *
  generalize p.2 = y at *
  have ez : ∀ z : Rat, z * e = 0 → z = 0 := fun z hz => (Rat.mul_eq_zero.mp hz).resolve_right (fun w => by rw [w] at he; exact Rat.lt_irrefl he)
  have k0 : (bx - ax) * (y - ay) - (b_y - ay) * (x - ax) = 0 := by
    apply ez
    grind
  have hx' : (bx - x) * e = (e - t) * (bx - ax) := by grind
  have hy' : (b_y - y) * e = (e - t) * (b_y - ay) := by grind
  rcases hl with h | ⟨h, h'⟩
  · obtain ⟨a1, a2, a3⟩ := sgn_r he h hx
    obtain ⟨b1, b2, b3⟩ := sgn_r he h hx'
    have c1 : x = ax → y = ay := by
      intro w
      have t0 : t = 0 := a3.mp (by grind)
      rw [t0, Rat.zero_mul] at hy
      have := ez _ hy
      grind
    have c2 : bx = x → b_y = y := by
      intro w
      have t0 : e - t = 0 := b3.mp (by grind)
      rw [t0, Rat.zero_mul] at hy'
      have := ez _ hy'
      grind
    grind
  · rw [h, Rat.mul_zero] at hx hx'
    have x1 := ez _ hx
    have x2 := ez _ hx'
    obtain ⟨a1, a2, a3⟩ := sgn_r he h' hy
    obtain ⟨b1, b2, b3⟩ := sgn_r he h' hy'
    grind
theorem onB_A {s : Sg} (hs : sgOk s) : onB s (ptA s) = true := (onB_par hs (p := ptA s) (e := 1) (t := 0) (by decide) (by unfold ptA; grind) (by unfold ptA; grind)).mpr (by decide)
theorem onB_B {s : Sg} (hs : sgOk s) : onB s (ptB s) = true := (onB_par hs (p := ptB s) (e := 1) (t := 1) (by decide) (by unfold ptB; grind) (by unfold ptB; grind)).mpr (by decide)
theorem onB_sd {s : Sg} {p : Pt} (h : onB s p = true) : sd s p = 0 := (onB_iff.mp h).1
/-- two not of one way: on what the determinants say -/
theorem atM_on {a b : Sg} (ha : sgOk a) (hb : sgOk b) {c D T U : Int} (hc : c = 1 ∨ c = -1) (hD : D = c * mD a b) (hT : T = c * mT a b) (hU : U = c * mU a b) (h : 0 < D) : (onB a (atM a b) = true ↔ 0 ≤ T ∧ T ≤ D) ∧ (onB b (atM a b) = true ↔ 0 ≤ U ∧ U ≤ D) := by
  have d0 : mD a b ≠ 0 := fun z => by rw [z] at hD; omega
  obtain ⟨e1, e2⟩ := atM_D d0
  have i1 : (a.1 - b.1) * mD a b - mU a b * (b.2.2.1 - b.1) = -((a.2.2.1 - a.1) * mT a b) := by unfold mD mT mU; grind
  have i2 : (a.2.1 - b.2.1) * mD a b - mU a b * (b.2.2.2 - b.2.1) = -((a.2.2.2 - a.2.1) * mT a b) := by unfold mD mT mU; grind
  have j1 := congrArg (fun z : Int => (z : Rat)) i1
  have j2 := congrArg (fun z : Int => (z : Rat)) i2
  simp only [Rat.intCast_sub, Rat.intCast_mul, Rat.intCast_neg] at j1 j2
  have hD' : (D : Rat) = (c : Rat) * (mD a b : Rat) := by rw [hD, Rat.intCast_mul]
  have hT' : (T : Rat) = (c : Rat) * (mT a b : Rat) := by rw [hT, Rat.intCast_mul]
  have hU' : (U : Rat) = (c : Rat) * (mU a b : Rat) := by rw [hU, Rat.intCast_mul]
  have he : (0 : Rat) < (D : Rat) := Rat.intCast_pos.mpr h
  have r1 : ((0 : Rat) ≤ (T : Rat) ∧ (T : Rat) ≤ (D : Rat)) ↔ 0 ≤ T ∧ T ≤ D := by rw [Rat.intCast_nonneg, Rat.intCast_le_intCast]
  have r2 : ((0 : Rat) ≤ (U : Rat) ∧ (U : Rat) ≤ (D : Rat)) ↔ 0 ≤ U ∧ U ≤ D := by rw [Rat.intCast_nonneg, Rat.intCast_le_intCast]
  rw [← r1, ← r2]
  generalize (mD a b : Rat) = d at *
  generalize (mT a b : Rat) = t at *
  generalize (mU a b : Rat) = u at *
  constructor
  · refine onB_par ha he ?_ ?_ <;> rw [hD', hT'] <;> grind
  · refine onB_par hb he ?_ ?_ <;> rw [hD', hU'] <;> grind
theorem hw_12 {D T U : Int} (h : 0 < D) : (hwD D T U = 1 ∨ hwD D T U = 2) ↔ (0 ≤ T ∧ T ≤ D) ∧ (0 ≤ U ∧ U ≤ D) := by unfold hwD; grind (splits := 30)
theorem hw_0 {D T U : Int} (h : ¬ (hwD D T U = 1 ∨ hwD D T U = 2)) : hwD D T U = 0 := by unfold hwD at *; grind (splits := 30)
/-- the determinants, their sign turned where need be -/
theorem how_cs {a b : Sg} (d0 : mD a b ≠ 0) : ∃ c D T U : Int, (c = 1 ∨ c = -1) ∧ D = c * mD a b ∧ T = c * mT a b ∧ U = c * mU a b ∧ 0 < D ∧ howM a b = hwD D T U := by
  unfold howM
  rw [if_neg d0]
  by_cases d1 : mD a b < 0
  · rw [if_pos d1]
    exact ⟨-1, _, _, _, Or.inr rfl, by omega, by omega, by omega, by omega, rfl⟩
  · rw [if_neg d1]
    exact ⟨1, _, _, _, Or.inl rfl, by omega, by omega, by omega, by omega, rfl⟩
/-- of one way, and they meet in a single place -/
theorem how_rw {a b : Sg} (ha : sgOk a) (hb : sgOk b) (d0 : mD a b = 0) (h : howM a b = 1 ∨ howM a b = 2) : mT a b = 0 ∧ mU a b = 0 ∧ max (kA a) (kA b) = min (kB a) (kB b) := by
  unfold howM at h
  rw [if_pos d0] at h
  by_cases u0 : mU a b = 0
  · rw [if_pos u0] at h
    by_cases t0 : mT a b = 0
    · rw [if_pos t0, rwH_k ha hb] at h
      refine ⟨t0, u0, ?_⟩
      grind
    · rw [if_neg t0] at h; omega
  · rw [if_neg u0] at h; omega
theorem k_pt {x y u v : Int} (h1 : 0 ≤ y ∧ y ≤ 40) (h2 : 0 ≤ v ∧ v ≤ 40) (h : 41 * x + y = 41 * u + v) : (((x : Int) : Rat), ((y : Int) : Rat)) = (((u : Int) : Rat), ((v : Int) : Rat)) := by
  obtain ⟨e1, e2⟩ := (eq_k h1 h2).mpr h
  rw [e1, e2]
/-- in a row: the place is the greater of the lesser ends -/
theorem atM_R {a b : Sg} (ha : sgOk a) (hb : sgOk b) (d0 : mD a b = 0) : (atM a b = ptA a ∧ kA b ≤ kA a) ∨ (atM a b = ptA b ∧ kA a < kA b) := by
  unfold atM
  rw [if_pos d0]
  rcases rwX_k ha hb with ⟨e, h⟩ | ⟨e, h⟩
  · left; rw [e]; exact ⟨rfl, by omega⟩
  · right; rw [e]; exact ⟨rfl, h⟩
theorem met_on {a b : Sg} (ha : sgOk a) (hb : sgOk b) (h : howM a b = 1 ∨ howM a b = 2) : onB a (atM a b) = true ∧ onB b (atM a b) = true := by
  by_cases d0 : mD a b = 0
  · obtain ⟨t0, u0, hk⟩ := how_rw ha hb d0 h
    obtain ⟨A, B, C, E⟩ := on_R ha hb d0 t0 u0
    have la := k_lt ha
    have lb := k_lt hb
    rcases atM_R ha hb d0 with ⟨e, g⟩ | ⟨e, g⟩ <;> rw [e]
    · exact ⟨onB_A ha, A.mpr (by omega)⟩
    · exact ⟨C.mpr (by omega), onB_A hb⟩
  · obtain ⟨c, D, T, U, hc, hD, hT, hU, hp, e⟩ := how_cs d0
    rw [e, hw_12 hp] at h
    obtain ⟨q1, q2⟩ := atM_on ha hb hc hD hT hU hp
    exact ⟨q1.mpr h.1, q2.mpr h.2⟩
/-- the only one, if they aren't of one way -/
theorem met_uniq {a b : Sg} (ha : sgOk a) (hb : sgOk b) (d0 : mD a b ≠ 0) {p : Pt} (h1 : onB a p = true) (h2 : onB b p = true) : p = atM a b ∧ (howM a b = 1 ∨ howM a b = 2) := by
  have s1 := onB_sd h1
  have s2 := onB_sd h2
  obtain ⟨e1, e2⟩ := atM_D d0
  have dd : (mD a b : Rat) = ((a.2.2.1 : Rat) - (a.1 : Rat)) * ((b.2.2.2 : Rat) - (b.2.1 : Rat)) - ((a.2.2.2 : Rat) - (a.2.1 : Rat)) * ((b.2.2.1 : Rat) - (b.1 : Rat)) := by unfold mD; simp only [Rat.intCast_sub, Rat.intCast_mul]
  have tt : (mT a b : Rat) = ((b.1 : Rat) - (a.1 : Rat)) * ((b.2.2.2 : Rat) - (b.2.1 : Rat)) - ((b.2.1 : Rat) - (a.2.1 : Rat)) * ((b.2.2.1 : Rat) - (b.1 : Rat)) := by unfold mT; simp only [Rat.intCast_sub, Rat.intCast_mul]
  have e : p = atM a b := by
    refine pt_eq d0 ?_ ?_
    · rw [e1, dd, tt]
      unfold sd at s1 s2
      clear e1 e2 dd tt
      generalize (a.1 : Rat) = a1 at *
      generalize (a.2.1 : Rat) = a2 at *
      generalize (a.2.2.1 : Rat) = a3 at *
      generalize (a.2.2.2 : Rat) = a4 at *
      generalize (b.1 : Rat) = b1 at *
      generalize (b.2.1 : Rat) = b2 at *
      generalize (b.2.2.1 : Rat) = b3 at *
      generalize (b.2.2.2 : Rat) = b4 at *
      grind
    · rw [e2, dd, tt]
      unfold sd at s1 s2
      clear e1 e2 dd tt
      generalize (a.1 : Rat) = a1 at *
      generalize (a.2.1 : Rat) = a2 at *
      generalize (a.2.2.1 : Rat) = a3 at *
      generalize (a.2.2.2 : Rat) = a4 at *
      generalize (b.1 : Rat) = b1 at *
      generalize (b.2.1 : Rat) = b2 at *
      generalize (b.2.2.1 : Rat) = b3 at *
      generalize (b.2.2.2 : Rat) = b4 at *
      grind
  refine ⟨e, ?_⟩
  obtain ⟨c, D, T, U, hc, hD, hT, hU, hp, ee⟩ := how_cs d0
  rw [ee, hw_12 hp]
  obtain ⟨q1, q2⟩ := atM_on ha hb hc hD hT hU hp
  rw [e] at h1 h2
  exact ⟨q1.mp h1, q2.mp h2⟩
/-- in either order -/
theorem mD_sym (a b : Sg) : mD b a = - mD a b := by unfold mD; grind
theorem mT_sym (a b : Sg) : mT b a = - mU a b := by unfold mT mU; grind
theorem mU_sym (a b : Sg) : mU b a = - mT a b := by unfold mT mU; grind
theorem hwD_sym (D T U : Int) : hwD D U T = hwD D T U := by unfold hwD; grind (splits := 40)
theorem how_sym {a b : Sg} (ha : sgOk a) (hb : sgOk b) : howM b a = howM a b := by
  unfold howM
  rw [mD_sym a b, mT_sym a b, mU_sym a b, rwH_k hb ha, rwH_k ha hb]
  have e1 : max (kA b) (kA a) = max (kA a) (kA b) := Int.max_comm ..
  have e2 : min (kB b) (kB a) = min (kB a) (kB b) := Int.min_comm ..
  rw [e1, e2]
  by_cases d0 : mD a b = 0
  · rw [if_pos d0, if_pos (by omega)]
    by_cases u0 : mU a b = 0
    · by_cases t0 : mT a b = 0
      · rw [if_pos u0, if_pos t0, if_pos (by omega), if_pos (by omega)]
      · rw [if_pos u0, if_neg t0, if_neg (by omega)]
    · rw [if_neg u0]
      by_cases t0 : mT a b = 0
      · rw [if_pos (by omega), if_neg (by omega)]
      · rw [if_neg (by omega)]
  · rw [if_neg d0, if_neg (by omega)]
    by_cases d1 : mD a b < 0
    · rw [if_pos d1, if_neg (by omega), hwD_sym]
    · rw [if_neg d1, if_pos (by omega), hwD_sym, Int.neg_neg, Int.neg_neg, Int.neg_neg]
theorem atM_sym {a b : Sg} (ha : sgOk a) (hb : sgOk b) (h : howM a b = 1 ∨ howM a b = 2) : atM b a = atM a b := by
  have h' : howM b a = 1 ∨ howM b a = 2 := by rw [how_sym ha hb]; exact h
  obtain ⟨q1, q2⟩ := met_on hb ha h'
  by_cases d0 : mD a b = 0
  · have d0' : mD b a = 0 := by rw [mD_sym]; omega
    rcases atM_R ha hb d0 with ⟨e, g⟩ | ⟨e, g⟩ <;> rcases atM_R hb ha d0' with ⟨e', g'⟩ | ⟨e', g'⟩ <;> rw [e, e']
    · exact k_pt hb.2.1 ha.2.1 (by unfold kA at *; omega)
    · exact k_pt ha.2.1 hb.2.1 (by unfold kA at *; omega)
  · exact (met_uniq ha hb d0 q2 q1).1
theorem met_bd {a b : Sg} (ha : sgOk a) (hb : sgOk b) : bn (mD a b) 3200 ∧ bn (mT a b) 3200 ∧ bn (mU a b) 3200 ∧ bn (a.1 * mD a b + mT a b * (a.2.2.1 - a.1)) 256000 ∧ bn (a.2.1 * mD a b + mT a b * (a.2.2.2 - a.2.1)) 256000 := by
  obtain ⟨a1, a2, a3, a4, -⟩ := ha
  obtain ⟨b1, b2, b3, b4, -⟩ := hb
  have r1 : bn (a.2.2.1 - a.1) 40 := bn_of (by omega)
  have r2 : bn (a.2.2.2 - a.2.1) 40 := bn_of (by omega)
  have s1 : bn (b.2.2.1 - b.1) 40 := bn_of (by omega)
  have s2 : bn (b.2.2.2 - b.2.1) 40 := bn_of (by omega)
  have w1 : bn (b.1 - a.1) 40 := bn_of (by omega)
  have w2 : bn (b.2.1 - a.2.1) 40 := bn_of (by omega)
  have x1 : bn a.1 40 := bn_of (by omega)
  have x2 : bn a.2.1 40 := bn_of (by omega)
  have d : bn (mD a b) 3200 := bn_sub (bn_mul r1 s2) (bn_mul r2 s1)
  have t : bn (mT a b) 3200 := bn_sub (bn_mul w1 s2) (bn_mul w2 s1)
  have u : bn (mU a b) 3200 := bn_sub (bn_mul w1 r2) (bn_mul w2 r1)
  exact ⟨d, t, u, bn_add (bn_mul x1 d) (bn_mul t r1), bn_add (bn_mul x2 d) (bn_mul t r2)⟩
/-- the component's place -/
theorem met_e {N : Nat} (hN : 30 ≤ N) {a b : Sg} (ha : sgOk a) (hb : sgOk b) (h : howM a b = 1 ∨ howM a b = 2) : F_X0_met N (lnOf a) (lnOf b) = some (rfP (atM a b)) := by
  have A1 : F_X4_isOn N (lnOf b) (lnOf a).2.2.2.2.2.1 = some (bi (onB b (ptA a))) := isOn_e hb (pq_A ha)
  have A2 : F_X4_isOn N (lnOf b) (lnOf a).2.2.2.2.2.2 = some (bi (onB b (ptB a))) := isOn_e hb (pq_B ha)
  have A3 : F_X4_isOn N (lnOf a) (lnOf b).2.2.2.2.2.1 = some (bi (onB a (ptA b))) := isOn_e ha (pq_A hb)
  have A4 : F_X4_isOn N (lnOf a) (lnOf b).2.2.2.2.2.2 = some (bi (onB a (ptB b))) := isOn_e ha (pq_B hb)
  obtain ⟨bd, bt, bu, bx, by'⟩ := met_bd ha hb
  unfold F_X0_met
  rw [A1, A2, A3, A4]
  simp only [Option.bind_some, bi_0]
  by_cases d0 : mD a b = 0
  · obtain ⟨t0, u0, hk⟩ := how_rw ha hb d0 h
    obtain ⟨A, B, C, E⟩ := on_R ha hb d0 t0 u0
    have la := k_lt ha
    have lb := k_lt hb
    by_cases c1 : onB b (ptA a) = true
    · rw [if_pos c1]
      have := A.mp c1
      rcases atM_R ha hb d0 with ⟨e, g⟩ | ⟨e, g⟩
      · rw [e]; rfl
      · omega
    · rw [if_neg c1]
      by_cases c2 : onB b (ptB a) = true
      · rw [if_pos c2]
        have := B.mp c2
        have e : atM a b = ptB a := by
          rcases atM_R ha hb d0 with ⟨e, g⟩ | ⟨e, g⟩
          · omega
          · rw [e]; exact k_pt hb.2.1 ha.2.2.2.1 (by unfold kA kB at *; omega)
        rw [e]; rfl
      · rw [A] at c1
        rw [B] at c2
        omega
  · by_cases c1 : onB b (ptA a) = true
    · rw [if_pos c1, ← (met_uniq ha hb d0 (onB_A ha) c1).1]; rfl
    · rw [if_neg c1]
      by_cases c2 : onB b (ptB a) = true
      · rw [if_pos c2, ← (met_uniq ha hb d0 (onB_B ha) c2).1]; rfl
      · rw [if_neg c2]
        by_cases c3 : onB a (ptA b) = true
        · rw [if_pos c3, ← (met_uniq ha hb d0 c3 (onB_A hb)).1]; rfl
        · rw [if_neg c3]
          by_cases c4 : onB a (ptB b) = true
          · rw [if_pos c4, ← (met_uniq ha hb d0 c4 (onB_B hb)).1]; rfl
          · rw [if_neg c4]
            obtain ⟨a1, a2, a3, a4, -⟩ := ha
            obtain ⟨b1, b2, b3, b4, -⟩ := hb
            have t1 := i32_to64 (a := a.2.2.1 - a.1) (by omega)
            have t2 := i32_to64 (a := a.2.2.2 - a.2.1) (by omega)
            have t3 := i32_to64 (a := b.2.2.1 - b.1) (by omega)
            have t4 := i32_to64 (a := b.2.2.2 - b.2.1) (by omega)
            have t5 := i32_to64 (a := b.1 - a.1) (by omega)
            have t6 := i32_to64 (a := b.2.1 - a.2.1) (by omega)
            have t7 := i32_to64 (a := a.1) (by omega)
            have t8 := i32_to64 (a := a.2.1) (by omega)
            unfold F_X4_dx F_X4_dy
            simp only [Option.bind_some, lnOf, i32_sub, t1, t2, t3, t4, t5, t6, t7, t8, i64_mul, i64_sub, i64_add]
            have f1 := X7_init_e (N := N) (k := 12) (a := a.1 * mD a b + mT a b * (a.2.2.1 - a.1)) (b := mD a b) (bn_le bx (by decide)) d0 (by unfold bn at bd; omega) (by decide) (by omega)
            have f2 := X7_init_e (N := N) (k := 12) (a := a.2.1 * mD a b + mT a b * (a.2.2.2 - a.2.1)) (b := mD a b) (bn_le by' (by decide)) d0 (by unfold bn at bd; omega) (by decide) (by omega)
            unfold mD mT at f1 f2
            rw [f1, Option.bind_some, f2, Option.bind_some]
            unfold atM
            rw [if_neg d0]
            rfl
