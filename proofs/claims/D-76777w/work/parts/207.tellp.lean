/-! THE MODEL'S POINTS -/
set_option maxRecDepth 100000
abbrev ksP : List Nat := [5, 6, 7, 8, 9, 10, 11, 12, 13]
theorem MPt.fr {ks : List Nat} {σ σ' : MSt} {x : Nat × (Nat → Pt)} (h : MPt σ x) (hf : mfr ks σ σ') (hk : 9 ∉ ks ∧ 10 ∉ ks ∧ 11 ∉ ks ∧ 12 ∉ ks ∧ 13 ∉ ks) : MPt σ' x := by
  refine ⟨by rw [hf.gI 9 hk.1]; exact h.1, fun i hi => ?_⟩
  rw [← h.2 i hi]
  unfold gQ
  rw [hf.gL 10 hk.2.1, hf.gL 11 hk.2.2.1, hf.gL 12 hk.2.2.2.1, hf.gL 13 hk.2.2.2.2]
theorem addE_e {N : Nat} (hN : 100 ≤ N) {σ : MSt} {x : Nat × (Nat → Pt)} (h : MPt σ x) (hg : ptG x) (hn : x.1 < 80) {u v : Int} (hu : 0 ≤ u ∧ u ≤ 40) (hv : 0 ≤ v ∧ v ≤ 40) :
    ∃ σ', F_addPoint N σ ((i32 u).toInt64) ((i32 v).toInt64) 1 = some σ' ∧ mfr [9, 10, 11, 12, 13] σ σ' ∧ MPt σ' (addP x ((u : Rat), (v : Rat))) := by
  rw [i32_to64 (by omega), i32_to64 (by omega), show (1 : Int64) = i64 1 from rfl]
  exact add_e hN h hg.1 hg.2 hn (p := ((u : Rat), (v : Rat))) ⟨fb_i (bn_of (by omega)), fb_i (bn_of (by omega))⟩ (bn_of (by omega)) (bn_of (by omega)) (by decide) (by decide) (divI_1 u) (divI_1 v)
theorem tellJ_e {N : Nat} (hN : 100 ≤ N) {n : Nat} {L : Nat → Sg} (hL : LOk n L) {l : Nat} (hl : l < n) (r7 : MSt → Int32 → Option MSt) {x : Nat × (Nat → Pt)} (hx : ptG x) (hxn : x.1 + l ≤ 65) :
    ∀ (d k m : Nat) (σ : MSt), k + d = l → d < m → MLn σ n L → MPt σ (ptJ L l k x) → ∃ σ', F_tellPoints_L55 N r7 m σ (i32 l) (i32 k) = r7 σ' (i32 ((l + 1 : Nat) : Int)) ∧ mfr ksP σ σ' ∧ MPt σ' (ptJ L l l x) := by
  intro d
  induction d with
  | zero =>
    intro k m σ hk hm h hp
    obtain ⟨m, rfl⟩ : ∃ j, m = j + 1 := ⟨m - 1, by omega⟩
    have e : k = l := by omega
    subst e
    have := hL.1
    refine ⟨σ, ?_, mfr.rf _ _, hp⟩
    unfold F_tellPoints_L55
    rw [if_pos ((i32_le (by omega) (by omega)).mpr (Int.le_refl _))]
    simp only
    rw [show i32 (k : Int) + 1 = i32 ((k + 1 : Nat) : Int) by rw [show (1 : Int32) = i32 1 from rfl, i32_add]; congr 1]
  | succ d ih =>
    intro k m σ hk hm h hp
    obtain ⟨m, rfl⟩ : ∃ j, m = j + 1 := ⟨m - 1, by omega⟩
    have hn10 := hL.1
    obtain ⟨σ1, h1, h2, h3, h4⟩ := meet_e (N := N) h hL hl (show k < n by omega)
    have hp1 : MPt σ1 (ptJ L l k x) := hp.fr h2 (by decide)
    have hM1 : MLn σ1 n L := h.fr h2 (by decide)
    have sy := how_sym (hL.2 k (by omega)) (hL.2 l hl)
    rw [sy] at h3 h4
    have le := ptJ_le L l k x
    have gk := ptJ_G hL hl k (by omega) x hx
    have nx : i32 (k : Int) + 1 = i32 ((k + 1 : Nat) : Int) := by rw [show (1 : Int32) = i32 1 from rfl, i32_add]; congr 1
    have hr : -9 ≤ howM (L k) (L l) ∧ howM (L k) (L l) ≤ 9 := by unfold howM hwD rwH; grind (splits := 40)
    have e0 : F_tellPoints_L55 N r7 (m + 1) σ (i32 l) (i32 k) = if howM (L k) (L l) = 1 then F_tellPoints_b82 N r7 (F_tellPoints_L55 N r7 m) σ1 (i32 l) (i32 k) else if howM (L k) (L l) = 2 then F_tellPoints_b82 N r7 (F_tellPoints_L55 N r7 m) σ1 (i32 l) (i32 k) else F_tellPoints_L55 N r7 m σ1 (i32 l) (i32 ((k + 1 : Nat) : Int)) := by
      rw [F_tellPoints_L55, if_neg (fun z => by have := (i32_le (by omega) (by omega)).mp z; omega), h1, Option.bind_some, h3]
      unfold F_tellPoints_b98
      simp only [nx]
      rw [show (1 : Int32) = i32 1 from rfl, show (2 : Int32) = i32 2 from rfl, ite_ii (i32_eq (by omega) (by omega)), ite_ii (i32_eq (by omega) (by omega))]
    by_cases c : howM (L k) (L l) = 1 ∨ howM (L k) (L l) = 2
    · obtain ⟨X, Y, B, g1, g2, g3, g4, g5, g6, g7, g8, g9⟩ := h4 c
      rw [atM_sym (hL.2 k (by omega)) (hL.2 l hl) c] at g8 g9
      obtain ⟨σ2, q1, q2, q3⟩ := add_e hN hp1 gk.1 gk.2 (by omega) (pq_M (hL.2 k (by omega)) (hL.2 l hl)) g6 g7 g4 g5 g8 g9
      have e3 : ptJ L l (k + 1) x = addP (ptJ L l k x) (atM (L k) (L l)) := by
        show (if _ then _ else _) = _
        rw [if_pos c]
      obtain ⟨σ3, s1, s2, s3⟩ := ih (k + 1) m σ2 (by omega) (by omega) (hM1.fr q2 (by decide)) (by rw [e3]; exact q3)
      refine ⟨σ3, ?_, ((h2.up (by decide)).tr (q2.up (by decide))).tr s2, s3⟩
      have e4 : F_tellPoints_b82 N r7 (F_tellPoints_L55 N r7 m) σ1 (i32 l) (i32 k) = F_tellPoints_L55 N r7 m σ2 (i32 l) (i32 ((k + 1 : Nat) : Int)) := by
        unfold F_tellPoints_b82 F_tellPoints_b98
        rw [g1, g2, g3, q1, Option.bind_some]
        simp only [nx]
      rw [e0, e4, ← s1]
      rcases c with c | c
      · rw [if_pos c]
      · rw [if_neg (by omega), if_pos c]
    · have e3 : ptJ L l (k + 1) x = ptJ L l k x := by
        show (if _ then _ else _) = _
        rw [if_neg c]
      obtain ⟨σ3, s1, s2, s3⟩ := ih (k + 1) m σ1 (by omega) (by omega) hM1 (by rw [e3]; exact hp1)
      refine ⟨σ3, ?_, (h2.up (by decide)).tr s2, s3⟩
      rw [e0, if_neg (by omega), if_neg (by omega), s1]
theorem tellL_e {N : Nat} (hN : 100 ≤ N) {n : Nat} {L : Nat → Sg} (hL : LOk n L) :
    ∀ (d l m : Nat) (σ : MSt), l + d = n → d < m → MLn σ n L → MPt σ (ptN L l) → ∃ σ', F_tellPoints_L7 N m σ (i32 l) = some σ' ∧ mfr ksP σ σ' ∧ MPt σ' (ptN L n) := by
  intro d
  induction d with
  | zero =>
    intro l m σ hl hm h hp
    obtain ⟨m, rfl⟩ : ∃ j, m = j + 1 := ⟨m - 1, by omega⟩
    have e : l = n := by omega
    subst e
    have := hL.1
    refine ⟨σ, ?_, mfr.rf _ _, hp⟩
    unfold F_tellPoints_L7
    rw [h.1, if_pos ((i32_le (by omega) (by omega)).mpr (Int.le_refl _))]
  | succ d ih =>
    intro l m σ hl hm h hp
    obtain ⟨m, rfl⟩ : ∃ j, m = j + 1 := ⟨m - 1, by omega⟩
    have hn10 := hL.1
    have hln : l < n := by omega
    have A : ∀ {α : Type} (f : Nat → Option α), ck (i32 (l : Int)) 10 f = f l := fun f => ck_n (by omega) (by decide) f
    obtain ⟨b1, b2, b3, b4, -⟩ := hL.2 l hln
    have le := ptN_le L l
    have tl := tri_le (l := l) (by omega)
    have g0 := ptN_G hL l (by omega)
    obtain ⟨p1, p2, p3, p4⟩ := h.2 l hln
    obtain ⟨σ1, q1, q2, q3⟩ := addE_e hN hp g0 (by omega) b1 b2
    have hM1 : MLn σ1 n L := h.fr q2 (by decide)
    obtain ⟨p1', p2', p3', p4'⟩ := hM1.2 l hln
    have g1 := g0.add (pq_A (hL.2 l hln))
    have le1 := addP_le (ptN L l) (ptA (L l))
    obtain ⟨σ2, s1, s2, s3⟩ := addE_e hN q3 g1 (by show (addP (ptN L l) (ptA (L l))).1 < 80; omega) b3 b4
    have hM2 : MLn σ2 n L := hM1.fr s2 (by decide)
    have g2 := g1.add (pq_B (hL.2 l hln))
    have le2 := addP_le (addP (ptN L l) (ptA (L l))) (ptB (L l))
    obtain ⟨σ3, t1, t2, t3⟩ := tellJ_e hN hL hln (F_tellPoints_L7 N m) g2 (by omega) l 0 N σ2 (by omega) (by omega) hM2 s3
    obtain ⟨σ4, u1, u2, u3⟩ := ih (l + 1) m σ3 (by omega) (by omega) (hM2.fr t2 (by decide)) t3
    refine ⟨σ4, ?_, (((q2.up (by decide)).tr (s2.up (by decide))).tr t2).tr u2, u3⟩
    unfold F_tellPoints_L7
    rw [h.1, if_neg (fun z => by have := (i32_le (by omega) (by omega)).mp z; omega)]
    simp only [A, p1, p2, q1, Option.bind_some, p3', p4', s1]
    rw [← u1]
    exact t1
theorem tellPoints_e {N : Nat} (hN : 100 ≤ N) {n : Nat} {L : Nat → Sg} (hL : LOk n L) {σ : MSt} (h : MLn σ n L) : ∃ σ', F_tellPoints N σ = some σ' ∧ mfr ksP σ σ' ∧ MPt σ' (ptN L n) := by
  have hn10 := hL.1
  obtain ⟨σ', h1, h2, h3⟩ := tellL_e hN hL n 0 N (sI σ 9 0) (by omega) (by omega) (h.fr ((mfr.rf [9] σ).I (by decide) 0) (by decide)) ⟨rfl, fun i hi => absurd hi (Nat.not_lt_zero _)⟩
  exact ⟨σ', h1, (((mfr.rf [9] σ).I (by decide) 0).up (by decide)).tr h2, h3⟩
