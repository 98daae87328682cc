/-! THE MODEL'S FACES -/
set_option maxRecDepth 100000
def M27 (σ : MSt) (n : Nat) (L : Nat → Sg) : Prop := ∀ s, s ≤ nX n L + 1 → gA σ 27 s = i32 ((fcN n L s : Nat) : Int)
theorem M27.fr {ks : List Nat} {σ σ' : MSt} {n : Nat} {L : Nat → Sg} (h : M27 σ n L) (hf : mfr ks σ σ') (hk : 27 ∉ ks) : M27 σ' n L := fun s hs => by rw [hf.gA 27 hk]; exact h s hs
abbrev ksM : List Nat := [31, 33, 34, 35, 36]
section MJ
variable {N n : Nat} {L : Nat → Sg}
theorem jb_e (hN : 2000 ≤ N) (hL : LOk n L) {t a : Nat} (ht : t < nX n L) (ha : a ≤ nGr n L t) (r25 : MSt → Int32 → Option MSt) (r42 : MSt → Int32 → Int32 → Option MSt) :
    ∀ (d b m : Nat) (σ : MSt), b + d = nGr n L (t + 1) + 1 → d < m → MLn σ n L → MXs σ n L → MCS σ n L (nX n L + 1) → M27 σ n L → EM σ n L t a b → ∃ σ', F_joinCells_L59 N r25 r42 m σ (i32 ((t + 1 : Nat) : Int)) (i32 ((fcN n L t + a : Nat) : Int)) (i32 ((fcN n L (t + 1) + b : Nat) : Int)) = r42 σ' (i32 ((t + 1 : Nat) : Int)) (i32 ((fcN n L t + (a + 1) : Nat) : Int)) ∧ mfr ksM σ σ' ∧ EM σ' n L t (a + 1) 0 := by
  have hn10 := hL.1
  have m65 := nX_65 hL
  have f1 := fcN_mono (n := n) (L := L) (show t + 1 ≤ nX n L + 1 by omega)
  have f2 := fcN_mono (n := n) (L := L) (show t + 1 + 1 ≤ nX n L + 1 by omega)
  have f3 : fcN n L (t + 1) = fcN n L t + (nGr n L t + 1) := rfl
  have f4 : fcN n L (t + 1 + 1) = fcN n L (t + 1) + (nGr n L (t + 1) + 1) := rfl
  have fl := fcN_le hn10 L (nX n L + 1)
  have A2 : ∀ {α : Type} (f : Nat → Option α), ck (i32 ((t + 1 + 1 : Nat) : Int)) 82 f = f (t + 1 + 1) := fun f => ck_n (by omega) (by decide) f
  have T : ∀ {α : Type} (f : Nat → Option α), ck (i32 ((t + 1 : Nat) : Int)) 81 f = f (t + 1) := fun f => ck_n (by omega) (by decide) f
  intro d
  induction d with
  | zero =>
    intro b m σ hb hm h hx hc h27 he
    obtain ⟨m, rfl⟩ : ∃ j, m = j + 1 := ⟨m - 1, by omega⟩
    have e : b = nGr n L (t + 1) + 1 := by omega
    subst e
    obtain ⟨es, e1, e2⟩ := he
    refine ⟨σ, ?_, mfr.rf _ _, es, e1, fun e => by rw [e2 e, inM_row]⟩
    unfold F_joinCells_L59
    simp only [i32_s, A2, h27 (t + 1 + 1) (by omega)]
    rw [if_pos ((i32_le (by omega) (by omega)).mpr (by omega))]
    rfl
  | succ d ih =>
    intro b m σ hb hm h hx hc h27 he
    obtain ⟨m, rfl⟩ : ∃ j, m = j + 1 := ⟨m - 1, by omega⟩
    have hb' : b ≤ nGr n L (t + 1) := by omega
    have x1 := xX_fb hL ht
    obtain ⟨k1, k2⟩ := hx.2 t ht
    obtain ⟨σ1, σ2, σ3, w1, w2, w3, g1, g2, g3, mf⟩ := commonC_e (N := N) hL h hc ht ha hb'
    obtain ⟨l1, l2⟩ := lo_40 hL ha hb'
    obtain ⟨q1, q2⟩ := hi_40 hL t a b
    have ol : o40 (lwP n L t a b) := gre_40 l1 l2
    have oh : o40 (hgP n L t a b) := les_40 q1 q2
    have P : ∀ {α : Type} (f : Nat → Option α), ck (i32 ((fcN n L t + a : Nat) : Int)) 900 f = f (fcN n L t + a) := fun f => ck_n (by omega) (by decide) f
    have Q : ∀ {α : Type} (f : Nat → Option α), ck (i32 ((fcN n L (t + 1) + b : Nat) : Int)) 900 f = f (fcN n L (t + 1) + b) := fun f => ck_n (by omega) (by decide) f
    have h3 := h.fr g3 (by decide)
    have x3 := hx.fr g3 (by decide)
    have c3 := hc.fr g3 (by decide)
    have m3 := h27.fr g3 (by decide)
    have e3 := EM_fr he g3 (by decide)
    have mo := more_e (N := N) mf
    have op := mopen_e (N := N) (by omega) h3 hL x1 mf
    -- on to the next, with the pairs as they are
    have nxt : ∀ σ4 : MSt, mfr ksM σ σ4 → EM σ4 n L t a (b + 1) → ∃ σ', F_joinCells_L59 N r25 r42 m σ4 (i32 ((t + 1 : Nat) : Int)) (i32 ((fcN n L t + a : Nat) : Int)) (i32 ((fcN n L (t + 1) + (b + 1) : Nat) : Int)) = r42 σ' (i32 ((t + 1 : Nat) : Int)) (i32 ((fcN n L t + (a + 1) : Nat) : Int)) ∧ mfr ksM σ σ' ∧ EM σ' n L t (a + 1) 0 := by
      intro σ4 f4' he4
      obtain ⟨σ', v1, v2, v3⟩ := ih (b + 1) m σ4 (by omega) (by omega) (h.fr f4' (by decide)) (hx.fr f4' (by decide)) (hc.fr f4' (by decide)) (h27.fr f4' (by decide)) he4
      exact ⟨σ', v1, f4'.tr v2, v3⟩
    have pass : ¬ (ovP (lwP n L t a b) (hgP n L t a b) ∧ opnP n L (xX n L t) (lwP n L t a b) (hgP n L t a b)) → EM σ3 n L t a (b + 1) := by
      intro no
      obtain ⟨es, e1, e2⟩ := e3
      refine ⟨es, e1, fun e => ?_⟩
      rw [inM_step ha hb', ← or_assoc, ← e2 e]
      exact ⟨Or.inl, fun w => w.resolve_right (fun v => no ⟨v.1, v.2.2⟩)⟩
    unfold F_joinCells_L59
    simp only [i32_s, A2, h27 (t + 1 + 1) (by omega)]
    rw [if_neg (fun z => by have := (i32_le (by omega) (by omega)).mp z; omega), w1, Option.bind_some]
    simp only [T, g1.gL 25 (by decide), g1.gL 26 (by decide), g2.gL 25 (by decide), g2.gL 26 (by decide), k1, k2, w2, w3, Option.bind_some, mo, bi_0, g3.gL 25 (by decide), g3.gL 26 (by decide), op]
    have ovd := ov_F ol oh
    have opd := opn_F hL (x := xX n L t) ol oh
    by_cases c1 : ovP (lwP n L t a b) (hgP n L t a b)
    · rw [decide_eq_true (ovd.mpr c1), if_pos rfl]
      by_cases c2 : opnP n L (xX n L t) (lwP n L t a b) (hgP n L t a b)
      · rw [pB_t (opd.mpr c2), if_pos rfl]
        obtain ⟨es, e1, e2⟩ := e3
        have lp := eu_l_le es (fcN n L t + a)
        have lq := eu_l_le es (fcN n L (t + 1) + b)
        simp only [P, Q, e1 (fcN n L t + a) (by omega), e1 (fcN n L (t + 1) + b) (by omega)]
        rw [jmn_e (by omega) (by omega), jmx_e (by omega) (by omega), show (min ((eu_l es (fcN n L t + a) : Nat) : Int) ((eu_l es (fcN n L (t + 1) + b) : Nat) : Int)) = ((min (eu_l es (fcN n L t + a)) (eu_l es (fcN n L (t + 1) + b)) : Nat) : Int) by omega, show (max ((eu_l es (fcN n L t + a) : Nat) : Int) ((eu_l es (fcN n L (t + 1) + b) : Nat) : Int)) = ((max (eu_l es (fcN n L t + a)) (eu_l es (fcN n L (t + 1) + b)) : Nat) : Int) by omega]
        obtain ⟨σ4, u1, u2, u3⟩ := mjrelab_e (N := N) (show fcN n L (nX n L + 1) ≤ 740 by omega) (eu_l_le es) (show fcN n L t + a < fcN n L (nX n L + 1) by omega) (show fcN n L (t + 1) + b < fcN n L (nX n L + 1) by omega) r25 r42 (F_joinCells_L59 N r25 r42 m) (i32 ((t + 1 : Nat) : Int)) (i32 ((fcN n L t + a : Nat) : Int)) (fcN n L (t + 1) + b) (fcN n L (nX n L + 1)) 0 N σ3 (by omega) (by omega) c3.2.1 (fun v hv => by simp only [if_neg (Nat.not_lt_zero v)]; exact e1 v hv)
        obtain ⟨σ', v1, v2, v3⟩ := nxt σ4 ((g3.up (by decide)).tr (u2.up (by decide))) ⟨(fcN n L t + a, fcN n L (t + 1) + b) :: es, u3, fun e => by
          rw [inM_step ha hb', ← or_assoc, ← e2 e, List.mem_cons]
          constructor
          · rintro (w | w)
            · exact Or.inr ⟨c1, w, c2⟩
            · exact Or.inl w
          · rintro (w | w)
            · exact Or.inr w
            · exact Or.inl w.2.1⟩
        exact ⟨σ', u1.trans v1, v2, v3⟩
      · rw [pB_f (fun w => c2 (opd.mp w)), if_neg (by decide)]
        unfold F_joinCells_b211
        simp only [i32_s]
        exact nxt σ3 (g3.up (by decide)) (pass (fun w => c2 w.2))
    · rw [decide_eq_false (fun w => c1 (ovd.mp w)), if_neg (by decide)]
      unfold F_joinCells_b211
      simp only [i32_s]
      exact nxt σ3 (g3.up (by decide)) (pass (fun w => c1 w.1))
theorem ja_e (hN : 2000 ≤ N) (hL : LOk n L) {t : Nat} (ht : t < nX n L) (r25 : MSt → Int32 → Option MSt) :
    ∀ (d a m : Nat) (σ : MSt), a + d = nGr n L t + 1 → d < m → MLn σ n L → MXs σ n L → MCS σ n L (nX n L + 1) → M27 σ n L → EM σ n L t a 0 → ∃ σ', F_joinCells_L42 N r25 m σ (i32 ((t + 1 : Nat) : Int)) (i32 ((fcN n L t + a : Nat) : Int)) = r25 σ' (i32 ((t + 1 + 1 : Nat) : Int)) ∧ mfr ksM σ σ' ∧ EM σ' n L (t + 1) 0 0 := by
  have hn10 := hL.1
  have m65 := nX_65 hL
  have f1 := fcN_mono (n := n) (L := L) (show t + 1 ≤ nX n L + 1 by omega)
  have f3 : fcN n L (t + 1) = fcN n L t + (nGr n L t + 1) := rfl
  have fl := fcN_le hn10 L (nX n L + 1)
  have T : ∀ {α : Type} (f : Nat → Option α), ck (i32 ((t + 1 : Nat) : Int)) 82 f = f (t + 1) := fun f => ck_n (by omega) (by decide) f
  intro d
  induction d with
  | zero =>
    intro a m σ ha hm h hx hc h27 he
    obtain ⟨m, rfl⟩ : ∃ j, m = j + 1 := ⟨m - 1, by omega⟩
    have e : a = nGr n L t + 1 := by omega
    subst e
    obtain ⟨es, e1, e2⟩ := he
    refine ⟨σ, ?_, mfr.rf _ _, es, e1, fun e => by rw [e2 e]; exact inM_all (QE n L e)⟩
    unfold F_joinCells_L42
    simp only [T, h27 (t + 1) (by omega), i32_s]
    rw [if_pos ((i32_le (by omega) (by omega)).mpr (by omega))]
  | succ d ih =>
    intro a m σ ha hm h hx hc h27 he
    obtain ⟨m, rfl⟩ : ∃ j, m = j + 1 := ⟨m - 1, by omega⟩
    obtain ⟨σ1, q1, q2, q3⟩ := jb_e hN hL ht (show a ≤ nGr n L t by omega) r25 (F_joinCells_L42 N r25 m) (nGr n L (t + 1) + 1) 0 N σ (by omega) (by have := nGr_le n L (t + 1); omega) h hx hc h27 he
    obtain ⟨σ2, u1, u2, u3⟩ := ih (a + 1) m σ1 (by omega) (by omega) (h.fr q2 (by decide)) (hx.fr q2 (by decide)) (hc.fr q2 (by decide)) (h27.fr q2 (by decide)) q3
    refine ⟨σ2, ?_, q2.tr u2, u3⟩
    unfold F_joinCells_L42
    simp only [T, h27 (t + 1) (by omega)]
    rw [if_neg (fun z => by have := (i32_le (by omega) (by omega)).mp z; omega)]
    exact q1.trans u1
theorem js_e (hN : 2000 ≤ N) (hL : LOk n L) : ∀ (d t m : Nat) (σ : MSt), t + d = nX n L → d < m → MLn σ n L → MXs σ n L → MCS σ n L (nX n L + 1) → M27 σ n L → EM σ n L t 0 0 → ∃ σ', F_joinCells_L25 N m σ (i32 ((t + 1 : Nat) : Int)) = F_joinCells_L236 N N (sI σ' 24 0) 0 ∧ mfr ksM σ σ' ∧ EM σ' n L (nX n L) 0 0 := by
  have hn10 := hL.1
  have m65 := nX_65 hL
  intro d
  induction d with
  | zero =>
    intro t m σ ht hm h hx hc h27 he
    obtain ⟨m, rfl⟩ : ∃ j, m = j + 1 := ⟨m - 1, by omega⟩
    have e : t = nX n L := by omega
    subst e
    refine ⟨σ, ?_, mfr.rf _ _, he⟩
    unfold F_joinCells_L25
    rw [hx.1, if_pos ((i32_le (by omega) (by omega)).mpr (Int.le_refl _))]
  | succ d ih =>
    intro t m σ ht hm h hx hc h27 he
    obtain ⟨m, rfl⟩ : ∃ j, m = j + 1 := ⟨m - 1, by omega⟩
    have T : ∀ {α : Type} (f : Nat → Option α), ck (i32 (t : Int)) 82 f = f t := fun f => ck_n (by omega) (by decide) f
    obtain ⟨σ1, q1, q2, q3⟩ := ja_e hN hL (show t < nX n L by omega) (F_joinCells_L25 N m) (nGr n L t + 1) 0 N σ (by omega) (by have := nGr_le n L t; omega) h hx hc h27 he
    obtain ⟨σ2, u1, u2, u3⟩ := ih (t + 1) m σ1 (by omega) (by omega) (h.fr q2 (by decide)) (hx.fr q2 (by decide)) (hc.fr q2 (by decide)) (h27.fr q2 (by decide)) q3
    refine ⟨σ2, ?_, q2.tr u2, u3⟩
    unfold F_joinCells_L25
    rw [hx.1, if_neg (fun z => by have := (i32_le (by omega) (by omega)).mp z; omega)]
    simp only [i32_s', T, h27 t (by omega)]
    exact q1.trans u1
/-- faces as the model tells them -/
def MFc (σ : MSt) (n : Nat) (L : Nat → Sg) : Prop := gI σ 24 = i32 ((nFc n L : Nat) : Int) ∧ (∀ c, c < fcN n L (nX n L + 1) → gA σ 31 c = i32 ((fcC n L c : Nat) : Int)) ∧ ∀ c, c < fcN n L (nX n L + 1) → rtC n L c = true → gA σ 37 (cn (rtC n L) c) = i32 (c : Int)
theorem mren_e (hC : fcN n L (nX n L + 1) ≤ 740) : ∀ (d k m : Nat) (σ : MSt), k + d = fcN n L (nX n L + 1) → d < m → gI σ 23 = i32 ((fcN n L (nX n L + 1) : Nat) : Int) → gI σ 24 = i32 ((cn (rtC n L) k : Nat) : Int) → (∀ c, c < k → gA σ 31 c = i32 ((fcC n L c : Nat) : Int)) → (∀ c, k ≤ c → c < fcN n L (nX n L + 1) → gA σ 31 c = i32 ((eu_l (esJ n L) c : Nat) : Int)) → (∀ c, c < k → rtC n L c = true → gA σ 37 (cn (rtC n L) c) = i32 (c : Int)) → ∃ σ', F_joinCells_L236 N m σ (i32 (k : Int)) = some σ' ∧ mfr [24, 31, 37] σ σ' ∧ MFc σ' n L := by
  intro d
  induction d with
  | zero =>
    intro k m σ hk hm h10 h11 h1 h2 h3
    obtain ⟨m, rfl⟩ : ∃ j, m = j + 1 := ⟨m - 1, by omega⟩
    have e : k = fcN n L (nX n L + 1) := by omega
    subst e
    refine ⟨σ, ?_, mfr.rf _ _, h11, h1, h3⟩
    unfold F_joinCells_L236
    rw [h10, if_pos ((i32_le (by omega) (by omega)).mpr (Int.le_refl _))]
  | succ d ih =>
    intro k m σ hk hm h10 h11 h1 h2 h3
    obtain ⟨m, rfl⟩ : ∃ j, m = j + 1 := ⟨m - 1, by omega⟩
    have hk' : k < fcN n L (nX n L + 1) := by omega
    have A : ∀ {α : Type} (f : Nat → Option α), ck (i32 (k : Int)) 900 f = f k := fun f => ck_n (by omega) (by decide) f
    have lk := eu_l_le (esJ n L) k
    have ck' := cn_le (rtC n L) k
    have F : ∀ {α : Type} (f : Nat → Option α), ck (i32 ((cn (rtC n L) k : Nat) : Int)) 900 f = f (cn (rtC n L) k) := fun f => ck_n (by omega) (by decide) f
    have K : ∀ {α : Type} (f : Nat → Option α), ck (i32 ((eu_l (esJ n L) k : Nat) : Int)) 900 f = f (eu_l (esJ n L) k) := fun f => ck_n (by omega) (by decide) f
    have e0 : F_joinCells_L236 N (m + 1) σ (i32 (k : Int)) = if eu_l (esJ n L) k = k then F_joinCells_L236 N m (sI (sA (sA σ 31 k (i32 ((cn (rtC n L) k : Nat) : Int))) 37 (cn (rtC n L) k) (i32 (k : Int))) 24 (i32 ((cn (rtC n L) k + 1 : Nat) : Int))) (i32 ((k + 1 : Nat) : Int)) else F_joinCells_L236 N m (sA σ 31 k (gA σ 31 (eu_l (esJ n L) k))) (i32 ((k + 1 : Nat) : Int)) := by
      rw [F_joinCells_L236, h10, if_neg (fun z => by have := (i32_le (by omega) (by omega)).mp z; omega)]
      unfold F_joinCells_b304
      simp only [A, h2 k (Nat.le_refl _) hk', gI_sA, h11, F, K, i32_s]
      refine ite_ii ?_
      rw [i32_eq (by omega) (by omega)]
      omega
    rw [e0]
    by_cases c : eu_l (esJ n L) k = k
    · rw [if_pos c]
      have r : rtC n L k = true := decide_eq_true c
      obtain ⟨σ', q1, q2, q3⟩ := ih (k + 1) m (sI (sA (sA σ 31 k (i32 ((cn (rtC n L) k : Nat) : Int))) 37 (cn (rtC n L) k) (i32 (k : Int))) 24 (i32 ((cn (rtC n L) k + 1 : Nat) : Int))) (by omega) (by omega) h10 (by rw [gI_sI, if_pos rfl, cn_s, r]; rfl) (fun v hv => by
        rw [gA_sI, gA_sA, if_neg (by decide), gA_sA, if_pos rfl]
        by_cases e : v = k
        · subst e; rw [if_pos rfl, fcC_rt r]
        · rw [if_neg e]; exact h1 v (by omega)) (fun v v1 v2 => by
        rw [gA_sI, gA_sA, if_neg (by decide), gA_sA, if_pos rfl, if_neg (by omega)]; exact h2 v (by omega) v2) (fun v hv hr => by
        rw [gA_sI, gA_sA, if_pos rfl]
        by_cases e : v = k
        · subst e; rw [if_pos rfl]
        · have lt : cn (rtC n L) (v + 1) ≤ cn (rtC n L) k := cn_mono (by omega)
          rw [cn_s, hr] at lt
          simp at lt
          rw [if_neg (by omega), gA_sA, if_neg (by decide)]; exact h3 v (by omega) hr)
      exact ⟨σ', q1, ((((mfr.rf _ σ).A (by decide) _ _).A (by decide) _ _).I (by decide) _).tr q2, q3⟩
    · rw [if_neg c]
      have r : rtC n L k = false := decide_eq_false c
      have old := h1 (eu_l (esJ n L) k) (by omega)
      have fe : fcC n L (eu_l (esJ n L) k) = fcC n L k := fcC_eq.mpr (eu_l_id _ _)
      obtain ⟨σ', q1, q2, q3⟩ := ih (k + 1) m (sA σ 31 k (gA σ 31 (eu_l (esJ n L) k))) (by omega) (by omega) h10 (by rw [gI_sA, h11, cn_s, r]; rfl) (fun v hv => by
        rw [gA_sA, if_pos rfl]
        by_cases e : v = k
        · subst e; rw [if_pos rfl, old, fe]
        · rw [if_neg e]; exact h1 v (by omega)) (fun v v1 v2 => by
        rw [gA_sA, if_pos rfl, if_neg (by omega)]; exact h2 v (by omega) v2) (fun v hv hr => by
        rw [gA_sA, if_neg (by decide)]
        have : v ≠ k := fun e => by rw [e, r] at hr; cases hr
        exact h3 v (by omega) hr)
      exact ⟨σ', q1, ((mfr.rf _ σ).A (by decide) _ _).tr q2, q3⟩
theorem minitC_e {C : Nat} (hC : C ≤ 740) : ∀ (d k m : Nat) (σ : MSt), k + d = C → d < m → gI σ 23 = i32 (C : Int) → (∀ c, c < k → gA σ 31 c = i32 (c : Int)) → ∃ σ', F_joinCells_L2 N m σ (i32 (k : Int)) = F_joinCells_L25 N N σ' 1 ∧ mfr [31] σ σ' ∧ ∀ c, c < C → gA σ' 31 c = i32 (c : Int) := by
  intro d
  induction d with
  | zero =>
    intro k m σ hk hm h10 h1
    obtain ⟨m, rfl⟩ : ∃ j, m = j + 1 := ⟨m - 1, by omega⟩
    have e : k = C := by omega
    subst e
    refine ⟨σ, ?_, mfr.rf _ _, h1⟩
    unfold F_joinCells_L2
    rw [h10, if_pos ((i32_le (by omega) (by omega)).mpr (Int.le_refl _))]
  | succ d ih =>
    intro k m σ hk hm h10 h1
    obtain ⟨m, rfl⟩ : ∃ j, m = j + 1 := ⟨m - 1, by omega⟩
    have A : ∀ {α : Type} (f : Nat → Option α), ck (i32 (k : Int)) 900 f = f k := fun f => ck_n (by omega) (by decide) f
    obtain ⟨σ', q1, q2, q3⟩ := ih (k + 1) m (sA σ 31 k (i32 (k : Int))) (by omega) (by omega) h10 (fun v hv => by
      rw [gA_sA, if_pos rfl]
      by_cases e : v = k
      · rw [if_pos e, e]
      · rw [if_neg e]; exact h1 v (by omega))
    refine ⟨σ', ?_, ((mfr.rf _ σ).A (by decide) _ _).tr q2, q3⟩
    unfold F_joinCells_L2
    rw [h10, if_neg (fun z => by have := (i32_le (by omega) (by omega)).mp z; omega)]
    simp only [A, i32_s]
    exact q1
abbrev ksT : List Nat := [5, 6, 7, 8, 9, 10, 11, 12, 13, 22, 23, 24, 25, 26, 27, 28, 29, 30, 31, 32, 33, 34, 35, 36, 37]
/-- the model's sheet, told -/
def MTd (σ : MSt) (n : Nat) (L : Nat → Sg) : Prop := MPt σ (ptN L n) ∧ MXs σ n L ∧ MCS σ n L (nX n L + 1) ∧ M27 σ n L ∧ MFc σ n L
theorem tellSheet_e (hN : 2000 ≤ N) (hL : LOk n L) {σ : MSt} (h : MLn σ n L) : ∃ σ', F_tellSheet N σ = some σ' ∧ mfr ksT σ σ' ∧ MTd σ' n L := by
  have hn10 := hL.1
  have m65 := nX_65 hL
  have fl := fcN_le hn10 L (nX n L + 1)
  obtain ⟨σ1, a1, a2, a3, a4, a5, a6⟩ := cells_e (N := N) (by omega) hL h
  have m1 : M27 σ1 n L := fun s hs => by
    by_cases e : s = nX n L + 1
    · rw [e]; exact a6
    · exact a5.1 s (by omega)
  obtain ⟨σ2, b1, b2, b3⟩ := minitC_e (N := N) (show fcN n L (nX n L + 1) ≤ 740 by omega) (fcN n L (nX n L + 1)) 0 N σ1 (by omega) (by omega) a5.2.1 (fun c hc => absurd hc (Nat.not_lt_zero _))
  have nA : ∀ Q, ¬ (aP n L 0 Q ∨ inM n L 0 0 0 (Q 0)) := by
    rintro Q (⟨t, ht, -⟩ | ⟨a, b, -, -, h3, -⟩)
    · exact absurd ht (Nat.not_lt_zero _)
    · rcases h3 with w | w
      · exact absurd w (Nat.not_lt_zero _)
      · exact absurd w.2 (Nat.not_lt_zero _)
  have f2 : mfr ksT σ σ2 := (a2.up (by decide)).tr (b2.up (by decide))
  obtain ⟨σ3, c1, c2, es, c3, c4⟩ := js_e hN hL (nX n L) 0 N σ2 (by omega) (by omega) (h.fr f2 (by decide)) (a4.fr b2 (by decide)) (a5.fr b2 (by decide)) (m1.fr b2 (by decide)) ⟨[], b3, fun e => ⟨fun w => (List.not_mem_nil w).elim, fun w => (nA _ w).elim⟩⟩
  have no : ∀ (P : Nat → Nat → Prop), ¬ inM n L (nX n L) 0 0 P := by
    rintro P ⟨a, b, -, -, h3, -⟩
    rcases h3 with w | w
    · exact absurd w (Nat.not_lt_zero _)
    · exact absurd w.2 (Nat.not_lt_zero _)
  have same : ∀ e, e ∈ es ↔ e ∈ esJ n L := fun e => by
    rw [c4 e, esJ_e]
    exact ⟨fun w => w.resolve_right (no _), Or.inl⟩
  have f23 : mfr (24 :: ksM) σ2 (sI σ3 24 0) := (c2.up (by decide)).I (by decide) _
  have f13 : mfr (24 :: ksM) σ1 (sI σ3 24 0) := (b2.up (by decide)).tr f23
  obtain ⟨σ4, d1, d2, d3⟩ := mren_e (N := N) (n := n) (L := L) (by omega) (fcN n L (nX n L + 1)) 0 N (sI σ3 24 0) (by omega) (by omega) (by rw [f13.gI 23 (by decide)]; exact a5.2.1) rfl (fun c hc => absurd hc (Nat.not_lt_zero _)) (fun c _ hc => by rw [← eu_l_set same]; exact c3 c hc) (fun c hc => absurd hc (Nat.not_lt_zero _))
  have f14 : mfr [24, 31, 33, 34, 35, 36, 37] σ1 σ4 := (f13.up (by decide)).tr (d2.up (by decide))
  refine ⟨σ4, ?_, (a2.up (by decide)).tr (f14.up (by decide)), a3.fr f14 (by decide), a4.fr f14 (by decide), a5.fr f14 (by decide), m1.fr f14 (by decide), d3⟩
  rw [a1]
  unfold F_joinCells
  rw [show (0 : Int32) = i32 ((0 : Nat) : Int) from rfl, b1, show (1 : Int32) = i32 ((0 + 1 : Nat) : Int) from rfl, c1]
  refine (congrArg (fun z => Option.bind z _) d1).trans ?_
  rfl
end MJ
