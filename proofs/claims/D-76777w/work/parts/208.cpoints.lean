/-! THE COMPONENT'S POINTS -/
set_option maxRecDepth 100000
theorem cI_csI (κ : CSt) (k : Nat) (v : Int32) (k' : Nat) : cI (csI κ k v) k' = if k' = k then v else cI κ k' := rfl
theorem cI_csR (κ : CSt) (k : Nat) (f : Nat → Int32) (k' : Nat) : cI (csR κ k f) k' = cI κ k' := rfl
theorem cI_csA (κ : CSt) (k j : Nat) (v : Int32) (k' : Nat) : cI (csA κ k j v) k' = cI κ k' := rfl
theorem cI_csL (κ : CSt) (j : Nat) (v : Option (Nat × Ln)) (k' : Nat) : cI (csL κ j v) k' = cI κ k' := rfl
theorem cI_csPR (κ : CSt) (f : Nat → Option Pl) (k' : Nat) : cI (csPR κ f) k' = cI κ k' := rfl
theorem cI_csP (κ : CSt) (j : Nat) (v : Option Pl) (k' : Nat) : cI (csP κ j v) k' = cI κ k' := rfl
theorem cI_csF (κ : CSt) (k j : Nat) (v : Option Fr) (k' : Nat) : cI (csF κ k j v) k' = cI κ k' := rfl
theorem cA_csI (κ : CSt) (k : Nat) (v : Int32) (k' i : Nat) : cA (csI κ k v) k' i = cA κ k' i := rfl
theorem cA_csR (κ : CSt) (k : Nat) (f : Nat → Int32) (k' i : Nat) : cA (csR κ k f) k' i = if k' = k then f i else cA κ k' i := by
  unfold cA csR va_up
  by_cases h : k' = k
  · subst h; simp
  · simp [h]
theorem cA_csA (κ : CSt) (k j : Nat) (v : Int32) (k' i : Nat) : cA (csA κ k j v) k' i = if k' = k then (if i = j then v else cA κ k' i) else cA κ k' i := by
  unfold csA
  rw [cA_csR]
  by_cases h : k' = k
  · subst h; rfl
  · rw [if_neg h, if_neg h]
theorem cA_csL (κ : CSt) (j : Nat) (v : Option (Nat × Ln)) (k' i : Nat) : cA (csL κ j v) k' i = cA κ k' i := rfl
theorem cA_csPR (κ : CSt) (f : Nat → Option Pl) (k' i : Nat) : cA (csPR κ f) k' i = cA κ k' i := rfl
theorem cA_csP (κ : CSt) (j : Nat) (v : Option Pl) (k' i : Nat) : cA (csP κ j v) k' i = cA κ k' i := rfl
theorem cA_csF (κ : CSt) (k j : Nat) (v : Option Fr) (k' i : Nat) : cA (csF κ k j v) k' i = cA κ k' i := rfl
theorem cL_csI (κ : CSt) (k : Nat) (v : Int32) (i : Nat) : cL (csI κ k v) i = cL κ i := rfl
theorem cL_csR (κ : CSt) (k : Nat) (f : Nat → Int32) (i : Nat) : cL (csR κ k f) i = cL κ i := rfl
theorem cL_csA (κ : CSt) (k j : Nat) (v : Int32) (i : Nat) : cL (csA κ k j v) i = cL κ i := rfl
theorem cL_csL (κ : CSt) (j : Nat) (v : Option (Nat × Ln)) (i : Nat) : cL (csL κ j v) i = if i = j then v else cL κ i := rfl
theorem cL_csPR (κ : CSt) (f : Nat → Option Pl) (i : Nat) : cL (csPR κ f) i = cL κ i := rfl
theorem cL_csP (κ : CSt) (j : Nat) (v : Option Pl) (i : Nat) : cL (csP κ j v) i = cL κ i := rfl
theorem cL_csF (κ : CSt) (k j : Nat) (v : Option Fr) (i : Nat) : cL (csF κ k j v) i = cL κ i := rfl
theorem cP_csI (κ : CSt) (k : Nat) (v : Int32) (i : Nat) : cP (csI κ k v) i = cP κ i := rfl
theorem cP_csR (κ : CSt) (k : Nat) (f : Nat → Int32) (i : Nat) : cP (csR κ k f) i = cP κ i := rfl
theorem cP_csA (κ : CSt) (k j : Nat) (v : Int32) (i : Nat) : cP (csA κ k j v) i = cP κ i := rfl
theorem cP_csL (κ : CSt) (j : Nat) (v : Option (Nat × Ln)) (i : Nat) : cP (csL κ j v) i = cP κ i := rfl
theorem cP_csPR (κ : CSt) (f : Nat → Option Pl) (i : Nat) : cP (csPR κ f) i = f i := rfl
theorem cP_csP (κ : CSt) (j : Nat) (v : Option Pl) (i : Nat) : cP (csP κ j v) i = if i = j then v else cP κ i := rfl
theorem cP_csF (κ : CSt) (k j : Nat) (v : Option Fr) (i : Nat) : cP (csF κ k j v) i = cP κ i := rfl
theorem cF_csI (κ : CSt) (k : Nat) (v : Int32) (k' i : Nat) : cF (csI κ k v) k' i = cF κ k' i := rfl
theorem cF_csR (κ : CSt) (k : Nat) (f : Nat → Int32) (k' i : Nat) : cF (csR κ k f) k' i = cF κ k' i := rfl
theorem cF_csA (κ : CSt) (k j : Nat) (v : Int32) (k' i : Nat) : cF (csA κ k j v) k' i = cF κ k' i := rfl
theorem cF_csL (κ : CSt) (j : Nat) (v : Option (Nat × Ln)) (k' i : Nat) : cF (csL κ j v) k' i = cF κ k' i := rfl
theorem cF_csPR (κ : CSt) (f : Nat → Option Pl) (k' i : Nat) : cF (csPR κ f) k' i = cF κ k' i := rfl
theorem cF_csP (κ : CSt) (j : Nat) (v : Option Pl) (k' i : Nat) : cF (csP κ j v) k' i = cF κ k' i := rfl
theorem cF_csF (κ : CSt) (k j : Nat) (v : Option Fr) (k' i : Nat) : cF (csF κ k j v) k' i = if k' = k then (if i = j then v else cF κ k' i) else cF κ k' i := by
  unfold cF csF va_up
  by_cases h : k' = k
  · subst h; simp
  · simp [h]
def cfr (ks : List Nat) (κ κ' : CSt) : Prop := (∀ k, k ∉ ks → cI κ' k = cI κ k ∧ (∀ j, cA κ' k j = cA κ k j) ∧ ∀ j, cF κ' k j = cF κ k j) ∧ (0 ∉ ks → ∀ j, cL κ' j = cL κ j) ∧ (3 ∉ ks → ∀ j, cP κ' j = cP κ j)
theorem cfr.rf (ks : List Nat) (κ : CSt) : cfr ks κ κ := ⟨fun _ _ => ⟨rfl, fun _ => rfl, fun _ => rfl⟩, fun _ _ => rfl, fun _ _ => rfl⟩
theorem cfr.tr {ks : List Nat} {κ κ' κ'' : CSt} (h : cfr ks κ κ') (h' : cfr ks κ' κ'') : cfr ks κ κ'' := ⟨fun k hk => ⟨(h'.1 k hk).1.trans (h.1 k hk).1, fun j => ((h'.1 k hk).2.1 j).trans ((h.1 k hk).2.1 j), fun j => ((h'.1 k hk).2.2 j).trans ((h.1 k hk).2.2 j)⟩, fun z j => (h'.2.1 z j).trans (h.2.1 z j), fun z j => (h'.2.2 z j).trans (h.2.2 z j)⟩
theorem cfr.up {ks ks' : List Nat} {κ κ' : CSt} (h : cfr ks κ κ') (hs : ∀ k ∈ ks, k ∈ ks') : cfr ks' κ κ' := ⟨fun k hk => h.1 k (fun z => hk (hs k z)), fun z => h.2.1 (fun w => z (hs _ w)), fun z => h.2.2 (fun w => z (hs _ w))⟩
theorem cfr.I {ks : List Nat} {κ κ' : CSt} (h : cfr ks κ κ') {k : Nat} (hk : k ∈ ks) (v : Int32) : cfr ks κ (csI κ' k v) := h.tr ⟨fun k' hk' => ⟨by rw [cI_csI, if_neg (show ¬ k' = k from fun z => hk' (by rw [z]; exact hk))], fun _ => rfl, fun _ => rfl⟩, fun _ _ => rfl, fun _ _ => rfl⟩
theorem cfr.R {ks : List Nat} {κ κ' : CSt} (h : cfr ks κ κ') {k : Nat} (hk : k ∈ ks) (f : Nat → Int32) : cfr ks κ (csR κ' k f) := h.tr ⟨fun k' hk' => ⟨rfl, fun j => by rw [cA_csR, if_neg (show ¬ k' = k from fun z => hk' (by rw [z]; exact hk))], fun _ => rfl⟩, fun _ _ => rfl, fun _ _ => rfl⟩
theorem cfr.A {ks : List Nat} {κ κ' : CSt} (h : cfr ks κ κ') {k : Nat} (hk : k ∈ ks) (j : Nat) (v : Int32) : cfr ks κ (csA κ' k j v) := h.R hk _
theorem cfr.L {ks : List Nat} {κ κ' : CSt} (h : cfr ks κ κ') (hk : 0 ∈ ks) (j : Nat) (v : Option (Nat × Ln)) : cfr ks κ (csL κ' j v) := h.tr ⟨fun _ _ => ⟨rfl, fun _ => rfl, fun _ => rfl⟩, fun z => absurd hk z, fun _ _ => rfl⟩
theorem cfr.PR {ks : List Nat} {κ κ' : CSt} (h : cfr ks κ κ') (hk : 3 ∈ ks) (f : Nat → Option Pl) : cfr ks κ (csPR κ' f) := h.tr ⟨fun _ _ => ⟨rfl, fun _ => rfl, fun _ => rfl⟩, fun _ _ => rfl, fun z => absurd hk z⟩
theorem cfr.P {ks : List Nat} {κ κ' : CSt} (h : cfr ks κ κ') (hk : 3 ∈ ks) (j : Nat) (v : Option Pl) : cfr ks κ (csP κ' j v) := h.PR hk _
theorem cfr.F {ks : List Nat} {κ κ' : CSt} (h : cfr ks κ κ') {k : Nat} (hk : k ∈ ks) (j : Nat) (v : Option Fr) : cfr ks κ (csF κ' k j v) := h.tr ⟨fun k' hk' => ⟨rfl, fun _ => rfl, fun i => by rw [cF_csF, if_neg (show ¬ k' = k from fun z => hk' (by rw [z]; exact hk))]⟩, fun _ _ => rfl, fun _ _ => rfl⟩
theorem cfr.cI {ks : List Nat} {κ κ' : CSt} (h : cfr ks κ κ') (k : Nat) (hk : k ∉ ks) : cI κ' k = cI κ k := (h.1 k hk).1
theorem cfr.cA {ks : List Nat} {κ κ' : CSt} (h : cfr ks κ κ') (k : Nat) (hk : k ∉ ks) (j : Nat) : cA κ' k j = cA κ k j := (h.1 k hk).2.1 j
theorem cfr.cF {ks : List Nat} {κ κ' : CSt} (h : cfr ks κ κ') (k : Nat) (hk : k ∉ ks) (j : Nat) : cF κ' k j = cF κ k j := (h.1 k hk).2.2 j
theorem cfr.cL {ks : List Nat} {κ κ' : CSt} (h : cfr ks κ κ') (hk : 0 ∉ ks) (j : Nat) : cL κ' j = cL κ j := h.2.1 hk j
theorem cfr.cP {ks : List Nat} {κ κ' : CSt} (h : cfr ks κ κ') (hk : 3 ∉ ks) (j : Nat) : cP κ' j = cP κ j := h.2.2 hk j
/-- the component's Cut has these lines; these points -/
def CLn (κ : CSt) (n : Nat) (L : Nat → Sg) : Prop := cI κ 1 = i32 (n : Int) ∧ ∀ k, k < n → ∃ t : Nat, cL κ k = some (t, lnOf (L k))
theorem CLn.fr {ks : List Nat} {κ κ' : CSt} {n : Nat} {L : Nat → Sg} (h : CLn κ n L) (hf : cfr ks κ κ') (hk : 0 ∉ ks ∧ 1 ∉ ks) : CLn κ' n L := ⟨by rw [hf.cI 1 hk.2]; exact h.1, fun k q => by rw [hf.cL hk.1]; exact h.2 k q⟩
def CPt (κ : CSt) (x : Nat × (Nat → Pt)) : Prop := cI κ 4 = i32 (x.1 : Int) ∧ ∀ i, i < x.1 → cP κ i = some (rfP (x.2 i))
theorem CPt.fr {ks : List Nat} {κ κ' : CSt} {x : Nat × (Nat → Pt)} (h : CPt κ x) (hf : cfr ks κ κ') (hk : 3 ∉ ks ∧ 4 ∉ ks) : CPt κ' x := ⟨by rw [hf.cI 4 hk.2]; exact h.1, fun k q => by rw [hf.cP hk.1]; exact h.2 k q⟩
theorem i32_n {n : Nat} (h : n < 2147483648) : (i32 (n : Int)).toNatClampNeg = n := by rw [i32_clamp (by omega)]; rfl
theorem i32_s (k : Nat) : i32 (k : Int) + 1 = i32 ((k + 1 : Nat) : Int) := by rw [show (1 : Int32) = i32 1 from rfl, i32_add]; congr 1
theorem i32_s' (k : Nat) : i32 ((k + 1 : Nat) : Int) - 1 = i32 (k : Int) := by rw [show (1 : Int32) = i32 1 from rfl, i32_sub]; congr 1; omega
theorem i32_m' (k : Nat) : i32 ((k + 1 : Nat) : Int) + (-1) = i32 (k : Int) := by rw [show (-1 : Int32) = i32 (-1) from rfl, i32_add]; congr 1; omega
/-- it stands put in at k -/
theorem put_k {N : Nat} {κ : CSt} {x : Nat × (Nat → Pt)} (h : CPt κ x) {k : Nat} (hk : k ≤ x.1) (hn : x.1 < 65) (p : Pt) : ∃ κ', F_X1_puts_b50 N κ (rfP p) (i32 (k : Int)) = some κ' ∧ cfr [3, 4] κ κ' ∧ CPt κ' (x.1 + 1, insF x.2 k p) := by
  have A : ∀ {α : Type} (f : Nat → Option α), ck (i32 (k : Int)) 65 f = f k := fun f => ck_n (by omega) (by decide) f
  have hc : cpCP κ (i32 (k : Int)) (i32 (k : Int) + 1) (cI κ 4 - i32 (k : Int)) = some (csPR κ (va_cpy (cP κ) (cP κ) k (k + 1) (x.1 - k))) := by
    unfold cpCP
    rw [h.1, i32_s, i32_sub, show ((x.1 : Int) - (k : Int)) = ((x.1 - k : Nat) : Int) by omega, i32_n (by omega), i32_n (by omega), i32_n (by omega), if_neg]
    rw [show (0 : Int32) = i32 0 from rfl, i32_lt (by omega) (by omega), i32_lt (by omega) (by omega), i32_lt (by omega) (by omega)]
    omega
  refine ⟨csI (csP (csPR κ (va_cpy (cP κ) (cP κ) k (k + 1) (x.1 - k))) k (some (rfP p))) 4 (cI κ 4 + 1), ?_, (((cfr.rf _ κ).PR (by decide) _).P (by decide) _ _).I (by decide) _, ?_, fun i hi => ?_⟩
  · unfold F_X1_puts_b50
    rw [hc, Option.bind_some, A]
    rfl
  · rw [cI_csI, if_pos rfl, h.1, i32_s]
  · have hi : i < x.1 + 1 := hi
    rw [cP_csI, cP_csP]
    show _ = some (rfP (insF x.2 k p i))
    unfold insF
    by_cases c2 : i = k
    · rw [if_pos c2, if_neg (by omega), if_pos c2]
    · rw [if_neg c2, cP_csPR]
      by_cases c1 : i < k
      · rw [if_pos c1, pk_cpy_out (by omega)]; exact h.2 i (by omega)
      · rw [if_neg c1, if_neg c2, pk_cpy_in (by omega) (by omega), show k + (i - (k + 1)) = i - 1 by omega]; exact h.2 _ (by omega)
theorem puts_e {N : Nat} (hN : 100 ≤ N) {κ : CSt} {x : Nat × (Nat → Pt)} (h : CPt κ x) (hg : ptG x) (hn : x.1 < 65) {p : Pt} (hp : pq p) : ∃ κ', F_X1_puts N κ (rfP p) = some κ' ∧ cfr [3, 4] κ κ' ∧ CPt κ' (addP x p) := by
  have l := rkP_le x.1 x.2 p
  have s := rkP_e p hg.1
  unfold addP
  generalize rkP x.1 x.2 p = k at *
  have A : ∀ {α : Type} (i : Nat) (f : Nat → Option α), i < 65 → ck (i32 (i : Int)) 65 f = f i := fun i f hi => ck_n hi (by decide) f
  -- what is behind is greater
  have gt : ∀ i, k ≤ i → i < x.1 → ¬ lxc (x.2 i) p = 0 ∨ i = k := by
    intro i h1 h2
    by_cases e : i = k
    · exact Or.inr e
    · left
      intro z
      have a := hg.1 k i (by omega) h2
      rw [lxc_eq.mp z] at a
      have := (s k (by omega)).mpr a
      omega
  have gt' : ∀ i, k ≤ i → i < x.1 → ¬ lxc (x.2 i) p < 0 := fun i h1 h2 z => by have := (s i h2).mpr z; omega
  have main : ∀ (j : Nat), j ≤ x.1 → (∀ i, j ≤ i → i < x.1 → 0 < lxc (x.2 i) p) → (∀ i, i < j → lxc (x.2 i) p ≤ 0) → ∀ (d n : Nat), d < n → j + d ≤ x.1 → F_X1_puts_L5 N n κ (rfP p) (i32 ((j + d : Nat) : Int)) = F_X1_puts_b30 N κ (rfP p) (i32 (j : Int)) := by
    intro j hj g1 g2 d
    induction d with
    | zero =>
      intro n hn' hd
      obtain ⟨n, rfl⟩ : ∃ m, n = m + 1 := ⟨n - 1, by omega⟩
      show F_X1_puts_L5 N (n + 1) κ (rfP p) (i32 (j : Int)) = _
      rw [F_X1_puts_L5]
      rw [show (0 : Int32) = i32 0 from rfl, ite_ii (i32_le (by omega) (by omega))]
      by_cases c : (j : Int) ≤ 0
      · rw [if_pos c]
      · rw [if_neg c]
        obtain ⟨j, rfl⟩ : ∃ m, j = m + 1 := ⟨j - 1, by omega⟩
        have r := lxc_r (x.2 j) p
        have := g2 j (by omega)
        rw [i32_s', A j _ (by omega), h.2 j (by omega)]
        show (F_X6_compareTo N (rfP (x.2 j)) (rfP p)).bind _ = _
        rw [lxc_pq (hg.2 j (by omega)) hp, Option.bind_some, ite_ii (i32_le (by omega) (by omega)), if_pos (by omega)]
    | succ d ih =>
      intro n hn' hd
      obtain ⟨n, rfl⟩ : ∃ m, n = m + 1 := ⟨n - 1, by omega⟩
      have r := lxc_r (x.2 (j + d)) p
      have := g1 (j + d) (by omega) (by omega)
      rw [F_X1_puts_L5, show (0 : Int32) = i32 0 from rfl, ite_ii (i32_le (by omega) (by omega)), if_neg (by omega), show j + (d + 1) = (j + d) + 1 by omega, i32_s', A (j + d) _ (by omega), h.2 (j + d) (by omega)]
      show (F_X6_compareTo N (rfP (x.2 (j + d))) (rfP p)).bind _ = _
      rw [lxc_pq (hg.2 _ (by omega)) hp, Option.bind_some, ite_ii (i32_le (by omega) (by omega)), if_neg (by omega)]
      simp only [i32_m']
      exact ih n (by omega) (by omega)
  have e0 : F_X1_puts N κ (rfP p) = F_X1_puts_L5 N N κ (rfP p) (i32 (x.1 : Int)) := by
    unfold F_X1_puts
    rw [h.1]
  rw [e0]
  by_cases c : k < x.1 ∧ lxc (x.2 k) p = 0
  · rw [if_pos c]
    have m := main (k + 1) (by omega) (fun i h1 h2 => by have a := gt i (by omega) h2; have b := gt' i (by omega) h2; omega) (fun i hi => by
      by_cases e : i = k
      · rw [e, c.2]; exact Int.le_refl _
      · have := (s i (by omega)).mp (by omega); omega) (x.1 - (k + 1)) N (by omega) (by omega)
    rw [show k + 1 + (x.1 - (k + 1)) = x.1 by omega] at m
    rw [m]
    refine ⟨κ, ?_, cfr.rf _ _, h⟩
    unfold F_X1_puts_b30
    rw [show (0 : Int32) = i32 0 from rfl, ite_ii (i32_le (by omega) (by omega)), if_neg (by omega), i32_s', A k _ (by omega), h.2 k (by omega)]
    show (F_X6_compareTo N (rfP (x.2 k)) (rfP p)).bind _ = _
    rw [lxc_pq (hg.2 k (by omega)) hp, Option.bind_some, c.2]
    rfl
  · rw [if_neg c]
    have m := main k l (fun i h1 h2 => by
      have a := gt i h1 h2
      have b := gt' i h1 h2
      by_cases e : i = k
      · have : ¬ lxc (x.2 i) p = 0 := fun z => c ⟨by omega, by rw [← e]; exact z⟩
        omega
      · omega) (fun i hi => by have := (s i (by omega)).mp hi; omega) (x.1 - k) N (by omega) (by omega)
    rw [show k + (x.1 - k) = x.1 by omega] at m
    rw [m]
    have pk := put_k (N := N) h l hn p
    unfold F_X1_puts_b30
    rw [show (0 : Int32) = i32 0 from rfl, ite_ii (i32_le (by omega) (by omega))]
    by_cases c0 : (k : Int) ≤ 0
    · rw [if_pos c0]; exact pk
    · rw [if_neg c0]
      obtain ⟨k, rfl⟩ : ∃ m, k = m + 1 := ⟨k - 1, by omega⟩
      have r := lxc_r (x.2 k) p
      have := (s k (by omega)).mp (by omega)
      rw [i32_s', A k _ (by omega), h.2 k (by omega)]
      show ∃ κ', (F_X6_compareTo N (rfP (x.2 k)) (rfP p)).bind _ = some κ' ∧ _
      rw [lxc_pq (hg.2 k (by omega)) hp, Option.bind_some, if_neg (fun z => by have := (i32_eq (by omega) (by omega)).mp z; omega)]
      exact pk
theorem ptsJ_e {N : Nat} (hN : 100 ≤ N) {n : Nat} {L : Nat → Sg} (hL : LOk n L) {l : Nat} (hl : l < n) (r7 : CSt → Int32 → Option CSt) {x : Nat × (Nat → Pt)} (hx : ptG x) (hxn : x.1 + l ≤ 65) :
    ∀ (d k m : Nat) (κ : CSt), k + d = l → d < m → CLn κ n L → CPt κ (ptJ L l k x) → ∃ κ', F_X1_points_L43 N r7 m κ (i32 (l : Int)) (i32 (k : Int)) = r7 κ' (i32 ((l + 1 : Nat) : Int)) ∧ cfr [3, 4] κ κ' ∧ CPt κ' (ptJ L l l x) := by
  intro d
  induction d with
  | zero =>
    intro k m κ hk hm h hp
    obtain ⟨m, rfl⟩ : ∃ j, m = j + 1 := ⟨m - 1, by omega⟩
    have e : k = l := by omega
    subst e
    have := hL.1
    refine ⟨κ, ?_, cfr.rf _ _, hp⟩
    unfold F_X1_points_L43
    rw [if_pos ((i32_le (by omega) (by omega)).mpr (Int.le_refl _))]
    simp only [i32_s]
  | succ d ih =>
    intro k m κ hk hm h hp
    obtain ⟨m, rfl⟩ : ∃ j, m = j + 1 := ⟨m - 1, by omega⟩
    have hn10 := hL.1
    have A : ∀ {α : Type} (f : Nat → Option α), ck (i32 (k : Int)) 10 f = f k := fun f => ck_n (by omega) (by decide) f
    have B : ∀ {α : Type} (f : Nat → Option α), ck (i32 (l : Int)) 10 f = f l := fun f => ck_n (by omega) (by decide) f
    obtain ⟨t1, e1⟩ := h.2 k (by omega)
    obtain ⟨t2, e2⟩ := h.2 l hl
    have le := ptJ_le L l k x
    have gk := ptJ_G hL hl k (by omega) x hx
    have hr : -9 ≤ howM (L k) (L l) ∧ howM (L k) (L l) ≤ 9 := by unfold howM hwD rwH; grind (splits := 40)
    have e0 : F_X1_points_L43 N r7 (m + 1) κ (i32 l) (i32 k) = if howM (L k) (L l) = 1 then F_X1_points_b74 N r7 (F_X1_points_L43 N r7 m) κ (i32 l) (i32 k) else if howM (L k) (L l) = 2 then F_X1_points_b74 N r7 (F_X1_points_L43 N r7 m) κ (i32 l) (i32 k) else F_X1_points_L43 N r7 m κ (i32 l) (i32 ((k + 1 : Nat) : Int)) := by
      rw [F_X1_points_L43, if_neg (fun z => by have := (i32_le (by omega) (by omega)).mp z; omega)]
      simp only [A, B, e1, e2, nn, meets_e (hL.2 k (by omega)) (hL.2 l hl), Option.bind_some]
      unfold F_X1_points_b93
      simp only [i32_s]
      rw [show (1 : Int32) = i32 1 from rfl, show (2 : Int32) = i32 2 from rfl, ite_ii (i32_eq (by omega) (by omega)), ite_ii (i32_eq (by omega) (by omega))]
    by_cases c : howM (L k) (L l) = 1 ∨ howM (L k) (L l) = 2
    · obtain ⟨κ2, q1, q2, q3⟩ := puts_e hN hp gk (by omega) (pq_M (hL.2 k (by omega)) (hL.2 l hl))
      have e3 : ptJ L l (k + 1) x = addP (ptJ L l k x) (atM (L k) (L l)) := by
        show (if _ then _ else _) = _
        rw [if_pos c]
      obtain ⟨κ3, s1, s2, s3⟩ := ih (k + 1) m κ2 (by omega) (by omega) (h.fr q2 (by decide)) (by rw [e3]; exact q3)
      refine ⟨κ3, ?_, q2.tr s2, s3⟩
      have e4 : F_X1_points_b74 N r7 (F_X1_points_L43 N r7 m) κ (i32 l) (i32 k) = F_X1_points_L43 N r7 m κ2 (i32 l) (i32 ((k + 1 : Nat) : Int)) := by
        unfold F_X1_points_b74 F_X1_points_b93
        simp only [A, B, e1, e2, nn, met_e (show 30 ≤ N by omega) (hL.2 k (by omega)) (hL.2 l hl) c, Option.bind_some, q1, i32_s]
      rw [e0, e4, ← s1]
      rcases c with c | c
      · rw [if_pos c]
      · rw [if_neg (by omega), if_pos c]
    · have e3 : ptJ L l (k + 1) x = ptJ L l k x := by
        show (if _ then _ else _) = _
        rw [if_neg c]
      obtain ⟨κ3, s1, s2, s3⟩ := ih (k + 1) m κ (by omega) (by omega) h (by rw [e3]; exact hp)
      refine ⟨κ3, ?_, s2, s3⟩
      rw [e0, if_neg (by omega), if_neg (by omega), s1]
theorem bs_67 (N : Nat) : F_J1_init N 4225 = some 67 := by
  unfold F_J1_init F_J1_initWords F_J1_wordIndex
  rw [if_pos (by decide), Option.bind_some, if_neg (by decide)]
  decide
theorem ptsL_e {N : Nat} (hN : 100 ≤ N) {n : Nat} {L : Nat → Sg} (hL : LOk n L) :
    ∀ (d l m : Nat) (κ : CSt), l + d = n → d < m → CLn κ n L → CPt κ (ptN L l) → ∃ κ', F_X1_points_L7 N m κ (i32 (l : Int)) = F_X1_points_L126 N N (csI κ' 6 (i32 ((ptN L n).1 : Int))) ((0, fun _ => 0) : BSt) 0 ∧ cfr [3, 4] κ κ' ∧ CPt κ' (ptN L n) := by
  intro d
  induction d with
  | zero =>
    intro l m κ hl hm h hp
    obtain ⟨m, rfl⟩ : ∃ j, m = j + 1 := ⟨m - 1, by omega⟩
    have e : l = n := by omega
    subst e
    have := hL.1
    refine ⟨κ, ?_, cfr.rf _ _, hp⟩
    unfold F_X1_points_L7
    rw [h.1, if_pos ((i32_le (by omega) (by omega)).mpr (Int.le_refl _)), bs_67]
    unfold is67
    rw [if_pos rfl, hp.1]
  | succ d ih =>
    intro l m κ hl hm h hp
    obtain ⟨m, rfl⟩ : ∃ j, m = j + 1 := ⟨m - 1, by omega⟩
    have hn10 := hL.1
    have hln : l < n := by omega
    have A : ∀ {α : Type} (f : Nat → Option α), ck (i32 (l : Int)) 10 f = f l := fun f => ck_n (by omega) (by decide) f
    have le := ptN_le L l
    have tl := tri_le (l := l) (by omega)
    have g0 := ptN_G hL l (by omega)
    obtain ⟨t1, p1⟩ := h.2 l hln
    obtain ⟨κ1, q1, q2, q3⟩ := puts_e hN hp g0 (by omega) (pq_A (hL.2 l hln))
    have hM1 : CLn κ1 n L := h.fr q2 (by decide)
    obtain ⟨t2, p2⟩ := hM1.2 l hln
    have g1 := g0.add (pq_A (hL.2 l hln))
    have le1 := addP_le (ptN L l) (ptA (L l))
    obtain ⟨κ2, s1, s2, s3⟩ := puts_e hN q3 g1 (by omega) (pq_B (hL.2 l hln))
    have hM2 : CLn κ2 n L := hM1.fr s2 (by decide)
    have g2 := g1.add (pq_B (hL.2 l hln))
    have le2 := addP_le (addP (ptN L l) (ptA (L l))) (ptB (L l))
    obtain ⟨κ3, u1, u2, u3⟩ := ptsJ_e hN hL hln (F_X1_points_L7 N m) g2 (by omega) l 0 fu11 κ2 (by omega) (by unfold fu11; omega) hM2 s3
    obtain ⟨κ4, v1, v2, v3⟩ := ih (l + 1) m κ3 (by omega) (by omega) (hM2.fr u2 (by decide)) u3
    refine ⟨κ4, ?_, ((q2.tr s2).tr u2).tr v2, v3⟩
    unfold F_X1_points_L7
    have q1' : F_X1_puts N κ (lnOf (L l)).2.2.2.2.2.1 = some κ1 := q1
    have s1' : F_X1_puts N κ1 (lnOf (L l)).2.2.2.2.2.2 = some κ2 := s1
    rw [h.1, if_neg (fun z => by have := (i32_le (by omega) (by omega)).mp z; omega)]
    simp only [A, p1, nn, q1', Option.bind_some, p2, s1']
    rw [← v1]
    exact u1
theorem cpts_e {N : Nat} (hN : 100 ≤ N) {n : Nat} {L : Nat → Sg} (hL : LOk n L) {κ : CSt} (h : CLn κ n L) : ∃ κ', F_X1_points N κ = F_X1_points_L126 N N κ' ((0, fun _ => 0) : BSt) 0 ∧ cfr [3, 4, 6] κ κ' ∧ CPt κ' (ptN L n) ∧ cI κ' 6 = i32 ((ptN L n).1 : Int) := by
  have hn10 := hL.1
  obtain ⟨κ', h1, h2, h3⟩ := ptsL_e hN hL n 0 fu11 (csI κ 4 0) (by omega) (by unfold fu11; omega) (h.fr ((cfr.rf [4] κ).I (by decide) 0) (by decide)) ⟨rfl, fun i hi => absurd hi (Nat.not_lt_zero _)⟩
  exact ⟨_, h1, ((((cfr.rf [4] κ).I (by decide) 0).up (by decide)).tr (h2.up (by decide))).I (by decide) _, h3.fr (ks := [6]) ((cfr.rf _ _).I (by decide) _) (by decide), rfl⟩
