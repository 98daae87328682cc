/-! HOW MANY BITS: Long.bitCount -/
set_option maxRecDepth 100000
def cn (f : Nat → Bool) : Nat → Nat
  | 0 => 0
  | n + 1 => cn f n + (f n).toNat
theorem cn_cong {f g : Nat → Bool} {n : Nat} (h : ∀ i, i < n → f i = g i) : cn f n = cn g n := by
  induction n with
  | zero => rfl
  | succ n ih => unfold cn; rw [ih (fun i hi => h i (by omega)), h n (by omega)]
theorem cn_add (f : Nat → Bool) (a b : Nat) : cn f (a + b) = cn f a + cn (fun i => f (a + i)) b := by
  induction b with
  | zero => rfl
  | succ b ih =>
    show cn f (a + b) + (f (a + b)).toNat = _
    rw [ih]
    show _ = cn f a + (cn (fun i => f (a + i)) b + (f (a + b)).toNat)
    omega
theorem cn_le (f : Nat → Bool) (n : Nat) : cn f n ≤ n := by
  induction n with
  | zero => exact Nat.le_refl _
  | succ n ih => unfold cn; have := Bool.toNat_le (f n); omega
def pcB (b : Nat) : Nat := cn b.testBit 8
def pcW : Nat → Nat → Nat
  | 0, _ => 0
  | k + 1, w => pcB (w % 256) + pcW k (w / 256)
theorem pcW_e (k : Nat) : ∀ w, cn w.testBit (8 * k) = pcW k w := by
  induction k with
  | zero => intro w; rfl
  | succ k ih =>
    intro w
    rw [show 8 * (k + 1) = 8 + 8 * k by omega, cn_add]
    unfold pcW
    rw [← ih (w / 256)]
    congr 1
    · refine cn_cong (fun i hi => ?_)
      rw [show 256 = 2 ^ 8 from rfl, Nat.testBit_mod_two_pow]
      simp [hi]
    · refine cn_cong (fun i _ => ?_)
      rw [show 256 = 2 ^ 8 from rfl, Nat.testBit_div_two_pow]
      congr 1; omega
def mk8 (c : Nat) : Nat → Nat
  | 0 => 0
  | k + 1 => 256 * mk8 c k + c
def mapB (g : Nat → Nat) : Nat → Nat → Nat
  | 0, _ => 0
  | k + 1, w => 256 * mapB g k (w / 256) + g (w % 256)
theorem and256 (a c m k : Nat) (hc : c < 256) (hk : k < 256) : (256 * a + c) &&& (256 * m + k) = 256 * (a &&& m) + (c &&& k) := by
  have h1 : c &&& k < 256 := Nat.lt_of_le_of_lt Nat.and_le_left hc
  apply Nat.eq_of_testBit_eq
  intro i
  rw [Nat.testBit_and, show 256 * a + c = 2 ^ 8 * a + c from rfl, show 256 * m + k = 2 ^ 8 * m + k from rfl, show 256 * (a &&& m) + (c &&& k) = 2 ^ 8 * (a &&& m) + (c &&& k) from rfl, Nat.testBit_two_pow_mul_add _ (show c < 2 ^ 8 from hc), Nat.testBit_two_pow_mul_add _ (show k < 2 ^ 8 from hk), Nat.testBit_two_pow_mul_add _ (show c &&& k < 2 ^ 8 from h1)]
  by_cases h : i < 8
  · simp only [if_pos h]; rw [Nat.testBit_and]
  · simp only [if_neg h]; rw [Nat.testBit_and]
theorem st1 (k : Nat) : ∀ w, w < 256 ^ k → w - ((w / 2) &&& mk8 85 k) = mapB (fun b => b - ((b / 2) &&& 85)) k w := by
  have d : ∀ (q : Fin 2) (b : Fin 256), ((128 * q.1 + b.1 / 2) &&& 85) = ((b.1 / 2) &&& 85) := by decide +kernel
  induction k with
  | zero => intro w h; have : w = 0 := by simpa using h
            subst this; rfl
  | succ k ih =>
    intro w h
    have hy : w / 256 < 256 ^ k := by rw [Nat.pow_succ] at h; omega
    have e1 : w / 2 = 256 * (w / 256 / 2) + (128 * (w / 256 % 2) + w % 256 / 2) := by omega
    have e2 := and256 (w / 256 / 2) (128 * (w / 256 % 2) + w % 256 / 2) (mk8 85 k) 85 (by omega) (by decide)
    have e3 := d ⟨w / 256 % 2, by omega⟩ ⟨w % 256, by omega⟩
    simp only at e3
    have e4 : (w / 256 / 2 &&& mk8 85 k) ≤ w / 256 / 2 := Nat.and_le_left
    have e5 : (w % 256 / 2 &&& 85) ≤ w % 256 / 2 := Nat.and_le_left
    have e6 := ih (w / 256) hy
    show w - ((w / 2) &&& (256 * mk8 85 k + 85)) = 256 * mapB _ k (w / 256) + (w % 256 - ((w % 256 / 2) &&& 85))
    rw [e1, e2, e3, ← e6]
    omega
theorem st2 (k : Nat) : ∀ w, w < 256 ^ k → (w &&& mk8 51 k) + ((w / 4) &&& mk8 51 k) = mapB (fun b => (b &&& 51) + ((b / 4) &&& 51)) k w := by
  have d : ∀ (q : Fin 4) (b : Fin 256), ((64 * q.1 + b.1 / 4) &&& 51) = ((b.1 / 4) &&& 51) := by decide +kernel
  induction k with
  | zero => intro w h; have : w = 0 := by simpa using h
            subst this; rfl
  | succ k ih =>
    intro w h
    have hy : w / 256 < 256 ^ k := by rw [Nat.pow_succ] at h; omega
    have e1 : w / 4 = 256 * (w / 256 / 4) + (64 * (w / 256 % 4) + w % 256 / 4) := by omega
    have e2 := and256 (w / 256 / 4) (64 * (w / 256 % 4) + w % 256 / 4) (mk8 51 k) 51 (by omega) (by decide)
    have e3 := d ⟨w / 256 % 4, by omega⟩ ⟨w % 256, by omega⟩
    simp only at e3
    have e4 := and256 (w / 256) (w % 256) (mk8 51 k) 51 (by omega) (by decide)
    rw [show 256 * (w / 256) + w % 256 = w by omega] at e4
    have e6 := ih (w / 256) hy
    show (w &&& (256 * mk8 51 k + 51)) + ((w / 4) &&& (256 * mk8 51 k + 51)) = 256 * mapB _ k (w / 256) + ((w % 256 &&& 51) + ((w % 256 / 4) &&& 51))
    rw [e1, e2, e3, e4, ← e6]
    omega
/-- each half of each byte is 4 at most -/
def nib : Nat → Nat → Prop
  | 0, _ => True
  | k + 1, w => w % 16 ≤ 4 ∧ w % 256 / 16 ≤ 4 ∧ nib k (w / 256)
theorem st3 (k : Nat) : ∀ w, w < 256 ^ k → nib k w → (w + w / 16) &&& mk8 15 k = mapB (fun b => (b + b / 16) &&& 15) k w := by
  have d : ∀ (q : Fin 5) (b : Fin 73), ((16 * q.1 + b.1) &&& 15) = (b.1 &&& 15) := by decide +kernel
  induction k with
  | zero => intro w h _; have : w = 0 := by simpa using h
            subst this; rfl
  | succ k ih =>
    intro w h hn
    have hy : w / 256 < 256 ^ k := by rw [Nat.pow_succ] at h; omega
    obtain ⟨n1, n2, n3⟩ := hn
    have n4 : w / 256 % 16 ≤ 4 := by
      cases k with
      | zero => have : w / 256 = 0 := by simpa using hy
                omega
      | succ k => exact n3.1
    have e1 : w + w / 16 = 256 * (w / 256 + w / 256 / 16) + (16 * (w / 256 % 16) + (w % 256 + w % 256 / 16)) := by omega
    have e2 := and256 (w / 256 + w / 256 / 16) (16 * (w / 256 % 16) + (w % 256 + w % 256 / 16)) (mk8 15 k) 15 (by omega) (by decide)
    have e3 := d ⟨w / 256 % 16, by omega⟩ ⟨w % 256 + w % 256 / 16, by omega⟩
    simp only at e3
    have e6 := ih (w / 256) hy n3
    show (w + w / 16) &&& (256 * mk8 15 k + 15) = 256 * mapB _ k (w / 256) + ((w % 256 + w % 256 / 16) &&& 15)
    rw [e1, e2, e3, ← e6]
theorem mapB_lt {g : Nat → Nat} {c : Nat} (hc : c < 256) (h : ∀ b, b < 256 → g b ≤ c) (k : Nat) : ∀ w, mapB g k w ≤ mk8 c k := by
  induction k with
  | zero => intro w; exact Nat.le_refl _
  | succ k ih =>
    intro w
    have a := ih (w / 256)
    have b := h (w % 256) (by omega)
    show 256 * mapB g k (w / 256) + g (w % 256) ≤ 256 * mk8 c k + c
    omega
theorem mk8_lt {c : Nat} (hc : c < 256) (k : Nat) : mk8 c k < 256 ^ k := by
  induction k with
  | zero => show 0 < 1; omega
  | succ k ih => show 256 * mk8 c k + c < _; rw [Nat.pow_succ]; omega
theorem mapB_comp {f g : Nat → Nat} (h : ∀ b, b < 256 → f b < 256) (k : Nat) : ∀ w, mapB g k (mapB f k w) = mapB (fun b => g (f b)) k w := by
  induction k with
  | zero => intro w; rfl
  | succ k ih =>
    intro w
    have hb := h (w % 256) (by omega)
    show 256 * mapB g k ((256 * mapB f k (w / 256) + f (w % 256)) / 256) + g ((256 * mapB f k (w / 256) + f (w % 256)) % 256) = 256 * mapB _ k (w / 256) + g (f (w % 256))
    rw [show (256 * mapB f k (w / 256) + f (w % 256)) / 256 = mapB f k (w / 256) by omega, show (256 * mapB f k (w / 256) + f (w % 256)) % 256 = f (w % 256) by omega, ih]
theorem mapB_cong {f g : Nat → Nat} (h : ∀ b, b < 256 → f b = g b) (k : Nat) : ∀ w, mapB f k w = mapB g k w := by
  induction k with
  | zero => intro w; rfl
  | succ k ih =>
    intro w
    show 256 * mapB f k (w / 256) + f (w % 256) = 256 * mapB g k (w / 256) + g (w % 256)
    rw [ih, h _ (by omega)]
theorem nib_map {g : Nat → Nat} (h : ∀ b, b < 256 → g b % 16 ≤ 4 ∧ g b / 16 ≤ 4) (k : Nat) : ∀ w, nib k (mapB g k w) := by
  induction k with
  | zero => intro w; trivial
  | succ k ih =>
    intro w
    obtain ⟨h1, h2⟩ := h (w % 256) (by omega)
    show (256 * mapB g k (w / 256) + g (w % 256)) % 16 ≤ 4 ∧ (256 * mapB g k (w / 256) + g (w % 256)) % 256 / 16 ≤ 4 ∧ nib k ((256 * mapB g k (w / 256) + g (w % 256)) / 256)
    refine ⟨by omega, by omega, ?_⟩
    rw [show (256 * mapB g k (w / 256) + g (w % 256)) / 256 = mapB g k (w / 256) by omega]
    exact ih _
theorem dv8 {m y a : Nat} (h : a < m) : (m * y + a) / m = y := by
  rw [Nat.mul_add_div (by omega), Nat.div_eq_of_lt h, Nat.add_zero]
theorem sum8 {a b c d e f g h : Nat} (ha : a ≤ 8) (hb : b ≤ 8) (hc : c ≤ 8) (hd : d ≤ 8) (he : e ≤ 8) (hf : f ≤ 8) (hg : g ≤ 8) (hh : h ≤ 8) {x x1 x2 x3 : Nat} (h0 : x = 256 * (256 * (256 * (256 * (256 * (256 * (256 * (256 * 0 + h) + g) + f) + e) + d) + c) + b) + a) (h1 : x1 = x + x / 256) (h2 : x2 = x1 + x1 / 65536) (h3 : x3 = x2 + x2 / 4294967296) : x3 % 128 = a + (b + (c + (d + (e + (f + (g + (h + 0))))))) := by
  have q1 : x / 256 = 256 * (256 * (256 * (256 * (256 * (256 * (256 * 0 + h) + g) + f) + e) + d) + c) + b := by rw [h0]; exact dv8 (by omega)
  rw [q1] at h1
  have e1 : x1 = 65536 * (256 * (256 * (256 * (256 * (256 * h + (g + h)) + (f + g)) + (e + f)) + (d + e)) + (c + d)) + (256 * (b + c) + (a + b)) := by
    rw [h1, h0]
    clear h1 h0 h2 h3 q1 ha hb hc hd he hf hg hh
    simp only [Nat.mul_add, Nat.mul_zero, ← Nat.mul_assoc]
    omega
  have q2 : x1 / 65536 = 256 * (256 * (256 * (256 * (256 * h + (g + h)) + (f + g)) + (e + f)) + (d + e)) + (c + d) := by
    rw [e1]
    exact dv8 (by clear h0 h1 h2 h3 q1 e1; omega)
  rw [q2] at h2
  have e2 : x2 = 4294967296 * (256 * (256 * (256 * h + (g + h)) + (f + g + h)) + (e + f + g + h)) + (256 * (256 * (256 * (d + e + f + g) + (c + d + e + f)) + (b + c + d + e)) + (a + b + c + d)) := by
    rw [h2, e1]
    clear h1 h0 h2 h3 q1 q2 e1 ha hb hc hd he hf hg hh
    simp only [Nat.mul_add, Nat.mul_zero, ← Nat.mul_assoc]
    omega
  have q3 : x2 / 4294967296 = 256 * (256 * (256 * h + (g + h)) + (f + g + h)) + (e + f + g + h) := by
    rw [e2]
    exact dv8 (by clear h0 h1 h2 h3 q1 e1 q2 e2; omega)
  rw [q3] at h3
  have e3 : x3 = 128 * (2 * (256 * (256 * (256 * (256 * (256 * (256 * h + (g + h)) + (f + g + h)) + (e + f + g + h)) + (d + e + f + g + h)) + (c + d + e + f + g + h)) + (b + c + d + e + f + g + h))) + (a + b + c + d + e + f + g + h) := by
    rw [h3, e2]
    clear h1 h0 h2 h3 q1 q2 q3 e1 e2 ha hb hc hd he hf hg hh
    simp only [Nat.mul_add, Nat.mul_zero, ← Nat.mul_assoc]
    omega
  rw [e3, Nat.mul_add_mod, Nat.mod_eq_of_lt (by clear h0 h1 h2 h3 q1 e1 q2 e2 q3 e3; omega)]
  clear h1 h0 h2 h3 q1 q2 q3 e1 e2 e3
  omega
theorem bitCount_e (N : Nat) {w : Nat} (hw : w < 2 ^ 64) : F_J17_bitCount N (lN w) = some (nI (cn w.testBit 64)) := by
  have g1 : ∀ b, b < 256 → b - ((b / 2) &&& 85) < 256 := fun b hb => by omega
  have dd : ∀ b : Fin 256, (((b.1 - ((b.1 / 2) &&& 85)) &&& 51) + (((b.1 - ((b.1 / 2) &&& 85)) / 4) &&& 51)) ≤ 68 ∧ (((b.1 - ((b.1 / 2) &&& 85)) &&& 51) + (((b.1 - ((b.1 / 2) &&& 85)) / 4) &&& 51)) % 16 ≤ 4 ∧ (((b.1 - ((b.1 / 2) &&& 85)) &&& 51) + (((b.1 - ((b.1 / 2) &&& 85)) / 4) &&& 51)) / 16 ≤ 4 := by decide +kernel
  have d3 : ∀ b : Fin 256, (((((b.1 - ((b.1 / 2) &&& 85)) &&& 51) + (((b.1 - ((b.1 / 2) &&& 85)) / 4) &&& 51)) + (((b.1 - ((b.1 / 2) &&& 85)) &&& 51) + (((b.1 - ((b.1 / 2) &&& 85)) / 4) &&& 51)) / 16) &&& 15) = pcB b.1 := by decide +kernel
  have pb : ∀ b, pcB b ≤ 8 := fun b => cn_le _ _
  have s1 := st1 8 w hw
  have l1 : mapB (fun b => b - ((b / 2) &&& 85)) 8 w < 256 ^ 8 := Nat.lt_of_le_of_lt (mapB_lt (c := 255) (by decide) (fun b hb => by have := g1 b hb; omega) 8 w) (mk8_lt (by decide) 8)
  have s2 := st2 8 _ l1
  rw [mapB_comp g1] at s2
  have l2 := mapB_lt (g := fun b => ((b - ((b / 2) &&& 85)) &&& 51) + (((b - ((b / 2) &&& 85)) / 4) &&& 51)) (c := 68) (by decide) (fun b hb => (dd ⟨b, hb⟩).1) 8 w
  have m68 : mk8 68 8 = 4919131752989213764 := rfl
  rw [m68] at l2
  have s3 := st3 8 _ (Nat.lt_of_le_of_lt l2 (by decide)) (nib_map (fun b hb => (dd ⟨b, hb⟩).2) 8 w)
  rw [mapB_comp (f := fun b => ((b - ((b / 2) &&& 85)) &&& 51) + (((b - ((b / 2) &&& 85)) / 4) &&& 51)) (g := fun b => (b + b / 16) &&& 15) (fun b hb => Nat.lt_of_le_of_lt (dd ⟨b, hb⟩).1 (by decide)), mapB_cong (f := fun b => (fun b => (b + b / 16) &&& 15) ((fun b => ((b - ((b / 2) &&& 85)) &&& 51) + (((b - ((b / 2) &&& 85)) / 4) &&& 51)) b)) (g := pcB) (fun b hb => d3 ⟨b, hb⟩)] at s3
  have l3 := mapB_lt (g := pcB) (c := 8) (by decide) (fun b _ => pb b) 8 w
  have m8 : mk8 8 8 = 578721382704613384 := rfl
  rw [m8] at l3
  have e4 := pcW_e 8 w
  have c1 : (6148914691236517205 : Int64) = lN (mk8 85 8) := rfl
  have c2 : (3689348814741910323 : Int64) = lN (mk8 51 8) := rfl
  have c3 : (1085102592571150095 : Int64) = lN (mk8 15 8) := rfl
  have b1 : mk8 85 8 < 2 ^ 64 := by decide
  have b2 : mk8 51 8 < 2 ^ 64 := by decide
  have b3 : mk8 15 8 < 2 ^ 64 := by decide
  have q1 : lN w - ((((lN w : Int64).toUInt64 >>> ((1 : Int32).toInt64.toUInt64 &&& Int64.toUInt64 63)).toInt64) &&& 6148914691236517205) = lN (mapB (fun b => b - ((b / 2) &&& 85)) 8 w) := by
    rw [c1, show (1 : Int32) = nI 1 from rfl, wb_shr hw (by decide), wb_and (by omega) b1, lN_sub (by have := @Nat.and_le_left (w / 2 ^ 1) (mk8 85 8); omega), ← s1]
  generalize hx1 : mapB (fun b => b - ((b / 2) &&& 85)) 8 w = x1 at *
  have q2 : (lN x1 &&& 3689348814741910323) + ((((lN x1 : Int64).toUInt64 >>> ((2 : Int32).toInt64.toUInt64 &&& Int64.toUInt64 63)).toInt64) &&& 3689348814741910323) = lN (mapB (fun b => ((b - ((b / 2) &&& 85)) &&& 51) + (((b - ((b / 2) &&& 85)) / 4) &&& 51)) 8 w) := by
    rw [c2, show (2 : Int32) = nI 2 from rfl, wb_shr (by omega) (by decide), wb_and (by omega) b2, wb_and (by omega) b2, lN_add, ← s2]
  generalize hx2 : mapB (fun b => ((b - ((b / 2) &&& 85)) &&& 51) + (((b - ((b / 2) &&& 85)) / 4) &&& 51)) 8 w = x2 at *
  have q3 : ((lN x2 + (((lN x2 : Int64).toUInt64 >>> ((4 : Int32).toInt64.toUInt64 &&& Int64.toUInt64 63)).toInt64)) &&& 1085102592571150095) = lN (mapB pcB 8 w) := by
    rw [c3, show (4 : Int32) = nI 4 from rfl, wb_shr (by omega) (by decide), lN_add, wb_and (by omega) b3, ← s3]
  have fin := sum8 (pb (w % 256)) (pb (w / 256 % 256)) (pb (w / 256 / 256 % 256)) (pb (w / 256 / 256 / 256 % 256)) (pb (w / 256 / 256 / 256 / 256 % 256)) (pb (w / 256 / 256 / 256 / 256 / 256 % 256)) (pb (w / 256 / 256 / 256 / 256 / 256 / 256 % 256)) (pb (w / 256 / 256 / 256 / 256 / 256 / 256 / 256 % 256)) (x := mapB pcB 8 w) rfl rfl rfl rfl
  have fin' : (mapB pcB 8 w + mapB pcB 8 w / 256 + (mapB pcB 8 w + mapB pcB 8 w / 256) / 65536 + (mapB pcB 8 w + mapB pcB 8 w / 256 + (mapB pcB 8 w + mapB pcB 8 w / 256) / 65536) / 4294967296) % 128 = pcW 8 w := fin
  generalize hx3 : mapB pcB 8 w = x3 at *
  have m7 : ∀ n, (nI n &&& 127) = nI (n % 128) := fun n => by
    rw [pk_and _ 7 rfl]
    show nI (n % 2 ^ 32 % 2 ^ 7) = _
    rw [Nat.mod_mod_of_dvd _ (by decide)]
  have f8 : lN x3 + ((lN x3).toUInt64 >>> ((8 : Int32).toInt64.toUInt64 &&& Int64.toUInt64 63)).toInt64 = lN (x3 + x3 / 256) := by
    rw [show (8 : Int32) = nI 8 from rfl, wb_shr (by clear fin fin' s1 s2 s3 e4; omega) (by decide), lN_add]
  have k8 : x3 + x3 / 256 ≤ 1157442765409226768 := by clear fin fin' s1 s2 s3 e4; omega
  generalize x3 + x3 / 256 = x4 at *
  have f16 : lN x4 + ((lN x4).toUInt64 >>> ((16 : Int32).toInt64.toUInt64 &&& Int64.toUInt64 63)).toInt64 = lN (x4 + x4 / 65536) := by
    rw [show (16 : Int32) = nI 16 from rfl, wb_shr (by clear fin fin' s1 s2 s3 e4; omega) (by decide), lN_add]
  have k16 : x4 + x4 / 65536 ≤ 2314885530818453536 := by clear fin fin' s1 s2 s3 e4; omega
  generalize x4 + x4 / 65536 = x5 at *
  have f32 : lN x5 + ((lN x5).toUInt64 >>> ((32 : Int32).toInt64.toUInt64 &&& Int64.toUInt64 63)).toInt64 = lN (x5 + x5 / 4294967296) := by
    rw [show (32 : Int32) = nI 32 from rfl, wb_shr (by clear fin fin' s1 s2 s3 e4; omega) (by decide), lN_add]
  unfold F_J17_bitCount
  simp only [q1, q2, q3, f8, f16, f32, lN_i, m7, fin']
  rw [e4]
