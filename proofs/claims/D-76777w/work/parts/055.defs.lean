/-! the plain definitions of the walk (mk_defs.py) -/
set_option maxRecDepth 100000
def ck {α : Type} (i : Int32) (n : Nat) (k : Nat → Option α) : Option α := if i < 0 ∨ n ≤ i.toNatClampNeg then none else k i.toNatClampNeg
def dz {α : Type} (y : Int64) (k : Option α) : Option α := if y = 0 then none else k
def dzi {α : Type} (y : Int32) (k : Option α) : Option α := if y = 0 then none else k
def rb {α : Type} (v : Int32) (k : Option α) : Option α := if v = 0 ∨ v = 1 then k else none
abbrev MSt : Type := (Nat → Int32) × (Nat → Int64) × (Nat → Nat → Int32) × (Nat → Nat → Int64)
def gI (σ : MSt) (k : Nat) : Int32 := σ.1 k
def gJ (σ : MSt) (k : Nat) : Int64 := σ.2.1 k
def gA (σ : MSt) (k j : Nat) : Int32 := σ.2.2.1 k j
def gL (σ : MSt) (k j : Nat) : Int64 := σ.2.2.2 k j
def sI (σ : MSt) (k : Nat) (v : Int32) : MSt := (va_up σ.1 k v, σ.2)
def sJ (σ : MSt) (k : Nat) (v : Int64) : MSt := (σ.1, va_up σ.2.1 k v, σ.2.2)
def sA (σ : MSt) (k j : Nat) (v : Int32) : MSt := (σ.1, σ.2.1, va_up σ.2.2.1 k (upd (σ.2.2.1 k) j v), σ.2.2.2)
def sL (σ : MSt) (k j : Nat) (v : Int64) : MSt := (σ.1, σ.2.1, σ.2.2.1, va_up σ.2.2.2 k (vp_updL (σ.2.2.2 k) j v))
def sR (σ : MSt) (k : Nat) (f : Nat → Int32) : MSt := (σ.1, σ.2.1, va_up σ.2.2.1 k f, σ.2.2.2)
def jmin (x y : Int32) : Int32 := if y < x then y else x
def jmax (x y : Int32) : Int32 := if x < y then y else x
def cpA (σ : MSt) (k0 n0 : Nat) (sp : Int32) (k1 n1 : Nat) (dp n : Int32) : Option MSt :=
  if sp < 0 ∨ dp < 0 ∨ n < 0 ∨ n0 < sp.toNatClampNeg + n.toNatClampNeg ∨ n1 < dp.toNatClampNeg + n.toNatClampNeg then none else some (sR σ k1 (va_cpy (gA σ k0) (gA σ k1) sp.toNatClampNeg dp.toNatClampNeg n.toNatClampNeg))
def F_J1_wordIndex (N : Nat) (a0 : Int32) : Option (Int32) :=
  some (a0 >>> (6 &&& 31))
def F_J15_numberOfTrailingZeros_b74 (N : Nat) (v0 : Int32) (v1 : Int32) : Option (Int32) :=
  some (v1 + (((v0).toUInt32 >>> ((1 : Int32).toUInt32 &&& Int32.toUInt32 31)).toInt32))
def F_J15_numberOfTrailingZeros_b62 (N : Nat) (v0 : Int32) (v1 : Int32) : Option (Int32) :=
  if v0 ≤ 4 then F_J15_numberOfTrailingZeros_b74 N v0 v1 else let x67 := (v1 + 2); let x73 := (((v0).toUInt32 >>> ((2 : Int32).toUInt32 &&& Int32.toUInt32 31)).toInt32); F_J15_numberOfTrailingZeros_b74 N x73 x67
def F_J15_numberOfTrailingZeros_b49 (N : Nat) (v0 : Int32) (v1 : Int32) : Option (Int32) :=
  if v0 ≤ 16 then F_J15_numberOfTrailingZeros_b62 N v0 v1 else let x55 := (v1 + 4); let x61 := (((v0).toUInt32 >>> ((4 : Int32).toUInt32 &&& Int32.toUInt32 31)).toInt32); F_J15_numberOfTrailingZeros_b62 N x61 x55
def F_J15_numberOfTrailingZeros_b34 (N : Nat) (v0 : Int32) (v1 : Int32) : Option (Int32) :=
  if v0 ≤ 256 then F_J15_numberOfTrailingZeros_b49 N v0 v1 else let x41 := (v1 + 8); let x48 := (((v0).toUInt32 >>> ((8 : Int32).toUInt32 &&& Int32.toUInt32 31)).toInt32); F_J15_numberOfTrailingZeros_b49 N x48 x41
def F_J15_numberOfTrailingZeros (N : Nat) (a0 : Int32) : Option (Int32) :=
  let x7 := ((a0 ^^^ (-1)) &&& (a0 - 1)); if 0 < x7 then if x7 ≤ 65536 then F_J15_numberOfTrailingZeros_b34 N x7 1 else let x26 := (1 + 16); let x33 := (((x7).toUInt32 >>> ((16 : Int32).toUInt32 &&& Int32.toUInt32 31)).toInt32); F_J15_numberOfTrailingZeros_b34 N x33 x26 else some (x7 &&& 32)
def F_J17_bitCount (N : Nat) (a0 : Int64) : Option (Int32) :=
  let x9 := (a0 - ((((a0 : Int64).toUInt64 >>> ((1 : Int32).toInt64.toUInt64 &&& Int64.toUInt64 63)).toInt64) &&& 6148914691236517205)); let x23 := ((x9 &&& 3689348814741910323) + ((((x9 : Int64).toUInt64 >>> ((2 : Int32).toInt64.toUInt64 &&& Int64.toUInt64 63)).toInt64) &&& 3689348814741910323)); let x33 := ((x23 + (((x23 : Int64).toUInt64 >>> ((4 : Int32).toInt64.toUInt64 &&& Int64.toUInt64 63)).toInt64)) &&& 1085102592571150095); let x40 := (x33 + (((x33 : Int64).toUInt64 >>> ((8 : Int32).toInt64.toUInt64 &&& Int64.toUInt64 63)).toInt64)); let x47 := (x40 + (((x40 : Int64).toUInt64 >>> ((16 : Int32).toInt64.toUInt64 &&& Int64.toUInt64 63)).toInt64)); let x54 := (x47 + (((x47 : Int64).toUInt64 >>> ((32 : Int32).toInt64.toUInt64 &&& Int64.toUInt64 63)).toInt64)); some (x54.toInt32 &&& 127)
def F_J17_numberOfTrailingZeros (N : Nat) (a0 : Int64) : Option (Int32) :=
  let x2 := a0.toInt32; if x2 = 0 then (F_J15_numberOfTrailingZeros N ((((a0 : Int64).toUInt64 >>> ((32 : Int32).toInt64.toUInt64 &&& Int64.toUInt64 63)).toInt64).toInt32)).bind (fun w14 => some (32 + w14)) else (F_J15_numberOfTrailingZeros N x2).bind (fun w22 => some w22)
def F_J32_sub (N : Nat) (a0 : Int32) (a1 : Int32) (a2 : Int32) : Option (Int32) :=
  let x4 := (a0 - a1); if 0 ≤ (a0 - a1) then some x4 else let x11 := (x4 + a2); some x11
def F_J32_inc (N : Nat) (a0 : Int32) (a1 : Int32) : Option (Int32) :=
  let x0 := (a0 + 1); if x0 < a1 then some x0 else some 0
def F_in (N : Nat) (a0 : Int32) (a1 : Int32) (a2 : Int32) : Option (Int32) :=
  if a0 < a1 then some 0 else if a2 < a0 then some 0 else some 1
def F_isOnSheet (N : Nat) (a0 : Int32) : Option (Int32) :=
  (F_in N a0 0 40).bind (fun w4 => rb w4 (some w4))
def F_stands_b92 (N : Nat) (σ : MSt) (t1 : Int32) (t2 : Int32) : Option (MSt) :=
  ck t1 10 (fun j92 => let σ92 := (sA σ 4 j92 t2); some σ92)
def F_stands_b75 (N : Nat) (σ : MSt) (v1 : Int32) (v3 : Int32) (v5 : Int32) (v6 : Int32) (t1 : Int32) (t2 : Int32) : Option (MSt) :=
  ck t1 10 (fun j75 => let σ75 := (sA σ 3 j75 t2); if v6 = 0 then F_stands_b92 N σ75 v1 v3 else F_stands_b92 N σ75 v1 v5)
def F_stands_b58 (N : Nat) (σ : MSt) (v1 : Int32) (v2 : Int32) (v3 : Int32) (v4 : Int32) (v5 : Int32) (v6 : Int32) (t1 : Int32) (t2 : Int32) : Option (MSt) :=
  ck t1 10 (fun j58 => let σ58 := (sA σ 2 j58 t2); if v6 = 0 then F_stands_b75 N σ58 v1 v3 v5 v6 v1 v2 else F_stands_b75 N σ58 v1 v3 v5 v6 v1 v4)
def F_stands_b41 (N : Nat) (σ : MSt) (v1 : Int32) (v2 : Int32) (v3 : Int32) (v4 : Int32) (v5 : Int32) (v6 : Int32) (t1 : Int32) (t2 : Int32) : Option (MSt) :=
  ck t1 10 (fun j41 => let σ41 := (sA σ 1 j41 t2); if v6 = 0 then F_stands_b58 N σ41 v1 v2 v3 v4 v5 v6 v1 v5 else F_stands_b58 N σ41 v1 v2 v3 v4 v5 v6 v1 v3)
def F_stands_b23 (N : Nat) (σ : MSt) (v1 : Int32) (v2 : Int32) (v3 : Int32) (v4 : Int32) (v5 : Int32) (t0 : Int32) : Option (MSt) :=
  if t0 = 0 then F_stands_b41 N σ v1 v2 v3 v4 v5 t0 v1 v4 else F_stands_b41 N σ v1 v2 v3 v4 v5 t0 v1 v2
def F_stands_b22 (N : Nat) (σ : MSt) (v1 : Int32) (v2 : Int32) (v3 : Int32) (v4 : Int32) (v5 : Int32) : Option (MSt) :=
  F_stands_b23 N σ v1 v2 v3 v4 v5 0
def F_stands (N : Nat) (σ : MSt) (a1 : Int32) (a2 : Int32) (a3 : Int32) (a4 : Int32) (a5 : Int32) : Option (MSt) :=
  if a2 < a4 then F_stands_b23 N σ a1 a2 a3 a4 a5 1 else if a2 = a4 then if a5 ≤ a3 then F_stands_b22 N σ a1 a2 a3 a4 a5 else F_stands_b23 N σ a1 a2 a3 a4 a5 1 else F_stands_b22 N σ a1 a2 a3 a4 a5
def F_line_b43 (N : Nat) (σ : MSt) (v1 : Int32) (v2 : Int32) (v3 : Int32) (v4 : Int32) : Option (Int32 × MSt) :=
  if (gI σ 0) = 10 then some ((-4), σ) else (F_stands N σ (gI σ 0) v1 v2 v3 v4).bind (fun w65 => let σ75 := (sI w65 0 ((gI w65 0) + 1)); some (((gI σ75 0) - 1), σ75))
def F_line (N : Nat) (σ : MSt) (a1 : Int32) (a2 : Int32) (a3 : Int32) (a4 : Int32) : Option (Int32 × MSt) :=
  (F_isOnSheet N a1).bind (fun w1 => if w1 = 0 then some ((-2), σ) else (F_isOnSheet N a2).bind (fun w8 => if w8 = 0 then some ((-2), σ) else (F_isOnSheet N a3).bind (fun w15 => if w15 = 0 then some ((-2), σ) else (F_isOnSheet N a4).bind (fun w23 => if w23 = 0 then some ((-2), σ) else if a1 = a3 then if a2 = a4 then some ((-2), σ) else F_line_b43 N σ a1 a2 a3 a4 else F_line_b43 N σ a1 a2 a3 a4))))
def F_isLine (N : Nat) (σ : MSt) (a1 : Int32) : Option (Int32) :=
  (F_in N a1 0 ((gI σ 0) - 1)).bind (fun w8 => rb w8 (some w8))
def F_drops_L4 (N : Nat) : Nat → MSt → Int32 → Option (MSt)
  | 0, _, _ => none
  | n + 1, σ, v2 =>
    if (gI σ 0) ≤ v2 then let σ56 := (sI σ 0 ((gI σ 0) - 1)); some σ56 else ck v2 10 (fun j21 => ck v2 10 (fun j27 => ck v2 10 (fun j33 => ck v2 10 (fun j39 => (F_stands N σ (v2 - 1) (gA σ 1 j21) (gA σ 2 j27) (gA σ 3 j33) (gA σ 4 j39)).bind (fun w40 => let x43 := (v2 + 1); (F_drops_L4 N n) w40 x43)))))
def F_drops (N : Nat) (σ : MSt) (a1 : Int32) : Option (MSt) :=
  let x3 := (a1 + 1); F_drops_L4 N N σ x3
def F_drop (N : Nat) (σ : MSt) (a1 : Int32) : Option (Int32 × MSt) :=
  (F_isLine N σ a1).bind (fun w2 => if w2 = 0 then some ((-2), σ) else (F_drops N σ a1).bind (fun w13 => some ((gI w13 0), w13)))
def F_move_b93 (N : Nat) (σ : MSt) (v1 : Int32) (v3 : Int32) (v4 : Int32) (v5 : Int32) (v6 : Int32) : Option (Int32 × MSt) :=
  (F_stands N σ v1 v3 v4 v5 v6).bind (fun w102 => some (1, w102))
def F_move_b75 (N : Nat) (σ : MSt) (v1 : Int32) (v3 : Int32) (v4 : Int32) (v5 : Int32) (t0 : Int32) : Option (Int32 × MSt) :=
  if v3 = v5 then if v4 = t0 then some ((-2), σ) else F_move_b93 N σ v1 v3 v4 v5 t0 else F_move_b93 N σ v1 v3 v4 v5 t0
def F_move_b54 (N : Nat) (σ : MSt) (v1 : Int32) (v2 : Int32) (v3 : Int32) (v4 : Int32) (t0 : Int32) : Option (Int32 × MSt) :=
  if v2 = 0 then ck v1 10 (fun j65 => F_move_b75 N σ v1 v3 v4 t0 (gA σ 4 j65)) else ck v1 10 (fun j74 => F_move_b75 N σ v1 v3 v4 t0 (gA σ 2 j74))
def F_move (N : Nat) (σ : MSt) (a1 : Int32) (a2 : Int32) (a3 : Int32) (a4 : Int32) : Option (Int32 × MSt) :=
  (F_isLine N σ a1).bind (fun w2 => if w2 = 0 then some ((-2), σ) else (F_in N a2 0 1).bind (fun w11 => if w11 = 0 then some ((-2), σ) else (F_isOnSheet N a3).bind (fun w18 => if w18 = 0 then some ((-2), σ) else (F_isOnSheet N a4).bind (fun w26 => if w26 = 0 then some ((-2), σ) else if a2 = 0 then ck a1 10 (fun j44 => F_move_b54 N σ a1 a2 a3 a4 (gA σ 3 j44)) else ck a1 10 (fun j53 => F_move_b54 N σ a1 a2 a3 a4 (gA σ 1 j53))))))
def F_turn (N : Nat) (σ : MSt) (a1 : Int32) (a2 : Int32) (a3 : Int32) (a4 : Int32) : Option (Int32) :=
  some ((a1 * a4) - (a2 * a3))
def F_isLess (N : Nat) (a0 : Int32) (a1 : Int32) (a2 : Int32) (a3 : Int32) : Option (Int32) :=
  if a0 < a2 then some 1 else if a0 = a2 then if a3 ≤ a1 then some 0 else some 1 else some 0
def F_meetInRow_b181 (N : Nat) (σ : MSt) (v5 : Int32) (v6 : Int32) (t1 : Int32) : Option (MSt) :=
  let σ181 := (sI σ 5 t1); let σ188 := (sJ σ181 6 v5.toInt64); let σ195 := (sJ σ188 7 v6.toInt64); let σ200 := (sJ σ195 8 1); some σ200
def F_meetInRow_b180 (N : Nat) (σ : MSt) (v5 : Int32) (v6 : Int32) : Option (MSt) :=
  F_meetInRow_b181 N σ v5 v6 0
def F_meetInRow_b141 (N : Nat) (σ : MSt) (v5 : Int32) (v6 : Int32) (v7 : Int32) (t0 : Int32) : Option (MSt) :=
  (F_isLess N v5 v6 v7 t0).bind (fun w152 => if w152 = 0 then if v5 = v7 then if v6 = t0 then F_meetInRow_b181 N σ v5 v6 2 else F_meetInRow_b180 N σ v5 v6 else F_meetInRow_b180 N σ v5 v6 else F_meetInRow_b181 N σ v5 v6 3)
def F_meetInRow_b119 (N : Nat) (σ : MSt) (v1 : Int32) (v2 : Int32) (v4 : Int32) (v5 : Int32) (v6 : Int32) (t0 : Int32) : Option (MSt) :=
  if v4 = 0 then ck v2 10 (fun j140 => F_meetInRow_b141 N σ v5 v6 t0 (gA σ 4 j140)) else ck v1 10 (fun j131 => F_meetInRow_b141 N σ v5 v6 t0 (gA σ 4 j131))
def F_meetInRow_b97 (N : Nat) (σ : MSt) (v1 : Int32) (v2 : Int32) (v4 : Int32) (v5 : Int32) (t0 : Int32) : Option (MSt) :=
  if v4 = 0 then ck v2 10 (fun j118 => F_meetInRow_b119 N σ v1 v2 v4 v5 t0 (gA σ 3 j118)) else ck v1 10 (fun j109 => F_meetInRow_b119 N σ v1 v2 v4 v5 t0 (gA σ 3 j109))
def F_meetInRow_b76 (N : Nat) (σ : MSt) (v1 : Int32) (v2 : Int32) (v3 : Int32) (v4 : Int32) (t0 : Int32) : Option (MSt) :=
  if v3 = 0 then ck v1 10 (fun j96 => F_meetInRow_b97 N σ v1 v2 v4 t0 (gA σ 2 j96)) else ck v2 10 (fun j87 => F_meetInRow_b97 N σ v1 v2 v4 t0 (gA σ 2 j87))
def F_meetInRow (N : Nat) (σ : MSt) (a1 : Int32) (a2 : Int32) : Option (MSt) :=
  ck a1 10 (fun j5 => ck a1 10 (fun j11 => ck a2 10 (fun j17 => ck a2 10 (fun j23 => (F_isLess N (gA σ 1 j5) (gA σ 2 j11) (gA σ 1 j17) (gA σ 2 j23)).bind (fun w24 => ck a1 10 (fun j33 => ck a1 10 (fun j39 => ck a2 10 (fun j45 => ck a2 10 (fun j51 => (F_isLess N (gA σ 3 j33) (gA σ 4 j39) (gA σ 3 j45) (gA σ 4 j51)).bind (fun w52 => if w24 = 0 then ck a1 10 (fun j75 => F_meetInRow_b76 N σ a1 a2 w24 w52 (gA σ 1 j75)) else ck a2 10 (fun j66 => F_meetInRow_b76 N σ a1 a2 w24 w52 (gA σ 1 j66))))))))))))
def F_meet_b243 (N : Nat) (σ : MSt) (v1 : Int32) (v3 : Int32) (v4 : Int32) (v7 : Int32) (v8 : Int32) (t1 : Int32) : Option (MSt) :=
  let σ243 := (sI σ 5 t1); ck v1 10 (fun j252 => let σ265 := (sJ σ243 6 (((gA σ243 1 j252).toInt64 * v7.toInt64) + (v8.toInt64 * v3.toInt64))); ck v1 10 (fun j274 => let σ288 := (sJ σ265 7 (((gA σ265 2 j274).toInt64 * v7.toInt64) + (v8.toInt64 * v4.toInt64))); let σ295 := (sJ σ288 8 v7.toInt64); some σ295))
def F_meet_b190 (N : Nat) (σ : MSt) (v1 : Int32) (v3 : Int32) (v4 : Int32) (v7 : Int32) (v8 : Int32) (v9 : Int32) : Option (MSt) :=
  (F_in N v8 0 v7).bind (fun w195 => if w195 = 0 then some σ else (F_in N v9 0 v7).bind (fun w206 => if w206 = 0 then some σ else if v8 = 0 then F_meet_b243 N σ v1 v3 v4 v7 v8 2 else if v8 = v7 then F_meet_b243 N σ v1 v3 v4 v7 v8 2 else if v9 = 0 then F_meet_b243 N σ v1 v3 v4 v7 v8 2 else if v9 = v7 then F_meet_b243 N σ v1 v3 v4 v7 v8 2 else F_meet_b243 N σ v1 v3 v4 v7 v8 1))
def F_meet (N : Nat) (σ : MSt) (a1 : Int32) (a2 : Int32) : Option (MSt) :=
  ck a1 10 (fun j5 => ck a1 10 (fun j11 => let x13 := ((gA σ 3 j5) - (gA σ 1 j11)); ck a1 10 (fun j19 => ck a1 10 (fun j25 => let x27 := ((gA σ 4 j19) - (gA σ 2 j25)); ck a2 10 (fun j34 => ck a2 10 (fun j40 => let x42 := ((gA σ 3 j34) - (gA σ 1 j40)); ck a2 10 (fun j49 => ck a2 10 (fun j55 => let x57 := ((gA σ 4 j49) - (gA σ 2 j55)); (F_turn N σ x13 x27 x42 x57).bind (fun w67 => ck a2 10 (fun j78 => ck a1 10 (fun j84 => ck a2 10 (fun j91 => ck a1 10 (fun j97 => (F_turn N σ ((gA σ 1 j78) - (gA σ 1 j84)) ((gA σ 2 j91) - (gA σ 2 j97)) x42 x57).bind (fun w103 => ck a2 10 (fun j114 => ck a1 10 (fun j120 => ck a2 10 (fun j127 => ck a1 10 (fun j133 => (F_turn N σ ((gA σ 1 j114) - (gA σ 1 j120)) ((gA σ 2 j127) - (gA σ 2 j133)) x13 x27).bind (fun w138 => let σ145 := (sI σ 5 0); if w67 = 0 then if w138 = 0 then if w103 = 0 then (F_meetInRow N σ145 a1 a2).bind (fun w166 => some w166) else some σ145 else some σ145 else if 0 ≤ w67 then F_meet_b190 N σ145 a1 x13 x27 w67 w103 w138 else let x178 := (-w67); let x183 := (-w103); let x188 := (-w138); F_meet_b190 N σ145 a1 x13 x27 x178 x183 x188)))))))))))))))))))
def F_size (N : Nat) (a0 : Int64) : Option (Int64) :=
  if 0 ≤ a0 then some a0 else some (-a0)
def F_common : Nat → Int64 → Int64 → Option Int64
  | 0, _, _ => none
  | n + 1, a, b => if b = 0 then some a else dz b (F_common n b (a - a / b * b))
def F_lowest_b20 (N : Nat) (v5 : Int64) (t0 : Int64) : Option (Int64) :=
  dz v5 (some (t0 / v5))
def F_lowest (N : Nat) (a0 : Int64) (a2 : Int64) (a4 : Int32) : Option (Int64) :=
  (F_size N a0).bind (fun w1 => (F_common 100 w1 a2).bind (fun w5 => if a4 = 0 then F_lowest_b20 N w5 a0 else F_lowest_b20 N w5 a2))
def F_cross_b97 (N : Nat) (σ : MSt) (t0 : Int64) (t1 : Int64) (t2 : Int32) : Option (Int32 × MSt) :=
  (F_lowest N t0 t1 t2).bind (fun w97 => some (w97.toInt32, σ))
def F_cross_b82 (N : Nat) (σ : MSt) (v3 : Int32) (t0 : Int64) : Option (Int32 × MSt) :=
  dzi 2 (if (v3 - v3 / 2 * 2) = 0 then F_cross_b97 N σ t0 (gJ σ 8) 1 else F_cross_b97 N σ t0 (gJ σ 8) 0)
def F_cross (N : Nat) (σ : MSt) (a1 : Int32) (a2 : Int32) (a3 : Int32) : Option (Int32 × MSt) :=
  (F_isLine N σ a1).bind (fun w2 => if w2 = 0 then some ((-2), σ) else (F_isLine N σ a2).bind (fun w10 => if w10 = 0 then some ((-2), σ) else if a1 = a2 then some ((-2), σ) else (F_in N a3 0 4).bind (fun w24 => if w24 = 0 then some ((-2), σ) else (F_meet N σ a1 a2).bind (fun w36 => if a3 = 0 then some ((gI w36 5), w36) else if (gI w36 5) = 0 then some ((-3), w36) else if (gI w36 5) = 3 then some ((-3), w36) else if 3 ≤ a3 then F_cross_b82 N w36 a3 (gJ w36 7) else F_cross_b82 N w36 a3 (gJ w36 6)))))
def F_against (N : Nat) (a0 : Int64) (a2 : Int64) (a4 : Int64) (a6 : Int64) : Option (Int32) :=
  let x9 := ((a0 * a6) - (a4 * a2)); if 0 ≤ x9 then if x9 ≤ 0 then some 0 else some 1 else some (-1)
def F_pointAgainst (N : Nat) (σ : MSt) (a1 : Int32) (a2 : Int64) (a4 : Int64) (a6 : Int64) (a8 : Int64) : Option (Int32) :=
  ck a1 80 (fun j5 => ck a1 80 (fun j11 => (F_against N (gL σ 10 j5) (gL σ 11 j11) a2 a4).bind (fun w15 => if w15 = 0 then ck a1 80 (fun j35 => ck a1 80 (fun j41 => (F_against N (gL σ 12 j35) (gL σ 13 j41) a6 a8).bind (fun w46 => some w46))) else some w15)))
def F_addPoint_L104 (N : Nat) : Nat → MSt → Int64 → Int64 → Int64 → Int64 → Int32 → Int32 → Option (MSt)
  | 0, _, _, _, _, _, _, _ => none
  | n + 1, σ, v7, v9, v11, v13, v15, v16 =>
    if v16 ≤ v15 then ck v15 80 (fun j189 => let σ189 := (sL σ 10 j189 v7); ck v15 80 (fun j198 => let σ198 := (sL σ189 11 j198 v9); ck v15 80 (fun j207 => let σ207 := (sL σ198 12 j207 v11); ck v15 80 (fun j216 => let σ216 := (sL σ207 13 j216 v13); let σ224 := (sI σ216 9 ((gI σ216 9) + 1)); some σ224)))) else ck (v16 - 1) 80 (fun j125 => ck v16 80 (fun j126 => let σ126 := (sL σ 10 j126 (gL σ 10 j125)); ck (v16 - 1) 80 (fun j141 => ck v16 80 (fun j142 => let σ142 := (sL σ126 11 j142 (gL σ126 11 j141)); ck (v16 - 1) 80 (fun j157 => ck v16 80 (fun j158 => let σ158 := (sL σ142 12 j158 (gL σ142 12 j157)); ck (v16 - 1) 80 (fun j173 => ck v16 80 (fun j174 => let σ174 := (sL σ158 13 j174 (gL σ158 13 j173)); let x175 := (v16 + (-1)); (F_addPoint_L104 N n) σ174 v7 v9 v11 v13 v15 x175))))))))
def F_addPoint_b98 (N : Nat) (σ : MSt) (v7 : Int64) (v9 : Int64) (v11 : Int64) (v13 : Int64) (v15 : Int32) : Option (MSt) :=
  let x102 := (gI σ 9); F_addPoint_L104 N N σ v7 v9 v11 v13 v15 x102
def F_addPoint_b71 (N : Nat) (σ : MSt) (v7 : Int64) (v9 : Int64) (v11 : Int64) (v13 : Int64) (v15 : Int32) : Option (MSt) :=
  if (gI σ 9) ≤ v15 then F_addPoint_b98 N σ v7 v9 v11 v13 v15 else (F_pointAgainst N σ v15 v7 v9 v11 v13).bind (fun w91 => if w91 = 0 then some σ else F_addPoint_b98 N σ v7 v9 v11 v13 v15)
def F_addPoint_L39 (N : Nat) : Nat → MSt → Int64 → Int64 → Int64 → Int64 → Int32 → Option (MSt)
  | 0, _, _, _, _, _, _ => none
  | n + 1, σ, v7, v9, v11, v13, v15 =>
    if (gI σ 9) ≤ v15 then F_addPoint_b71 N σ v7 v9 v11 v13 v15 else (F_pointAgainst N σ v15 v7 v9 v11 v13).bind (fun w59 => if 0 ≤ w59 then F_addPoint_b71 N σ v7 v9 v11 v13 v15 else let x65 := (v15 + 1); (F_addPoint_L39 N n) σ v7 v9 v11 v13 x65)
def F_addPoint (N : Nat) (σ : MSt) (a1 : Int64) (a3 : Int64) (a5 : Int64) : Option (MSt) :=
  (F_lowest N a1 a5 0).bind (fun w4 => (F_lowest N a1 a5 1).bind (fun w13 => (F_lowest N a3 a5 0).bind (fun w22 => (F_lowest N a3 a5 1).bind (fun w31 => F_addPoint_L39 N N σ w4 w13 w22 w31 0))))
def F_tellPoints_b98 (N : Nat) (r7 : MSt → Int32 → Option (MSt)) (r55 : MSt → Int32 → Int32 → Option (MSt)) (σ : MSt) (v1 : Int32) (v2 : Int32) : Option (MSt) :=
  let x98 := (v2 + 1); r55 σ v1 x98
def F_tellPoints_b82 (N : Nat) (r7 : MSt → Int32 → Option (MSt)) (r55 : MSt → Int32 → Int32 → Option (MSt)) (σ : MSt) (v1 : Int32) (v2 : Int32) : Option (MSt) :=
  (F_addPoint N σ (gJ σ 6) (gJ σ 7) (gJ σ 8)).bind (fun w95 => F_tellPoints_b98 N r7 r55 w95 v1 v2)
def F_tellPoints_L55 (N : Nat) (r7 : MSt → Int32 → Option (MSt)) : Nat → MSt → Int32 → Int32 → Option (MSt)
  | 0, _, _, _ => none
  | n + 1, σ, v1, v2 =>
    if v1 ≤ v2 then let x104 := (v1 + 1); r7 σ x104 else (F_meet N σ v1 v2).bind (fun w63 => if (gI w63 5) = 1 then F_tellPoints_b82 N r7 (F_tellPoints_L55 N r7 n) w63 v1 v2 else if (gI w63 5) = 2 then F_tellPoints_b82 N r7 (F_tellPoints_L55 N r7 n) w63 v1 v2 else F_tellPoints_b98 N r7 (F_tellPoints_L55 N r7 n) w63 v1 v2)
def F_tellPoints_L7 (N : Nat) : Nat → MSt → Int32 → Option (MSt)
  | 0, _, _ => none
  | n + 1, σ, v1 =>
    if (gI σ 0) ≤ v1 then some σ else ck v1 10 (fun j21 => ck v1 10 (fun j28 => (F_addPoint N σ ((gA σ 1 j21).toInt64) ((gA σ 2 j28).toInt64) 1).bind (fun w31 => ck v1 10 (fun j40 => ck v1 10 (fun j47 => (F_addPoint N w31 ((gA w31 3 j40).toInt64) ((gA w31 4 j47).toInt64) 1).bind (fun w50 => F_tellPoints_L55 N (F_tellPoints_L7 N n) N w50 v1 0))))))
def F_tellPoints (N : Nat) (σ : MSt) : Option (MSt) :=
  let σ2 := (sI σ 9 0); F_tellPoints_L7 N N σ2 0
def F_isOn (N : Nat) (σ : MSt) (a1 : Int32) (a2 : Int64) (a4 : Int64) (a6 : Int64) (a8 : Int64) : Option (Int32) :=
  ck a1 10 (fun j5 => ck a1 10 (fun j11 => let x13 := ((gA σ 3 j5) - (gA σ 1 j11)); ck a1 10 (fun j20 => ck a1 10 (fun j26 => let x28 := ((gA σ 4 j20) - (gA σ 2 j26)); ck a1 10 (fun j36 => ck a1 10 (fun j56 => if (((a2 - ((gA σ 1 j36).toInt64 * a4)) * x28.toInt64) * a8) = (((a6 - ((gA σ 2 j56).toInt64 * a8)) * x13.toInt64) * a4) then ck a1 10 (fun j80 => ck a1 10 (fun j86 => let x90 := (jmin (gA σ 2 j80) (gA σ 4 j86)); ck a1 10 (fun j97 => ck a1 10 (fun j103 => let x107 := (jmax (gA σ 2 j97) (gA σ 4 j103)); ck a1 10 (fun j115 => if a2 < ((gA σ 1 j115).toInt64 * a4) then some 0 else ck a1 10 (fun j130 => if ((gA σ 3 j130).toInt64 * a4) < a2 then some 0 else if a6 < (x90.toInt64 * a8) then some 0 else if (x107.toInt64 * a8) < a6 then some 0 else some 1)))))) else some 0))))))
def F_linesOn_b39 (N : Nat) (σ : MSt) (r6 : Int64 → Int64 → Int64 → Int64 → Int32 → Int32 → Option (Int32)) (v1 : Int64) (v3 : Int64) (v5 : Int64) (v7 : Int64) (v9 : Int32) (v10 : Int32) : Option (Int32) :=
  let x39 := (v10 + 1); r6 v1 v3 v5 v7 v9 x39
def F_linesOn_L6 (N : Nat) (σ : MSt) : Nat → Int64 → Int64 → Int64 → Int64 → Int32 → Int32 → Option (Int32)
  | 0, _, _, _, _, _, _ => none
  | n + 1, v1, v3, v5, v7, v9, v10 =>
    if (gI σ 0) ≤ v10 then some v9 else (F_isOn N σ v10 v1 v3 v5 v7).bind (fun w24 => if w24 = 0 then F_linesOn_b39 N σ (F_linesOn_L6 N σ n) v1 v3 v5 v7 v9 v10 else let x37 := (v9 ||| (1 <<< (v10 &&& 31))); F_linesOn_b39 N σ (F_linesOn_L6 N σ n) v1 v3 v5 v7 x37 v10)
def F_linesOn (N : Nat) (σ : MSt) (a1 : Int64) (a3 : Int64) (a5 : Int64) (a7 : Int64) : Option (Int32) :=
  F_linesOn_L6 N σ N a1 a3 a5 a7 0 0
def F_linesAt (N : Nat) (σ : MSt) (a1 : Int32) : Option (Int32) :=
  ck a1 80 (fun j6 => ck a1 80 (fun j12 => ck a1 80 (fun j18 => ck a1 80 (fun j24 => (F_linesOn N σ (gL σ 10 j6) (gL σ 11 j12) (gL σ 12 j18) (gL σ 13 j24)).bind (fun w25 => some w25)))))
def F_endsAt_b66 (N : Nat) (σ : MSt) (r4 : Int32 → Int32 → Int32 → Option (Int32)) (v1 : Int32) (v2 : Int32) (v3 : Int32) : Option (Int32) :=
  let x66 := (v3 + 1); r4 v1 v2 x66
def F_endsAt_b39 (N : Nat) (σ : MSt) (r4 : Int32 → Int32 → Int32 → Option (Int32)) (v1 : Int32) (v2 : Int32) (v3 : Int32) : Option (Int32) :=
  ck v3 10 (fun j46 => ck v3 10 (fun j54 => (F_pointAgainst N σ v1 ((gA σ 3 j46).toInt64) 1 ((gA σ 4 j54).toInt64) 1).bind (fun w57 => if w57 = 0 then let x63 := (v2 + 1); F_endsAt_b66 N σ r4 v1 x63 v3 else F_endsAt_b66 N σ r4 v1 v2 v3)))
def F_endsAt_L4 (N : Nat) (σ : MSt) : Nat → Int32 → Int32 → Int32 → Option (Int32)
  | 0, _, _, _ => none
  | n + 1, v1, v2, v3 =>
    if (gI σ 0) ≤ v3 then some v2 else ck v3 10 (fun j19 => ck v3 10 (fun j27 => (F_pointAgainst N σ v1 ((gA σ 1 j19).toInt64) 1 ((gA σ 2 j27).toInt64) 1).bind (fun w30 => if w30 = 0 then let x36 := (v2 + 1); F_endsAt_b39 N σ (F_endsAt_L4 N σ n) v1 x36 v3 else F_endsAt_b39 N σ (F_endsAt_L4 N σ n) v1 v2 v3)))
def F_endsAt (N : Nat) (σ : MSt) (a1 : Int32) : Option (Int32) :=
  F_endsAt_L4 N σ N a1 0 0
def F_isPiece_L17 (N : Nat) (σ : MSt) : Nat → Int32 → Int32 → Int32 → Option (Int32)
  | 0, _, _, _ => none
  | n + 1, v2, v3, v4 =>
    if v2 ≤ v4 then if v3 = 0 then some 0 else some 1 else (F_linesAt N σ v4).bind (fun w27 => let x33 := (v3 &&& (w27 ^^^ (-1))); let x34 := (v4 + 1); (F_isPiece_L17 N σ n) v2 x33 x34)
def F_isPiece (N : Nat) (σ : MSt) (a1 : Int32) (a2 : Int32) : Option (Int32) :=
  (F_linesAt N σ a1).bind (fun w2 => (F_linesAt N σ a2).bind (fun w7 => let x11 := (w2 &&& w7); let x15 := (a1 + 1); F_isPiece_L17 N σ N a2 x11 x15))
def F_tellPieces_b135 (N : Nat) (r27 : MSt → Int32 → Int32 → Option (Int32 × MSt)) (r39 : MSt → Int32 → Int32 → Int32 → Option (Int32 × MSt)) (σ : MSt) (v1 : Int32) (v2 : Int32) (v3 : Int32) : Option (Int32 × MSt) :=
  let x135 := (v3 + 1); r39 σ v1 v2 x135
def F_tellPieces_b129 (N : Nat) (r27 : MSt → Int32 → Int32 → Option (Int32 × MSt)) (r39 : MSt → Int32 → Int32 → Int32 → Option (Int32 × MSt)) (r99 : MSt → Int32 → Int32 → Int32 → Int32 → Int32 → Int32 → Option (Int32 × MSt)) (σ : MSt) (v1 : Int32) (v2 : Int32) (v3 : Int32) (v4 : Int32) (v5 : Int32) (v6 : Int32) : Option (Int32 × MSt) :=
  let x129 := (v6 + 1); r99 σ v1 v2 v3 v4 v5 x129
def F_tellPieces_L99 (N : Nat) (r27 : MSt → Int32 → Int32 → Option (Int32 × MSt)) (r39 : MSt → Int32 → Int32 → Int32 → Option (Int32 × MSt)) : Nat → MSt → Int32 → Int32 → Int32 → Int32 → Int32 → Int32 → Option (Int32 × MSt)
  | 0, _, _, _, _, _, _, _ => none
  | n + 1, σ, v1, v2, v3, v4, v5, v6 =>
    if (gI σ 9) ≤ v6 then F_tellPieces_b135 N r27 r39 σ v1 v2 v3 else ck v6 80 (fun j114 => if (gA σ 14 j114) = v5 then ck v6 80 (fun j128 => let σ128 := (sA σ 14 j128 v4); F_tellPieces_b129 N r27 r39 (F_tellPieces_L99 N r27 r39 n) σ128 v1 v2 v3 v4 v5 v6) else F_tellPieces_b129 N r27 r39 (F_tellPieces_L99 N r27 r39 n) σ v1 v2 v3 v4 v5 v6)
def F_tellPieces_L39 (N : Nat) (r27 : MSt → Int32 → Int32 → Option (Int32 × MSt)) : Nat → MSt → Int32 → Int32 → Int32 → Option (Int32 × MSt)
  | 0, _, _, _, _ => none
  | n + 1, σ, v1, v2, v3 =>
    if (gI σ 9) ≤ v3 then let x141 := (v2 + 1); r27 σ v1 x141 else (F_isPiece N σ v2 v3).bind (fun w50 => if w50 = 0 then F_tellPieces_b135 N r27 (F_tellPieces_L39 N r27 n) σ v1 v2 v3 else let x59 := (v1 + 1); ck v2 80 (fun j67 => ck v3 80 (fun j73 => let x77 := (jmin (gA σ 14 j67) (gA σ 14 j73)); ck v2 80 (fun j84 => ck v3 80 (fun j90 => let x94 := (jmax (gA σ 14 j84) (gA σ 14 j90)); F_tellPieces_L99 N r27 (F_tellPieces_L39 N r27 n) N σ x59 v2 v3 x77 x94 0)))))
def F_tellPieces_L27 (N : Nat) : Nat → MSt → Int32 → Int32 → Option (Int32 × MSt)
  | 0, _, _, _ => none
  | n + 1, σ, v1, v2 =>
    if (gI σ 9) ≤ v2 then some (v1, σ) else let x38 := (v2 + 1); F_tellPieces_L39 N (F_tellPieces_L27 N n) N σ v1 v2 x38
def F_tellPieces_L4 (N : Nat) : Nat → MSt → Int32 → Int32 → Option (Int32 × MSt)
  | 0, _, _, _ => none
  | n + 1, σ, v1, v2 =>
    if (gI σ 9) ≤ v2 then F_tellPieces_L27 N N σ v1 0 else ck v2 80 (fun j18 => let σ18 := (sA σ 14 j18 v2); let x19 := (v2 + 1); (F_tellPieces_L4 N n) σ18 v1 x19)
def F_tellPieces (N : Nat) (σ : MSt) : Option (Int32 × MSt) :=
  F_tellPieces_L4 N N σ 0 0
def F_point_b86 (N : Nat) (σ : MSt) (t0 : Int64) : Option (Int32 × MSt) :=
  some (t0.toInt32, σ)
def F_point (N : Nat) (σ : MSt) (a1 : Int32) (a2 : Int32) : Option (Int32 × MSt) :=
  (F_in N a2 0 6).bind (fun w4 => if w4 = 0 then some ((-2), σ) else (F_tellPoints N σ).bind (fun w14 => (F_in N a1 0 ((gI w14 9) - 1)).bind (fun w25 => if w25 = 0 then some ((-12), w14) else if 4 ≤ a2 then if a2 = 4 then (F_linesAt N w14 a1).bind (fun w95 => some (w95, w14)) else if a2 = 5 then (F_endsAt N w14 a1).bind (fun w106 => some (w106, w14)) else (F_tellPieces N w14).bind (fun w111 => let x114 := w111.1; ck a1 80 (fun j120 => some ((gA w111.2 14 j120), w111.2))) else if a2 = 0 then ck a1 80 (fun j48 => F_point_b86 N w14 (gL w14 10 j48)) else if a2 = 1 then ck a1 80 (fun j62 => F_point_b86 N w14 (gL w14 11 j62)) else if a2 = 2 then ck a1 80 (fun j76 => F_point_b86 N w14 (gL w14 12 j76)) else ck a1 80 (fun j85 => F_point_b86 N w14 (gL w14 13 j85)))))
def F_isUpright (N : Nat) (σ : MSt) (a1 : Int32) : Option (Int32) :=
  ck a1 10 (fun j5 => ck a1 10 (fun j11 => if (gA σ 1 j5) = (gA σ 3 j11) then some 1 else some 0))
def F_pointsOn_b28 (N : Nat) (σ : MSt) (r4 : Int32 → Int32 → Int32 → Option (Int32)) (v1 : Int32) (v2 : Int32) (v3 : Int32) : Option (Int32) :=
  let x28 := (v3 + 1); r4 v1 v2 x28
def F_pointsOn_L4 (N : Nat) (σ : MSt) : Nat → Int32 → Int32 → Int32 → Option (Int32)
  | 0, _, _, _ => none
  | n + 1, v1, v2, v3 =>
    if (gI σ 9) ≤ v3 then some v2 else (F_linesAt N σ v3).bind (fun w14 => if ((w14 >>> (v1 &&& 31)) &&& 1) = 1 then let x25 := (v2 + 1); F_pointsOn_b28 N σ (F_pointsOn_L4 N σ n) v1 x25 v3 else F_pointsOn_b28 N σ (F_pointsOn_L4 N σ n) v1 v2 v3)
def F_pointsOn (N : Nat) (σ : MSt) (a1 : Int32) : Option (Int32) :=
  F_pointsOn_L4 N σ N a1 0 0
def F_placeAt_b36 (N : Nat) (σ : MSt) (v1 : Int32) (v2 : Int32) (v3 : Int32) : Option (Int32 × MSt) :=
  if v3 = (gI σ 15) then ck v3 20 (fun j50 => let σ50 := (sA σ 16 j50 v1); ck v3 20 (fun j57 => let σ57 := (sA σ50 17 j57 v2); ck v3 20 (fun j64 => let σ64 := (sA σ57 18 j64 (-1)); let σ72 := (sI σ64 15 ((gI σ64 15) + 1)); some (v3, σ72)))) else some (v3, σ)
def F_placeAt_b30 (N : Nat) (r2 : MSt → Int32 → Int32 → Int32 → Option (Int32 × MSt)) (σ : MSt) (v1 : Int32) (v2 : Int32) (v3 : Int32) : Option (Int32 × MSt) :=
  let x30 := (v3 + 1); r2 σ v1 v2 x30
def F_placeAt_L2 (N : Nat) : Nat → MSt → Int32 → Int32 → Int32 → Option (Int32 × MSt)
  | 0, _, _, _, _ => none
  | n + 1, σ, v1, v2, v3 =>
    if (gI σ 15) ≤ v3 then F_placeAt_b36 N σ v1 v2 v3 else ck v3 20 (fun j15 => if (gA σ 16 j15) = v1 then ck v3 20 (fun j25 => if (gA σ 17 j25) = v2 then F_placeAt_b36 N σ v1 v2 v3 else F_placeAt_b30 N (F_placeAt_L2 N n) σ v1 v2 v3) else F_placeAt_b30 N (F_placeAt_L2 N n) σ v1 v2 v3)
def F_placeAt (N : Nat) (σ : MSt) (a1 : Int32) (a2 : Int32) : Option (Int32 × MSt) :=
  F_placeAt_L2 N N σ a1 a2 0
def F_isSide_b119 (N : Nat) (σ : MSt) (r8 : Int32 → Int32 → Int32 → Int32 → Int32 → Option (Int32)) (v1 : Int32) (v2 : Int32) (v3 : Int32) (v4 : Int32) (v5 : Int32) : Option (Int32) :=
  let x119 := (v5 + 1); r8 v1 v2 v3 v4 x119
def F_isSide_b116 (N : Nat) (σ : MSt) (r8 : Int32 → Int32 → Int32 → Int32 → Int32 → Option (Int32)) (v1 : Int32) (v2 : Int32) (v3 : Int32) (v5 : Int32) (t0 : Int32) (t1 : Int32) : Option (Int32) :=
  let x117 := (t0 ||| t1); F_isSide_b119 N σ r8 v1 v2 v3 x117 v5
def F_isSide_b102 (N : Nat) (σ : MSt) (r8 : Int32 → Int32 → Int32 → Int32 → Int32 → Option (Int32)) (v1 : Int32) (v2 : Int32) (v4 : Int32) (v5 : Int32) (v6 : Int32) (t0 : Int32) (t1 : Int32) : Option (Int32) :=
  let x103 := (t0 ||| t1); if 0 ≤ v6 then F_isSide_b116 N σ r8 v1 v2 x103 v5 v4 0 else F_isSide_b116 N σ r8 v1 v2 x103 v5 v4 1
def F_isSide_L8 (N : Nat) (σ : MSt) : Nat → Int32 → Int32 → Int32 → Int32 → Int32 → Option (Int32)
  | 0, _, _, _, _, _ => none
  | n + 1, v1, v2, v3, v4, v5 =>
    if (gI σ 15) ≤ v5 then if v3 = 0 then some 1 else if v4 = 0 then some 1 else some 0 else ck v5 20 (fun j23 => if (gA σ 18 j23) = (-1) then ck v2 20 (fun j37 => ck v1 20 (fun j43 => ck v2 20 (fun j50 => ck v1 20 (fun j56 => ck v5 20 (fun j64 => ck v1 20 (fun j70 => ck v5 20 (fun j78 => ck v1 20 (fun j84 => (F_turn N σ ((gA σ 16 j37) - (gA σ 16 j43)) ((gA σ 17 j50) - (gA σ 17 j56)) ((gA σ 16 j64) - (gA σ 16 j70)) ((gA σ 17 j78) - (gA σ 17 j84))).bind (fun w86 => if w86 ≤ 0 then F_isSide_b102 N σ (F_isSide_L8 N σ n) v1 v2 v4 v5 w86 v3 0 else F_isSide_b102 N σ (F_isSide_L8 N σ n) v1 v2 v4 v5 w86 v3 1))))))))) else F_isSide_b119 N σ (F_isSide_L8 N σ n) v1 v2 v3 v4 v5)
def F_isSide (N : Nat) (σ : MSt) (a1 : Int32) (a2 : Int32) : Option (Int32) :=
  F_isSide_L8 N σ N a1 a2 0 0 0
def F_tellHulls_b309 (N : Nat) (r62 : MSt → Int32 → Int32 → Option (Int32 × MSt)) (r279 : MSt → Int32 → Int32 → Int32 → Option (Int32 × MSt)) (σ : MSt) (v1 : Int32) (v2 : Int32) (v3 : Int32) : Option (Int32 × MSt) :=
  let x309 := (v3 + 1); r279 σ v1 v2 x309
def F_tellHulls_L279 (N : Nat) (r62 : MSt → Int32 → Int32 → Option (Int32 × MSt)) : Nat → MSt → Int32 → Int32 → Int32 → Option (Int32 × MSt)
  | 0, _, _, _, _ => none
  | n + 1, σ, v1, v2, v3 =>
    if (gI σ 15) ≤ v3 then let x315 := (v1 + 1); r62 σ x315 v2 else ck v3 20 (fun j292 => if (gA σ 19 j292) = 0 then F_tellHulls_b309 N r62 (F_tellHulls_L279 N r62 n) σ v1 v2 v3 else ck v3 20 (fun j305 => let σ305 := (sA σ 18 j305 v1); let x306 := (v2 + (-1)); F_tellHulls_b309 N r62 (F_tellHulls_L279 N r62 n) σ305 v1 x306 v3))
def F_tellHulls_b265 (N : Nat) (r62 : MSt → Int32 → Int32 → Option (Int32 × MSt)) (r110 : MSt → Int32 → Int32 → Int32 → Option (Int32 × MSt)) (r121 : MSt → Int32 → Int32 → Int32 → Int32 → Option (Int32 × MSt)) (σ : MSt) (v1 : Int32) (v2 : Int32) (v3 : Int32) (v4 : Int32) : Option (Int32 × MSt) :=
  let x265 := (v4 + 1); r121 σ v1 v2 v3 x265
def F_tellHulls_b257 (N : Nat) (r62 : MSt → Int32 → Int32 → Option (Int32 × MSt)) (r110 : MSt → Int32 → Int32 → Int32 → Option (Int32 × MSt)) (r121 : MSt → Int32 → Int32 → Int32 → Int32 → Option (Int32 × MSt)) (r161 : MSt → Int32 → Int32 → Int32 → Int32 → Int32 → Option (Int32 × MSt)) (σ : MSt) (v1 : Int32) (v2 : Int32) (v3 : Int32) (v4 : Int32) (v5 : Int32) (t1 : Int32) (t2 : Int32) (t3 : Int32) : Option (Int32 × MSt) :=
  ck t1 20 (fun j258 => let σ258 := (sA σ 19 j258 (vp_nar .boolean (t2 ||| t3))); let x259 := (v5 + 1); r161 σ258 v1 v2 v3 v4 x259)
def F_tellHulls_b256 (N : Nat) (r62 : MSt → Int32 → Int32 → Option (Int32 × MSt)) (r110 : MSt → Int32 → Int32 → Int32 → Option (Int32 × MSt)) (r121 : MSt → Int32 → Int32 → Int32 → Int32 → Option (Int32 × MSt)) (r161 : MSt → Int32 → Int32 → Int32 → Int32 → Int32 → Option (Int32 × MSt)) (σ : MSt) (v1 : Int32) (v2 : Int32) (v3 : Int32) (v4 : Int32) (v5 : Int32) (t1 : Int32) (t2 : Int32) : Option (Int32 × MSt) :=
  F_tellHulls_b257 N r62 r110 r121 r161 σ v1 v2 v3 v4 v5 t1 t2 0
def F_tellHulls_L161 (N : Nat) (r62 : MSt → Int32 → Int32 → Option (Int32 × MSt)) (r110 : MSt → Int32 → Int32 → Int32 → Option (Int32 × MSt)) (r121 : MSt → Int32 → Int32 → Int32 → Int32 → Option (Int32 × MSt)) : Nat → MSt → Int32 → Int32 → Int32 → Int32 → Int32 → Option (Int32 × MSt)
  | 0, _, _, _, _, _, _ => none
  | n + 1, σ, v1, v2, v3, v4, v5 =>
    if (gI σ 15) ≤ v5 then F_tellHulls_b265 N r62 r110 r121 σ v1 v2 v3 v4 else ck v5 20 (fun j177 => ck v5 20 (fun j184 => if (gA σ 18 j184) = (-1) then ck v4 20 (fun j196 => ck v3 20 (fun j202 => ck v4 20 (fun j210 => ck v3 20 (fun j216 => ck v5 20 (fun j224 => ck v3 20 (fun j230 => ck v5 20 (fun j238 => ck v3 20 (fun j244 => (F_turn N σ ((gA σ 16 j196) - (gA σ 16 j202)) ((gA σ 17 j210) - (gA σ 17 j216)) ((gA σ 16 j224) - (gA σ 16 j230)) ((gA σ 17 j238) - (gA σ 17 j244))).bind (fun w246 => if w246 = 0 then F_tellHulls_b257 N r62 r110 r121 (F_tellHulls_L161 N r62 r110 r121 n) σ v1 v2 v3 v4 v5 v5 (gA σ 19 j177) 1 else F_tellHulls_b256 N r62 r110 r121 (F_tellHulls_L161 N r62 r110 r121 n) σ v1 v2 v3 v4 v5 v5 (gA σ 19 j177)))))))))) else F_tellHulls_b256 N r62 r110 r121 (F_tellHulls_L161 N r62 r110 r121 n) σ v1 v2 v3 v4 v5 v5 (gA σ 19 j177)))
def F_tellHulls_L121 (N : Nat) (r62 : MSt → Int32 → Int32 → Option (Int32 × MSt)) (r110 : MSt → Int32 → Int32 → Int32 → Option (Int32 × MSt)) : Nat → MSt → Int32 → Int32 → Int32 → Int32 → Option (Int32 × MSt)
  | 0, _, _, _, _, _ => none
  | n + 1, σ, v1, v2, v3, v4 =>
    if v3 ≤ v4 then let x271 := (v3 + 1); r110 σ v1 v2 x271 else ck v3 20 (fun j132 => if (gA σ 18 j132) = (-1) then ck v4 20 (fun j143 => if (gA σ 18 j143) = (-1) then (F_isSide N σ v3 v4).bind (fun w152 => if w152 = 0 then F_tellHulls_b265 N r62 r110 (F_tellHulls_L121 N r62 r110 n) σ v1 v2 v3 v4 else F_tellHulls_L161 N r62 r110 (F_tellHulls_L121 N r62 r110 n) N σ v1 v2 v3 v4 0) else F_tellHulls_b265 N r62 r110 (F_tellHulls_L121 N r62 r110 n) σ v1 v2 v3 v4) else F_tellHulls_b265 N r62 r110 (F_tellHulls_L121 N r62 r110 n) σ v1 v2 v3 v4)
def F_tellHulls_L110 (N : Nat) (r62 : MSt → Int32 → Int32 → Option (Int32 × MSt)) : Nat → MSt → Int32 → Int32 → Int32 → Option (Int32 × MSt)
  | 0, _, _, _, _ => none
  | n + 1, σ, v1, v2, v3 =>
    if (gI σ 15) ≤ v3 then F_tellHulls_L279 N r62 N σ v1 v2 0 else F_tellHulls_L121 N r62 (F_tellHulls_L110 N r62 n) N σ v1 v2 v3 0
def F_tellHulls_b101 (N : Nat) (r62 : MSt → Int32 → Int32 → Option (Int32 × MSt)) (r68 : MSt → Int32 → Int32 → Int32 → Option (Int32 × MSt)) (σ : MSt) (v1 : Int32) (v2 : Int32) (v3 : Int32) (t1 : Int32) (t2 : Int32) : Option (Int32 × MSt) :=
  ck t1 20 (fun j101 => let σ101 := (sA σ 19 j101 (vp_nar .boolean t2)); let x102 := (v3 + 1); r68 σ101 v1 v2 x102)
def F_tellHulls_b100 (N : Nat) (r62 : MSt → Int32 → Int32 → Option (Int32 × MSt)) (r68 : MSt → Int32 → Int32 → Int32 → Option (Int32 × MSt)) (σ : MSt) (v1 : Int32) (v2 : Int32) (v3 : Int32) (t1 : Int32) : Option (Int32 × MSt) :=
  F_tellHulls_b101 N r62 r68 σ v1 v2 v3 t1 0
def F_tellHulls_L68 (N : Nat) (r62 : MSt → Int32 → Int32 → Option (Int32 × MSt)) : Nat → MSt → Int32 → Int32 → Int32 → Option (Int32 × MSt)
  | 0, _, _, _, _ => none
  | n + 1, σ, v1, v2, v3 =>
    if (gI σ 15) ≤ v3 then F_tellHulls_L110 N r62 N σ v1 v2 0 else ck v3 20 (fun j86 => if (gA σ 18 j86) = (-1) then if v2 = 1 then F_tellHulls_b101 N r62 (F_tellHulls_L68 N r62 n) σ v1 v2 v3 v3 1 else F_tellHulls_b100 N r62 (F_tellHulls_L68 N r62 n) σ v1 v2 v3 v3 else F_tellHulls_b100 N r62 (F_tellHulls_L68 N r62 n) σ v1 v2 v3 v3)
def F_tellHulls_L62 (N : Nat) : Nat → MSt → Int32 → Int32 → Option (Int32 × MSt)
  | 0, _, _, _ => none
  | n + 1, σ, v1, v2 =>
    if v2 ≤ 0 then some (v1, σ) else F_tellHulls_L68 N (F_tellHulls_L62 N n) N σ v1 v2 0
def F_tellHulls_L7 (N : Nat) : Nat → MSt → Int32 → Option (Int32 × MSt)
  | 0, _, _ => none
  | n + 1, σ, v1 =>
    if (gI σ 0) ≤ v1 then let x61 := (gI σ 15); F_tellHulls_L62 N N σ 0 x61 else ck v1 10 (fun j21 => ck v1 10 (fun j27 => (F_placeAt N σ (gA σ 1 j21) (gA σ 2 j27)).bind (fun w28 => let x31 := w28.1; ck v1 10 (fun j38 => ck v1 10 (fun j44 => (F_placeAt N w28.2 (gA w28.2 3 j38) (gA w28.2 4 j44)).bind (fun w45 => let x48 := w45.1; let x49 := (v1 + 1); (F_tellHulls_L7 N n) w45.2 x49))))))
def F_tellHulls (N : Nat) (σ : MSt) : Option (Int32 × MSt) :=
  let σ2 := (sI σ 15 0); F_tellHulls_L7 N N σ2 0
def F_told_b158 (N : Nat) (σ : MSt) (t1 : Int32) : Option (Int32 × MSt) :=
  ck t1 20 (fun j158 => some ((gA σ 18 j158), σ))
def F_told (N : Nat) (σ : MSt) (a1 : Int32) (a2 : Int32) : Option (Int32 × MSt) :=
  (F_isLine N σ a1).bind (fun w2 => if w2 = 0 then some ((-2), σ) else (F_in N a2 0 7).bind (fun w12 => if w12 = 0 then some ((-2), σ) else if 4 ≤ a2 then if a2 = 4 then (F_isUpright N σ a1).bind (fun w81 => if w81 = 0 then some (0, σ) else some (1, σ)) else if a2 = 5 then (F_tellPoints N σ).bind (fun w99 => (F_pointsOn N w99 a1).bind (fun w104 => some (w104, w99))) else (F_tellHulls N σ).bind (fun w109 => let x112 := w109.1; if a2 = 6 then ck a1 10 (fun j129 => ck a1 10 (fun j135 => (F_placeAt N w109.2 (gA w109.2 1 j129) (gA w109.2 2 j135)).bind (fun w136 => F_told_b158 N w136.2 (w136.1)))) else ck a1 10 (fun j148 => ck a1 10 (fun j154 => (F_placeAt N w109.2 (gA w109.2 3 j148) (gA w109.2 4 j154)).bind (fun w155 => F_told_b158 N w155.2 (w155.1))))) else if a2 = 0 then ck a1 10 (fun j35 => some ((gA σ 1 j35), σ)) else if a2 = 1 then ck a1 10 (fun j49 => some ((gA σ 2 j49), σ)) else if a2 = 2 then ck a1 10 (fun j63 => some ((gA σ 3 j63), σ)) else ck a1 10 (fun j72 => some ((gA σ 4 j72), σ))))
def F_taken_b65 (N : Nat) (σ : MSt) (v1 : Int32) (t0 : Int32) : Option (Int32) :=
  if t0 = 0 then some (-13) else some v1
def F_taken_b64 (N : Nat) (σ : MSt) (v1 : Int32) : Option (Int32) :=
  F_taken_b65 N σ v1 0
def F_taken (N : Nat) (σ : MSt) (a1 : Int32) (a2 : Int32) : Option (Int32) :=
  (F_isLine N σ a1).bind (fun w2 => if w2 = 0 then some (-2) else (F_in N a2 0 2).bind (fun w11 => if w11 = 0 then some (-2) else if a2 = 0 then (F_isUpright N σ a1).bind (fun w26 => F_taken_b65 N σ a1 w26) else (F_isUpright N σ a1).bind (fun w34 => if w34 = 0 then if a2 = 1 then F_taken_b65 N σ a1 1 else ck a1 10 (fun j50 => ck a1 10 (fun j56 => if (gA σ 2 j50) = (gA σ 4 j56) then F_taken_b65 N σ a1 1 else F_taken_b64 N σ a1)) else F_taken_b64 N σ a1)))
def F_isThere (N : Nat) (σ : MSt) (a1 : Int32) (a2 : Int64) (a4 : Int64) : Option (Int32) :=
  (F_isUpright N σ a1).bind (fun w2 => if w2 = 0 then ck a1 10 (fun j13 => if a2 < ((gA σ 1 j13).toInt64 * a4) then some 0 else ck a1 10 (fun j29 => if ((gA σ 3 j29).toInt64 * a4) < a2 then some 0 else some 1)) else some 0)
def F_yAbove (N : Nat) (σ : MSt) (a1 : Int32) (a2 : Int64) (a4 : Int64) : Option (Int64) :=
  ck a1 10 (fun j5 => ck a1 10 (fun j11 => let x14 := ((gA σ 3 j5) - (gA σ 1 j11)).toInt64; ck a1 10 (fun j21 => ck a1 10 (fun j35 => ck a1 10 (fun j46 => ck a1 10 (fun j52 => some ((((gA σ 2 j21).toInt64 * x14) * a4) + ((a2 - ((gA σ 1 j35).toInt64 * a4)) * ((gA σ 4 j46) - (gA σ 2 j52)).toInt64))))))))
def F_yBelow (N : Nat) (σ : MSt) (a1 : Int32) (a2 : Int64) : Option (Int64) :=
  ck a1 10 (fun j5 => ck a1 10 (fun j11 => some (((gA σ 3 j5) - (gA σ 1 j11)).toInt64 * a2)))
def F_isAhead (N : Nat) (σ : MSt) (a1 : Int32) (a2 : Int32) (a3 : Int64) (a5 : Int64) : Option (Int32) :=
  (F_yAbove N σ a1 a3 a5).bind (fun w5 => (F_yBelow N σ a1 a5).bind (fun w12 => (F_yAbove N σ a2 a3 a5).bind (fun w20 => (F_yBelow N σ a2 a5).bind (fun w27 => (F_against N w5 w12 w20 w27).bind (fun w30 => if w30 = 0 then ck a1 10 (fun j56 => ck a1 10 (fun j62 => ck a1 10 (fun j70 => ck a1 10 (fun j76 => ck a2 10 (fun j84 => ck a2 10 (fun j90 => ck a2 10 (fun j98 => ck a2 10 (fun j104 => (F_against N (((gA σ 4 j56) - (gA σ 2 j62)).toInt64) (((gA σ 3 j70) - (gA σ 1 j76)).toInt64) (((gA σ 4 j84) - (gA σ 2 j90)).toInt64) (((gA σ 3 j98) - (gA σ 1 j104)).toInt64)).bind (fun w107 => if w107 = 0 then if a2 ≤ a1 then some 0 else some 1 else if 0 ≤ w107 then some 0 else some 1))))))))) else if 0 ≤ w30 then some 0 else some 1)))))
def F_tellOrder_b110 (N : Nat) (r8 : MSt → Int64 → Int64 → Int32 → Int32 → Option (MSt)) (σ : MSt) (v1 : Int64) (v3 : Int64) (v5 : Int32) (v6 : Int32) : Option (MSt) :=
  let x110 := (v6 + 1); r8 σ v1 v3 v5 x110
def F_tellOrder_b91 (N : Nat) (r8 : MSt → Int64 → Int64 → Int32 → Int32 → Option (MSt)) (σ : MSt) (v1 : Int64) (v3 : Int64) (v5 : Int32) (v6 : Int32) (v7 : Int32) : Option (MSt) :=
  ck v7 10 (fun j99 => let σ99 := (sA σ 21 j99 v6); let σ107 := (sI σ99 20 ((gI σ99 20) + 1)); F_tellOrder_b110 N r8 σ107 v1 v3 v5 v6)
def F_tellOrder_L44 (N : Nat) (r8 : MSt → Int64 → Int64 → Int32 → Int32 → Option (MSt)) : Nat → MSt → Int64 → Int64 → Int32 → Int32 → Int32 → Option (MSt)
  | 0, _, _, _, _, _, _ => none
  | n + 1, σ, v1, v3, v5, v6, v7 =>
    if v7 ≤ 0 then F_tellOrder_b91 N r8 σ v1 v3 v5 v6 v7 else ck (v7 - 1) 10 (fun j60 => (F_isAhead N σ v6 (gA σ 21 j60) v1 v3).bind (fun w63 => if w63 = 0 then F_tellOrder_b91 N r8 σ v1 v3 v5 v6 v7 else ck (v7 - 1) 10 (fun j83 => ck v7 10 (fun j84 => let σ84 := (sA σ 21 j84 (gA σ 21 j83)); let x85 := (v7 + (-1)); (F_tellOrder_L44 N r8 n) σ84 v1 v3 v5 v6 x85))))
def F_tellOrder_L8 (N : Nat) : Nat → MSt → Int64 → Int64 → Int32 → Int32 → Option (MSt)
  | 0, _, _, _, _, _ => none
  | n + 1, σ, v1, v3, v5, v6 =>
    if (gI σ 0) ≤ v6 then some σ else if v6 = v5 then F_tellOrder_b110 N (F_tellOrder_L8 N n) σ v1 v3 v5 v6 else (F_isThere N σ v6 v1 v3).bind (fun w29 => if w29 = 0 then F_tellOrder_b110 N (F_tellOrder_L8 N n) σ v1 v3 v5 v6 else let x42 := (gI σ 20); F_tellOrder_L44 N (F_tellOrder_L8 N n) N σ v1 v3 v5 v6 x42)
def F_tellOrder (N : Nat) (σ : MSt) (a1 : Int64) (a3 : Int64) (a5 : Int32) : Option (MSt) :=
  let σ2 := (sI σ 20 0); F_tellOrder_L8 N N σ2 a1 a3 a5 0
def F_order (N : Nat) (σ : MSt) (a1 : Int32) (a2 : Int32) (a3 : Int32) : Option (Int32 × MSt) :=
  (F_in N a1 0 400).bind (fun w5 => if w5 = 0 then some ((-2), σ) else (F_in N a2 1 10).bind (fun w15 => if w15 = 0 then some ((-2), σ) else (F_tellOrder N σ a1.toInt64 a2.toInt64 (-1)).bind (fun w30 => if a3 = (-1) then some ((gI w30 20), w30) else (F_in N a3 0 ((gI w30 20) - 1)).bind (fun w51 => if w51 = 0 then some ((-12), w30) else ck a3 10 (fun j62 => some ((gA w30 21 j62), w30))))))
def F_addCell (N : Nat) (σ : MSt) (a1 : Int32) (a2 : Int32) (a3 : Int32) : Option (MSt) :=
  ck (gI σ 23) 900 (fun j9 => let σ9 := (sA σ 28 j9 a1); ck (gI σ9 23) 900 (fun j19 => let σ19 := (sA σ9 29 j19 a2); ck (gI σ19 23) 900 (fun j29 => let σ29 := (sA σ19 30 j29 a3); let σ37 := (sI σ29 23 ((gI σ29 23) + 1)); some σ37)))
def F_againstThrough (N : Nat) (σ : MSt) (a1 : Int32) (a2 : Int32) (a3 : Int32) : Option (Int32) :=
  ck a3 81 (fun j7 => ck a3 81 (fun j13 => (F_yAbove N σ a1 (gL σ 25 j7) (gL σ 26 j13)).bind (fun w14 => ck a3 81 (fun j24 => (F_yBelow N σ a1 (gL σ 26 j24)).bind (fun w25 => ck a3 81 (fun j35 => ck a3 81 (fun j41 => (F_yAbove N σ a2 (gL σ 25 j35) (gL σ 26 j41)).bind (fun w42 => ck a3 81 (fun j52 => (F_yBelow N σ a2 (gL σ 26 j52)).bind (fun w53 => (F_against N w14 w25 w42 w53).bind (fun w56 => if w56 = 0 then ck (a3 + 1) 81 (fun j76 => let x77 := (gL σ 25 j76); ck (a3 + 1) 81 (fun j86 => let x87 := (gL σ 26 j86); (F_yAbove N σ a1 x77 x87).bind (fun w95 => (F_yBelow N σ a1 x87).bind (fun w102 => (F_yAbove N σ a2 x77 x87).bind (fun w111 => (F_yBelow N σ a2 x87).bind (fun w118 => (F_against N w95 w102 w111 w118).bind (fun w121 => some w121))))))) else some w56)))))))))))
def F_cut_b217 (N : Nat) (r145 : MSt → Int32 → Int32 → Int32 → Int32 → Option (MSt)) (σ : MSt) (v1 : Int32) (v2 : Int32) (v3 : Int32) (v4 : Int32) (v5 : Int32) : Option (MSt) :=
  (F_addCell N σ v1 v3 v5).bind (fun w222 => r145 w222 v1 v2 v5 v4)
def F_cut_L174 (N : Nat) (r145 : MSt → Int32 → Int32 → Int32 → Int32 → Option (MSt)) : Nat → MSt → Int32 → Int32 → Int32 → Int32 → Int32 → Int32 → Option (MSt)
  | 0, _, _, _, _, _, _, _ => none
  | n + 1, σ, v1, v2, v3, v4, v5, v6 =>
    if v2 ≤ v4 then F_cut_b217 N r145 σ v1 v2 v3 v4 v5 else ck v4 10 (fun j189 => (F_againstThrough N σ v6 (gA σ 32 j189) v1).bind (fun w191 => if w191 = 0 then ck v4 10 (fun j206 => let x209 := (v5 ||| (1 <<< ((gA σ 32 j206) &&& 31))); let x211 := (v4 + 1); (F_cut_L174 N r145 n) σ v1 v2 v3 x211 x209 v6) else F_cut_b217 N r145 σ v1 v2 v3 v4 v5))
def F_cut_L145 (N : Nat) : Nat → MSt → Int32 → Int32 → Int32 → Int32 → Option (MSt)
  | 0, _, _, _, _, _ => none
  | n + 1, σ, v1, v2, v3, v4 =>
    if v2 ≤ v4 then (F_addCell N σ v1 v3 0).bind (fun w235 => some w235) else ck v4 10 (fun j158 => let x160 := (1 <<< ((gA σ 32 j158) &&& 31)); ck v4 10 (fun j168 => let x169 := (gA σ 32 j168); let x171 := (v4 + 1); F_cut_L174 N (F_cut_L145 N n) N σ v1 v2 v3 x171 x160 x169))
def F_cut_b134 (N : Nat) (r4 : MSt → Int32 → Int32 → Int32 → Option (MSt)) (σ : MSt) (v1 : Int32) (v2 : Int32) (v3 : Int32) : Option (MSt) :=
  let x134 := (v3 + 1); r4 σ v1 v2 x134
def F_cut_b123 (N : Nat) (r4 : MSt → Int32 → Int32 → Int32 → Option (MSt)) (σ : MSt) (v1 : Int32) (v2 : Int32) (v3 : Int32) (v4 : Int32) : Option (MSt) :=
  ck v4 10 (fun j130 => let σ130 := (sA σ 32 j130 v3); let x131 := (v2 + 1); F_cut_b134 N r4 σ130 v1 x131 v3)
def F_cut_L78 (N : Nat) (r4 : MSt → Int32 → Int32 → Int32 → Option (MSt)) : Nat → MSt → Int32 → Int32 → Int32 → Int32 → Option (MSt)
  | 0, _, _, _, _, _ => none
  | n + 1, σ, v1, v2, v3, v4 =>
    if v4 ≤ 0 then F_cut_b123 N r4 σ v1 v2 v3 v4 else ck (v4 - 1) 10 (fun j93 => (F_againstThrough N σ v3 (gA σ 32 j93) v1).bind (fun w95 => if 0 ≤ w95 then F_cut_b123 N r4 σ v1 v2 v3 v4 else ck (v4 - 1) 10 (fun j115 => ck v4 10 (fun j116 => let σ116 := (sA σ 32 j116 (gA σ 32 j115)); let x117 := (v4 + (-1)); (F_cut_L78 N r4 n) σ116 v1 v2 v3 x117))))
def F_cut_L4 (N : Nat) : Nat → MSt → Int32 → Int32 → Int32 → Option (MSt)
  | 0, _, _, _, _ => none
  | n + 1, σ, v1, v2, v3 =>
    if (gI σ 0) ≤ v3 then F_cut_L145 N N σ v1 v2 0 0 else (F_isUpright N σ v3).bind (fun w14 => if w14 = 0 then ck v3 10 (fun j25 => ck v1 81 (fun j32 => ck v1 81 (fun j39 => if (gL σ 25 j39) < ((gA σ 1 j25).toInt64 * (gL σ 26 j32)) then F_cut_b134 N (F_cut_L4 N n) σ v1 v2 v3 else ck v3 10 (fun j49 => ck (v1 + 1) 81 (fun j58 => ck (v1 + 1) 81 (fun j67 => if (gL σ 25 j67) ≤ ((gA σ 3 j49).toInt64 * (gL σ 26 j58)) then F_cut_L78 N (F_cut_L4 N n) N σ v1 v2 v3 v2 else F_cut_b134 N (F_cut_L4 N n) σ v1 v2 v3)))))) else F_cut_b134 N (F_cut_L4 N n) σ v1 v2 v3)
def F_cut (N : Nat) (σ : MSt) (a1 : Int32) : Option (MSt) :=
  F_cut_L4 N N σ a1 0 0
def F_wide (N : Nat) (σ : MSt) : Option (MSt) :=
  let σ4 := (sJ σ 33 (-100000)); let σ9 := (sJ σ4 34 1); let σ16 := (sJ σ9 35 100000); let σ21 := (sJ σ16 36 1); some σ21
def F_leastOf (N : Nat) (a0 : Int32) : Option (Int32) :=
  if a0 = 0 then some (-1) else (F_J15_numberOfTrailingZeros N a0).bind (fun w9 => some w9)
def F_narrow_b84 (N : Nat) (σ : MSt) (v2 : Int64) (v4 : Int64) (v7 : Int32) : Option (MSt) :=
  if v7 = (-1) then some σ else (F_yAbove N σ v7 v2 v4).bind (fun w96 => (F_yBelow N σ v7 v4).bind (fun w104 => (F_against N w96 w104 (gJ σ 35) (gJ σ 36)).bind (fun w115 => if 0 ≤ w115 then some σ else (F_yAbove N σ v7 v2 v4).bind (fun w128 => let σ131 := (sJ σ 35 w128); (F_yBelow N σ131 v7 v4).bind (fun w140 => let σ143 := (sJ σ131 36 w140); some σ143)))))
def F_narrow (N : Nat) (σ : MSt) (a1 : Int32) (a2 : Int64) (a4 : Int64) : Option (MSt) :=
  ck a1 900 (fun j5 => (F_leastOf N (gA σ 29 j5)).bind (fun w6 => ck a1 900 (fun j16 => (F_leastOf N (gA σ 30 j16)).bind (fun w17 => if w6 = (-1) then F_narrow_b84 N σ a2 a4 w17 else (F_yAbove N σ w6 a2 a4).bind (fun w34 => (F_yBelow N σ w6 a4).bind (fun w42 => (F_against N w34 w42 (gJ σ 33) (gJ σ 34)).bind (fun w53 => if w53 ≤ 0 then F_narrow_b84 N σ a2 a4 w17 else (F_yAbove N σ w6 a2 a4).bind (fun w66 => let σ69 := (sJ σ 33 w66); (F_yBelow N σ69 w6 a4).bind (fun w78 => let σ81 := (sJ σ69 34 w78); F_narrow_b84 N σ81 a2 a4 w17)))))))))
def F_isMoreThanOne (N : Nat) (σ : MSt) : Option (Int32) :=
  (F_against N (gJ σ 33) (gJ σ 34) (gJ σ 35) (gJ σ 36)).bind (fun w16 => if 0 ≤ w16 then some 0 else some 1)
def F_isUprightAt (N : Nat) (σ : MSt) (a1 : Int32) (a2 : Int64) (a4 : Int64) : Option (Int32) :=
  (F_isUpright N σ a1).bind (fun w2 => if w2 = 0 then some 0 else ck a1 10 (fun j13 => if ((gA σ 1 j13).toInt64 * a4) = a2 then some 1 else some 0))
def F_isOpen_b103 (N : Nat) (σ : MSt) (r15 : Int64 → Int64 → Int64 → Int64 → Int32 → Option (Int32)) (r26 : Int64 → Int64 → Int64 → Int64 → Int32 → Int32 → Option (Int32)) (v1 : Int64) (v3 : Int64) (v5 : Int64) (v7 : Int64) (v9 : Int32) (v10 : Int32) : Option (Int32) :=
  let x103 := (v10 + 1); r26 v1 v3 v5 v7 v9 x103
def F_isOpen_L26 (N : Nat) (σ : MSt) (r15 : Int64 → Int64 → Int64 → Int64 → Int32 → Option (Int32)) : Nat → Int64 → Int64 → Int64 → Int64 → Int32 → Int32 → Option (Int32)
  | 0, _, _, _, _, _, _ => none
  | n + 1, v1, v3, v5, v7, v9, v10 =>
    if (gI σ 0) ≤ v10 then r15 v1 v3 v5 v7 v9 else (F_isUprightAt N σ v10 v1 v3).bind (fun w40 => if w40 = 0 then F_isOpen_b103 N σ r15 (F_isOpen_L26 N σ r15 n) v1 v3 v5 v7 v9 v10 else ck v10 10 (fun j52 => (F_against N ((gA σ 2 j52).toInt64) 1 v5 v7).bind (fun w59 => if 0 < w59 then F_isOpen_b103 N σ r15 (F_isOpen_L26 N σ r15 n) v1 v3 v5 v7 v9 v10 else ck v10 10 (fun j71 => (F_against N ((gA σ 4 j71).toInt64) 1 v5 v7).bind (fun w78 => if 0 < w78 then ck v10 10 (fun j93 => let x95 := (gA σ 4 j93).toInt64; F_isOpen_b103 N σ r15 (F_isOpen_L26 N σ r15 n) v1 v3 x95 1 1 v10) else F_isOpen_b103 N σ r15 (F_isOpen_L26 N σ r15 n) v1 v3 v5 v7 v9 v10)))))
def F_isOpen_L15 (N : Nat) (σ : MSt) : Nat → Int64 → Int64 → Int64 → Int64 → Int32 → Option (Int32)
  | 0, _, _, _, _, _ => none
  | n + 1, v1, v3, v5, v7, v9 =>
    if v9 = 0 then (F_against N v5 v7 (gJ σ 35) (gJ σ 36)).bind (fun w124 => if 0 ≤ w124 then some 0 else some 1) else F_isOpen_L26 N σ (F_isOpen_L15 N σ n) N v1 v3 v5 v7 0 0
def F_isOpen (N : Nat) (σ : MSt) (a1 : Int64) (a3 : Int64) : Option (Int32) :=
  let x4 := (gJ σ 33); let x10 := (gJ σ 34); F_isOpen_L15 N σ N a1 a3 x4 x10 1
def F_joinCells_b304 (N : Nat) (r236 : MSt → Int32 → Option (MSt)) (σ : MSt) (v1 : Int32) : Option (MSt) :=
  let x304 := (v1 + 1); r236 σ x304
def F_joinCells_L236 (N : Nat) : Nat → MSt → Int32 → Option (MSt)
  | 0, _, _ => none
  | n + 1, σ, v1 =>
    if (gI σ 23) ≤ v1 then some σ else ck v1 900 (fun j249 => if (gA σ 31 j249) = v1 then ck v1 900 (fun j283 => let σ283 := (sA σ 31 j283 (gI σ 24)); ck (gI σ283 24) 900 (fun j293 => let σ293 := (sA σ283 37 j293 v1); let σ301 := (sI σ293 24 ((gI σ293 24) + 1)); F_joinCells_b304 N (F_joinCells_L236 N n) σ301 v1)) else ck v1 900 (fun j268 => ck (gA σ 31 j268) 900 (fun j269 => ck v1 900 (fun j270 => let σ270 := (sA σ 31 j270 (gA σ 31 j269)); F_joinCells_b304 N (F_joinCells_L236 N n) σ270 v1))))
def F_joinCells_b211 (N : Nat) (r25 : MSt → Int32 → Option (MSt)) (r42 : MSt → Int32 → Int32 → Option (MSt)) (r59 : MSt → Int32 → Int32 → Int32 → Option (MSt)) (σ : MSt) (v1 : Int32) (v2 : Int32) (v3 : Int32) : Option (MSt) :=
  let x211 := (v3 + 1); r59 σ v1 v2 x211
def F_joinCells_b205 (N : Nat) (r25 : MSt → Int32 → Option (MSt)) (r42 : MSt → Int32 → Int32 → Option (MSt)) (r59 : MSt → Int32 → Int32 → Int32 → Option (MSt)) (r175 : MSt → Int32 → Int32 → Int32 → Int32 → Int32 → Int32 → Option (MSt)) (σ : MSt) (v1 : Int32) (v2 : Int32) (v3 : Int32) (v4 : Int32) (v5 : Int32) (v6 : Int32) : Option (MSt) :=
  let x205 := (v6 + 1); r175 σ v1 v2 v3 v4 v5 x205
def F_joinCells_L175 (N : Nat) (r25 : MSt → Int32 → Option (MSt)) (r42 : MSt → Int32 → Int32 → Option (MSt)) (r59 : MSt → Int32 → Int32 → Int32 → Option (MSt)) : Nat → MSt → Int32 → Int32 → Int32 → Int32 → Int32 → Int32 → Option (MSt)
  | 0, _, _, _, _, _, _, _ => none
  | n + 1, σ, v1, v2, v3, v4, v5, v6 =>
    if (gI σ 23) ≤ v6 then F_joinCells_b211 N r25 r42 r59 σ v1 v2 v3 else ck v6 900 (fun j190 => if (gA σ 31 j190) = v5 then ck v6 900 (fun j204 => let σ204 := (sA σ 31 j204 v4); F_joinCells_b205 N r25 r42 r59 (F_joinCells_L175 N r25 r42 r59 n) σ204 v1 v2 v3 v4 v5 v6) else F_joinCells_b205 N r25 r42 r59 (F_joinCells_L175 N r25 r42 r59 n) σ v1 v2 v3 v4 v5 v6)
def F_joinCells_L59 (N : Nat) (r25 : MSt → Int32 → Option (MSt)) (r42 : MSt → Int32 → Int32 → Option (MSt)) : Nat → MSt → Int32 → Int32 → Int32 → Option (MSt)
  | 0, _, _, _, _ => none
  | n + 1, σ, v1, v2, v3 =>
    ck (v1 + 1) 82 (fun j67 => if (gA σ 27 j67) ≤ v3 then let x217 := (v2 + 1); r42 σ v1 x217 else (F_wide N σ).bind (fun w72 => ck v1 81 (fun j82 => ck v1 81 (fun j88 => (F_narrow N w72 v2 (gL w72 25 j82) (gL w72 26 j88)).bind (fun w89 => ck v1 81 (fun j99 => ck v1 81 (fun j105 => (F_narrow N w89 v3 (gL w89 25 j99) (gL w89 26 j105)).bind (fun w106 => (F_isMoreThanOne N w106).bind (fun w110 => if w110 = 0 then F_joinCells_b211 N r25 r42 (F_joinCells_L59 N r25 r42 n) w106 v1 v2 v3 else ck v1 81 (fun j122 => ck v1 81 (fun j128 => (F_isOpen N w106 (gL w106 25 j122) (gL w106 26 j128)).bind (fun w129 => if w129 = 0 then F_joinCells_b211 N r25 r42 (F_joinCells_L59 N r25 r42 n) w106 v1 v2 v3 else ck v2 900 (fun j143 => ck v3 900 (fun j149 => let x153 := (jmin (gA w106 31 j143) (gA w106 31 j149)); ck v2 900 (fun j160 => ck v3 900 (fun j166 => let x170 := (jmax (gA w106 31 j160) (gA w106 31 j166)); F_joinCells_L175 N r25 r42 (F_joinCells_L59 N r25 r42 n) N w106 v1 v2 v3 x153 x170 0))))))))))))))))
def F_joinCells_L42 (N : Nat) (r25 : MSt → Int32 → Option (MSt)) : Nat → MSt → Int32 → Int32 → Option (MSt)
  | 0, _, _, _ => none
  | n + 1, σ, v1, v2 =>
    ck v1 82 (fun j48 => if (gA σ 27 j48) ≤ v2 then let x223 := (v1 + 1); r25 σ x223 else ck v1 82 (fun j57 => let x58 := (gA σ 27 j57); F_joinCells_L59 N r25 (F_joinCells_L42 N r25 n) N σ v1 v2 x58))
def F_joinCells_L25 (N : Nat) : Nat → MSt → Int32 → Option (MSt)
  | 0, _, _ => none
  | n + 1, σ, v1 =>
    if (gI σ 22) ≤ v1 then let σ231 := (sI σ 24 0); F_joinCells_L236 N N σ231 0 else ck (v1 - 1) 82 (fun j40 => let x41 := (gA σ 27 j40); F_joinCells_L42 N (F_joinCells_L25 N n) N σ v1 x41)
def F_joinCells_L2 (N : Nat) : Nat → MSt → Int32 → Option (MSt)
  | 0, _, _ => none
  | n + 1, σ, v1 =>
    if (gI σ 23) ≤ v1 then F_joinCells_L25 N N σ 1 else ck v1 900 (fun j16 => let σ16 := (sA σ 31 j16 v1); let x17 := (v1 + 1); (F_joinCells_L2 N n) σ16 x17)
def F_joinCells (N : Nat) (σ : MSt) : Option (MSt) :=
  F_joinCells_L2 N N σ 0
def F_tellSheet_b160 (N : Nat) (r113 : MSt → Int32 → Option (MSt)) (σ : MSt) (v1 : Int32) : Option (MSt) :=
  let x160 := (v1 + 1); r113 σ x160
def F_tellSheet_b145 (N : Nat) (r113 : MSt → Int32 → Option (MSt)) (σ : MSt) (v1 : Int32) : Option (MSt) :=
  (F_addCell N σ v1 0 0).bind (fun w149 => F_tellSheet_b160 N r113 w149 v1)
def F_tellSheet_L113 (N : Nat) : Nat → MSt → Int32 → Option (MSt)
  | 0, _, _ => none
  | n + 1, σ, v1 =>
    if (gI σ 22) ≤ v1 then ck (gI σ 22) 82 (fun j178 => let σ178 := (sA σ 27 j178 (gI σ 23)); (F_joinCells N σ178).bind (fun w180 => some w180)) else ck v1 82 (fun j130 => let σ130 := (sA σ 27 j130 (gI σ 23)); if v1 = 0 then F_tellSheet_b145 N (F_tellSheet_L113 N n) σ130 v1 else if v1 = ((gI σ130 22) - 1) then F_tellSheet_b145 N (F_tellSheet_L113 N n) σ130 v1 else (F_cut N σ130 v1).bind (fun w157 => F_tellSheet_b160 N (F_tellSheet_L113 N n) w157 v1))
def F_tellSheet_b100 (N : Nat) (r11 : MSt → Int32 → Option (MSt)) (σ : MSt) (v1 : Int32) : Option (MSt) :=
  let x100 := (v1 + 1); r11 σ x100
def F_tellSheet_b60 (N : Nat) (r11 : MSt → Int32 → Option (MSt)) (σ : MSt) (v1 : Int32) : Option (MSt) :=
  ck v1 80 (fun j73 => ck (gI σ 22) 81 (fun j74 => let σ74 := (sL σ 25 j74 (gL σ 10 j73)); ck v1 80 (fun j88 => ck (gI σ74 22) 81 (fun j89 => let σ89 := (sL σ74 26 j89 (gL σ74 11 j88)); let σ97 := (sI σ89 22 ((gI σ89 22) + 1)); F_tellSheet_b100 N r11 σ97 v1))))
def F_tellSheet_L11 (N : Nat) : Nat → MSt → Int32 → Option (MSt)
  | 0, _, _ => none
  | n + 1, σ, v1 =>
    if (gI σ 9) ≤ v1 then let σ108 := (sI σ 23 0); F_tellSheet_L113 N N σ108 0 else if v1 ≤ 0 then F_tellSheet_b60 N (F_tellSheet_L11 N n) σ v1 else ck v1 80 (fun j28 => ck v1 80 (fun j34 => ck (v1 - 1) 80 (fun j42 => ck (v1 - 1) 80 (fun j50 => (F_against N (gL σ 10 j28) (gL σ 11 j34) (gL σ 10 j42) (gL σ 11 j50)).bind (fun w51 => if w51 = 0 then F_tellSheet_b100 N (F_tellSheet_L11 N n) σ v1 else F_tellSheet_b60 N (F_tellSheet_L11 N n) σ v1)))))
def F_tellSheet (N : Nat) (σ : MSt) : Option (MSt) :=
  (F_tellPoints N σ).bind (fun w1 => let σ6 := (sI w1 22 1); F_tellSheet_L11 N N σ6 0)
def F_slab_b66 (N : Nat) (σ : MSt) (t0 : Int64) : Option (Int32 × MSt) :=
  some (t0.toInt32, σ)
def F_slab (N : Nat) (σ : MSt) (a1 : Int32) (a2 : Int32) : Option (Int32 × MSt) :=
  (F_in N a2 0 3).bind (fun w3 => if w3 = 0 then some ((-2), σ) else (F_tellSheet N σ).bind (fun w13 => (F_in N a1 0 ((gI w13 22) - 1)).bind (fun w24 => if w24 = 0 then some ((-12), w13) else if 2 ≤ a2 then if a2 = 2 then ck (a1 + 1) 82 (fun j80 => ck a1 82 (fun j86 => some (((gA w13 27 j80) - (gA w13 27 j86)), w13))) else ck a1 82 (fun j96 => some ((gA w13 27 j96), w13)) else if a1 = 0 then some ((-3), w13) else if a2 = 0 then ck a1 81 (fun j56 => F_slab_b66 N w13 (gL w13 25 j56)) else ck a1 81 (fun j65 => F_slab_b66 N w13 (gL w13 26 j65)))))
def F_cell_b80 (N : Nat) (σ : MSt) (t0 : Int32) : Option (Int32 × MSt) :=
  (F_leastOf N t0).bind (fun w80 => some (w80, σ))
def F_cell (N : Nat) (σ : MSt) (a1 : Int32) (a2 : Int32) : Option (Int32 × MSt) :=
  (F_in N a2 0 3).bind (fun w3 => if w3 = 0 then some ((-2), σ) else (F_tellSheet N σ).bind (fun w13 => (F_in N a1 0 ((gI w13 23) - 1)).bind (fun w24 => if w24 = 0 then some ((-12), w13) else if a2 = 0 then ck a1 900 (fun j42 => some ((gA w13 28 j42), w13)) else if a2 = 1 then ck a1 900 (fun j56 => some ((gA w13 31 j56), w13)) else if a2 = 2 then ck a1 900 (fun j70 => F_cell_b80 N w13 (gA w13 29 j70)) else ck a1 900 (fun j79 => F_cell_b80 N w13 (gA w13 30 j79)))))
def F_hasMore_b116 (N : Nat) (σ : MSt) (t0 : Int64) (t1 : Int64) (t2 : Int64) (t3 : Int64) : Option (Int32) :=
  (F_against N t0 t1 t2 t3).bind (fun w116 => if 0 ≤ w116 then some 0 else some 1)
def F_hasMore_b104 (N : Nat) (σ : MSt) (v3 : Int32) (t0 : Int64) (t1 : Int64) (t2 : Int64) : Option (Int32) :=
  if v3 = 0 then F_hasMore_b116 N σ t0 t1 t2 (gJ σ 36) else F_hasMore_b116 N σ t0 t1 t2 1
def F_hasMore_b86 (N : Nat) (σ : MSt) (v1 : Int32) (v3 : Int32) (t0 : Int64) (t1 : Int64) : Option (Int32) :=
  if v3 = 0 then F_hasMore_b104 N σ v3 t0 t1 (gJ σ 35) else ck v1 10 (fun j95 => F_hasMore_b104 N σ v3 t0 t1 (gA σ 4 j95).toInt64)
def F_hasMore_b74 (N : Nat) (σ : MSt) (v1 : Int32) (v2 : Int32) (v3 : Int32) (t0 : Int64) : Option (Int32) :=
  if v2 = 0 then F_hasMore_b86 N σ v1 v3 t0 (gJ σ 34) else F_hasMore_b86 N σ v1 v3 t0 1
def F_hasMore_b55 (N : Nat) (σ : MSt) (v1 : Int32) (v2 : Int32) (t0 : Int32) : Option (Int32) :=
  if v2 = 0 then F_hasMore_b74 N σ v1 v2 t0 (gJ σ 33) else ck v1 10 (fun j65 => F_hasMore_b74 N σ v1 v2 t0 (gA σ 2 j65).toInt64)
def F_hasMore_b27 (N : Nat) (σ : MSt) (v1 : Int32) (t0 : Int32) : Option (Int32) :=
  ck v1 10 (fun j33 => (F_against N ((gA σ 4 j33).toInt64) 1 (gJ σ 35) (gJ σ 36)).bind (fun w44 => if 0 ≤ w44 then F_hasMore_b55 N σ v1 t0 0 else F_hasMore_b55 N σ v1 t0 1))
def F_hasMore (N : Nat) (σ : MSt) (a1 : Int32) : Option (Int32) :=
  ck a1 10 (fun j5 => (F_against N ((gA σ 2 j5).toInt64) 1 (gJ σ 33) (gJ σ 34)).bind (fun w16 => if w16 ≤ 0 then F_hasMore_b27 N σ a1 0 else F_hasMore_b27 N σ a1 1))
def F_bordersAt_b72 (N : Nat) (r26 : MSt → Int32 → Int32 → Int32 → Option (Int32 × MSt)) (σ : MSt) (v2 : Int32) (v3 : Int32) (v4 : Int32) : Option (Int32 × MSt) :=
  let x72 := (v4 + 1); r26 σ v2 v3 x72
def F_bordersAt_L26 (N : Nat) : Nat → MSt → Int32 → Int32 → Int32 → Option (Int32 × MSt)
  | 0, _, _, _, _ => none
  | n + 1, σ, v2, v3, v4 =>
    if (gI σ 0) ≤ v4 then some (v3, σ) else ck v2 81 (fun j43 => ck v2 81 (fun j49 => (F_isUprightAt N σ v4 (gL σ 25 j43) (gL σ 26 j49)).bind (fun w50 => if w50 = 0 then F_bordersAt_b72 N (F_bordersAt_L26 N n) σ v2 v3 v4 else (F_hasMore N σ v4).bind (fun w59 => if w59 = 0 then F_bordersAt_b72 N (F_bordersAt_L26 N n) σ v2 v3 v4 else let x71 := (v3 ||| (1 <<< (v4 &&& 31))); F_bordersAt_b72 N (F_bordersAt_L26 N n) σ v2 x71 v4))))
def F_bordersAt (N : Nat) (σ : MSt) (a1 : Int32) (a2 : Int32) : Option (Int32 × MSt) :=
  (F_wide N σ).bind (fun w3 => ck a2 81 (fun j13 => ck a2 81 (fun j19 => (F_narrow N w3 a1 (gL w3 25 j13) (gL w3 26 j19)).bind (fun w20 => F_bordersAt_L26 N N w20 a2 0 0))))
def F_borders_b95 (N : Nat) (r4 : MSt → Int32 → Int32 → Int32 → Option (Int32 × MSt)) (σ : MSt) (v1 : Int32) (v2 : Int32) (v3 : Int32) : Option (Int32 × MSt) :=
  let x95 := (v3 + 1); r4 σ v1 v2 x95
def F_borders_b64 (N : Nat) (r4 : MSt → Int32 → Int32 → Int32 → Option (Int32 × MSt)) (σ : MSt) (v1 : Int32) (v2 : Int32) (v3 : Int32) : Option (Int32 × MSt) :=
  ck v3 900 (fun j69 => if ((gI σ 22) - 1) ≤ (gA σ 28 j69) then F_borders_b95 N r4 σ v1 v2 v3 else ck v3 900 (fun j87 => (F_bordersAt N σ v3 ((gA σ 28 j87) + 1)).bind (fun w90 => let x94 := (v2 ||| w90.1); F_borders_b95 N r4 w90.2 v1 x94 v3)))
def F_borders_L4 (N : Nat) : Nat → MSt → Int32 → Int32 → Int32 → Option (Int32 × MSt)
  | 0, _, _, _, _ => none
  | n + 1, σ, v1, v2, v3 =>
    if (gI σ 23) ≤ v3 then some (v2, σ) else ck v3 900 (fun j17 => if (gA σ 31 j17) = v1 then ck v3 900 (fun j31 => ck v3 900 (fun j37 => let x40 := (v2 ||| ((gA σ 29 j31) ||| (gA σ 30 j37))); ck v3 900 (fun j46 => if (gA σ 28 j46) ≤ 0 then F_borders_b64 N (F_borders_L4 N n) σ v1 x40 v3 else ck v3 900 (fun j58 => (F_bordersAt N σ v3 (gA σ 28 j58)).bind (fun w59 => let x63 := (x40 ||| w59.1); F_borders_b64 N (F_borders_L4 N n) w59.2 v1 x63 v3))))) else F_borders_b95 N (F_borders_L4 N n) σ v1 v2 v3)
def F_borders (N : Nat) (σ : MSt) (a1 : Int32) : Option (Int32 × MSt) :=
  F_borders_L4 N N σ a1 0 0
def F_isNext (N : Nat) (σ : MSt) (a1 : Int32) (a2 : Int32) : Option (MSt) :=
  ck a1 900 (fun j5 => ck a2 900 (fun j11 => if (gA σ 31 j5) = (gA σ 31 j11) then some σ else ck a1 900 (fun j25 => ck (gA σ 31 j25) 80 (fun j26 => ck a2 900 (fun j32 => ck (gA σ 31 j32) 80 (fun j34 => let σ34 := (sA σ (100 + j26) j34 (vp_nar .boolean 1)); ck a2 900 (fun j44 => ck (gA σ34 31 j44) 80 (fun j45 => ck a1 900 (fun j51 => ck (gA σ34 31 j51) 80 (fun j53 => let σ53 := (sA σ34 (100 + j45) j53 (vp_nar .boolean 1)); some σ53))))))))))
def F_tellNext_b232 (N : Nat) (r84 : MSt → Int32 → Option (MSt)) (r101 : MSt → Int32 → Int32 → Option (MSt)) (r118 : MSt → Int32 → Int32 → Int32 → Option (MSt)) (σ : MSt) (v1 : Int32) (v2 : Int32) (v3 : Int32) : Option (MSt) :=
  let x232 := (v3 + 1); r118 σ v1 v2 x232
def F_tellNext_b226 (N : Nat) (r84 : MSt → Int32 → Option (MSt)) (r101 : MSt → Int32 → Int32 → Option (MSt)) (r118 : MSt → Int32 → Int32 → Int32 → Option (MSt)) (r181 : MSt → Int32 → Int32 → Int32 → Int32 → Option (MSt)) (σ : MSt) (v1 : Int32) (v2 : Int32) (v3 : Int32) (v4 : Int32) : Option (MSt) :=
  let x226 := (v4 + 1); r181 σ v1 v2 v3 x226
def F_tellNext_L181 (N : Nat) (r84 : MSt → Int32 → Option (MSt)) (r101 : MSt → Int32 → Int32 → Option (MSt)) (r118 : MSt → Int32 → Int32 → Int32 → Option (MSt)) : Nat → MSt → Int32 → Int32 → Int32 → Int32 → Option (MSt)
  | 0, _, _, _, _, _ => none
  | n + 1, σ, v1, v2, v3, v4 =>
    if (gI σ 0) ≤ v4 then F_tellNext_b232 N r84 r101 r118 σ v1 v2 v3 else ck v1 81 (fun j198 => ck v1 81 (fun j204 => (F_isUprightAt N σ v4 (gL σ 25 j198) (gL σ 26 j204)).bind (fun w205 => if w205 = 0 then F_tellNext_b226 N r84 r101 r118 (F_tellNext_L181 N r84 r101 r118 n) σ v1 v2 v3 v4 else (F_hasMore N σ v4).bind (fun w214 => if w214 = 0 then F_tellNext_b226 N r84 r101 r118 (F_tellNext_L181 N r84 r101 r118 n) σ v1 v2 v3 v4 else (F_isNext N σ v2 v3).bind (fun w223 => F_tellNext_b226 N r84 r101 r118 (F_tellNext_L181 N r84 r101 r118 n) w223 v1 v2 v3 v4)))))
def F_tellNext_L118 (N : Nat) (r84 : MSt → Int32 → Option (MSt)) (r101 : MSt → Int32 → Int32 → Option (MSt)) : Nat → MSt → Int32 → Int32 → Int32 → Option (MSt)
  | 0, _, _, _, _ => none
  | n + 1, σ, v1, v2, v3 =>
    ck (v1 + 1) 82 (fun j126 => if (gA σ 27 j126) ≤ v3 then let x238 := (v2 + 1); r101 σ v1 x238 else (F_wide N σ).bind (fun w131 => ck v1 81 (fun j141 => ck v1 81 (fun j147 => (F_narrow N w131 v2 (gL w131 25 j141) (gL w131 26 j147)).bind (fun w148 => ck v1 81 (fun j158 => ck v1 81 (fun j164 => (F_narrow N w148 v3 (gL w148 25 j158) (gL w148 26 j164)).bind (fun w165 => (F_isMoreThanOne N w165).bind (fun w169 => if w169 = 0 then F_tellNext_b232 N r84 r101 (F_tellNext_L118 N r84 r101 n) w165 v1 v2 v3 else F_tellNext_L181 N r84 r101 (F_tellNext_L118 N r84 r101 n) N w165 v1 v2 v3 0)))))))))
def F_tellNext_L101 (N : Nat) (r84 : MSt → Int32 → Option (MSt)) : Nat → MSt → Int32 → Int32 → Option (MSt)
  | 0, _, _, _ => none
  | n + 1, σ, v1, v2 =>
    ck v1 82 (fun j107 => if (gA σ 27 j107) ≤ v2 then let x244 := (v1 + 1); r84 σ x244 else ck v1 82 (fun j116 => let x117 := (gA σ 27 j116); F_tellNext_L118 N r84 (F_tellNext_L101 N r84 n) N σ v1 v2 x117))
def F_tellNext_L84 (N : Nat) : Nat → MSt → Int32 → Option (MSt)
  | 0, _, _ => none
  | n + 1, σ, v1 =>
    if (gI σ 22) ≤ v1 then some σ else ck (v1 - 1) 82 (fun j99 => let x100 := (gA σ 27 j99); F_tellNext_L101 N (F_tellNext_L84 N n) N σ v1 x100)
def F_tellNext_b76 (N : Nat) (r43 : MSt → Int32 → Option (MSt)) (σ : MSt) (v1 : Int32) : Option (MSt) :=
  let x76 := (v1 + 1); r43 σ x76
def F_tellNext_L43 (N : Nat) : Nat → MSt → Int32 → Option (MSt)
  | 0, _, _ => none
  | n + 1, σ, v1 =>
    if (gI σ 23) ≤ v1 then F_tellNext_L84 N N σ 1 else ck v1 900 (fun j56 => ck (v1 - 1) 900 (fun j64 => if (gA σ 28 j56) = (gA σ 28 j64) then (F_isNext N σ (v1 - 1) v1).bind (fun w73 => F_tellNext_b76 N (F_tellNext_L43 N n) w73 v1) else F_tellNext_b76 N (F_tellNext_L43 N n) σ v1))
def F_tellNext_L12 (N : Nat) (r2 : MSt → Int32 → Option (MSt)) : Nat → MSt → Int32 → Int32 → Option (MSt)
  | 0, _, _, _ => none
  | n + 1, σ, v1, v2 =>
    if (gI σ 24) ≤ v2 then let x35 := (v1 + 1); r2 σ x35 else ck v1 80 (fun j25 => ck v2 80 (fun j28 => let σ28 := (sA σ (100 + j25) j28 (vp_nar .boolean 0)); let x29 := (v2 + 1); (F_tellNext_L12 N r2 n) σ28 v1 x29))
def F_tellNext_L2 (N : Nat) : Nat → MSt → Int32 → Option (MSt)
  | 0, _, _ => none
  | n + 1, σ, v1 =>
    if (gI σ 24) ≤ v1 then F_tellNext_L43 N N σ 1 else F_tellNext_L12 N (F_tellNext_L2 N n) N σ v1 0
def F_tellNext (N : Nat) (σ : MSt) : Option (MSt) :=
  F_tellNext_L2 N N σ 0
def F_nextTo_b30 (N : Nat) (r8 : MSt → Int32 → Int32 → Int32 → Option (Int32 × MSt)) (σ : MSt) (v1 : Int32) (v2 : Int32) (v3 : Int32) : Option (Int32 × MSt) :=
  let x30 := (v3 + 1); r8 σ v1 v2 x30
def F_nextTo_L8 (N : Nat) : Nat → MSt → Int32 → Int32 → Int32 → Option (Int32 × MSt)
  | 0, _, _, _, _ => none
  | n + 1, σ, v1, v2, v3 =>
    if (gI σ 24) ≤ v3 then some (v2, σ) else ck v1 80 (fun j21 => ck v3 80 (fun j23 => if (gA σ (100 + j21) j23) = 0 then F_nextTo_b30 N (F_nextTo_L8 N n) σ v1 v2 v3 else let x27 := (v2 + 1); F_nextTo_b30 N (F_nextTo_L8 N n) σ v1 x27 v3))
def F_nextTo (N : Nat) (σ : MSt) (a1 : Int32) : Option (Int32 × MSt) :=
  (F_tellNext N σ).bind (fun w1 => F_nextTo_L8 N N w1 a1 0 0)
def F_face_b61 (N : Nat) (r38 : MSt → Int32 → Int32 → Int32 → Int32 → Option (Int32 × MSt)) (σ : MSt) (v1 : Int32) (v2 : Int32) (v3 : Int32) (v4 : Int32) : Option (Int32 × MSt) :=
  let x61 := (v4 + 1); r38 σ v1 v2 v3 x61
def F_face_L38 (N : Nat) : Nat → MSt → Int32 → Int32 → Int32 → Int32 → Option (Int32 × MSt)
  | 0, _, _, _, _, _ => none
  | n + 1, σ, v1, v2, v3, v4 =>
    if (gI σ 23) ≤ v4 then if v2 = 0 then ck v1 900 (fun j76 => some ((gA σ 37 j76), σ)) else if v2 = 1 then some (v3, σ) else if v2 = 2 then (F_borders N σ v1).bind (fun w96 => some (w96.1, w96.2)) else if v2 = 3 then (F_nextTo N σ v1).bind (fun w109 => some (w109.1, w109.2)) else ck 0 900 (fun j120 => if (gA σ 31 j120) = v1 then some (1, σ) else some (0, σ)) else ck v4 900 (fun j53 => if (gA σ 31 j53) = v1 then let x58 := (v3 + 1); F_face_b61 N (F_face_L38 N n) σ v1 v2 x58 v4 else F_face_b61 N (F_face_L38 N n) σ v1 v2 v3 v4)
def F_face (N : Nat) (σ : MSt) (a1 : Int32) (a2 : Int32) : Option (Int32 × MSt) :=
  (F_in N a2 0 4).bind (fun w3 => if w3 = 0 then some ((-2), σ) else (F_tellSheet N σ).bind (fun w13 => (F_in N a1 0 ((gI w13 24) - 1)).bind (fun w24 => if w24 = 0 then some ((-12), w13) else F_face_L38 N N w13 a1 a2 0 0)))
def F_isPlace (N : Nat) (a0 : Int32) (a1 : Int32) (a2 : Int32) : Option (Int32) :=
  (F_in N a0 (-400) 800).bind (fun w7 => if w7 = 0 then some 0 else (F_in N a1 (-400) 800).bind (fun w20 => if w20 = 0 then some 0 else (F_in N a2 1 10).bind (fun w30 => if w30 = 0 then some 0 else some 1)))
def F_where_b150 (N : Nat) (σ : MSt) (v5 : Int32) : Option (Int32 × MSt) :=
  ck v5 900 (fun j156 => some ((gA σ 31 j156), σ))
def F_where_L90 (N : Nat) : Nat → MSt → Int32 → Int32 → Int32 → Int32 → Option (Int32 × MSt)
  | 0, _, _, _, _, _ => none
  | n + 1, σ, v1, v2, v3, v5 =>
    ck v5 900 (fun j96 => if (gA σ 30 j96) = 0 then F_where_b150 N σ v5 else ck v5 900 (fun j107 => (F_leastOf N (gA σ 30 j107)).bind (fun w108 => (F_yAbove N σ w108 v1.toInt64 v3.toInt64).bind (fun w115 => ck v5 900 (fun j125 => (F_leastOf N (gA σ 30 j125)).bind (fun w126 => (F_yBelow N σ w126 v3.toInt64).bind (fun w131 => (F_against N w115 w131 v2.toInt64 v3.toInt64).bind (fun w138 => if 0 ≤ w138 then F_where_b150 N σ v5 else let x144 := (v5 + 1); (F_where_L90 N n) σ v1 v2 v3 x144))))))))
def F_where_b81 (N : Nat) (σ : MSt) (v1 : Int32) (v2 : Int32) (v3 : Int32) (v4 : Int32) : Option (Int32 × MSt) :=
  ck v4 82 (fun j87 => let x88 := (gA σ 27 j87); F_where_L90 N N σ v1 v2 v3 x88)
def F_where_L36 (N : Nat) : Nat → MSt → Int32 → Int32 → Int32 → Int32 → Option (Int32 × MSt)
  | 0, _, _, _, _, _ => none
  | n + 1, σ, v1, v2, v3, v4 =>
    if (gI σ 22) ≤ (v4 + 1) then F_where_b81 N σ v1 v2 v3 v4 else ck (v4 + 1) 81 (fun j55 => ck (v4 + 1) 81 (fun j69 => if (v1.toInt64 * (gL σ 26 j69)) < ((gL σ 25 j55) * v3.toInt64) then F_where_b81 N σ v1 v2 v3 v4 else let x75 := (v4 + 1); (F_where_L36 N n) σ v1 v2 v3 x75))
def F_where (N : Nat) (σ : MSt) (a1 : Int32) (a2 : Int32) (a3 : Int32) : Option (Int32 × MSt) :=
  (F_isPlace N a1 a2 a3).bind (fun w3 => if w3 = 0 then some ((-2), σ) else (F_linesOn N σ a1.toInt64 a3.toInt64 a2.toInt64 a3.toInt64).bind (fun w21 => if w21 = 0 then (F_tellSheet N σ).bind (fun w30 => F_where_L36 N N w30 a1 a2 a3 0) else some ((-1), σ)))
def F_on (N : Nat) (σ : MSt) (a1 : Int32) (a2 : Int32) (a3 : Int32) : Option (Int32) :=
  (F_isPlace N a1 a2 a3).bind (fun w3 => if w3 = 0 then some (-2) else (F_linesOn N σ a1.toInt64 a3.toInt64 a2.toInt64 a3.toInt64).bind (fun w18 => some w18))
def F_hops_b156 (N : Nat) (r73 : MSt → Int32 → Int32 → Option (Int32 × MSt)) (r84 : MSt → Int32 → Int32 → Int32 → Option (Int32 × MSt)) (σ : MSt) (v2 : Int32) (v3 : Int32) (v4 : Int32) : Option (Int32 × MSt) :=
  let x156 := (v4 + 1); r84 σ v2 v3 x156
def F_hops_b150 (N : Nat) (r73 : MSt → Int32 → Int32 → Option (Int32 × MSt)) (r84 : MSt → Int32 → Int32 → Int32 → Option (Int32 × MSt)) (r96 : MSt → Int32 → Int32 → Int32 → Int32 → Option (Int32 × MSt)) (σ : MSt) (v2 : Int32) (v3 : Int32) (v4 : Int32) (v5 : Int32) : Option (Int32 × MSt) :=
  let x150 := (v5 + 1); r96 σ v2 v3 v4 x150
def F_hops_L96 (N : Nat) (r73 : MSt → Int32 → Int32 → Option (Int32 × MSt)) (r84 : MSt → Int32 → Int32 → Int32 → Option (Int32 × MSt)) : Nat → MSt → Int32 → Int32 → Int32 → Int32 → Option (Int32 × MSt)
  | 0, _, _, _, _, _ => none
  | n + 1, σ, v2, v3, v4, v5 =>
    if (gI σ 24) ≤ v5 then F_hops_b156 N r73 r84 σ v2 v3 v4 else ck v4 900 (fun j111 => if (gA σ 39 j111) = v3 then ck v4 80 (fun j122 => ck v5 80 (fun j125 => if (gA σ (100 + j122) j125) = 0 then F_hops_b150 N r73 r84 (F_hops_L96 N r73 r84 n) σ v2 v3 v4 v5 else ck v5 900 (fun j135 => if (gA σ 39 j135) = (-1) then ck v5 900 (fun j149 => let σ149 := (sA σ 39 j149 (v3 + 1)); F_hops_b150 N r73 r84 (F_hops_L96 N r73 r84 n) σ149 v2 v3 v4 v5) else F_hops_b150 N r73 r84 (F_hops_L96 N r73 r84 n) σ v2 v3 v4 v5))) else F_hops_b156 N r73 r84 σ v2 v3 v4)
def F_hops_L84 (N : Nat) (r73 : MSt → Int32 → Int32 → Option (Int32 × MSt)) : Nat → MSt → Int32 → Int32 → Int32 → Option (Int32 × MSt)
  | 0, _, _, _, _ => none
  | n + 1, σ, v2, v3, v4 =>
    if (gI σ 24) ≤ v4 then let x162 := (v3 + 1); r73 σ v2 x162 else F_hops_L96 N r73 (F_hops_L84 N r73 n) N σ v2 v3 v4 0
def F_hops_L73 (N : Nat) : Nat → MSt → Int32 → Int32 → Option (Int32 × MSt)
  | 0, _, _, _ => none
  | n + 1, σ, v2, v3 =>
    if (gI σ 24) ≤ v3 then ck v2 900 (fun j173 => some ((gA σ 39 j173), σ)) else F_hops_L84 N (F_hops_L73 N n) N σ v2 v3 0
def F_hops_b64 (N : Nat) (r41 : MSt → Int32 → Int32 → Int32 → Option (Int32 × MSt)) (σ : MSt) (v1 : Int32) (v2 : Int32) (v3 : Int32) (t1 : Int32) (t2 : Int32) : Option (Int32 × MSt) :=
  ck t1 900 (fun j64 => let σ64 := (sA σ 39 j64 t2); let x65 := (v3 + 1); r41 σ64 v1 v2 x65)
def F_hops_L41 (N : Nat) : Nat → MSt → Int32 → Int32 → Int32 → Option (Int32 × MSt)
  | 0, _, _, _, _ => none
  | n + 1, σ, v1, v2, v3 =>
    if (gI σ 24) ≤ v3 then F_hops_L73 N N σ v2 0 else if v3 = v1 then F_hops_b64 N (F_hops_L41 N n) σ v1 v2 v3 v3 0 else F_hops_b64 N (F_hops_L41 N n) σ v1 v2 v3 v3 (-1)
def F_hops (N : Nat) (σ : MSt) (a1 : Int32) (a2 : Int32) : Option (Int32 × MSt) :=
  (F_tellSheet N σ).bind (fun w1 => (F_in N a1 0 ((gI w1 24) - 1)).bind (fun w12 => if w12 = 0 then some ((-2), w1) else (F_in N a2 0 ((gI w1 24) - 1)).bind (fun w26 => if w26 = 0 then some ((-2), w1) else (F_tellNext N w1).bind (fun w36 => F_hops_L41 N N w36 a1 a2 0))))
def F_partsMany_b30 (N : Nat) (r9 : MSt → Int32 → Int32 → Option (Int32 × MSt)) (σ : MSt) (v2 : Int32) (v3 : Int32) : Option (Int32 × MSt) :=
  let x30 := (v3 + 1); r9 σ v2 x30
def F_partsMany_L9 (N : Nat) : Nat → MSt → Int32 → Int32 → Option (Int32 × MSt)
  | 0, _, _, _ => none
  | n + 1, σ, v2, v3 =>
    if (gI σ 9) ≤ v3 then some (v2, σ) else ck v3 80 (fun j22 => if (gA σ 14 j22) = v3 then let x27 := (v2 + 1); F_partsMany_b30 N (F_partsMany_L9 N n) σ x27 v3 else F_partsMany_b30 N (F_partsMany_L9 N n) σ v2 v3)
def F_partsMany (N : Nat) (σ : MSt) : Option (Int32 × MSt) :=
  (F_tellPieces N σ).bind (fun w1 => let x4 := w1.1; F_partsMany_L9 N N w1.2 0 0)
def F_twos_b39 (N : Nat) (r4 : MSt → Int32 → Int32 → Int32 → Option (Int32 × MSt)) (r15 : MSt → Int32 → Int32 → Int32 → Int32 → Option (Int32 × MSt)) (σ : MSt) (v1 : Int32) (v2 : Int32) (v3 : Int32) (v4 : Int32) : Option (Int32 × MSt) :=
  let x39 := (v4 + 1); r15 σ v1 v2 v3 x39
def F_twos_L15 (N : Nat) (r4 : MSt → Int32 → Int32 → Int32 → Option (Int32 × MSt)) : Nat → MSt → Int32 → Int32 → Int32 → Int32 → Option (Int32 × MSt)
  | 0, _, _, _, _, _ => none
  | n + 1, σ, v1, v2, v3, v4 =>
    if v3 ≤ v4 then let x45 := (v3 + 1); r4 σ v1 v2 x45 else (F_meet N σ v3 v4).bind (fun w25 => if (gI w25 5) = v1 then let x36 := (v2 + 1); F_twos_b39 N r4 (F_twos_L15 N r4 n) w25 v1 x36 v3 v4 else F_twos_b39 N r4 (F_twos_L15 N r4 n) w25 v1 v2 v3 v4)
def F_twos_L4 (N : Nat) : Nat → MSt → Int32 → Int32 → Int32 → Option (Int32 × MSt)
  | 0, _, _, _, _ => none
  | n + 1, σ, v1, v2, v3 =>
    if (gI σ 0) ≤ v3 then some (v2, σ) else F_twos_L15 N (F_twos_L4 N n) N σ v1 v2 v3 0
def F_twos (N : Nat) (σ : MSt) (a1 : Int32) : Option (Int32 × MSt) :=
  F_twos_L4 N N σ a1 0 0
def F_count (N : Nat) (σ : MSt) (a1 : Int32) : Option (Int32 × MSt) :=
  (F_in N a1 0 10).bind (fun w4 => if w4 = 0 then some ((-2), σ) else (F_tellSheet N σ).bind (fun w14 => if a1 = 0 then some ((gI w14 0), w14) else if a1 = 1 then some ((gI w14 9), w14) else if a1 = 2 then (F_tellPieces N w14).bind (fun w75 => some (w75.1, w75.2)) else if a1 = 3 then (F_partsMany N w14).bind (fun w80 => some (w80.1, w80.2)) else if a1 = 4 then some ((gI w14 22), w14) else if a1 = 5 then some ((gI w14 23), w14) else if a1 = 6 then some ((gI w14 24), w14) else if a1 = 7 then (F_tellHulls N w14).bind (fun w100 => some (w100.1, w100.2)) else (F_twos N w14 (a1 - 7)).bind (fun w109 => some (w109.1, w109.2))))
def F_endRow (k : Int32) : Nat := if k = 0 then 1 else if k = 1 then 2 else if k = 2 then 3 else 4
def F_keep_L12 (N : Nat) : Nat → MSt → Int32 → Int32 → Option (MSt)
  | 0, _, _, _ => none
  | n + 1, σ, v1, v2 =>
    if 4 ≤ v2 then some σ else ck ((4 * v1) + v2) 8 (fun j32 => (cpA σ (F_endRow v2) 10 0 (200 + j32) 10 0 10).bind (fun σ36 => let x39 := (v2 + 1); (F_keep_L12 N n) σ36 v1 x39))
def F_keep (N : Nat) (σ : MSt) (a1 : Int32) : Option (MSt) :=
  ck a1 2 (fun j9 => let σ9 := (sA σ 40 j9 (gI σ 0)); F_keep_L12 N N σ9 a1 0)
def F_facesNow (N : Nat) (σ : MSt) : Option (Int32 × MSt) :=
  (F_tellSheet N σ).bind (fun w1 => some ((gI w1 24), w1))
def F_layBack_L12 (N : Nat) : Nat → MSt → Int32 → Int32 → Option (MSt)
  | 0, _, _, _ => none
  | n + 1, σ, v1, v2 =>
    if 4 ≤ v2 then some σ else ck ((4 * v1) + v2) 8 (fun j26 => (cpA σ (200 + j26) 10 0 (F_endRow v2) 10 0 10).bind (fun σ36 => let x39 := (v2 + 1); (F_layBack_L12 N n) σ36 v1 x39))
def F_layBack (N : Nat) (σ : MSt) (a1 : Int32) : Option (MSt) :=
  ck a1 2 (fun j6 => let σ7 := (sI σ 0 (gA σ 40 j6)); F_layBack_L12 N N σ7 a1 0)
def F_facesWithout (N : Nat) (σ : MSt) (a1 : Int32) : Option (Int32 × MSt) :=
  (F_keep N σ 0).bind (fun w2 => (F_drops N w2 a1).bind (fun w7 => (F_facesNow N w7).bind (fun w11 => let x14 := w11.1; (F_layBack N w11.2 0).bind (fun w17 => some (x14, w17)))))
def F_without (N : Nat) (σ : MSt) (a1 : Int32) : Option (Int32 × MSt) :=
  (F_isLine N σ a1).bind (fun w2 => if w2 = 0 then some ((-2), σ) else (F_facesWithout N σ a1).bind (fun w10 => some (w10.1, w10.2)))
def F_most_b56 (N : Nat) (r19 : MSt → Int32 → Int32 → Int32 → Int32 → Option (Int32 × MSt)) (σ : MSt) (v1 : Int32) (v2 : Int32) (v3 : Int32) (v4 : Int32) : Option (Int32 × MSt) :=
  let x56 := (v4 + 1); r19 σ v1 v2 v3 x56
def F_most_b50 (N : Nat) (r19 : MSt → Int32 → Int32 → Int32 → Int32 → Option (Int32 × MSt)) (σ : MSt) (v1 : Int32) (v4 : Int32) (v5 : Int32) : Option (Int32 × MSt) :=
  F_most_b56 N r19 σ v1 v4 v5 v4
def F_most_L19 (N : Nat) : Nat → MSt → Int32 → Int32 → Int32 → Int32 → Option (Int32 × MSt)
  | 0, _, _, _, _, _ => none
  | n + 1, σ, v1, v2, v3, v4 =>
    if (gI σ 0) ≤ v4 then if v1 = 0 then some (v2, σ) else some (v3, σ) else (F_facesWithout N σ v4).bind (fun w31 => let x34 := w31.1; if v2 = (-1) then F_most_b50 N (F_most_L19 N n) w31.2 v1 v4 x34 else if x34 < v3 then F_most_b50 N (F_most_L19 N n) w31.2 v1 v4 x34 else F_most_b56 N (F_most_L19 N n) w31.2 v1 v2 v3 v4)
def F_most (N : Nat) (σ : MSt) (a1 : Int32) : Option (Int32 × MSt) :=
  (F_in N a1 0 1).bind (fun w3 => if w3 = 0 then some ((-2), σ) else F_most_L19 N N σ a1 (-1) (-1) 0)
def F_draw (N : Nat) (σ : MSt) : Option (Int32 × MSt) :=
  let σ13 := (sI σ 42 (((gI σ 42) * 1103515245) + 12345)); dzi 41 (some ((((((gI σ13 42)).toUInt32 >>> ((9 : Int32).toUInt32 &&& Int32.toUInt32 31)).toInt32) - ((((gI σ13 42)).toUInt32 >>> ((9 : Int32).toUInt32 &&& Int32.toUInt32 31)).toInt32) / 41 * 41), σ13))
def F_byLot_L12 (N : Nat) : Nat → MSt → Int32 → Int32 → Option (Int32 × MSt)
  | 0, _, _, _ => none
  | n + 1, σ, v2, v3 =>
    if v2 ≤ v3 then (F_facesNow N σ).bind (fun w58 => let x61 := w58.1; (F_layBack N w58.2 0).bind (fun w64 => some (x61, w64))) else (F_draw N σ).bind (fun w18 => let x21 := w18.1; (F_draw N w18.2).bind (fun w24 => let x27 := w24.1; (F_draw N w24.2).bind (fun w30 => let x33 := w30.1; (F_draw N w30.2).bind (fun w43 => (F_line N w43.2 x21 x27 x33 w43.1).bind (fun w46 => let x49 := w46.1; let x51 := (v3 + 1); (F_byLot_L12 N n) w46.2 v2 x51)))))
def F_byLot (N : Nat) (σ : MSt) (a1 : Int32) (a2 : Int32) : Option (Int32 × MSt) :=
  (F_keep N σ 0).bind (fun w2 => let σ7 := (sI w2 42 a1); F_byLot_L12 N N σ7 a2 0)
def F_drawn (N : Nat) (σ : MSt) (a1 : Int32) (a2 : Int32) : Option (Int32 × MSt) :=
  (F_in N a2 0 5).bind (fun w3 => if w3 = 0 then some ((-2), σ) else (F_byLot N σ a1 a2).bind (fun w12 => some (w12.1, w12.2)))
def F_chance_b82 (N : Nat) (σ : MSt) (t0 : Int64) (t1 : Int64) (t2 : Int32) : Option (Int32 × MSt) :=
  (F_lowest N t0 t1 t2).bind (fun w82 => some (w82.toInt32, σ))
def F_chance_b60 (N : Nat) (r38 : MSt → Int32 → Int32 → Int32 → Int32 → Int32 → Int32 → Option (Int32 × MSt)) (σ : MSt) (v1 : Int32) (v2 : Int32) (v3 : Int32) (v4 : Int32) (v5 : Int32) (v6 : Int32) : Option (Int32 × MSt) :=
  let x60 := (v6 + 1); r38 σ v1 v2 v3 v4 v5 x60
def F_chance_L38 (N : Nat) : Nat → MSt → Int32 → Int32 → Int32 → Int32 → Int32 → Int32 → Option (Int32 × MSt)
  | 0, _, _, _, _, _, _, _ => none
  | n + 1, σ, v1, v2, v3, v4, v5, v6 =>
    if v2 ≤ v6 then if v4 = 1 then F_chance_b82 N σ (v5.toInt64) (v2.toInt64) 1 else F_chance_b82 N σ (v5.toInt64) (v2.toInt64) 0 else (F_byLot N σ (v1 + v6) 3).bind (fun w50 => if w50.1 < v3 then F_chance_b60 N (F_chance_L38 N n) w50.2 v1 v2 v3 v4 v5 v6 else let x57 := (v5 + 1); F_chance_b60 N (F_chance_L38 N n) w50.2 v1 v2 v3 v4 x57 v6)
def F_chance (N : Nat) (σ : MSt) (a1 : Int32) (a2 : Int32) (a3 : Int32) (a4 : Int32) : Option (Int32 × MSt) :=
  (F_in N a2 1 5).bind (fun w3 => if w3 = 0 then some ((-2), σ) else (F_in N a3 0 99).bind (fun w13 => if w13 = 0 then some ((-2), σ) else (F_in N a4 0 1).bind (fun w23 => if w23 = 0 then some ((-2), σ) else F_chance_L38 N N σ a1 a2 a3 a4 0 0)))
def F_isSheet (N : Nat) (a0 : Int32) : Option (Int32) :=
  (F_in N a0 0 3).bind (fun w3 => rb w3 (some w3))
def F_otherwise_L11 (N : Nat) : Nat → MSt → Int32 → Int32 → Option (Int32 × MSt)
  | 0, _, _, _ => none
  | n + 1, σ, v1, v4 =>
    ck v1 4 (fun j18 => if (gA σ 45 j18) ≤ v4 then ck v1 4 (fun j68 => if (gI σ 20) ≤ (gA σ 45 j68) then some ((-1), σ) else ck v1 4 (fun j77 => some ((gA σ 45 j77), σ))) else if (gI σ 20) ≤ v4 then some (v4, σ) else ck v4 10 (fun j37 => ck v1 4 (fun j43 => ck v4 40 (fun j46 => if (gA σ 21 j37) = (gA σ (300 + j43) j46) then let x53 := (v4 + 1); (F_otherwise_L11 N n) σ v1 x53 else some (v4, σ)))))
def F_otherwise (N : Nat) (σ : MSt) (a1 : Int32) (a2 : Int32) (a3 : Int32) : Option (Int32 × MSt) :=
  (F_tellOrder N σ a2.toInt64 1 a3).bind (fun w5 => F_otherwise_L11 N N w5 a1 0)
def F_tells_b162 (N : Nat) (r123 : MSt → Int32 → Int32 → Int32 → Int32 → Int32 → Option (Int32 × MSt)) (σ : MSt) (v1 : Int32) (v3 : Int32) (v5 : Int32) (v6 : Int32) (v7 : Int32) : Option (Int32 × MSt) :=
  let x162 := (v7 + 1); r123 σ v1 v3 v5 v6 x162
def F_tells_b157 (N : Nat) (r123 : MSt → Int32 → Int32 → Int32 → Int32 → Int32 → Option (Int32 × MSt)) (σ : MSt) (v1 : Int32) (v3 : Int32) (v5 : Int32) (v7 : Int32) (t0 : Int32) : Option (Int32 × MSt) :=
  let x159 := (v5 + 1); F_tells_b162 N r123 σ v1 v3 x159 t0 v7
def F_tells_L123 (N : Nat) : Nat → MSt → Int32 → Int32 → Int32 → Int32 → Int32 → Option (Int32 × MSt)
  | 0, _, _, _, _, _, _ => none
  | n + 1, σ, v1, v3, v5, v6, v7 =>
    if 40 < v7 then if v3 = 1 then some (v5, σ) else some (v6, σ) else (F_otherwise N σ v1 v7 (-1)).bind (fun w135 => if w135.1 = (-1) then if v5 = 0 then F_tells_b157 N (F_tells_L123 N n) w135.2 v1 v3 v5 v7 v7 else F_tells_b157 N (F_tells_L123 N n) w135.2 v1 v3 v5 v7 v6 else F_tells_b162 N (F_tells_L123 N n) w135.2 v1 v3 v5 v6 v7)
def F_tells_b105 (N : Nat) (r75 : MSt → Int32 → Int32 → Int32 → Int32 → Option (Int32 × MSt)) (σ : MSt) (v1 : Int32) (v2 : Int32) (v4 : Int32) (v5 : Int32) : Option (Int32 × MSt) :=
  let x105 := (v5 + 1); r75 σ v1 v2 v4 x105
def F_tells_L75 (N : Nat) : Nat → MSt → Int32 → Int32 → Int32 → Int32 → Option (Int32 × MSt)
  | 0, _, _, _, _, _ => none
  | n + 1, σ, v1, v2, v4, v5 =>
    if (gI σ 0) ≤ v5 then some (v4, σ) else (F_otherwise N σ v1 v2 v5).bind (fun w89 => if w89.1 = (-1) then let x103 := (v4 ||| (1 <<< (v5 &&& 31))); F_tells_b105 N (F_tells_L75 N n) w89.2 v1 v2 x103 v5 else F_tells_b105 N (F_tells_L75 N n) w89.2 v1 v2 v4 v5)
def F_tells (N : Nat) (σ : MSt) (a1 : Int32) (a2 : Int32) (a3 : Int32) : Option (Int32 × MSt) :=
  (F_isSheet N a1).bind (fun w1 => if w1 = 0 then some ((-2), σ) else (F_isOnSheet N a2).bind (fun w8 => if w8 = 0 then some ((-2), σ) else (F_in N a3 0 3).bind (fun w17 => if w17 = 0 then some ((-2), σ) else ck a1 4 (fun j31 => if 0 ≤ (gA σ 44 j31) then ck a1 4 (fun j43 => if (gA σ 45 j43) ≤ 10 then if a3 = 0 then (F_otherwise N σ a1 a2 (-1)).bind (fun w60 => some (w60.1, w60.2)) else if a3 = 3 then F_tells_L75 N N σ a1 a2 0 0 else F_tells_L123 N N σ a1 a3 0 (-1) 0 else some ((-2), σ)) else some ((-11), σ)))))
def F_film_L44 (N : Nat) : Nat → MSt → Int32 → Int32 → Option (Int32 × MSt)
  | 0, _, _, _ => none
  | n + 1, σ, v1, v3 =>
    if (gI σ 20) ≤ v3 then some ((gI σ 20), σ) else ck v1 4 (fun j57 => ck v3 10 (fun j64 => ck v3 40 (fun j65 => let σ65 := (sA σ (300 + j57) j65 (gA σ 21 j64)); let x66 := (v3 + 1); (F_film_L44 N n) σ65 v1 x66)))
def F_film (N : Nat) (σ : MSt) (a1 : Int32) (a2 : Int32) : Option (Int32 × MSt) :=
  (F_isSheet N a1).bind (fun w1 => if w1 = 0 then some ((-2), σ) else (F_isOnSheet N a2).bind (fun w8 => if w8 = 0 then some ((-2), σ) else (F_tellOrder N σ a2.toInt64 1 (-1)).bind (fun w22 => ck a1 4 (fun j31 => let σ31 := (sA w22 44 j31 0); ck a1 4 (fun j41 => let σ41 := (sA σ31 45 j41 (gI σ31 20)); F_film_L44 N N σ41 a1 0)))))
def F_image (N : Nat) (σ : MSt) : Option (Int32 × MSt) :=
  let σ2 := (sI σ 43 1); (F_keep N σ2 1).bind (fun w7 => some ((gI w7 0), w7))
def F_back (N : Nat) (σ : MSt) : Option (Int32 × MSt) :=
  if (gI σ 43) = 0 then some ((-3), σ) else (F_layBack N σ 1).bind (fun w12 => some ((gI w12 0), w12))
def F_sheet_L65 (N : Nat) : Nat → MSt → Int32 → Int32 → Option (Int32 × MSt)
  | 0, _, _, _ => none
  | n + 1, σ, v1, v4 =>
    if 40 ≤ v4 then some (1, σ) else ck v1 4 (fun j77 => ck v4 40 (fun j81 => let σ81 := (sA σ (300 + j77) j81 0); let x82 := (v4 + 1); (F_sheet_L65 N n) σ81 v1 x82))
def F_sheet_b61 (N : Nat) (σ : MSt) (v1 : Int32) (t1 : Int32) (t2 : Int32) : Option (Int32 × MSt) :=
  ck t1 4 (fun j61 => let σ61 := (sA σ 45 j61 t2); F_sheet_L65 N N σ61 v1 0)
def F_sheet_b40 (N : Nat) (σ : MSt) (v1 : Int32) (v2 : Int32) (v3 : Int32) : Option (Int32 × MSt) :=
  ck v1 4 (fun j46 => let σ46 := (sA σ 44 j46 v2); if 0 ≤ v2 then F_sheet_b61 N σ46 v1 v1 v3 else F_sheet_b61 N σ46 v1 v1 0)
def F_sheet_b29 (N : Nat) (σ : MSt) (v1 : Int32) (v2 : Int32) (v3 : Int32) : Option (Int32 × MSt) :=
  if v2 < 0 then F_sheet_b40 N σ v1 v2 v3 else if 0 ≤ v3 then F_sheet_b40 N σ v1 v2 v3 else some ((-14), σ)
def F_sheet (N : Nat) (σ : MSt) (a1 : Int32) (a2 : Int32) (a3 : Int32) : Option (Int32 × MSt) :=
  (F_isSheet N a1).bind (fun w1 => if w1 = 0 then some ((-2), σ) else (F_in N a2 (-1) 1).bind (fun w10 => if w10 = 0 then some ((-2), σ) else if a2 < 0 then F_sheet_b29 N σ a1 a2 a3 else if a3 ≤ 40 then F_sheet_b29 N σ a1 a2 a3 else some ((-2), σ)))
def F_put_b63 (N : Nat) (σ : MSt) (t0 : Nat) (t1 : Int32) (t2 : Int32) : Option (Int32 × MSt) :=
  ck t1 40 (fun j63 => let σ63 := (sA σ t0 j63 t2); some (1, σ63))
def F_put (N : Nat) (σ : MSt) (a1 : Int32) (a2 : Int32) (a3 : Int32) : Option (Int32 × MSt) :=
  (F_isSheet N a1).bind (fun w1 => if w1 = 0 then some ((-2), σ) else ck a1 4 (fun j15 => if 0 ≤ (gA σ 44 j15) then ck a1 4 (fun j29 => (F_in N a2 0 ((gA σ 45 j29) - 1)).bind (fun w32 => if w32 = 0 then some ((-12), σ) else ck a1 4 (fun j46 => ck a1 4 (fun j53 => if (gA σ 44 j53) = 0 then F_put_b63 N σ (300 + j46) a2 (a3.toInt8.toInt32) else F_put_b63 N σ (300 + j46) a2 a3)))) else some ((-11), σ)))
def F_copy (N : Nat) (σ : MSt) (a1 : Int32) (a2 : Int32) (a3 : Int32) (a4 : Int32) (a5 : Int32) : Option (Int32 × MSt) :=
  (F_isSheet N a1).bind (fun w1 => if w1 = 0 then some ((-2), σ) else (F_isSheet N a3).bind (fun w8 => if w8 = 0 then some ((-2), σ) else ck a1 4 (fun j22 => if (gA σ 44 j22) < 0 then some ((-11), σ) else ck a3 4 (fun j31 => if 0 ≤ (gA σ 44 j31) then ck a1 4 (fun j43 => ck a3 4 (fun j49 => if (gA σ 44 j43) = (gA σ 44 j49) then if a5 < 0 then some ((-12), σ) else if a2 < 0 then some ((-12), σ) else if a4 < 0 then some ((-12), σ) else ck a1 4 (fun j76 => if ((gA σ 45 j76) - a5) < a2 then some ((-12), σ) else ck a3 4 (fun j90 => if a4 ≤ ((gA σ 45 j90) - a5) then ck a1 4 (fun j105 => (cpA σ (300 + j105) 40 a2 47 40 0 a5).bind (fun σ114 => ck a3 4 (fun j127 => (cpA σ114 47 40 0 (300 + j127) 40 a4 a5).bind (fun σ132 => some (a5, σ132))))) else some ((-12), σ))) else some ((-13), σ))) else some ((-11), σ)))))
def F_load_b156 (N : Nat) (r69 : MSt → Int32 → Int32 → Int32 → Int32 → Int32 → Option (Int32 × MSt)) (σ : MSt) (v1 : Int32) (v3 : Int32) (v4 : Int32) (v5 : Int32) (v6 : Int32) : Option (Int32 × MSt) :=
  let x156 := (v6 + 1); r69 σ v1 v3 v4 v5 x156
def F_load_L69 (N : Nat) : Nat → MSt → Int32 → Int32 → Int32 → Int32 → Int32 → Option (Int32 × MSt)
  | 0, _, _, _, _, _, _ => none
  | n + 1, σ, v1, v3, v4, v5, v6 =>
    if v4 ≤ v6 then some (v5, σ) else let x82 := (v3 + (4 * v6)); ck v1 4 (fun j92 => (F_in N x82 0 ((gA σ 45 j92) - 4)).bind (fun w95 => if w95 = 0 then some ((-12), σ) else ck v1 4 (fun j110 => ck x82 40 (fun j113 => ck v1 4 (fun j119 => ck (x82 + 1) 40 (fun j124 => ck v1 4 (fun j130 => ck (x82 + 2) 40 (fun j135 => ck v1 4 (fun j141 => ck (x82 + 3) 40 (fun j146 => (F_line N σ (gA σ (300 + j110) j113) (gA σ (300 + j119) j124) (gA σ (300 + j130) j135) (gA σ (300 + j141) j146)).bind (fun w147 => if w147.1 < 0 then F_load_b156 N (F_load_L69 N n) w147.2 v1 v3 v4 v5 v6 else let x153 := (v5 + 1); F_load_b156 N (F_load_L69 N n) w147.2 v1 v3 v4 x153 v6)))))))))))
def F_load_b51 (N : Nat) (σ : MSt) (v1 : Int32) (v3 : Int32) (v4 : Int32) : Option (Int32 × MSt) :=
  ck v1 4 (fun j56 => if 0 ≤ (gA σ 44 j56) then F_load_L69 N N σ v1 v3 v4 0 0 else some ((-11), σ))
def F_load (N : Nat) (σ : MSt) (a1 : Int32) (a2 : Int32) (a3 : Int32) (a4 : Int32) : Option (Int32 × MSt) :=
  (F_isSheet N a1).bind (fun w1 => if w1 = 0 then some ((-2), σ) else (F_in N a2 0 1).bind (fun w10 => if w10 = 0 then some ((-2), σ) else (F_in N a4 0 5).bind (fun w20 => if w20 = 0 then some ((-2), σ) else ck a1 4 (fun j34 => if (gA σ 44 j34) < 0 then F_load_b51 N σ a1 a3 a4 else ck a1 4 (fun j43 => if (gA σ 44 j43) = a2 then F_load_b51 N σ a1 a3 a4 else some ((-13), σ))))))
abbrev GT : Type := Nat → Option (Nat × List Value)
abbrev Fr : Type := Int64 × Int64
abbrev Pl : Type := Fr × Fr
abbrev Ln : Type := Nat × Int32 × Int32 × Int32 × Int32 × Pl × Pl
def nn {α β : Type} (v : Option α) (k : α → Option β) : Option β := match v with
  | none => none
  | some x => k x
def jabs (x : Int64) : Int64 := if 0 < x then x else -x
def F_X7_init_b60 (b p x : Int64) : Option Fr := dz p (some (x, jabs b / p))
def F_X7_init_e (a b p : Int64) : Option Fr := if 0 ≤ b then dz p (F_X7_init_b60 b p (a / p)) else dz p (F_X7_init_b60 b p ((-a) / p))
def F_X7_init_L16 : Nat → Int64 → Int64 → Int64 → Int64 → Option Fr
  | 0, _, _, _, _ => none
  | n + 1, a, b, p, q => if q = 0 then F_X7_init_e a b p else dz q (F_X7_init_L16 n a b q (p - p / q * q))
def F_X7_init (N : Nat) (a b : Int64) : Option Fr := F_X7_init_L16 N a b (jabs a) (jabs b)
def F_X6_init (N : Nat) (x y : Int32) : Option Pl := (F_X7_init N x.toInt64 1).bind (fun w1 => (F_X7_init N y.toInt64 1).bind (fun w2 => some (w1, w2)))
def F_X4_init (N kd : Nat) (ax ay bx by' : Int32) : Option Ln := (F_X6_init N ax ay).bind (fun a => (F_X6_init N bx by').bind (fun b => some (kd, ax, ay, bx, by', a, b)))
def F_X5_init (N : Nat) (a b b' : Int32) : Option Ln := F_X4_init N 0 a b a b'
def F_X8_init (N : Nat) (a b a' b' : Int32) : Option Ln := F_X4_init N 1 a b a' b'
def F_X9_init (N : Nat) (a b a' : Int32) : Option Ln := F_X4_init N 2 a b a' b
def F_X7_compareTo (N : Nat) (a0 : Fr) (a1 : Fr) : Option (Int32) :=
  let x9 := (a0.1 * a1.2); let x19 := (a1.1 * a0.2); if x19 ≤ x9 then if x9 = x19 then some 0 else some 1 else some (-1)
def F_X7_isLike (N : Nat) (a0 : Fr) (a1 : Fr) : Option (Int32) :=
  (F_X7_compareTo N a0 a1).bind (fun w2 => if w2 = 0 then some 1 else some 0)
def F_X7_isLess (N : Nat) (a0 : Fr) (a1 : Fr) : Option (Int32) :=
  (F_X7_compareTo N a0 a1).bind (fun w2 => if 0 ≤ w2 then some 0 else some 1)
def F_X7_half (N : Nat) (a0 : Fr) (a1 : Fr) : Option (Fr) :=
  (F_X7_init N ((a0.1 * a1.2) + (a1.1 * a0.2)) ((2 * a0.2) * a1.2)).bind (fun w36 => some w36)
def F_X6_compareTo (N : Nat) (a0 : Pl) (a1 : Pl) : Option (Int32) :=
  (F_X7_compareTo N a0.1 a1.1).bind (fun w8 => if w8 = 0 then (F_X7_compareTo N a0.2 a1.2).bind (fun w28 => some w28) else some w8)
def F_X4_dx (N : Nat) (a0 : Ln) : Option (Int32) :=
  some (a0.2.2.2.1 - a0.2.1)
def F_X4_dy (N : Nat) (a0 : Ln) : Option (Int32) :=
  some (a0.2.2.2.2.1 - a0.2.2.1)
def F_X4_spans (N : Nat) (a0 : Ln) (a1 : Fr) : Option (Int32) :=
  (F_X7_compareTo N a0.2.2.2.2.2.1.1 a1).bind (fun w8 => if 0 < w8 then some 0 else (F_X7_compareTo N a1 a0.2.2.2.2.2.2.1).bind (fun w22 => if 0 < w22 then some 0 else some 1))
def F_X4_side (N : Nat) (a0 : Ln) (a1 : Pl) : Option (Int32) :=
  (F_X4_dx N a0).bind (fun w1 => (F_X4_dy N a0).bind (fun w44 => let x87 := ((w1.toInt64 * ((a1.2.1 * a1.1.2) - ((a0.2.2.1.toInt64 * a1.2.2) * a1.1.2))) - (w44.toInt64 * ((a1.1.1 * a1.2.2) - ((a0.2.1.toInt64 * a1.1.2) * a1.2.2)))); if 0 ≤ x87 then if x87 = 0 then some 0 else some 1 else some (-1)))
def F_X4_isOn (N : Nat) (a0 : Ln) (a1 : Pl) : Option (Int32) :=
  (F_X4_side N a0 a1).bind (fun w2 => if w2 = 0 then (F_X6_compareTo N a0.2.2.2.2.2.1 a1).bind (fun w13 => if 0 < w13 then some 0 else (F_X6_compareTo N a1 a0.2.2.2.2.2.2).bind (fun w24 => if 0 < w24 then some 0 else some 1)) else some 0)
def F_X8_above (N : Nat) (a0 : Ln) (a1 : Fr) : Option (Int64) :=
  (F_X4_dx N a0).bind (fun w6 => (F_X4_dy N a0).bind (fun w17 => some (((a0.2.2.1.toInt64 * w6.toInt64) * a1.2) + (w17.toInt64 * (a1.1 - (a0.2.1.toInt64 * a1.2))))))
def F_X9_above (N : Nat) (a0 : Ln) (a1 : Fr) : Option (Int64) :=
  (F_X4_dx N a0).bind (fun w6 => some ((a0.2.2.1.toInt64 * w6.toInt64) * a1.2))
def F_Sl_above (N : Nat) (v : Ln) (x : Fr) : Option Int64 := if v.1 = 2 then F_X9_above N v x else F_X8_above N v x
def F_X8_compareAt (N : Nat) (a0 : Ln) (a1 : Ln) (a2 : Fr) : Option (Int32) :=
  (F_Sl_above N a0 a2).bind (fun w2 => (F_X4_dx N a1).bind (fun w6 => let x11 := (w2 * w6.toInt64); (F_Sl_above N a1 a2).bind (fun w14 => (F_X4_dx N a0).bind (fun w18 => let x23 := (w14 * w18.toInt64); if x23 ≤ x11 then if x11 = x23 then some 0 else some 1 else some (-1)))))
def F_X8_at (N : Nat) (a0 : Ln) (a1 : Fr) : Option (Fr) :=
  (F_X4_dx N a0).bind (fun w10 => (F_X4_dy N a0).bind (fun w21 => (F_X4_dx N a0).bind (fun w43 => (F_X7_init N (((a0.2.2.1.toInt64 * w10.toInt64) * a1.2) + (w21.toInt64 * (a1.1 - (a0.2.1.toInt64 * a1.2)))) (w43.toInt64 * a1.2)).bind (fun w52 => some w52))))
def F_X9_at (N : Nat) (a0 : Ln) (a1 : Fr) : Option (Fr) :=
  (F_X7_init N a0.2.2.1.toInt64 1).bind (fun w10 => some w10)
def F_Sl_at (N : Nat) (v : Ln) (x : Fr) : Option Fr := if v.1 = 2 then F_X9_at N v x else F_X8_at N v x
def F_X0_in (N : Nat) (a0 : Int64) (a2 : Int64) (a4 : Int64) : Option (Int32) :=
  if a0 < a2 then some 0 else if a4 < a0 then some 0 else some 1
def F_X0_meets_b131 (N : Nat) (v0 : Ln) (v1 : Ln) (v6 : Int32) : Option (Int32) :=
  if v6 ≤ 0 then (F_X4_side N v0 v1.2.2.2.2.2.1).bind (fun w153 => (F_X4_side N v0 v1.2.2.2.2.2.2).bind (fun w161 => if 0 ≤ (w153 * w161) then some 0 else (F_X4_side N v1 v0.2.2.2.2.2.1).bind (fun w173 => (F_X4_side N v1 v0.2.2.2.2.2.2).bind (fun w181 => if 0 ≤ (w173 * w181) then some 0 else some 1)))) else if v6 ≤ 1 then some 2 else some 3
def F_X0_meets_b95 (N : Nat) (v0 : Ln) (v1 : Ln) (v5 : Int32) (v6 : Int32) : Option (Int32) :=
  if v5 = 0 then F_X0_meets_b131 N v0 v1 v6 else (F_X6_compareTo N v1.2.2.2.2.2.2 v0.2.2.2.2.2.1).bind (fun w108 => if w108 = 0 then F_X0_meets_b131 N v0 v1 v6 else (F_X6_compareTo N v1.2.2.2.2.2.2 v0.2.2.2.2.2.2).bind (fun w122 => if w122 = 0 then F_X0_meets_b131 N v0 v1 v6 else let x128 := (v6 + 1); F_X0_meets_b131 N v0 v1 x128))
def F_X0_meets_b56 (N : Nat) (v0 : Ln) (v1 : Ln) (v4 : Int32) (v5 : Int32) (t0 : Int32) (t1 : Int32) : Option (Int32) :=
  let x57 := (t0 + t1); if v4 = 0 then F_X0_meets_b95 N v0 v1 v5 x57 else (F_X6_compareTo N v1.2.2.2.2.2.1 v0.2.2.2.2.2.1).bind (fun w72 => if w72 = 0 then F_X0_meets_b95 N v0 v1 v5 x57 else (F_X6_compareTo N v1.2.2.2.2.2.1 v0.2.2.2.2.2.2).bind (fun w86 => if w86 = 0 then F_X0_meets_b95 N v0 v1 v5 x57 else let x92 := (x57 + 1); F_X0_meets_b95 N v0 v1 v5 x92))
def F_X0_meets_b47 (N : Nat) (v0 : Ln) (v1 : Ln) (v3 : Int32) (v4 : Int32) (v5 : Int32) (t0 : Int32) : Option (Int32) :=
  if v3 = 0 then F_X0_meets_b56 N v0 v1 v4 v5 t0 0 else F_X0_meets_b56 N v0 v1 v4 v5 t0 1
def F_X0_meets (N : Nat) (a0 : Ln) (a1 : Ln) : Option (Int32) :=
  (F_X4_isOn N a1 a0.2.2.2.2.2.1).bind (fun w5 => (F_X4_isOn N a1 a0.2.2.2.2.2.2).bind (fun w14 => (F_X4_isOn N a0 a1.2.2.2.2.2.1).bind (fun w23 => (F_X4_isOn N a0 a1.2.2.2.2.2.2).bind (fun w33 => if w5 = 0 then F_X0_meets_b47 N a0 a1 w14 w23 w33 0 else F_X0_meets_b47 N a0 a1 w14 w23 w33 1))))
def F_X0_met (N : Nat) (a0 : Ln) (a1 : Ln) : Option (Pl) :=
  (F_X4_isOn N a1 a0.2.2.2.2.2.1).bind (fun w5 => if w5 = 0 then (F_X4_isOn N a1 a0.2.2.2.2.2.2).bind (fun w21 => if w21 = 0 then (F_X4_isOn N a0 a1.2.2.2.2.2.1).bind (fun w37 => if w37 = 0 then (F_X4_isOn N a0 a1.2.2.2.2.2.2).bind (fun w53 => if w53 = 0 then (F_X4_dx N a0).bind (fun w65 => (F_X4_dy N a1).bind (fun w70 => (F_X4_dy N a0).bind (fun w76 => (F_X4_dx N a1).bind (fun w81 => let x87 := ((w65.toInt64 * w70.toInt64) - (w76.toInt64 * w81.toInt64)); (F_X4_dy N a1).bind (fun w99 => (F_X4_dx N a1).bind (fun w115 => let x121 := (((a1.2.1 - a0.2.1).toInt64 * w99.toInt64) - ((a1.2.2.1 - a0.2.2.1).toInt64 * w115.toInt64)); (F_X4_dx N a0).bind (fun w141 => (F_X7_init N ((a0.2.1.toInt64 * x87) + (x121 * w141.toInt64)) x87).bind (fun w148 => (F_X4_dy N a0).bind (fun w165 => (F_X7_init N ((a0.2.2.1.toInt64 * x87) + (x121 * w165.toInt64)) x87).bind (fun w172 => some (w148, w172))))))))))) else some a1.2.2.2.2.2.2) else some a1.2.2.2.2.2.1) else some a0.2.2.2.2.2.2) else some a0.2.2.2.2.2.1)
def F_X0_turn (N : Nat) (a0 : Int32) (a1 : Int32) (a2 : Int32) : Option (Int64) :=
  dzi 41 (let x4 := (a0 / 41); dzi 41 (let x9 := (a0 - a0 / 41 * 41); dzi 41 (dzi 41 (dzi 41 (dzi 41 (some ((((a1 / 41) - x4).toInt64 * ((a2 - a2 / 41 * 41) - x9).toInt64) - (((a1 - a1 / 41 * 41) - x9).toInt64 * ((a2 / 41) - x4).toInt64))))))))
def F_X0_isPlace (N : Nat) (a0 : Int32) (a1 : Int32) (a2 : Int32) : Option (Int32) :=
  (F_X0_in N a0.toInt64 (-400) 800).bind (fun w8 => if w8 = 0 then some 0 else (F_X0_in N a1.toInt64 (-400) 800).bind (fun w22 => if w22 = 0 then some 0 else (F_X0_in N a2.toInt64 1 10).bind (fun w34 => if w34 = 0 then some 0 else some 1)))
def F_X0_isSheet (N : Nat) (a0 : Int32) : Option (Int32) :=
  (F_X0_in N a0.toInt64 0 3).bind (fun w6 => rb w6 (some w6))
def F_X0_partOf_b51 (N : Nat) (t0 : Int64) : Option (Int32) :=
  some t0.toInt32
def F_X0_partOf (N : Nat) (a0 : Pl) (a1 : Int32) : Option (Int32) :=
  if a1 = 0 then F_X0_partOf_b51 N a0.1.1 else if a1 = 1 then F_X0_partOf_b51 N a0.1.2 else if a1 = 2 then F_X0_partOf_b51 N a0.2.1 else F_X0_partOf_b51 N a0.2.2
def F_X0_made_b131 (N : Nat) (t0 : Ln) : Option (Ln) :=
  some t0
def F_X0_made_b68 (N : Nat) (v5 : Int32) (v6 : Int32) (v7 : Int32) (t0 : Int32) : Option (Ln) :=
  if v5 = v7 then (F_X5_init N v5 v6 t0).bind (fun w87 => F_X0_made_b131 N w87) else if v6 = t0 then (F_X9_init N v5 v6 v7).bind (fun w110 => F_X0_made_b131 N w110) else (F_X8_init N v5 v6 v7 t0).bind (fun w128 => F_X0_made_b131 N w128)
def F_X0_made_b56 (N : Nat) (v1 : Int32) (v3 : Int32) (v4 : Int32) (v5 : Int32) (v6 : Int32) (t0 : Int32) : Option (Ln) :=
  if v4 = 0 then F_X0_made_b68 N v5 v6 t0 v1 else F_X0_made_b68 N v5 v6 t0 v3
def F_X0_made_b44 (N : Nat) (v0 : Int32) (v1 : Int32) (v2 : Int32) (v3 : Int32) (v4 : Int32) (v5 : Int32) (t0 : Int32) : Option (Ln) :=
  if v4 = 0 then F_X0_made_b56 N v1 v3 v4 v5 t0 v0 else F_X0_made_b56 N v1 v3 v4 v5 t0 v2
def F_X0_made_b32 (N : Nat) (v0 : Int32) (v1 : Int32) (v2 : Int32) (v3 : Int32) (v4 : Int32) (t0 : Int32) : Option (Ln) :=
  if v4 = 0 then F_X0_made_b44 N v0 v1 v2 v3 v4 t0 v3 else F_X0_made_b44 N v0 v1 v2 v3 v4 t0 v1
def F_X0_made_b20 (N : Nat) (v0 : Int32) (v1 : Int32) (v2 : Int32) (v3 : Int32) (t0 : Int32) : Option (Ln) :=
  if t0 = 0 then F_X0_made_b32 N v0 v1 v2 v3 t0 v2 else F_X0_made_b32 N v0 v1 v2 v3 t0 v0
def F_X0_made_b19 (N : Nat) (v0 : Int32) (v1 : Int32) (v2 : Int32) (v3 : Int32) : Option (Ln) :=
  F_X0_made_b20 N v0 v1 v2 v3 0
def F_X0_made (N : Nat) (a0 : Int32) (a1 : Int32) (a2 : Int32) (a3 : Int32) : Option (Ln) :=
  if a0 < a2 then F_X0_made_b20 N a0 a1 a2 a3 1 else if a0 = a2 then if a3 ≤ a1 then F_X0_made_b19 N a0 a1 a2 a3 else F_X0_made_b20 N a0 a1 a2 a3 1 else F_X0_made_b19 N a0 a1 a2 a3
def F_X1_greater_b25 (N : Nat) (t0 : (Option Fr)) : Option (Option Fr) :=
  some t0
def F_X1_greater_b20 (N : Nat) (v0 : (Option Fr)) : Option (Option Fr) :=
  F_X1_greater_b25 N v0
def F_X1_greater (N : Nat) (a0 : Option Fr) (a1 : Option Fr) : Option (Option Fr) :=
  if a0 = none then F_X1_greater_b25 N a1 else if a1 = none then F_X1_greater_b20 N a0 else nn a1 (fun x14r => nn a0 (fun x14a0 => (F_X7_isLess N x14r x14a0).bind (fun w14 => if w14 = 0 then F_X1_greater_b25 N a1 else F_X1_greater_b20 N a0)))
def F_X1_lesser_b25 (N : Nat) (t0 : (Option Fr)) : Option (Option Fr) :=
  some t0
def F_X1_lesser_b20 (N : Nat) (v0 : (Option Fr)) : Option (Option Fr) :=
  F_X1_lesser_b25 N v0
def F_X1_lesser (N : Nat) (a0 : Option Fr) (a1 : Option Fr) : Option (Option Fr) :=
  if a0 = none then F_X1_lesser_b25 N a1 else if a1 = none then F_X1_lesser_b20 N a0 else nn a0 (fun x14r => nn a1 (fun x14a0 => (F_X7_isLess N x14r x14a0).bind (fun w14 => if w14 = 0 then F_X1_lesser_b25 N a1 else F_X1_lesser_b20 N a0)))
def F_X1_isAhead (N : Nat) (a0 : Ln) (a1 : Ln) (a2 : Fr) : Option (Int32) :=
  (F_X8_compareAt N a0 a1 a2).bind (fun w3 => if w3 = 0 then (F_X4_dy N a0).bind (fun w24 => (F_X4_dx N a1).bind (fun w29 => (F_X4_dy N a1).bind (fun w35 => (F_X4_dx N a0).bind (fun w40 => if (w35.toInt64 * w40.toInt64) ≤ (w24.toInt64 * w29.toInt64) then some 0 else some 1)))) else if 0 ≤ w3 then some 0 else some 1)
abbrev CSt : Type := (Nat → Int32) × (Nat → Nat → Int32) × (Nat → Option (Nat × Ln)) × (Nat → Option Pl) × (Nat → Nat → Option Fr)
def cI (κ : CSt) (k : Nat) : Int32 := κ.1 k
def cA (κ : CSt) (k j : Nat) : Int32 := κ.2.1 k j
def cL (κ : CSt) (j : Nat) : Option (Nat × Ln) := κ.2.2.1 j
def cP (κ : CSt) (j : Nat) : Option Pl := κ.2.2.2.1 j
def cF (κ : CSt) (k j : Nat) : Option Fr := κ.2.2.2.2 k j
def csI (κ : CSt) (k : Nat) (v : Int32) : CSt := (va_up κ.1 k v, κ.2)
def csR (κ : CSt) (k : Nat) (f : Nat → Int32) : CSt := (κ.1, va_up κ.2.1 k f, κ.2.2)
def csA (κ : CSt) (k j : Nat) (v : Int32) : CSt := csR κ k (upd (κ.2.1 k) j v)
def csL (κ : CSt) (j : Nat) (v : Option (Nat × Ln)) : CSt := (κ.1, κ.2.1, va_up κ.2.2.1 j v, κ.2.2.2)
def csPR (κ : CSt) (f : Nat → Option Pl) : CSt := (κ.1, κ.2.1, κ.2.2.1, f, κ.2.2.2.2)
def csP (κ : CSt) (j : Nat) (v : Option Pl) : CSt := csPR κ (va_up κ.2.2.2.1 j v)
def csF (κ : CSt) (k j : Nat) (v : Option Fr) : CSt := (κ.1, κ.2.1, κ.2.2.1, κ.2.2.2.1, va_up κ.2.2.2.2 k (va_up (κ.2.2.2.2 k) j v))
def fu11 : Nat := 11
def fu70 : Nat := 70
def ckS {α : Type} (v : Ln) (k : Option α) : Option α := if v.1 = 0 then none else k
def cpC (κ : CSt) (k n0 : Nat) (sp dp n : Int32) : Option CSt :=
  if sp < 0 ∨ dp < 0 ∨ n < 0 ∨ n0 < sp.toNatClampNeg + n.toNatClampNeg ∨ n0 < dp.toNatClampNeg + n.toNatClampNeg then none else some (csR κ k (va_cpy (cA κ k) (cA κ k) sp.toNatClampNeg dp.toNatClampNeg n.toNatClampNeg))
def cpCP (κ : CSt) (sp dp n : Int32) : Option CSt :=
  if sp < 0 ∨ dp < 0 ∨ n < 0 ∨ 65 < sp.toNatClampNeg + n.toNatClampNeg ∨ 65 < dp.toNatClampNeg + n.toNatClampNeg then none else some (csPR κ (va_cpy (cP κ) (cP κ) sp.toNatClampNeg dp.toNatClampNeg n.toNatClampNeg))
def F_X1_slabs (N : Nat) (κ : CSt) : Option (Int32) :=
  some ((cI κ 9) + 1)
def F_X1_least (N : Nat) (κ : CSt) (a1 : Int32) : Option (Ln) :=
  (F_J15_numberOfTrailingZeros N a1).bind (fun w5 => ck w5 10 (fun j8 => nn (cL κ j8) (fun x9 => ckS x9.2 (some x9.2))))
def F_X1_compareAt (N : Nat) (κ : CSt) (a1 : Int32) (a2 : Ln) (a3 : Fr) : Option (Int32) :=
  (F_X1_least N κ a1).bind (fun w2 => (F_X8_compareAt N w2 a2 a3).bind (fun w7 => some w7))
def F_X1_lineOf (N : Nat) (κ : CSt) (a1 : Int32) (a2 : Int32) : Option (Int32) :=
  ck a1 740 (fun j5 => let x6 := (cA κ 15 j5); ck x6 68 (fun j13 => let x19 := (((a1 - (cA κ 14 j13)) - 1) + a2); if x19 < 0 then some 0 else ck x6 67 (fun j33 => if x19 < (cA κ 13 j33) then ck ((10 * x6) + x19) 670 (fun j52 => some (cA κ 12 j52)) else some 0)))
def F_X1_bound_b16 (N : Nat) (κ : CSt) (id0 : Nat) (t0 : (Option Fr)) : Option (Option Fr) :=
  some t0
def F_X1_bound_b9 (N : Nat) (κ : CSt) (id0 : Nat) : Option (Option Fr) :=
  F_X1_bound_b16 N κ id0 none
def F_X1_bound (N : Nat) (κ : CSt) (id0 : Nat) (a1 : Int32) (a2 : Int32) : Option (Option Fr) :=
  if a2 < 0 then F_X1_bound_b9 N κ id0 else if a2 < a1 then ck a2 10 (fun j15 => F_X1_bound_b16 N κ id0 (cF κ id0 j15)) else F_X1_bound_b9 N κ id0
def F_X1_uprights_b98 (N : Nat) (κ : CSt) (r6 : Fr → (Option Fr) → (Option Fr) → Int32 → Int32 → Option (Int32)) (v1 : Fr) (v2 : (Option Fr)) (v3 : (Option Fr)) (v4 : Int32) (v5 : Int32) : Option (Int32) :=
  let x98 := (v5 + 1); r6 v1 v2 v3 v4 x98
def F_X1_uprights_L6 (N : Nat) (κ : CSt) : Nat → Fr → (Option Fr) → (Option Fr) → Int32 → Int32 → Option (Int32)
  | 0, _, _, _, _, _ => none
  | n + 1, v1, v2, v3, v4, v5 =>
    if (cI κ 1) ≤ v5 then some v4 else ck v5 10 (fun j21 => nn (cL κ j21) (fun x26 => if x26.2.1 = 0 then (F_X4_spans N x26.2 v1).bind (fun w42 => if w42 = 0 then F_X1_uprights_b98 N κ (F_X1_uprights_L6 N κ n) v1 v2 v3 v4 v5 else (F_X1_greater N v2 (some x26.2.2.2.2.2.2.1.2)).bind (fun w60 => (F_X1_lesser N v3 (some x26.2.2.2.2.2.2.2.2)).bind (fun w74 => nn w60 (fun x83r => nn w74 (fun x83a0 => (F_X7_isLess N x83r x83a0).bind (fun w83 => if w83 = 0 then F_X1_uprights_b98 N κ (F_X1_uprights_L6 N κ n) v1 v2 v3 v4 v5 else let x96 := (v4 ||| (1 <<< (v5 &&& 31))); F_X1_uprights_b98 N κ (F_X1_uprights_L6 N κ n) v1 v2 v3 x96 v5)))))) else F_X1_uprights_b98 N κ (F_X1_uprights_L6 N κ n) v1 v2 v3 v4 v5))
def F_X1_uprights (N : Nat) (κ : CSt) (a1 : Fr) (a2 : Option Fr) (a3 : Option Fr) : Option (Int32) :=
  F_X1_uprights_L6 N κ N a1 a2 a3 0 0
def F_X1_isOpen_b107 (N : Nat) (κ : CSt) (r30 : (Option Fr) → Int32 → (Option Fr) → Int32 → Option (Int32)) (r42 : (Option Fr) → Int32 → (Option Fr) → Int32 → Int32 → Option (Int32)) (v3 : (Option Fr)) (v4 : Int32) (v5 : Fr) (v6 : Int32) (v7 : Int32) : Option (Int32) :=
  let x114 := (v7 &&& (v7 - 1)); r42 v3 v4 (some v5) v6 x114
def F_X1_isOpen_L42 (N : Nat) (κ : CSt) (r30 : (Option Fr) → Int32 → (Option Fr) → Int32 → Option (Int32)) : Nat → (Option Fr) → Int32 → (Option Fr) → Int32 → Int32 → Option (Int32)
  | 0, _, _, _, _, _ => none
  | n + 1, v3, v4, v5, v6, v7 =>
    if v7 = 0 then r30 v3 v4 v5 v6 else (F_J15_numberOfTrailingZeros N v7).bind (fun w53 => ck w53 10 (fun j56 => nn (cL κ j56) (fun x63 => nn v5 (fun x69r => (F_X7_isLess N x69r x63.2.2.2.2.2.2.1.2).bind (fun w69 => if w69 = 0 then (F_X7_isLess N x69r x63.2.2.2.2.2.2.2.2).bind (fun w85 => if w85 = 0 then F_X1_isOpen_b107 N κ r30 (F_X1_isOpen_L42 N κ r30 n) v3 v4 x69r v6 v7 else F_X1_isOpen_b107 N κ r30 (F_X1_isOpen_L42 N κ r30 n) v3 v4 x63.2.2.2.2.2.2.2.2 1 v7) else F_X1_isOpen_b107 N κ r30 (F_X1_isOpen_L42 N κ r30 n) v3 v4 x69r v6 v7)))))
def F_X1_isOpen_L30 (N : Nat) (κ : CSt) : Nat → (Option Fr) → Int32 → (Option Fr) → Int32 → Option (Int32)
  | 0, _, _, _, _ => none
  | n + 1, v3, v4, v5, v6 =>
    if v6 = 0 then nn v5 (fun x125r => nn v3 (fun x125a0 => (F_X7_isLess N x125r x125a0).bind (fun w125 => rb w125 (some w125)))) else F_X1_isOpen_L42 N κ (F_X1_isOpen_L30 N κ n) N v3 v4 v5 0 v4
def F_X1_isOpen (N : Nat) (κ : CSt) (a1 : Fr) (a2 : Option Fr) (a3 : Option Fr) : Option (Int32) :=
  (F_X1_uprights N κ a1 a2 a3).bind (fun w4 => if w4 = 0 then some 1 else if a2 = none then some 1 else if a3 = none then some 1 else F_X1_isOpen_L30 N κ N a3 w4 a2 1)
def F_X1_onOf_b31 (N : Nat) (κ : CSt) (r4 : Pl → Int32 → Int32 → Option (Int32)) (v1 : Pl) (v2 : Int32) (v3 : Int32) : Option (Int32) :=
  let x31 := (v3 + 1); r4 v1 v2 x31
def F_X1_onOf_L4 (N : Nat) (κ : CSt) : Nat → Pl → Int32 → Int32 → Option (Int32)
  | 0, _, _, _ => none
  | n + 1, v1, v2, v3 =>
    if (cI κ 1) ≤ v3 then some v2 else ck v3 10 (fun j17 => nn (cL κ j17) (fun x19r => (F_X4_isOn N x19r.2 v1).bind (fun w19 => if w19 = 0 then F_X1_onOf_b31 N κ (F_X1_onOf_L4 N κ n) v1 v2 v3 else let x30 := (v2 ||| (1 <<< (v3 &&& 31))); F_X1_onOf_b31 N κ (F_X1_onOf_L4 N κ n) v1 x30 v3)))
def F_X1_onOf (N : Nat) (κ : CSt) (a1 : Pl) : Option (Int32) :=
  F_X1_onOf_L4 N κ N a1 0 0
def F_X1_cellAt_b72 (N : Nat) (κ : CSt) (v2 : Int32) (v3 : Int32) : Option (Int32) :=
  ck v2 68 (fun j77 => some ((cA κ 14 j77) + v3))
def F_X1_cellAt_L34 (N : Nat) (κ : CSt) : Nat → Pl → Int32 → Int32 → Option (Int32)
  | 0, _, _, _ => none
  | n + 1, v1, v2, v3 =>
    ck v2 67 (fun j40 => if (cA κ 13 j40) ≤ v3 then F_X1_cellAt_b72 N κ v2 v3 else ck ((10 * v2) + v3) 670 (fun j55 => (F_X1_least N κ (cA κ 12 j55)).bind (fun w56 => (F_X4_side N w56 v1).bind (fun w60 => if w60 ≤ 0 then F_X1_cellAt_b72 N κ v2 v3 else let x66 := (v3 + 1); (F_X1_cellAt_L34 N κ n) v1 v2 x66))))
def F_X1_cellAt_L4 (N : Nat) (κ : CSt) : Nat → Pl → Int32 → Int32 → Option (Int32)
  | 0, _, _, _ => none
  | n + 1, v1, v2, v3 =>
    if (cI κ 9) ≤ v2 then F_X1_cellAt_L34 N κ N v1 v2 v3 else ck v2 65 (fun j17 => nn (cF κ 8 j17) (fun x22r => (F_X7_compareTo N x22r v1.1).bind (fun w22 => if 0 < w22 then F_X1_cellAt_L34 N κ N v1 v2 v3 else let x28 := (v2 + 1); (F_X1_cellAt_L4 N κ n) v1 x28 v3)))
def F_X1_cellAt (N : Nat) (κ : CSt) (a1 : Pl) : Option (Int32) :=
  F_X1_cellAt_L4 N κ N a1 0 0
def F_X1_drops_L12 (N : Nat) : Nat → CSt → Int32 → Option (CSt)
  | 0, _, _ => none
  | n + 1, κ, v2 =>
    if (cI κ 1) ≤ v2 then ck (cI κ 1) 10 (fun j49 => let κ49 := (csL κ j49 none); let κ52 := (csI κ49 2 1); some κ52) else ck (v2 + 1) 10 (fun j32 => ck v2 10 (fun j33 => let κ33 := (csL κ j33 (cL κ j32)); let x34 := (v2 + 1); (F_X1_drops_L12 N n) κ33 x34))
def F_X1_drops (N : Nat) (κ : CSt) (a1 : Int32) : Option (CSt) :=
  let κ7 := (csI κ 1 ((cI κ 1) - 1)); F_X1_drops_L12 N N κ7 a1
def F_X1_puts_b50 (N : Nat) (κ : CSt) (v1 : Pl) (v2 : Int32) : Option (CSt) :=
  (cpCP κ v2 (v2 + 1) ((cI κ 4) - v2)).bind (fun κ68 => ck v2 65 (fun j77 => let κ77 := (csP κ68 j77 (some v1)); let κ85 := (csI κ77 4 ((cI κ77 4) + 1)); some κ85))
def F_X1_puts_b30 (N : Nat) (κ : CSt) (v1 : Pl) (v2 : Int32) : Option (CSt) :=
  if v2 ≤ 0 then F_X1_puts_b50 N κ v1 v2 else ck (v2 - 1) 65 (fun j41 => nn (cP κ j41) (fun x43r => (F_X6_compareTo N x43r v1).bind (fun w43 => if w43 = 0 then some κ else F_X1_puts_b50 N κ v1 v2)))
def F_X1_puts_L5 (N : Nat) : Nat → CSt → Pl → Int32 → Option (CSt)
  | 0, _, _, _ => none
  | n + 1, κ, v1, v2 =>
    if v2 ≤ 0 then F_X1_puts_b30 N κ v1 v2 else ck (v2 - 1) 65 (fun j16 => nn (cP κ j16) (fun x18r => (F_X6_compareTo N x18r v1).bind (fun w18 => if w18 ≤ 0 then F_X1_puts_b30 N κ v1 v2 else let x24 := (v2 + (-1)); (F_X1_puts_L5 N n) κ v1 x24)))
def F_X1_puts (N : Nat) (κ : CSt) (a1 : Pl) : Option (CSt) :=
  let x4 := (cI κ 4); F_X1_puts_L5 N N κ a1 x4
def F_X1_slice_b196 (N : Nat) (r2 : CSt → Int32 → Fr → Int32 → Option (CSt)) (κ : CSt) (v1 : Int32) (v2 : Fr) (v3 : Int32) : Option (CSt) :=
  let x196 := (v3 + 1); r2 κ v1 v2 x196
def F_X1_slice_b141 (N : Nat) (r2 : CSt → Int32 → Fr → Int32 → Option (CSt)) (κ : CSt) (v1 : Int32) (v2 : Fr) (v3 : Int32) (v5 : Int32) (v6 : Int32) : Option (CSt) :=
  ck v1 67 (fun j166 => (cpC κ 12 670 (v6 + v5) ((v6 + v5) + 1) ((cA κ 13 j166) - v5)).bind (fun κ170 => ck (v6 + v5) 670 (fun j185 => let κ185 := (csA κ170 12 j185 (1 <<< (v3 &&& 31))); ck v1 67 (fun j192 => ck v1 67 (fun j195 => let κ195 := (csA κ185 13 j195 ((cA κ185 13 j192) + 1)); F_X1_slice_b196 N r2 κ195 v1 v2 v3)))))
def F_X1_slice_b91 (N : Nat) (r2 : CSt → Int32 → Fr → Int32 → Option (CSt)) (κ : CSt) (v1 : Int32) (v2 : Fr) (v3 : Int32) (v4 : Ln) (v5 : Int32) (v6 : Int32) : Option (CSt) :=
  ck v1 67 (fun j98 => if (cA κ 13 j98) ≤ v5 then F_X1_slice_b141 N r2 κ v1 v2 v3 v5 v6 else ck (v6 + v5) 670 (fun j112 => (F_X1_compareAt N κ (cA κ 12 j112) v4 v2).bind (fun w116 => if w116 = 0 then ck (v6 + v5) 670 (fun j132 => ck (v6 + v5) 670 (fun j137 => let κ137 := (csA κ 12 j137 ((cA κ 12 j132) ||| (1 <<< (v3 &&& 31)))); F_X1_slice_b196 N r2 κ137 v1 v2 v3)) else F_X1_slice_b141 N r2 κ v1 v2 v3 v5 v6)))
def F_X1_slice_L54 (N : Nat) (r2 : CSt → Int32 → Fr → Int32 → Option (CSt)) : Nat → CSt → Int32 → Fr → Int32 → Ln → Int32 → Int32 → Option (CSt)
  | 0, _, _, _, _, _, _, _ => none
  | n + 1, κ, v1, v2, v3, v4, v5, v6 =>
    ck v1 67 (fun j61 => if (cA κ 13 j61) ≤ v5 then F_X1_slice_b91 N r2 κ v1 v2 v3 v4 v5 v6 else ck (v6 + v5) 670 (fun j75 => (F_X1_compareAt N κ (cA κ 12 j75) v4 v2).bind (fun w79 => if 0 ≤ w79 then F_X1_slice_b91 N r2 κ v1 v2 v3 v4 v5 v6 else let x85 := (v5 + 1); (F_X1_slice_L54 N r2 n) κ v1 v2 v3 v4 x85 v6)))
def F_X1_slice_L2 (N : Nat) : Nat → CSt → Int32 → Fr → Int32 → Option (CSt)
  | 0, _, _, _, _ => none
  | n + 1, κ, v1, v2, v3 =>
    if (cI κ 1) ≤ v3 then some κ else ck v3 10 (fun j15 => nn (cL κ j15) (fun x20 => if x20.2.1 = 0 then F_X1_slice_b196 N (F_X1_slice_L2 N n) κ v1 v2 v3 else (F_X4_spans N x20.2 v2).bind (fun w36 => if w36 = 0 then F_X1_slice_b196 N (F_X1_slice_L2 N n) κ v1 v2 v3 else let x52 := (10 * v1); F_X1_slice_L54 N (F_X1_slice_L2 N n) N κ v1 v2 v3 x20.2 0 x52)))
def F_X1_slice (N : Nat) (κ : CSt) (a1 : Int32) (a2 : Fr) : Option (CSt) :=
  F_X1_slice_L2 N N κ a1 a2 0
def F_X1_slices_L153 (N : Nat) (r92 : CSt → Int32 → Option (CSt)) : Nat → CSt → Int32 → Int32 → Option (CSt)
  | 0, _, _, _ => none
  | n + 1, κ, v1, v2 =>
    ck v1 67 (fun j159 => if (cA κ 13 j159) < v2 then let x189 := (v1 + 1); r92 κ x189 else ck (cI κ 10) 740 (fun j172 => let κ172 := (csA κ 15 j172 v1); let κ180 := (csI κ172 10 ((cI κ172 10) + 1)); let x183 := (v2 + 1); (F_X1_slices_L153 N r92 n) κ180 v1 x183))
def F_X1_slices_b151 (N : Nat) (r92 : CSt → Int32 → Option (CSt)) (κ : CSt) (v1 : Int32) : Option (CSt) :=
  F_X1_slices_L153 N r92 N κ v1 0
def F_X1_slices_L92 (N : Nat) : Nat → CSt → Int32 → Option (CSt)
  | 0, _, _ => none
  | n + 1, κ, v1 =>
    if (cI κ 9) < v1 then ck ((cI κ 9) + 1) 68 (fun j209 => let κ209 := (csA κ 14 j209 (cI κ 10)); some κ209) else ck v1 67 (fun j106 => let κ106 := (csA κ 13 j106 0); ck v1 68 (fun j116 => let κ116 := (csA κ106 14 j116 (cI κ106 10)); if v1 ≤ 0 then F_X1_slices_b151 N (F_X1_slices_L92 N n) κ116 v1 else if (cI κ116 9) ≤ v1 then F_X1_slices_b151 N (F_X1_slices_L92 N n) κ116 v1 else ck (v1 - 1) 65 (fun j138 => ck v1 65 (fun j144 => nn (cF κ116 8 j138) (fun x145r => nn (cF κ116 8 j144) (fun x145a0 => (F_X7_half N x145r x145a0).bind (fun w145 => (F_X1_slice N κ116 v1 w145).bind (fun w148 => F_X1_slices_b151 N (F_X1_slices_L92 N n) w148 v1))))))))
def F_X1_slices_b79 (N : Nat) (r7 : CSt → Int32 → Option (CSt)) (κ : CSt) (v1 : Int32) : Option (CSt) :=
  let x79 := (v1 + 1); r7 κ x79
def F_X1_slices_b51 (N : Nat) (r7 : CSt → Int32 → Option (CSt)) (κ : CSt) (v1 : Int32) : Option (CSt) :=
  ck v1 65 (fun j64 => nn (cP κ j64) (fun x65 => ck (cI κ 9) 65 (fun j68 => let κ68 := (csF κ 8 j68 (some x65.1)); let κ76 := (csI κ68 9 ((cI κ68 9) + 1)); F_X1_slices_b79 N r7 κ76 v1)))
def F_X1_slices_L7 (N : Nat) : Nat → CSt → Int32 → Option (CSt)
  | 0, _, _ => none
  | n + 1, κ, v1 =>
    if (cI κ 4) ≤ v1 then let κ87 := (csI κ 10 0); F_X1_slices_L92 N fu70 κ87 0 else if (cI κ 9) ≤ 0 then F_X1_slices_b51 N (F_X1_slices_L7 N n) κ v1 else ck ((cI κ 9) - 1) 65 (fun j32 => ck v1 65 (fun j38 => nn (cP κ j38) (fun x39 => nn (cF κ 8 j32) (fun x42r => (F_X7_isLike N x42r x39.1).bind (fun w42 => if w42 = 0 then F_X1_slices_b51 N (F_X1_slices_L7 N n) κ v1 else F_X1_slices_b79 N (F_X1_slices_L7 N n) κ v1)))))
def F_X1_slices (N : Nat) (κ : CSt) : Option (CSt) :=
  let κ2 := (csI κ 9 0); F_X1_slices_L7 N N κ2 0
def F_X1_fills_L3 (N : Nat) (id1 : Nat) : Nat → CSt → Int32 → Fr → Int32 → Option (Int32 × CSt)
  | 0, _, _, _, _ => none
  | n + 1, κ, v2, v3, v4 =>
    ck v2 67 (fun j10 => if (cA κ 13 j10) ≤ v4 then ck v2 67 (fun j49 => some ((cA κ 13 j49), κ)) else ck ((10 * v2) + v4) 670 (fun j29 => (F_X1_least N κ (cA κ 12 j29)).bind (fun w30 => (F_Sl_at N w30 v3).bind (fun w34 => ck v4 10 (fun j37 => let κ37 := (csF κ id1 j37 (some w34)); let x38 := (v4 + 1); (F_X1_fills_L3 N id1 n) κ37 v2 v3 x38)))))
def F_X1_fills (N : Nat) (id1 : Nat) (κ : CSt) (a2 : Int32) (a3 : Fr) : Option (Int32 × CSt) :=
  F_X1_fills_L3 N id1 fu11 κ a2 a3 0
def F_X1_joined_b63 (N : Nat) (r25 : CSt → Int32 → Int32 → Int32 → Option (CSt)) (κ : CSt) (v3 : Int32) (v4 : Int32) (v5 : Int32) : Option (CSt) :=
  let x63 := (v5 + 1); r25 κ v3 v4 x63
def F_X1_joined_L25 (N : Nat) : Nat → CSt → Int32 → Int32 → Int32 → Option (CSt)
  | 0, _, _, _, _ => none
  | n + 1, κ, v3, v4, v5 =>
    if (cI κ 10) ≤ v5 then some κ else ck v5 740 (fun j40 => if (cA κ 16 j40) = (jmax v3 v4) then ck v5 740 (fun j62 => let κ62 := (csA κ 16 j62 (jmin v3 v4)); F_X1_joined_b63 N (F_X1_joined_L25 N n) κ62 v3 v4 v5) else F_X1_joined_b63 N (F_X1_joined_L25 N n) κ v3 v4 v5)
def F_X1_joined (N : Nat) (κ : CSt) (a1 : Int32) (a2 : Int32) : Option (CSt) :=
  ck a1 740 (fun j5 => let x6 := (cA κ 16 j5); ck a2 740 (fun j12 => let x13 := (cA κ 16 j12); if x6 = x13 then some κ else F_X1_joined_L25 N N κ x6 x13 0))
def F_X1_walls (N : Nat) (κ : CSt) (a1 : Int32) (a2 : Int32) (a3 : Int32) : Option (CSt) :=
  ck (cI κ 21) 1480 (fun j9 => let κ9 := (csA κ 18 j9 a1); ck (cI κ9 21) 1480 (fun j19 => let κ19 := (csA κ9 19 j19 a2); ck (cI κ19 21) 1480 (fun j29 => let κ29 := (csA κ19 20 j29 a3); let κ37 := (csI κ29 21 ((cI κ29 21) + 1)); some κ37)))
def F_X1_lambda_joins_0_b10 (N : Nat) (κ : CSt) (v1 : Int32) (v2 : Int32) (v4 : Int32) : Option (CSt) :=
  if v4 = 0 then some κ else (F_X1_walls N κ v1 v2 v4).bind (fun w20 => some w20)
def F_X1_lambda_joins_0 (N : Nat) (κ : CSt) (a1 : Int32) (a2 : Int32) (a3 : Int32) (a4 : Int32) : Option (CSt) :=
  if a3 = 0 then F_X1_lambda_joins_0_b10 N κ a1 a2 a4 else (F_X1_joined N κ a1 a2).bind (fun w7 => F_X1_lambda_joins_0_b10 N w7 a1 a2 a4)
abbrev BSt : Type := Int32 × (Nat → Int64)
def bsU (β : BSt) (v : Int32) : BSt := (v, β.2)
def bsW (β : BSt) (j : Nat) (v : Int64) : BSt := (β.1, vp_updL β.2 j v)
def F_J1_checkInvariants_b70 (N : Nat) (wn : Nat) (β : BSt) : Option (Unit) :=
  if (1 : Int32) = 0 then if β.1 = (Int32.ofNat wn) then some () else ck β.1 wn (fun j96 => if (β.2 j96) = 0 then some () else none) else some ()
def F_J1_checkInvariants_b62 (N : Nat) (wn : Nat) (β : BSt) : Option (Unit) :=
  none
def F_J1_checkInvariants_b37 (N : Nat) (wn : Nat) (β : BSt) : Option (Unit) :=
  if (1 : Int32) = 0 then if β.1 < 0 then F_J1_checkInvariants_b62 N wn β else if β.1 ≤ (Int32.ofNat wn) then F_J1_checkInvariants_b70 N wn β else F_J1_checkInvariants_b62 N wn β else F_J1_checkInvariants_b70 N wn β
def F_J1_checkInvariants (N : Nat) (wn : Nat) (β : BSt) : Option (Unit) :=
  if (1 : Int32) = 0 then if β.1 = 0 then F_J1_checkInvariants_b37 N wn β else ck (β.1 - 1) wn (fun j23 => if (β.2 j23) = 0 then none else F_J1_checkInvariants_b37 N wn β) else F_J1_checkInvariants_b37 N wn β
def F_J1_ensureCapacity (N : Nat) (wn : Nat) (β : BSt) (a1 : Int32) : Option (BSt) :=
  if a1 ≤ (Int32.ofNat wn) then some β else let x20 := (jmax (2 * (Int32.ofNat wn)) a1); none
def F_J1_expandTo (N : Nat) (wn : Nat) (β : BSt) (a1 : Int32) : Option (BSt) :=
  let x3 := (a1 + 1); if x3 ≤ β.1 then some β else (F_J1_ensureCapacity N wn β x3).bind (fun w14 => let β19 := (bsU w14 x3); some β19)
def F_J1_recalculateWordsInUse_b31 (N : Nat) (wn : Nat) (β : BSt) (v1 : Int32) : Option (BSt) :=
  let β35 := (bsU β (v1 + 1)); some β35
def F_J1_recalculateWordsInUse_L7 (N : Nat) (wn : Nat) : Nat → BSt → Int32 → Option (BSt)
  | 0, _, _ => none
  | n + 1, β, v1 =>
    if v1 < 0 then F_J1_recalculateWordsInUse_b31 N wn β v1 else ck v1 wn (fun j16 => if (β.2 j16) = 0 then let x25 := (v1 + (-1)); (F_J1_recalculateWordsInUse_L7 N wn n) β x25 else F_J1_recalculateWordsInUse_b31 N wn β v1)
def F_J1_recalculateWordsInUse (N : Nat) (wn : Nat) (β : BSt) : Option (BSt) :=
  let x6 := (β.1 - 1); F_J1_recalculateWordsInUse_L7 N wn N β x6
def F_J1_set (N : Nat) (wn : Nat) (β : BSt) (a1 : Int32) : Option (BSt) :=
  if 0 ≤ a1 then (F_J1_wordIndex N a1).bind (fun w32 => (F_J1_expandTo N wn β w32).bind (fun w38 => ck w32 wn (fun j47 => ck w32 wn (fun j52 => let β52 := (bsW w38 j52 ((w38.2 j47) ||| (1 <<< ((a1 : Int32).toInt64 &&& 63)))); (F_J1_checkInvariants N wn β52).bind (fun w54 => some β52))))) else none
def F_J1_clear (N : Nat) (wn : Nat) (β : BSt) (a1 : Int32) : Option (BSt) :=
  if 0 ≤ a1 then (F_J1_wordIndex N a1).bind (fun w32 => if w32 < β.1 then ck w32 wn (fun j51 => ck w32 wn (fun j60 => let β60 := (bsW β j60 ((β.2 j51) &&& ((1 <<< ((a1 : Int32).toInt64 &&& 63)) ^^^ (-1)))); (F_J1_recalculateWordsInUse N wn β60).bind (fun w62 => (F_J1_checkInvariants N wn w62).bind (fun w66 => some w62)))) else some β) else none
def F_J1_cardinality_L4 (N : Nat) (wn : Nat) (β : BSt) : Nat → Int32 → Int32 → Option (Int32)
  | 0, _, _ => none
  | n + 1, v1, v2 =>
    if β.1 ≤ v2 then some v1 else ck v2 wn (fun j18 => (F_J17_bitCount N (β.2 j18)).bind (fun w19 => let x23 := (v1 + w19); let x24 := (v2 + 1); (F_J1_cardinality_L4 N wn β n) x23 x24))
def F_J1_cardinality (N : Nat) (wn : Nat) (β : BSt) : Option (Int32) :=
  F_J1_cardinality_L4 N wn β N 0 0
def F_J1_nextSetBit_L63 (N : Nat) (wn : Nat) (β : BSt) : Nat → Int32 → Int64 → Option (Int32)
  | 0, _, _ => none
  | n + 1, v2, v3 =>
    if v3 = 0 then let x79 := (v2 + 1); if x79 = β.1 then some (-1) else ck x79 wn (fun j97 => let x98 := (β.2 j97); (F_J1_nextSetBit_L63 N wn β n) x79 x98) else (F_J17_numberOfTrailingZeros N v3).bind (fun w74 => some ((v2 * 64) + w74))
def F_J1_nextSetBit (N : Nat) (wn : Nat) (β : BSt) (a1 : Int32) : Option (Int32) :=
  if 0 ≤ a1 then (F_J1_checkInvariants N wn β).bind (fun w32 => (F_J1_wordIndex N a1).bind (fun w36 => if w36 < β.1 then ck w36 wn (fun j55 => let x62 := ((β.2 j55) &&& ((-1) <<< ((a1 : Int32).toInt64 &&& 63))); F_J1_nextSetBit_L63 N wn β N w36 x62) else some (-1))) else none
def F_J1_initWords (N : Nat) (a : Int32) : Option Nat := (F_J1_wordIndex N (a - 1)).bind fun w => if w + 1 < 0 ∨ 536870912 < (w + 1).toNatClampNeg * 8 then none else some (w + 1).toNatClampNeg
def F_J1_init (N : Nat) (a : Int32) : Option Nat := if 0 ≤ a then F_J1_initWords N a else none
def is67 {α : Type} (x : Option Nat) (k : Option α) : Option α := if x = some 67 then k else none
def F_X1_piece_b87 (N : Nat) (r47 : CSt → BSt → Int32 → Int32 → Int32 → Option (CSt × BSt)) (κ : CSt) (β : BSt) (v4 : Int32) (v5 : Int32) (v6 : Int32) : Option (CSt × BSt) :=
  let x87 := (v6 + 1); r47 κ β v4 v5 x87
def F_X1_piece_L47 (N : Nat) : Nat → CSt → BSt → Int32 → Int32 → Int32 → Option (CSt × BSt)
  | 0, _, _, _, _, _ => none
  | n + 1, κ, β, v4, v5, v6 =>
    if (cI κ 4) ≤ v6 then some (κ, β) else ck v6 65 (fun j62 => if (cA κ 7 j62) = (jmax v4 v5) then ck v6 65 (fun j86 => let κ86 := (csA κ 7 j86 (jmin v4 v5)); F_X1_piece_b87 N (F_X1_piece_L47 N n) κ86 β v4 v5 v6) else F_X1_piece_b87 N (F_X1_piece_L47 N n) κ β v4 v5 v6)
def F_X1_piece (N : Nat) (κ : CSt) (β : BSt) (a2 a3 : Int32) : Option (CSt × BSt) :=
  (F_J1_set N 67 β ((65 * a2) + a3)).bind (fun w7 => ck a2 65 (fun j15 => let x16 := (cA κ 7 j15); ck a3 65 (fun j23 => let x24 := (cA κ 7 j23); if x16 = x24 then some (κ, w7) else let κ41 := (csI κ 6 ((cI κ 6) - 1)); F_X1_piece_L47 N N κ41 w7 x16 x24 0)))
def F_X1_points_b209 (N : Nat) (r149 : CSt → BSt → Int32 → Option (CSt)) (r162 : CSt → BSt → Int32 → Int32 → Int32 → Option (CSt)) (κ : CSt) (β : BSt) (v2 : Int32) (v3 : Int32) (v4 : Int32) : Option (CSt) :=
  let x209 := (v4 + 1); r162 κ β v2 v3 x209
def F_X1_points_b206 (N : Nat) (r149 : CSt → BSt → Int32 → Option (CSt)) (r162 : CSt → BSt → Int32 → Int32 → Int32 → Option (CSt)) (κ : CSt) (β : BSt) (v2 : Int32) (v4 : Int32) : Option (CSt) :=
  F_X1_points_b209 N r149 r162 κ β v2 v4 v4
def F_X1_points_L162 (N : Nat) (r149 : CSt → BSt → Int32 → Option (CSt)) : Nat → CSt → BSt → Int32 → Int32 → Int32 → Option (CSt)
  | 0, _, _, _, _, _ => none
  | n + 1, κ, β, v2, v3, v4 =>
    if (cI κ 4) ≤ v4 then let x215 := (v2 + 1); r149 κ β x215 else ck v2 10 (fun j176 => ck v4 65 (fun j183 => nn (cL κ j176) (fun x184r => nn (cP κ j183) (fun x184a0 => (F_X4_isOn N x184r.2 x184a0).bind (fun w184 => if w184 = 0 then F_X1_points_b209 N r149 (F_X1_points_L162 N r149 n) κ β v2 v3 v4 else if v3 = (-1) then F_X1_points_b206 N r149 (F_X1_points_L162 N r149 n) κ β v2 v4 else (F_X1_piece N κ β v3 v4).bind (fun w203 => F_X1_points_b206 N r149 (F_X1_points_L162 N r149 n) w203.1 w203.2 v2 v4))))))
def F_X1_points_L149 (N : Nat) : Nat → CSt → BSt → Int32 → Option (CSt)
  | 0, _, _, _ => none
  | n + 1, κ, β, v2 =>
    if (cI κ 1) ≤ v2 then (F_J1_cardinality N 67 β).bind (fun w223 => let κ226 := (csI κ 5 w223); some κ226) else F_X1_points_L162 N (F_X1_points_L149 N n) N κ β v2 (-1) 0
def F_X1_points_L126 (N : Nat) : Nat → CSt → BSt → Int32 → Option (CSt)
  | 0, _, _, _ => none
  | n + 1, κ, β, v2 =>
    if (cI κ 4) ≤ v2 then F_X1_points_L149 N N κ β 0 else ck v2 65 (fun j140 => let κ140 := (csA κ 7 j140 v2); let x141 := (v2 + 1); (F_X1_points_L126 N n) κ140 β x141)
def F_X1_points_b93 (N : Nat) (r7 : CSt → Int32 → Option (CSt)) (r43 : CSt → Int32 → Int32 → Option (CSt)) (κ : CSt) (v1 : Int32) (v2 : Int32) : Option (CSt) :=
  let x93 := (v2 + 1); r43 κ v1 x93
def F_X1_points_b74 (N : Nat) (r7 : CSt → Int32 → Option (CSt)) (r43 : CSt → Int32 → Int32 → Option (CSt)) (κ : CSt) (v1 : Int32) (v2 : Int32) : Option (CSt) :=
  ck v2 10 (fun j80 => ck v1 10 (fun j86 => nn (cL κ j80) (fun x87a0 => nn (cL κ j86) (fun x87a1 => (F_X0_met N x87a0.2 x87a1.2).bind (fun w87 => (F_X1_puts N κ w87).bind (fun w90 => F_X1_points_b93 N r7 r43 w90 v1 v2))))))
def F_X1_points_L43 (N : Nat) (r7 : CSt → Int32 → Option (CSt)) : Nat → CSt → Int32 → Int32 → Option (CSt)
  | 0, _, _, _ => none
  | n + 1, κ, v1, v2 =>
    if v1 ≤ v2 then let x99 := (v1 + 1); r7 κ x99 else ck v2 10 (fun j53 => ck v1 10 (fun j59 => nn (cL κ j53) (fun x60a0 => nn (cL κ j59) (fun x60a1 => (F_X0_meets N x60a0.2 x60a1.2).bind (fun w60 => if w60 = 1 then F_X1_points_b74 N r7 (F_X1_points_L43 N r7 n) κ v1 v2 else if w60 = 2 then F_X1_points_b74 N r7 (F_X1_points_L43 N r7 n) κ v1 v2 else F_X1_points_b93 N r7 (F_X1_points_L43 N r7 n) κ v1 v2)))))
def F_X1_points_L7 (N : Nat) : Nat → CSt → Int32 → Option (CSt)
  | 0, _, _ => none
  | n + 1, κ, v1 =>
    if (cI κ 1) ≤ v1 then is67 (F_J1_init N 4225) (let κ121 := (csI κ 6 (cI κ 4)); F_X1_points_L126 N N κ121 ((0, fun _ => 0) : BSt) 0) else ck v1 10 (fun j21 => nn (cL κ j21) (fun x22 => (F_X1_puts N κ x22.2.2.2.2.2.2.1).bind (fun w25 => ck v1 10 (fun j34 => nn (cL w25 j34) (fun x35 => (F_X1_puts N w25 x35.2.2.2.2.2.2.2).bind (fun w38 => F_X1_points_L43 N (F_X1_points_L7 N n) fu11 w38 v1 0))))))
def F_X1_points (N : Nat) (κ : CSt) : Option (CSt) :=
  let κ2 := (csI κ 4 0); F_X1_points_L7 N fu11 κ2 0
def F_X1_order_b114 (N : Nat) (κ : CSt) (r6 : (Nat → Int32) → Fr → Int32 → Int32 → Int32 → Option (Int32 × (Nat → Int32))) (ρ : (Nat → Int32)) (v1 : Fr) (v3 : Int32) (v4 : Int32) (v5 : Int32) : Option (Int32 × (Nat → Int32)) :=
  let x114 := (v5 + 1); r6 ρ v1 v3 v4 x114
def F_X1_order_b105 (N : Nat) (κ : CSt) (r6 : (Nat → Int32) → Fr → Int32 → Int32 → Int32 → Option (Int32 × (Nat → Int32))) (ρ : (Nat → Int32)) (v1 : Fr) (v3 : Int32) (v4 : Int32) (v5 : Int32) (v7 : Int32) : Option (Int32 × (Nat → Int32)) :=
  ck v7 11 (fun j110 => let ρ110 := (upd ρ j110 v5); let x111 := (v4 + 1); F_X1_order_b114 N κ r6 ρ110 v1 v3 x111 v5)
def F_X1_order_L61 (N : Nat) (κ : CSt) (r6 : (Nat → Int32) → Fr → Int32 → Int32 → Int32 → Option (Int32 × (Nat → Int32))) : Nat → (Nat → Int32) → Fr → Int32 → Int32 → Int32 → Ln → Int32 → Option (Int32 × (Nat → Int32))
  | 0, _, _, _, _, _, _, _ => none
  | n + 1, ρ, v1, v3, v4, v5, v6, v7 =>
    if v7 ≤ 0 then F_X1_order_b105 N κ r6 ρ v1 v3 v4 v5 v7 else ck (v7 - 1) 11 (fun j77 => ck (ρ j77) 10 (fun j78 => nn (cL κ j78) (fun x79 => ckS x79.2 ((F_X1_isAhead N v6 x79.2 v1).bind (fun w83 => if w83 = 0 then F_X1_order_b105 N κ r6 ρ v1 v3 v4 v5 v7 else ck (v7 - 1) 11 (fun j97 => ck v7 11 (fun j98 => let ρ98 := (upd ρ j98 (ρ j97)); let x99 := (v7 + (-1)); (F_X1_order_L61 N κ r6 n) ρ98 v1 v3 v4 v5 v6 x99)))))))
def F_X1_order_L6 (N : Nat) (κ : CSt) : Nat → (Nat → Int32) → Fr → Int32 → Int32 → Int32 → Option (Int32 × (Nat → Int32))
  | 0, _, _, _, _, _ => none
  | n + 1, ρ, v1, v3, v4, v5 =>
    if (cI κ 1) ≤ v5 then some (v4, ρ) else if v5 = v3 then F_X1_order_b114 N κ (F_X1_order_L6 N κ n) ρ v1 v3 v4 v5 else ck v5 10 (fun j27 => nn (cL κ j27) (fun x32 => if x32.2.1 = 0 then F_X1_order_b114 N κ (F_X1_order_L6 N κ n) ρ v1 v3 v4 v5 else (F_X4_spans N x32.2 v1).bind (fun w48 => if w48 = 0 then F_X1_order_b114 N κ (F_X1_order_L6 N κ n) ρ v1 v3 v4 v5 else F_X1_order_L61 N κ (F_X1_order_L6 N κ n) N ρ v1 v3 v4 v5 x32.2 v4)))
def F_X1_order (N : Nat) (κ : CSt) (ρ : Nat → Int32) (a1 : Fr) (a3 : Int32) : Option (Int32 × (Nat → Int32)) :=
  F_X1_order_L6 N κ N ρ a1 a3 0 0
def F_X1_like_L10 (N : Nat) (κ2 : CSt) : Nat → CSt → Int32 → Option (CSt)
  | 0, _, _ => none
  | n + 1, κ, v2 =>
    if 10 ≤ v2 then let κ36 := (csI κ 2 1); some κ36 else ck v2 10 (fun j26 => ck v2 10 (fun j27 => let κ27 := (csL κ j27 (cL κ2 j26)); let x28 := (v2 + 1); (F_X1_like_L10 N κ2 n) κ27 x28))
def F_X1_like (N : Nat) (κ2 κ : CSt) : Option CSt :=
  let κ5 := (csI κ 1 (cI κ2 1)); F_X1_like_L10 N κ2 N κ5 0
def F_X1_each_b248 (N : Nat) (r2 : CSt → Int32 → Option (CSt)) (κ : CSt) (v2 : Int32) : Option (CSt) :=
  let x248 := (v2 + 1); r2 κ x248
def F_X1_each_b245 (N : Nat) (r2 : CSt → Int32 → Option (CSt)) (r51 : CSt → Int32 → Int32 → Int32 → Int32 → Int32 → Option (CSt)) (κ : CSt) (v2 : Int32) (v3 : Int32) (v4 : Int32) (v5 : Int32) (v6 : Int32) : Option (CSt) :=
  r51 κ v2 v3 v4 v5 v6
def F_X1_each_b237 (N : Nat) (r2 : CSt → Int32 → Option (CSt)) (r51 : CSt → Int32 → Int32 → Int32 → Int32 → Int32 → Option (CSt)) (κ : CSt) (v2 : Int32) (v3 : Int32) (v4 : Int32) (v5 : Int32) (v6 : Int32) (v11 : Int32) : Option (CSt) :=
  if v11 < 0 then F_X1_each_b245 N r2 r51 κ v2 v3 v4 v5 v6 else let x242 := (v6 + 1); F_X1_each_b245 N r2 r51 κ v2 v3 v4 v5 x242
def F_X1_each_b227 (N : Nat) (r2 : CSt → Int32 → Option (CSt)) (r51 : CSt → Int32 → Int32 → Int32 → Int32 → Int32 → Option (CSt)) (κ : CSt) (v2 : Int32) (v3 : Int32) (v4 : Int32) (v5 : Int32) (v6 : Int32) (t0 : Int32) : Option (CSt) :=
  if 0 < t0 then F_X1_each_b237 N r2 r51 κ v2 v3 v4 v5 v6 t0 else let x234 := (v5 + 1); F_X1_each_b237 N r2 r51 κ v2 v3 v4 x234 v6 t0
def F_X1_each_b202 (N : Nat) (r2 : CSt → Int32 → Option (CSt)) (r51 : CSt → Int32 → Int32 → Int32 → Int32 → Int32 → Option (CSt)) (κ : CSt) (v2 : Int32) (v3 : Int32) (v4 : Int32) (v5 : Int32) (v6 : Int32) (v7 : (Option Fr)) (v8 : (Option Fr)) : Option (CSt) :=
  if v7 = none then F_X1_each_b227 N r2 r51 κ v2 v3 v4 v5 v6 1 else if v8 = none then F_X1_each_b227 N r2 r51 κ v2 v3 v4 v5 v6 (-1) else nn v7 (fun x224r => nn v8 (fun x224a0 => (F_X7_compareTo N x224r x224a0).bind (fun w224 => F_X1_each_b227 N r2 r51 κ v2 v3 v4 v5 v6 w224)))
def F_X1_each_b148 (N : Nat) (r2 : CSt → Int32 → Option (CSt)) (r51 : CSt → Int32 → Int32 → Int32 → Int32 → Int32 → Option (CSt)) (κ : CSt) (v2 : Int32) (v3 : Int32) (v4 : Int32) (v5 : Int32) (v6 : Int32) (v7 : (Option Fr)) (v8 : (Option Fr)) (v9 : (Option Fr)) (v10 : (Option Fr)) : Option (CSt) :=
  ck v2 68 (fun j154 => ck (v2 + 1) 68 (fun j165 => ck v2 65 (fun j175 => nn (cF κ 8 j175) (fun x180a0 => (F_X1_isOpen N κ x180a0 v9 v10).bind (fun w180 => ck v2 65 (fun j189 => nn (cF κ 8 j189) (fun x194a0 => (F_X1_uprights N κ x194a0 v9 v10).bind (fun w194 => (F_X1_lambda_joins_0 N κ ((cA κ 14 j154) + v5) ((cA κ 14 j165) + v6) w180 w194).bind (fun w197 => F_X1_each_b202 N r2 r51 w197 v2 v3 v4 v5 v6 v7 v8)))))))))
def F_X1_each_L51 (N : Nat) (r2 : CSt → Int32 → Option (CSt)) : Nat → CSt → Int32 → Int32 → Int32 → Int32 → Int32 → Option (CSt)
  | 0, _, _, _, _, _, _ => none
  | n + 1, κ, v2, v3, v4, v5, v6 =>
    if v3 < v5 then F_X1_each_b248 N r2 κ v2 else if v4 < v6 then F_X1_each_b248 N r2 κ v2 else (F_X1_bound N κ 22 v3 v5).bind (fun w71 => (F_X1_bound N κ 23 v4 v6).bind (fun w84 => (F_X1_bound N κ 22 v3 (v5 - 1)).bind (fun w98 => (F_X1_bound N κ 23 v4 (v6 - 1)).bind (fun w111 => (F_X1_greater N w98 w111).bind (fun w114 => (F_X1_lesser N w71 w84).bind (fun w123 => if w114 = none then F_X1_each_b148 N r2 (F_X1_each_L51 N r2 n) κ v2 v3 v4 v5 v6 w71 w84 w114 w123 else if w123 = none then F_X1_each_b148 N r2 (F_X1_each_L51 N r2 n) κ v2 v3 v4 v5 v6 w71 w84 w114 w123 else nn w114 (fun x142r => nn w123 (fun x142a0 => (F_X7_isLess N x142r x142a0).bind (fun w142 => if w142 = 0 then F_X1_each_b202 N r2 (F_X1_each_L51 N r2 n) κ v2 v3 v4 v5 v6 w71 w84 else F_X1_each_b148 N r2 (F_X1_each_L51 N r2 n) κ v2 v3 v4 v5 v6 w71 w84 (some x142r) (some x142a0))))))))))
def F_X1_each_L2 (N : Nat) : Nat → CSt → Int32 → Option (CSt)
  | 0, _, _ => none
  | n + 1, κ, v2 =>
    if (cI κ 9) ≤ v2 then some κ else ck v2 65 (fun j21 => nn (cF κ 8 j21) (fun x22a2 => (F_X1_fills N 22 κ v2 x22a2).bind (fun w22 => let x25 := w22.1; ck v2 65 (fun j39 => nn (cF w22.2 8 j39) (fun x40a2 => (F_X1_fills N 23 w22.2 (v2 + 1) x40a2).bind (fun w40 => let x43 := w40.1; F_X1_each_L51 N (F_X1_each_L2 N n) N w40.2 v2 x25 x43 0 0))))))
def F_X1_each (N : Nat) (κ : CSt) : Option CSt :=
  F_X1_each_L2 N fu70 κ 0
def F_X1_joins_b113 (N : Nat) (r45 : CSt → Int32 → Option (CSt)) (κ : CSt) (v1 : Int32) : Option (CSt) :=
  let x113 := (v1 + 1); r45 κ x113
def F_X1_joins_L45 (N : Nat) : Nat → CSt → Int32 → Option (CSt)
  | 0, _, _ => none
  | n + 1, κ, v1 =>
    if (cI κ 10) ≤ v1 then some κ else ck v1 740 (fun j58 => if (cA κ 16 j58) = v1 then ck (cI κ 11) 740 (fun j72 => let κ72 := (csA κ 17 j72 v1); ck v1 740 (fun j82 => let κ82 := (csA κ72 16 j82 (cI κ72 11)); let κ90 := (csI κ82 11 ((cI κ82 11) + 1)); F_X1_joins_b113 N (F_X1_joins_L45 N n) κ90 v1)) else ck v1 740 (fun j110 => ck (cA κ 16 j110) 740 (fun j111 => ck v1 740 (fun j112 => let κ112 := (csA κ 16 j112 (cA κ 16 j111)); F_X1_joins_b113 N (F_X1_joins_L45 N n) κ112 v1))))
def F_X1_joins_L2 (N : Nat) : Nat → CSt → Int32 → Option (CSt)
  | 0, _, _ => none
  | n + 1, κ, v1 =>
    if (cI κ 10) ≤ v1 then let κ25 := (csI κ 21 0); (F_X1_each N κ25).bind (fun w35 => let κ40 := (csI w35 11 0); F_X1_joins_L45 N N κ40 0) else ck v1 740 (fun j16 => let κ16 := (csA κ 16 j16 v1); let x17 := (v1 + 1); (F_X1_joins_L2 N n) κ16 x17)
def F_X1_joins (N : Nat) (κ : CSt) : Option (CSt) :=
  F_X1_joins_L2 N N κ 0
def F_X1_told (N : Nat) (κ : CSt) : Option (CSt) :=
  if (cI κ 2) = 0 then some κ else let κ11 := (csI κ 2 0); (F_X1_points N κ11).bind (fun w15 => (F_X1_slices N w15).bind (fun w19 => (F_X1_joins N w19).bind (fun w23 => some w23)))
def F_J15_equals (a b : Int32) : Int32 := if a = b then 1 else 0
abbrev Th : Type := Option (Bool × Nat × (Nat → Int32))
abbrev FSt : Type := (Nat → CSt) × (Nat → Int32) × (Nat → Nat → Int32) × (Nat → Th)
def fC (σ : FSt) (c : Nat) : CSt := σ.1 c
def fI (σ : FSt) (k : Nat) : Int32 := σ.2.1 k
def fA (σ : FSt) (k j : Nat) : Int32 := σ.2.2.1 k j
def fT (σ : FSt) (k : Nat) : Th := σ.2.2.2 k
def fsC (σ : FSt) (c : Nat) (κ : CSt) : FSt := (va_up σ.1 c κ, σ.2)
def fsI (σ : FSt) (k : Nat) (v : Int32) : FSt := (σ.1, va_up σ.2.1 k v, σ.2.2)
def fsR (σ : FSt) (k : Nat) (f : Nat → Int32) : FSt := (σ.1, σ.2.1, va_up σ.2.2.1 k f, σ.2.2.2)
def fsA (σ : FSt) (k j : Nat) (v : Int32) : FSt := fsR σ k (upd (σ.2.2.1 k) j v)
def fsT (σ : FSt) (k : Nat) (t : Th) : FSt := (σ.1, σ.2.1, σ.2.2.1, va_up σ.2.2.2 k t)
def fu6 : Nat := 6
def fu42 : Nat := 42
def F_X0_isLine (N : Nat) (σ : FSt) (a1 : Int32) : Option (Int32) :=
  (F_X0_in N a1.toInt64 0 (((cI (fC σ 1) 1) - 1).toInt64)).bind (fun w13 => rb w13 (some w13))
def F_X0_isBorder_b106 (N : Nat) (σ : FSt) (r2 : Int32 → Int32 → Int32 → Option (Int32)) (v1 : Int32) (v2 : Int32) (v3 : Int32) : Option (Int32) :=
  let x106 := (v3 + 1); r2 v1 v2 x106
def F_X0_isBorder_b85 (N : Nat) (σ : FSt) (r2 : Int32 → Int32 → Int32 → Option (Int32)) (r29 : Int32 → Int32 → Int32 → Int32 → Int32 → Int32 → Option (Int32)) (v1 : Int32) (v2 : Int32) (v3 : Int32) (v4 : Int32) (v6 : Int32) (t0 : Int32) (t1 : Int32) : Option (Int32) :=
  let x86 := (t0 ||| t1); let x88 := (v6 + 1); r29 v1 v2 v3 v4 x86 x88
def F_X0_isBorder_b68 (N : Nat) (σ : FSt) (r2 : Int32 → Int32 → Int32 → Option (Int32)) (r29 : Int32 → Int32 → Int32 → Int32 → Int32 → Int32 → Option (Int32)) (v1 : Int32) (v2 : Int32) (v3 : Int32) (v5 : Int32) (v6 : Int32) (v7 : Int64) (t0 : Int32) (t1 : Int32) : Option (Int32) :=
  let x69 := (t0 ||| t1); if 0 ≤ v7 then F_X0_isBorder_b85 N σ r2 r29 v1 v2 v3 x69 v6 v5 0 else F_X0_isBorder_b85 N σ r2 r29 v1 v2 v3 x69 v6 v5 1
def F_X0_isBorder_L29 (N : Nat) (σ : FSt) (r2 : Int32 → Int32 → Int32 → Option (Int32)) : Nat → Int32 → Int32 → Int32 → Int32 → Int32 → Int32 → Option (Int32)
  | 0, _, _, _, _, _, _ => none
  | n + 1, v1, v2, v3, v4, v5, v6 =>
    if v1 ≤ v6 then if v4 = 0 then some 1 else if v5 = 0 then some 1 else F_X0_isBorder_b106 N σ r2 v1 v2 v3 else ck v3 20 (fun j41 => ck v6 20 (fun j48 => (F_X0_turn N v2 (fA σ 5 j41) (fA σ 5 j48)).bind (fun w49 => if w49 ≤ 0 then F_X0_isBorder_b68 N σ r2 (F_X0_isBorder_L29 N σ r2 n) v1 v2 v3 v5 v6 w49 v4 0 else F_X0_isBorder_b68 N σ r2 (F_X0_isBorder_L29 N σ r2 n) v1 v2 v3 v5 v6 w49 v4 1)))
def F_X0_isBorder_L2 (N : Nat) (σ : FSt) : Nat → Int32 → Int32 → Int32 → Option (Int32)
  | 0, _, _, _ => none
  | n + 1, v1, v2, v3 =>
    if v1 ≤ v3 then if v1 = 1 then some 1 else some 0 else ck v3 20 (fun j12 => if (fA σ 5 j12) = v2 then F_X0_isBorder_b106 N σ (F_X0_isBorder_L2 N σ n) v1 v2 v3 else F_X0_isBorder_L29 N σ (F_X0_isBorder_L2 N σ n) N v1 v2 v3 0 0 0)
def F_X0_isBorder (N : Nat) (σ : FSt) (a1 : Int32) (a2 : Int32) : Option (Int32) :=
  F_X0_isBorder_L2 N σ N a1 a2 0
def F_X0_cross_b81 (N : Nat) (σ : FSt) (v1 : Int32) (v2 : Int32) (v3 : Int32) : Option (Int32 × FSt) :=
  ck v1 10 (fun j89 => ck v2 10 (fun j98 => nn (cL (fC σ 1) j89) (fun x99a0 => nn (cL (fC σ 1) j98) (fun x99a1 => (F_X0_met N x99a0.2 x99a1.2).bind (fun w99 => (F_X0_partOf N w99 (v3 - 1)).bind (fun w105 => some (w105, σ)))))))
def F_X0_cross (N : Nat) (σ : FSt) (a1 : Int32) (a2 : Int32) (a3 : Int32) : Option (Int32 × FSt) :=
  (F_X0_isLine N σ a1).bind (fun w2 => if w2 = 0 then some ((-2), σ) else (F_X0_isLine N σ a2).bind (fun w10 => if w10 = 0 then some ((-2), σ) else if a1 = a2 then some ((-2), σ) else (F_X0_in N a3.toInt64 0 4).bind (fun w27 => if w27 = 0 then some ((-2), σ) else ck a1 10 (fun j44 => ck a2 10 (fun j53 => nn (cL (fC σ 1) j44) (fun x54a0 => nn (cL (fC σ 1) j53) (fun x54a1 => (F_X0_meets N x54a0.2 x54a1.2).bind (fun w54 => if a3 = 0 then some (w54, σ) else if w54 = 1 then F_X0_cross_b81 N σ a1 a2 a3 else if w54 = 2 then F_X0_cross_b81 N σ a1 a2 a3 else some ((-3), σ)))))))))
def F_X0_drop (N : Nat) (σ : FSt) (a1 : Int32) : Option (Int32 × FSt) :=
  (F_X0_isLine N σ a1).bind (fun w2 => if w2 = 0 then some ((-2), σ) else (F_X1_drops N (fC σ 1) a1).bind (fun w16 => let σ16 := (fsC σ 1 w16); some ((cI (fC σ16 1) 1), σ16)))
def F_X0_order (N : Nat) (σ : FSt) (a1 : Int32) (a2 : Int32) (a3 : Int32) : Option (Int32 × FSt) :=
  (F_X0_in N a1.toInt64 0 400).bind (fun w6 => if w6 = 0 then some ((-2), σ) else (F_X0_in N a2.toInt64 1 10).bind (fun w18 => if w18 = 0 then some ((-2), σ) else (F_X7_init N a1.toInt64 a2.toInt64).bind (fun w39 => (F_X1_order N (fC σ 1) (fA σ 6) w39 (-1)).bind (fun w47 => let σ47 := (fsR σ 6 w47.2); let x50 := w47.1; if a3 = (-1) then some (x50, σ47) else (F_X0_in N a3.toInt64 0 ((x50 - 1).toInt64)).bind (fun w70 => if w70 = 0 then some ((-12), σ47) else ck a3 11 (fun j81 => some ((fA σ47 6 j81), σ47)))))))
def F_X0_slab_b121 (N : Nat) (σ : FSt) (t0 : Int64) : Option (Int32 × FSt) :=
  some (t0.toInt32, σ)
def F_X0_slab (N : Nat) (σ : FSt) (a1 : Int32) (a2 : Int32) : Option (Int32 × FSt) :=
  (F_X0_in N a2.toInt64 0 3).bind (fun w6 => if w6 = 0 then some ((-2), σ) else (F_X1_told N (fC σ 1)).bind (fun w19 => let σ19 := (fsC σ 1 w19); (F_X1_slabs N (fC σ19 1)).bind (fun w30 => (F_X0_in N a1.toInt64 0 ((w30 - 1).toInt64)).bind (fun w36 => if w36 = 0 then some ((-12), σ19) else if a2 ≤ 1 then if a1 = 0 then some ((-3), σ19) else if a2 = 0 then ck (a1 - 1) 65 (fun j100 => nn (cF (fC σ19 1) 8 j100) (fun x101 => F_X0_slab_b121 N σ19 x101.1)) else ck (a1 - 1) 65 (fun j117 => nn (cF (fC σ19 1) 8 j117) (fun x118 => F_X0_slab_b121 N σ19 x118.2)) else if a2 = 2 then ck a1 67 (fun j63 => some (((cA (fC σ19 1) 13 j63) + 1), σ19)) else ck a1 68 (fun j77 => some ((cA (fC σ19 1) 14 j77), σ19))))))
def F_X0_cell (N : Nat) (σ : FSt) (a1 : Int32) (a2 : Int32) : Option (Int32 × FSt) :=
  (F_X0_in N a2.toInt64 0 3).bind (fun w6 => if w6 = 0 then some ((-2), σ) else (F_X1_told N (fC σ 1)).bind (fun w19 => let σ19 := (fsC σ 1 w19); (F_X0_in N a1.toInt64 0 (((cI (fC σ19 1) 10) - 1).toInt64)).bind (fun w36 => if w36 = 0 then some ((-12), σ19) else if 2 ≤ a2 then (F_X1_lineOf N (fC σ19 1) a1 (a2 - 2)).bind (fun w84 => if w84 = 0 then some ((-1), σ19) else (F_J15_numberOfTrailingZeros N w84).bind (fun w97 => some (w97, σ19))) else if a2 = 0 then ck a1 740 (fun j62 => some ((cA (fC σ19 1) 15 j62), σ19)) else ck a1 740 (fun j74 => some ((cA (fC σ19 1) 16 j74), σ19)))))
def F_X0_borders_b126 (N : Nat) (σ : FSt) (r61 : Int32 → Int32 → Int32 → Option (Int32)) (v1 : Int32) (v2 : Int32) (v3 : Int32) : Option (Int32) :=
  let x126 := (v3 + 1); r61 v1 v2 x126
def F_X0_borders_b114 (N : Nat) (σ : FSt) (r61 : Int32 → Int32 → Int32 → Option (Int32)) (v1 : Int32) (v2 : Int32) (v3 : Int32) : Option (Int32) :=
  ck v3 1480 (fun j123 => let x125 := (v2 ||| (cA (fC σ 1) 20 j123)); F_X0_borders_b126 N σ r61 v1 x125 v3)
def F_X0_borders_L61 (N : Nat) (σ : FSt) : Nat → Int32 → Int32 → Int32 → Option (Int32)
  | 0, _, _, _ => none
  | n + 1, v1, v2, v3 =>
    if (cI (fC σ 1) 21) ≤ v3 then some v2 else ck v3 1480 (fun j87 => ck (cA (fC σ 1) 18 j87) 740 (fun j88 => if (cA (fC σ 1) 16 j88) = v1 then F_X0_borders_b114 N σ (F_X0_borders_L61 N σ n) v1 v2 v3 else ck v3 1480 (fun j108 => ck (cA (fC σ 1) 19 j108) 740 (fun j109 => if (cA (fC σ 1) 16 j109) = v1 then F_X0_borders_b114 N σ (F_X0_borders_L61 N σ n) v1 v2 v3 else F_X0_borders_b126 N σ (F_X0_borders_L61 N σ n) v1 v2 v3))))
def F_X0_borders_b53 (N : Nat) (σ : FSt) (r4 : Int32 → Int32 → Int32 → Option (Int32)) (v1 : Int32) (v2 : Int32) (v3 : Int32) : Option (Int32) :=
  let x53 := (v3 + 1); r4 v1 v2 x53
def F_X0_borders_L4 (N : Nat) (σ : FSt) : Nat → Int32 → Int32 → Int32 → Option (Int32)
  | 0, _, _, _ => none
  | n + 1, v1, v2, v3 =>
    if (cI (fC σ 1) 10) ≤ v3 then F_X0_borders_L61 N σ N v1 v2 0 else ck v3 740 (fun j23 => if (cA (fC σ 1) 16 j23) = v1 then (F_X1_lineOf N (fC σ 1) v3 0).bind (fun w38 => (F_X1_lineOf N (fC σ 1) v3 1).bind (fun w47 => let x52 := (v2 ||| (w38 ||| w47)); F_X0_borders_b53 N σ (F_X0_borders_L4 N σ n) v1 x52 v3)) else F_X0_borders_b53 N σ (F_X0_borders_L4 N σ n) v1 v2 v3)
def F_X0_borders (N : Nat) (σ : FSt) (a1 : Int32) : Option (Int32) :=
  F_X0_borders_L4 N σ N a1 0 0
def F_X0_where (N : Nat) (σ : FSt) (a1 : Int32) (a2 : Int32) (a3 : Int32) : Option (Int32 × FSt) :=
  (F_X0_isPlace N a1 a2 a3).bind (fun w3 => if w3 = 0 then some ((-2), σ) else (F_X7_init N a1.toInt64 a3.toInt64).bind (fun w24 => (F_X7_init N a2.toInt64 a3.toInt64).bind (fun w35 => (F_X1_told N (fC σ 1)).bind (fun w47 => let σ47 := (fsC σ 1 w47); (F_X1_onOf N (fC σ47 1) (w24, w35)).bind (fun w57 => if w57 = 0 then (F_X1_cellAt N (fC σ47 1) (w24, w35)).bind (fun w80 => ck w80 740 (fun j83 => some ((cA (fC σ47 1) 16 j83), σ47))) else some ((-1), σ47))))))
def F_X0_on (N : Nat) (σ : FSt) (a1 : Int32) (a2 : Int32) (a3 : Int32) : Option (Int32 × FSt) :=
  (F_X0_isPlace N a1 a2 a3).bind (fun w3 => if w3 = 0 then some ((-2), σ) else (F_X7_init N a1.toInt64 a3.toInt64).bind (fun w25 => (F_X7_init N a2.toInt64 a3.toInt64).bind (fun w36 => (F_X1_onOf N (fC σ 1) (w25, w36)).bind (fun w42 => some (w42, σ)))))
def F_X0_twos_b53 (N : Nat) (σ : FSt) (r4 : Int32 → Int32 → Int32 → Option (Int32)) (r18 : Int32 → Int32 → Int32 → Int32 → Option (Int32)) (v1 : Int32) (v2 : Int32) (v3 : Int32) (v4 : Int32) : Option (Int32) :=
  let x53 := (v4 + 1); r18 v1 v2 v3 x53
def F_X0_twos_L18 (N : Nat) (σ : FSt) (r4 : Int32 → Int32 → Int32 → Option (Int32)) : Nat → Int32 → Int32 → Int32 → Int32 → Option (Int32)
  | 0, _, _, _, _ => none
  | n + 1, v1, v2, v3, v4 =>
    if v3 ≤ v4 then let x59 := (v3 + 1); r4 v1 v2 x59 else ck v4 10 (fun j33 => ck v3 10 (fun j42 => nn (cL (fC σ 1) j33) (fun x43a0 => nn (cL (fC σ 1) j42) (fun x43a1 => (F_X0_meets N x43a0.2 x43a1.2).bind (fun w43 => if w43 = v1 then let x50 := (v2 + 1); F_X0_twos_b53 N σ r4 (F_X0_twos_L18 N σ r4 n) v1 x50 v3 v4 else F_X0_twos_b53 N σ r4 (F_X0_twos_L18 N σ r4 n) v1 v2 v3 v4)))))
def F_X0_twos_L4 (N : Nat) (σ : FSt) : Nat → Int32 → Int32 → Int32 → Option (Int32)
  | 0, _, _, _ => none
  | n + 1, v1, v2, v3 =>
    if (cI (fC σ 1) 1) ≤ v3 then some v2 else F_X0_twos_L18 N σ (F_X0_twos_L4 N σ n) N v1 v2 v3 0
def F_X0_twos (N : Nat) (σ : FSt) (a1 : Int32) : Option (Int32) :=
  F_X0_twos_L4 N σ N a1 0 0
def F_X0_image (N : Nat) (σ : FSt) : Option (Int32 × FSt) :=
  (F_X1_like N (fC σ 1) (fC σ 3)).bind (fun w8 => let σ8 := (fsC σ 3 w8); let σ14 := (fsI σ8 3 1); some ((cI (fC σ14 1) 1), σ14))
def F_X0_back (N : Nat) (σ : FSt) : Option (Int32 × FSt) :=
  if (fI σ 3) = 0 then some ((-3), σ) else (F_X1_like N (fC σ 3) (fC σ 1)).bind (fun w18 => let σ18 := (fsC σ 1 w18); some ((cI (fC σ18 1) 1), σ18))
def F_X0_lambda_without_0 (N : Nat) (κ : CSt) (a0 : Int32) : Option CSt :=
  (F_X1_drops N κ a0).bind (fun w2 => some w2)
def F_X0_lambda_most_1 (N : Nat) (κ : CSt) (a0 : Int32) : Option CSt :=
  (F_X1_drops N κ a0).bind (fun w2 => some w2)
def F_X0_lambda_drawnBy_2_b125 (N : Nat) (r10 : CSt → Int32 → Int32 → (Nat → Int32) → Int32 → Option (CSt)) (κ : CSt) (v1 : Int32) (v3 : Int32) (ρ : (Nat → Int32)) (v5 : Int32) : Option (CSt) :=
  let x125 := (v5 + 1); r10 κ v1 v3 ρ x125
def F_X0_lambda_drawnBy_2_b75 (N : Nat) (r10 : CSt → Int32 → Int32 → (Nat → Int32) → Int32 → Option (CSt)) (κ : CSt) (v1 : Int32) (v3 : Int32) (ρ : (Nat → Int32)) (v5 : Int32) : Option (CSt) :=
  if (cI κ 1) = 10 then F_X0_lambda_drawnBy_2_b125 N r10 κ v1 v3 ρ v5 else ck 0 4 (fun j98 => ck 1 4 (fun j102 => ck 2 4 (fun j106 => ck 3 4 (fun j110 => (F_X0_made N (ρ j98) (ρ j102) (ρ j106) (ρ j110)).bind (fun w111 => ck (cI κ 1) 10 (fun j114 => let κ114 := (csL κ j114 (some (0, w111))); let κ122 := (csI κ114 1 ((cI κ114 1) + 1)); F_X0_lambda_drawnBy_2_b125 N r10 κ122 v1 v3 ρ v5))))))
def F_X0_lambda_drawnBy_2_L19 (N : Nat) (r10 : CSt → Int32 → Int32 → (Nat → Int32) → Int32 → Option (CSt)) : Nat → CSt → Int32 → Int32 → (Nat → Int32) → Int32 → Int32 → Option (CSt)
  | 0, _, _, _, _, _, _ => none
  | n + 1, κ, v1, v3, ρ, v5, v6 =>
    if 4 ≤ v6 then ck 0 4 (fun j56 => ck 2 4 (fun j60 => if (ρ j56) = (ρ j60) then ck 1 4 (fun j67 => ck 3 4 (fun j71 => if (ρ j67) = (ρ j71) then F_X0_lambda_drawnBy_2_b125 N r10 κ v1 v3 ρ v5 else F_X0_lambda_drawnBy_2_b75 N r10 κ v1 v3 ρ v5)) else F_X0_lambda_drawnBy_2_b75 N r10 κ v1 v3 ρ v5)) else let x34 := ((v3 * 1103515245) + 12345); dzi 41 (ck v6 4 (fun j46 => let ρ46 := (upd ρ j46 ((((x34).toUInt32 >>> ((9 : Int32).toUInt32 &&& Int32.toUInt32 31)).toInt32) - (((x34).toUInt32 >>> ((9 : Int32).toUInt32 &&& Int32.toUInt32 31)).toInt32) / 41 * 41)); let x47 := (v6 + 1); (F_X0_lambda_drawnBy_2_L19 N r10 n) κ v1 x34 ρ46 v5 x47))
def F_X0_lambda_drawnBy_2_L10 (N : Nat) : Nat → CSt → Int32 → Int32 → (Nat → Int32) → Int32 → Option (CSt)
  | 0, _, _, _, _, _ => none
  | n + 1, κ, v1, v3, ρ, v5 =>
    if v1 ≤ v5 then some κ else F_X0_lambda_drawnBy_2_L19 N (F_X0_lambda_drawnBy_2_L10 N n) N κ v1 v3 ρ v5 0
def F_X0_lambda_drawnBy_2 (N : Nat) (κ : CSt) (a0 : Int32) (a1 : Int32) : Option CSt :=
  F_X0_lambda_drawnBy_2_L10 N fu6 κ a1 a0 (fun _ => 0) 0
def F_X0_faces_B (N : Nat) (k0 : Int32) (σ : FSt) : Option (Int32 × FSt) :=
  (F_X1_like N (fC σ 1) (fC σ 2)).bind (fun w8 => let σ8 := (fsC σ 2 w8); (F_X0_lambda_without_0 N (fC σ8 2) k0).bind (fun w17 => let σ17 := (fsC σ8 2 w17); (F_X1_points N (fC σ17 2)).bind (fun w26 => let σ26 := (fsC σ17 2 w26); some (((((cI (fC σ26 2) 5) - (cI (fC σ26 2) 4)) + (cI (fC σ26 2) 6)) + 1), σ26))))
def F_X0_faces_C (N : Nat) (k0 : Int32) (σ : FSt) : Option (Int32 × FSt) :=
  (F_X1_like N (fC σ 1) (fC σ 2)).bind (fun w8 => let σ8 := (fsC σ 2 w8); (F_X0_lambda_most_1 N (fC σ8 2) k0).bind (fun w17 => let σ17 := (fsC σ8 2 w17); (F_X1_points N (fC σ17 2)).bind (fun w26 => let σ26 := (fsC σ17 2 w26); some (((((cI (fC σ26 2) 5) - (cI (fC σ26 2) 4)) + (cI (fC σ26 2) 6)) + 1), σ26))))
def F_X0_faces_D (N : Nat) (k0 : Int32) (k1 : Int32) (σ : FSt) : Option (Int32 × FSt) :=
  (F_X1_like N (fC σ 1) (fC σ 2)).bind (fun w8 => let σ8 := (fsC σ 2 w8); (F_X0_lambda_drawnBy_2 N (fC σ8 2) k0 k1).bind (fun w17 => let σ17 := (fsC σ8 2 w17); (F_X1_points N (fC σ17 2)).bind (fun w26 => let σ26 := (fsC σ17 2 w26); some (((((cI (fC σ26 2) 5) - (cI (fC σ26 2) 4)) + (cI (fC σ26 2) 6)) + 1), σ26))))
def F_X0_without (N : Nat) (σ : FSt) (a1 : Int32) : Option (Int32 × FSt) :=
  (F_X0_isLine N σ a1).bind (fun w2 => if w2 = 0 then some ((-2), σ) else (F_X0_faces_B N a1 σ).bind (fun w15 => some (w15.1, w15.2)))
def F_X0_most_b69 (N : Nat) (r20 : FSt → Int32 → Int32 → Int32 → Int32 → Option (Int32 × FSt)) (σ : FSt) (v1 : Int32) (v2 : Int32) (v3 : Int32) (v4 : Int32) : Option (Int32 × FSt) :=
  let x69 := (v4 + 1); r20 σ v1 v2 v3 x69
def F_X0_most_b63 (N : Nat) (r20 : FSt → Int32 → Int32 → Int32 → Int32 → Option (Int32 × FSt)) (σ : FSt) (v1 : Int32) (v4 : Int32) (v6 : Int32) : Option (Int32 × FSt) :=
  F_X0_most_b69 N r20 σ v1 v4 v6 v4
def F_X0_most_L20 (N : Nat) : Nat → FSt → Int32 → Int32 → Int32 → Int32 → Option (Int32 × FSt)
  | 0, _, _, _, _, _ => none
  | n + 1, σ, v1, v2, v3, v4 =>
    if (cI (fC σ 1) 1) ≤ v4 then if v1 = 0 then some (v2, σ) else some (v3, σ) else (F_X0_faces_C N v4 σ).bind (fun w44 => let x47 := w44.1; if v2 = (-1) then F_X0_most_b63 N (F_X0_most_L20 N n) w44.2 v1 v4 x47 else if x47 < v3 then F_X0_most_b63 N (F_X0_most_L20 N n) w44.2 v1 v4 x47 else F_X0_most_b69 N (F_X0_most_L20 N n) w44.2 v1 v2 v3 v4)
def F_X0_most (N : Nat) (σ : FSt) (a1 : Int32) : Option (Int32 × FSt) :=
  (F_X0_in N a1.toInt64 0 1).bind (fun w4 => if w4 = 0 then some ((-2), σ) else F_X0_most_L20 N fu11 σ a1 (-1) (-1) 0)
def F_X0_drawnBy (N : Nat) (σ : FSt) (a1 : Int32) (a2 : Int32) : Option (Int32 × FSt) :=
  (F_X0_faces_D N a1 a2 σ).bind (fun w8 => some (w8.1, w8.2))
def F_X0_drawn (N : Nat) (σ : FSt) (a1 : Int32) (a2 : Int32) : Option (Int32 × FSt) :=
  (F_X0_in N a2.toInt64 0 5).bind (fun w6 => if w6 = 0 then some ((-2), σ) else (F_X0_drawnBy N σ a1 a2).bind (fun w15 => some (w15.1, w15.2)))
def F_X0_chance_b111 (N : Nat) (σ : FSt) (t0 : Int64) : Option (Int32 × FSt) :=
  some (t0.toInt32, σ)
def F_X0_chance_b70 (N : Nat) (r44 : FSt → Int32 → Int32 → Int32 → Int32 → Int32 → Int32 → Option (Int32 × FSt)) (σ : FSt) (v1 : Int32) (v2 : Int32) (v3 : Int32) (v4 : Int32) (v6 : Int32) (t0 : Int32) (t1 : Int32) : Option (Int32 × FSt) :=
  let x71 := (t0 + t1); let x73 := (v6 + 1); r44 σ v1 v2 v3 v4 x71 x73
def F_X0_chance_L44 (N : Nat) : Nat → FSt → Int32 → Int32 → Int32 → Int32 → Int32 → Int32 → Option (Int32 × FSt)
  | 0, _, _, _, _, _, _, _ => none
  | n + 1, σ, v1, v2, v3, v4, v5, v6 =>
    if v2 ≤ v6 then (F_X7_init N v5.toInt64 v2.toInt64).bind (fun w88 => if v4 = 0 then F_X0_chance_b111 N σ w88.1 else F_X0_chance_b111 N σ w88.2) else (F_X0_drawnBy N σ (v1 + v6) 3).bind (fun w58 => if w58.1 < v3 then F_X0_chance_b70 N (F_X0_chance_L44 N n) w58.2 v1 v2 v3 v4 v6 v5 0 else F_X0_chance_b70 N (F_X0_chance_L44 N n) w58.2 v1 v2 v3 v4 v6 v5 1)
def F_X0_chance (N : Nat) (σ : FSt) (a1 : Int32) (a2 : Int32) (a3 : Int32) (a4 : Int32) : Option (Int32 × FSt) :=
  (F_X0_in N a2.toInt64 1 5).bind (fun w6 => if w6 = 0 then some ((-2), σ) else (F_X0_in N a3.toInt64 0 99).bind (fun w18 => if w18 = 0 then some ((-2), σ) else (F_X0_in N a4.toInt64 0 1).bind (fun w29 => if w29 = 0 then some ((-2), σ) else F_X0_chance_L44 N fu6 σ a1 a2 a3 a4 0 0)))
def ckI {α : Type} (x : Bool × Nat × (Nat → Int32)) (b : Bool) (k : Option α) : Option α := if x.1 = b then k else none
def F_X2_size (N : Nat) (k0 : Nat) (σ : FSt) : Option (Int32) :=
  nn (fT σ k0) (fun x6 => if x6.1 = true then nn (fT σ k0) (fun x26 => ckI x26 true (some (nI x26.2.1))) else some (nI x6.2.1))
def F_X2_tells (N : Nat) (k0 : Nat) (σ : FSt) (a1 : Int32) : Option (Int32) :=
  nn (fT σ k0) (fun x6 => if x6.1 = true then nn (fT σ k0) (fun x27 => ckI x27 true (ck a1 x27.2.1 (fun j31 => some (x27.2.2 j31)))) else ck a1 x6.2.1 (fun j19 => some (x6.2.2 j19)))
def F_X2_puts (N : Nat) (k0 : Nat) (σ : FSt) (a1 : Int32) (a2 : Int32) : Option (FSt) :=
  nn (fT σ k0) (fun x8 => if x8.1 = true then nn (fT σ k0) (fun x32 => ckI x32 true (ck a1 x32.2.1 (fun j37 => let σ37 := (fsT σ k0 (some (x32.1, x32.2.1, upd x32.2.2 j37 a2))); some σ37))) else ck a1 x8.2.1 (fun j24 => let σ24 := (fsT σ k0 (some (x8.1, x8.2.1, upd x8.2.2 j24 (vp_nar .byte a2.toInt8.toInt32)))); some σ24))
def F_X0_first_b56 (N : Nat) (s1 : Nat) (σ : FSt) (v4 : Int32) (v5 : Int32) : Option (Int32 × FSt) :=
  if v5 = v4 then (F_X2_size N s1 σ).bind (fun w66 => if v5 = w66 then some ((-1), σ) else some (v5, σ)) else some (v5, σ)
def F_X0_first_L18 (N : Nat) (s1 : Nat) : Nat → FSt → Int32 → Int32 → Option (Int32 × FSt)
  | 0, _, _, _ => none
  | n + 1, σ, v4, v5 =>
    if v4 ≤ v5 then F_X0_first_b56 N s1 σ v4 v5 else (F_X2_size N s1 σ).bind (fun w28 => if w28 ≤ v5 then F_X0_first_b56 N s1 σ v4 v5 else ck v5 11 (fun j40 => (F_X2_tells N s1 σ v5).bind (fun w44 => if (fA σ 6 j40) = w44 then let x50 := (v5 + 1); (F_X0_first_L18 N s1 n) σ v4 x50 else F_X0_first_b56 N s1 σ v4 v5)))
def F_X0_first (N : Nat) (s1 : Nat) (σ : FSt) (a2 : Fr) (a3 : Int32) : Option (Int32 × FSt) :=
  (F_X1_order N (fC σ 1) (fA σ 6) a2 a3).bind (fun w10 => let σ10 := (fsR σ 6 w10.2); let x13 := w10.1; F_X0_first_L18 N s1 N σ10 x13 0)
def F_X0_film_L50 (N : Nat) : Nat → FSt → Int32 → Nat → (Nat → Int32) → Int32 → Option (Int32 × FSt)
  | 0, _, _, _, _, _ => none
  | n + 1, σ, v1, nn, ff, v4 =>
    if (nI nn) ≤ v4 then ck v1 4 (fun j80 => let σ82 := (fsT σ j80 (some (false, nn, ff))); some ((nI nn), σ82)) else ck v4 11 (fun j66 => ck v4 nn (fun j68 => let f68 := (upd ff j68 (vp_nar .byte ((fA σ 6 j66).toInt8.toInt32))); let x69 := (v4 + 1); (F_X0_film_L50 N n) σ v1 nn f68 x69))
def F_X0_film (N : Nat) (σ : FSt) (a1 : Int32) (a2 : Int32) : Option (Int32 × FSt) :=
  (F_X0_isSheet N a1).bind (fun w1 => if w1 = 0 then some ((-2), σ) else (F_X0_in N a2.toInt64 0 40).bind (fun w13 => if w13 = 0 then some ((-2), σ) else (F_X7_init N a2.toInt64 1).bind (fun w33 => (F_X1_order N (fC σ 1) (fA σ 6) w33 (-1)).bind (fun w41 => let σ41 := (fsR σ 6 w41.2); ck w41.1 12 (fun n44 => F_X0_film_L50 N N σ41 a1 n44 (fun _ => 0) 0)))))
def F_X0_tells_b202 (N : Nat) (r165 : FSt → Int32 → Nat → Int32 → Int32 → Int32 → Option (Int32 × FSt)) (σ : FSt) (v3 : Int32) (v4 : Nat) (v6 : Int32) (v7 : Int32) (v8 : Int32) : Option (Int32 × FSt) :=
  let x202 := (v8 + (-1)); r165 σ v3 v4 v6 v7 x202
def F_X0_tells_L165 (N : Nat) : Nat → FSt → Int32 → Nat → Int32 → Int32 → Int32 → Option (Int32 × FSt)
  | 0, _, _, _, _, _, _ => none
  | n + 1, σ, v3, v4, v6, v7, v8 =>
    if v8 < 0 then if v3 = 1 then some (v6, σ) else some (v7, σ) else (F_X7_init N v8.toInt64 1).bind (fun w181 => (F_X0_first N v4 σ w181 (-1)).bind (fun w185 => if w185.1 = (-1) then let x195 := (v6 + 1); F_X0_tells_b202 N (F_X0_tells_L165 N n) w185.2 v3 v4 x195 v8 v8 else F_X0_tells_b202 N (F_X0_tells_L165 N n) w185.2 v3 v4 v6 v7 v8))
def F_X0_tells_b152 (N : Nat) (r109 : FSt → Int32 → Nat → Int32 → Int32 → Option (Int32 × FSt)) (σ : FSt) (v2 : Int32) (v4 : Nat) (v5 : Int32) (v8 : Int32) : Option (Int32 × FSt) :=
  let x152 := (v8 + 1); r109 σ v2 v4 v5 x152
def F_X0_tells_L109 (N : Nat) : Nat → FSt → Int32 → Nat → Int32 → Int32 → Option (Int32 × FSt)
  | 0, _, _, _, _, _ => none
  | n + 1, σ, v2, v4, v5, v8 =>
    if (cI (fC σ 1) 1) ≤ v8 then some (v5, σ) else (F_X7_init N v2.toInt64 1).bind (fun w131 => (F_X0_first N v4 σ w131 v8).bind (fun w136 => if w136.1 = (-1) then let x150 := (v5 ||| (1 <<< (v8 &&& 31))); F_X0_tells_b152 N (F_X0_tells_L109 N n) w136.2 v2 v4 x150 v8 else F_X0_tells_b152 N (F_X0_tells_L109 N n) w136.2 v2 v4 v5 v8))
def F_X0_tells (N : Nat) (σ : FSt) (a1 : Int32) (a2 : Int32) (a3 : Int32) : Option (Int32 × FSt) :=
  (F_X0_isSheet N a1).bind (fun w1 => if w1 = 0 then some ((-2), σ) else (F_X0_in N a2.toInt64 0 40).bind (fun w13 => if w13 = 0 then some ((-2), σ) else (F_X0_in N a3.toInt64 0 3).bind (fun w25 => if w25 = 0 then some ((-2), σ) else ck a1 4 (fun j39 => if (fT σ j39) = none then some ((-11), σ) else ck a1 4 (fun j54 => (F_X2_size N j54 σ).bind (fun w59 => if w59 ≤ 10 then if a3 = 0 then (F_X7_init N a2.toInt64 1).bind (fun w84 => (F_X0_first N j54 σ w84 (-1)).bind (fun w88 => some (w88.1, w88.2))) else if a3 = 3 then F_X0_tells_L109 N fu42 σ a2 j54 0 0 else F_X0_tells_L165 N fu42 σ a3 j54 0 (-1) 40 else some ((-2), σ)))))))
def F_X0_areOnSheet_L7 (N : Nat) (rl : Nat) (ρ : Nat → Int32) : Nat → Int32 → Int32 → Option (Int32)
  | 0, _, _ => none
  | n + 1, v2, v3 =>
    if v2 ≤ v3 then some 1 else ck v3 rl (fun j14 => let x15 := (ρ j14); (F_X0_in N x15.toInt64 0 40).bind (fun w24 => if w24 = 0 then some 0 else let x32 := (v3 + 1); (F_X0_areOnSheet_L7 N rl ρ n) v2 x32))
def F_X0_areOnSheet (N : Nat) (rl : Nat) (ρ : Nat → Int32) : Option Int32 :=
  let x4 := (nI rl); F_X0_areOnSheet_L7 N rl ρ N x4 0
def F_X0_line_b40 (N : Nat) (σ : FSt) (v1 : Int32) (v2 : Int32) (v3 : Int32) (v4 : Int32) : Option (Int32 × FSt) :=
  if (cI (fC σ 1) 1) = 10 then some ((-4), σ) else (F_X0_made N v1 v2 v3 v4).bind (fun w74 => ck (cI (fC σ 1) 1) 10 (fun j77 => let σ77 := (fsC σ 1 (csL (fC σ 1) j77 (some (0, w74)))); let σ88 := (fsC σ77 1 (csI (fC σ77 1) 1 ((cI (fC σ77 1) 1) + 1))); let σ96 := (fsC σ88 1 (csI (fC σ88 1) 2 1)); some (((cI (fC σ96 1) 1) - 1), σ96)))
def F_X0_line (N : Nat) (σ : FSt) (a1 : Int32) (a2 : Int32) (a3 : Int32) (a4 : Int32) : Option (Int32 × FSt) :=
  ck 0 4 (fun j6 => let f6 := (upd (fun _ => 0) j6 a1); ck 1 4 (fun j10 => let f10 := (upd f6 j10 a2); ck 2 4 (fun j14 => let f14 := (upd f10 j14 a3); ck 3 4 (fun j19 => let f19 := (upd f14 j19 a4); (F_X0_areOnSheet N 4 f19).bind (fun w20 => if w20 = 0 then some ((-2), σ) else if a1 = a3 then if a2 = a4 then some ((-2), σ) else F_X0_line_b40 N σ a1 a2 a3 a4 else F_X0_line_b40 N σ a1 a2 a3 a4)))))
def F_X0_move_b104 (N : Nat) (σ : FSt) (v1 : Int32) (v3 : Int32) (v4 : Int32) (v6 : Int32) (v7 : Int32) : Option (Int32 × FSt) :=
  (F_X0_made N v3 v4 v6 v7).bind (fun w119 => ck v1 10 (fun j122 => let σ122 := (fsC σ 1 (csL (fC σ 1) j122 (some (0, w119)))); let σ128 := (fsC σ122 1 (csI (fC σ122 1) 2 1)); some (1, σ128)))
def F_X0_move_b86 (N : Nat) (σ : FSt) (v1 : Int32) (v3 : Int32) (v4 : Int32) (v6 : Int32) (t0 : Int32) : Option (Int32 × FSt) :=
  if v6 = v3 then if t0 = v4 then some ((-2), σ) else F_X0_move_b104 N σ v1 v3 v4 v6 t0 else F_X0_move_b104 N σ v1 v3 v4 v6 t0
def F_X0_move_b67 (N : Nat) (σ : FSt) (v1 : Int32) (v2 : Int32) (v3 : Int32) (v4 : Int32) (v5 : Ln) (t0 : Int32) : Option (Int32 × FSt) :=
  if v2 = 0 then F_X0_move_b86 N σ v1 v3 v4 t0 v5.2.2.2.2.1 else F_X0_move_b86 N σ v1 v3 v4 t0 v5.2.2.1
def F_X0_move (N : Nat) (σ : FSt) (a1 : Int32) (a2 : Int32) (a3 : Int32) (a4 : Int32) : Option (Int32 × FSt) :=
  (F_X0_isLine N σ a1).bind (fun w2 => if w2 = 0 then some ((-2), σ) else (F_X0_in N a2.toInt64 0 1).bind (fun w12 => if w12 = 0 then some ((-2), σ) else ck 0 2 (fun j24 => let f24 := (upd (fun _ => 0) j24 a3); ck 1 2 (fun j29 => let f29 := (upd f24 j29 a4); (F_X0_areOnSheet N 2 f29).bind (fun w30 => if w30 = 0 then some ((-2), σ) else ck a1 10 (fun j47 => if a2 = 0 then nn (cL (fC σ 1) j47) (fun x56 => F_X0_move_b67 N σ a1 a2 a3 a4 x56.2 x56.2.2.2.2.1) else nn (cL (fC σ 1) j47) (fun x64 => F_X0_move_b67 N σ a1 a2 a3 a4 x64.2 x64.2.2.1)))))))
def is12 {α : Type} (x : Option Nat) (k : Option α) : Option α := if x = some 12 then k else none
def F_X0_next_b27 (N : Nat) (σ : FSt) (β : BSt) (v2 : Int32) (v3 : Int32) (v4 : Int32) : Option (BSt) :=
  ck v4 740 (fun j36 => if (cA (fC σ 1) 16 j36) = v2 then ck v3 740 (fun j50 => (F_J1_set N 12 β (cA (fC σ 1) 16 j50)).bind (fun w51 => some w51)) else some β)
def F_X0_next (N : Nat) (σ : FSt) (β : BSt) (a2 : Int32) (a3 : Int32) (a4 : Int32) : Option (BSt) :=
  ck a3 740 (fun j8 => if (cA (fC σ 1) 16 j8) = a2 then ck a4 740 (fun j23 => (F_J1_set N 12 β (cA (fC σ 1) 16 j23)).bind (fun w24 => F_X0_next_b27 N σ w24 a2 a3 a4)) else F_X0_next_b27 N σ β a2 a3 a4)
def F_X0_nextTo_L67 (N : Nat) (σ : FSt) : Nat → Int32 → BSt → Int32 → Option (BSt)
  | 0, _, _, _ => none
  | n + 1, v1, β, v3 =>
    if (cI (fC σ 1) 21) ≤ v3 then (F_J1_clear N 12 β v1).bind (fun w110 => some w110) else ck v3 1480 (fun j89 => ck v3 1480 (fun j98 => (F_X0_next N σ β v1 (cA (fC σ 1) 18 j89) (cA (fC σ 1) 19 j98)).bind (fun w99 => let x102 := (v3 + 1); (F_X0_nextTo_L67 N σ n) v1 w99 x102)))
def F_X0_nextTo_b59 (N : Nat) (σ : FSt) (r13 : Int32 → BSt → Int32 → Option (BSt)) (v1 : Int32) (β : BSt) (v3 : Int32) : Option (BSt) :=
  let x59 := (v3 + 1); r13 v1 β x59
def F_X0_nextTo_L13 (N : Nat) (σ : FSt) : Nat → Int32 → BSt → Int32 → Option (BSt)
  | 0, _, _, _ => none
  | n + 1, v1, β, v3 =>
    if (cI (fC σ 1) 10) ≤ (v3 + 1) then F_X0_nextTo_L67 N σ N v1 β 0 else ck v3 740 (fun j34 => ck (v3 + 1) 740 (fun j45 => if (cA (fC σ 1) 15 j34) = (cA (fC σ 1) 15 j45) then (F_X0_next N σ β v1 v3 (v3 + 1)).bind (fun w56 => F_X0_nextTo_b59 N σ (F_X0_nextTo_L13 N σ n) v1 w56 v3) else F_X0_nextTo_b59 N σ (F_X0_nextTo_L13 N σ n) v1 β v3))
def F_X0_nextTo (N : Nat) (σ : FSt) (a1 : Int32) : Option (BSt) :=
  is12 (F_J1_init N 740) (F_X0_nextTo_L13 N σ N a1 ((0, fun _ => 0) : BSt) 0)
def F_X0_face_b120 (N : Nat) (r91 : FSt → Int32 → Int32 → Int32 → Option (Int32 × FSt)) (σ : FSt) (v1 : Int32) (v3 : Int32) (v4 : Int32) : Option (Int32 × FSt) :=
  let x120 := (v4 + 1); r91 σ v1 v3 x120
def F_X0_face_L91 (N : Nat) : Nat → FSt → Int32 → Int32 → Int32 → Option (Int32 × FSt)
  | 0, _, _, _, _ => none
  | n + 1, σ, v1, v3, v4 =>
    if (cI (fC σ 1) 10) ≤ v4 then some (v3, σ) else ck v4 740 (fun j112 => if (cA (fC σ 1) 16 j112) = v1 then let x117 := (v3 + 1); F_X0_face_b120 N (F_X0_face_L91 N n) σ v1 x117 v4 else F_X0_face_b120 N (F_X0_face_L91 N n) σ v1 v3 v4)
def F_X0_face (N : Nat) (σ : FSt) (a1 : Int32) (a2 : Int32) : Option (Int32 × FSt) :=
  (F_X0_in N a2.toInt64 0 4).bind (fun w6 => if w6 = 0 then some ((-2), σ) else (F_X1_told N (fC σ 1)).bind (fun w19 => let σ19 := (fsC σ 1 w19); (F_X0_in N a1.toInt64 0 (((cI (fC σ19 1) 11) - 1).toInt64)).bind (fun w36 => if w36 = 0 then some ((-12), σ19) else if a2 = 0 then ck a1 740 (fun j84 => some ((cA (fC σ19 1) 17 j84), σ19)) else if a2 = 1 then F_X0_face_L91 N N σ19 a1 0 0 else if a2 = 2 then (F_X0_borders N σ19 a1).bind (fun w130 => some (w130, σ19)) else if a2 = 3 then (F_X0_nextTo N σ19 a1).bind (fun w136 => (F_J1_cardinality N 12 w136).bind (fun w139 => some (w139, σ19))) else ck 0 740 (fun j151 => if (cA (fC σ19 1) 16 j151) = a1 then some (1, σ19) else some (0, σ19)))))
def gfR {α : Type} (M : GT) (a ci k : Nat) (f : Option Nat → Option α) : Option α := match M a with
  | some (c, fs) => if c = ci then (match fs[k]? with
    | some (.ref b) => f (some b)
    | some .null => f none
    | _ => none) else none
  | none => none
def gfI {α : Type} (M : GT) (a ci k : Nat) (f : Int32 → Option α) : Option α := match M a with
  | some (c, fs) => if c = ci then (match fs[k]? with
    | some (.int b) => f b
    | _ => none) else none
  | none => none
def pf {α : Type} (M : GT) (a ci k : Nat) (v : Value) (f : GT → Option α) : Option α := match M a with
  | some (c, fs) => if c = ci ∧ k < fs.length then f (va_up M a (some (ci, fs.set k v))) else none
  | none => none
def isC {α : Type} (M : GT) (a ci : Nat) (k : Option α) : Option α := match M a with
  | some (c, _) => if c = ci then k else none
  | none => none
def F_J18_init (N : Nat) (M : GT) (a0 : Nat) : Option (Unit) :=
  some ()
def F_J19_init (N : Nat) (M : GT) (a0 : Nat) : Option (GT) :=
  (F_J18_init N M a0).bind (fun w1 => pf M a0 10 0 (.int 0) (fun M6 => some M6))
def F_J20_init (N : Nat) (M : GT) (a0 : Nat) : Option (GT) :=
  (F_J19_init N M a0).bind (fun w1 => some w1)
def F_J21_init (N : Nat) (M : GT) (a0 : Nat) : Option (GT) :=
  (F_J20_init N M a0).bind (fun w1 => pf w1 a0 10 1 (.int 0) (fun M6 => some M6))
def F_J31_init (N : Nat) (M : GT) (a0 : Nat) (a1 : Option Nat) (a2 : Option Nat) (a3 : Option Nat) : Option (GT) :=
  pf M a0 11 0 (va_rf a2) (fun M6 => pf M6 a0 11 1 (va_rf a3) (fun M11 => pf M11 a0 11 2 (va_rf a1) (fun M16 => some M16)))
def F_J21_isPositionIndex (N : Nat) (M : GT) (a0 : Nat) (a1 : Int32) : Option (Int32) :=
  if a1 < 0 then some 0 else gfI M a0 10 1 (fun g6 => if g6 < a1 then some 0 else some 1)
def F_J21_checkPositionIndex (N : Nat) (M : GT) (a0 : Nat) (a1 : Int32) : Option (Unit) :=
  isC M a0 10 ((F_J21_isPositionIndex N M a0 a1).bind (fun w2 => if w2 = 0 then none else some ()))
def F_J29_hasNext (N : Nat) (M : GT) (a0 : Nat) : Option (Int32) :=
  gfI M a0 12 2 (fun g1 => gfR M a0 12 4 (fun g5 => nn g5 (fun x8 => gfI M x8 10 1 (fun g8 => if g8 ≤ g1 then some 0 else some 1))))
def F_J29_checkForComodification (N : Nat) (M : GT) (a0 : Nat) : Option (Unit) :=
  gfR M a0 12 4 (fun g1 => nn g1 (fun x4 => gfI M x4 10 0 (fun g4 => gfI M a0 12 3 (fun g8 => if g4 = g8 then some () else none))))
def F_J21_size (N : Nat) (M : GT) (a0 : Nat) : Option (Int32) :=
  gfI M a0 10 1 (fun g1 => some g1)
def F_J21_node_L47 (N : Nat) (M : GT) (a0 : Nat) : Nat → Int32 → (Option Nat) → Int32 → Option (Option Nat)
  | 0, _, _, _ => none
  | n + 1, v1, v2, v3 =>
    if v3 ≤ v1 then some v2 else nn v2 (fun x53 => gfR M x53 11 2 (fun g53 => let x57 := (v3 + (-1)); (F_J21_node_L47 N M a0 n) v1 g53 x57))
def F_J21_node_L17 (N : Nat) (M : GT) (a0 : Nat) : Nat → Int32 → (Option Nat) → Int32 → Option (Option Nat)
  | 0, _, _, _ => none
  | n + 1, v1, v2, v3 =>
    if v1 ≤ v3 then some v2 else nn v2 (fun x23 => gfR M x23 11 1 (fun g23 => let x27 := (v3 + 1); (F_J21_node_L17 N M a0 n) v1 g23 x27))
def F_J21_node (N : Nat) (M : GT) (a0 : Nat) (a1 : Int32) : Option (Option Nat) :=
  gfI M a0 10 1 (fun g2 => if (g2 >>> (1 &&& 31)) ≤ a1 then gfR M a0 10 3 (fun g36 => gfI M a0 10 1 (fun g41 => let x46 := (g41 - 1); F_J21_node_L47 N M a0 N a1 g36 x46)) else gfR M a0 10 2 (fun g11 => F_J21_node_L17 N M a0 N a1 g11 0))
def F_J21_unlink_b64 (N : Nat) (a0 : Nat) (M : GT) (v1 : Nat) (v2 : (Option Nat)) : Option (Option Nat × GT) :=
  pf M v1 11 0 (.null) (fun M66 => gfI M66 a0 10 1 (fun g71 => pf M66 a0 10 1 (.int (g71 - 1)) (fun M76 => gfI M76 a0 10 0 (fun g81 => pf M76 a0 10 0 (.int (g81 + 1)) (fun M86 => some (v2, M86))))))
def F_J21_unlink_b40 (N : Nat) (a0 : Nat) (M : GT) (v1 : Nat) (v2 : (Option Nat)) (v3 : (Option Nat)) (v4 : (Option Nat)) : Option (Option Nat × GT) :=
  if v3 = none then pf M a0 10 3 (va_rf v4) (fun M47 => F_J21_unlink_b64 N a0 M47 v1 v2) else nn v3 (fun x56 => pf M x56 11 2 (va_rf v4) (fun M56 => pf M56 v1 11 1 (.null) (fun M61 => F_J21_unlink_b64 N a0 M61 v1 v2)))
def F_J21_unlink (N : Nat) (M : GT) (a0 : Nat) (a1 : Nat) : Option (Option Nat × GT) :=
  gfR M a1 11 0 (fun g1 => gfR M a1 11 1 (fun g6 => gfR M a1 11 2 (fun g11 => if g11 = none then pf M a0 10 2 (va_rf g6) (fun M23 => F_J21_unlink_b40 N a0 M23 a1 g1 g6 g11) else nn g11 (fun x32 => pf M x32 11 1 (va_rf g6) (fun M32 => pf M32 a1 11 2 (.null) (fun M37 => F_J21_unlink_b40 N a0 M37 a1 g1 g6 g11))))))
def F_J29_next (N : Nat) (M : GT) (a0 : Nat) : Option (Option Nat × GT) :=
  isC M a0 12 ((F_J29_checkForComodification N M a0).bind (fun w1 => isC M a0 12 ((F_J29_hasNext N M a0).bind (fun w5 => if w5 = 0 then none else gfR M a0 12 1 (fun g21 => pf M a0 12 0 (va_rf g21) (fun M24 => gfR M24 a0 12 1 (fun g29 => nn g29 (fun x32 => gfR M24 x32 11 1 (fun g32 => pf M24 a0 12 1 (va_rf g32) (fun M35 => gfI M35 a0 12 2 (fun g40 => pf M35 a0 12 2 (.int (g40 + 1)) (fun M45 => gfR M45 a0 12 0 (fun g49 => nn g49 (fun x52 => gfR M45 x52 11 0 (fun g52 => some (g52, M45))))))))))))))))
def F_J29_remove_b68 (N : Nat) (a0 : Nat) (M : GT) : Option (GT) :=
  pf M a0 12 0 (.null) (fun M70 => gfI M70 a0 12 3 (fun g75 => pf M70 a0 12 3 (.int (g75 + 1)) (fun M80 => some M80)))
def F_J29_remove (N : Nat) (M : GT) (a0 : Nat) : Option (GT) :=
  isC M a0 12 ((F_J29_checkForComodification N M a0).bind (fun w1 => gfR M a0 12 0 (fun g5 => if g5 = none then none else gfR M a0 12 0 (fun g20 => nn g20 (fun x23 => gfR M x23 11 1 (fun g23 => gfR M a0 12 4 (fun g28 => gfR M a0 12 0 (fun g32 => nn g32 (fun x35a0 => nn g28 (fun x35r => isC M x35r 10 ((F_J21_unlink N M x35r x35a0).bind (fun w35 => gfR w35.2 a0 12 1 (fun g40 => gfR w35.2 a0 12 0 (fun g44 => if g40 = g44 then pf w35.2 a0 12 1 (va_rf g23) (fun M52 => F_J29_remove_b68 N a0 M52) else gfI w35.2 a0 12 2 (fun g60 => pf w35.2 a0 12 2 (.int (g60 - 1)) (fun M65 => F_J29_remove_b68 N a0 M65))))))))))))))))
def F_J18_isEmpty (N : Nat) (M : GT) (a0 : Nat) : Option (Int32) :=
  isC M a0 10 ((F_J21_size N M a0).bind (fun w1 => if w1 = 0 then some 1 else some 0))
def F_J29_init_b38 (N : Nat) (a0 : Nat) (M : GT) (v2 : Int32) (t0 : Nat) (t1 : (Option Nat)) : Option (GT) :=
  pf M t0 12 1 (va_rf t1) (fun M38 => pf M38 a0 12 2 (.int v2) (fun M43 => some M43))
def F_J29_init (N : Nat) (M : GT) (a0 : Nat) (a1 : Nat) (a2 : Int32) : Option (GT) :=
  pf M a0 12 4 (.ref a1) (fun M2 => gfR M2 a0 12 4 (fun g11 => nn g11 (fun x14 => gfI M2 x14 10 0 (fun g14 => pf M2 a0 12 3 (.int g14) (fun M17 => gfI M17 a1 10 1 (fun g23 => if a2 = g23 then F_J29_init_b38 N a0 M17 a2 a0 none else isC M17 a1 10 ((F_J21_node N M17 a1 a2).bind (fun w35 => F_J29_init_b38 N a0 M17 a2 a0 w35))))))))
def F_J21_linkLast_b38 (N : Nat) (q : Nat) (a0 : Nat) (M : GT) : Option (GT) :=
  gfI M a0 10 1 (fun g40 => pf M a0 10 1 (.int (g40 + 1)) (fun M45 => gfI M45 a0 10 0 (fun g50 => pf M45 a0 10 0 (.int (g50 + 1)) (fun M55 => some M55))))
def F_J21_linkLast (N : Nat) (M : GT) (q : Nat) (a0 : Nat) (a1 : Nat) : Option (GT) :=
  gfR M a0 10 3 (fun g1 => let M5 := va_up M q (some (11, [.null, .null, .null])); (F_J31_init N M5 q g1 (some a1) none).bind (fun w12 => pf w12 a0 10 3 (.ref q) (fun M18 => if g1 = none then pf M18 a0 10 2 (.ref q) (fun M27 => F_J21_linkLast_b38 N q a0 M27) else nn g1 (fun x35 => pf M18 x35 11 1 (.ref q) (fun M35 => F_J21_linkLast_b38 N q a0 M35)))))
def F_J21_listIterator (N : Nat) (M : GT) (q : Nat) (a0 : Nat) (a1 : Int32) : Option (Option Nat × GT) :=
  isC M a0 10 ((F_J21_checkPositionIndex N M a0 a1).bind (fun w2 => let M5 := va_up M q (some (12, [.null, .null, .int 0, .int 0, .null])); (F_J29_init N M5 q a0 a1).bind (fun w11 => some ((some q), w11))))
def nrf (ns : List (Nat × Nat × Int32)) (i : Nat) : Option Nat := (ns[i]?).map (·.1)
def prf (ns : List (Nat × Nat × Int32)) : Nat → Option Nat
  | 0 => none
  | i + 1 => nrf ns i
def LLo (M : GT) (l : Nat) (ns : List (Nat × Nat × Int32)) (mc : Int32) : Prop := M l = some (10, [.int mc, .int (nI ns.length), va_rf (nrf ns 0), va_rf (prf ns ns.length)]) ∧ (∀ i x, ns[i]? = some x → M x.1 = some (11, [.ref x.2.1, va_rf (nrf ns (i + 1)), va_rf (prf ns i)])) ∧ (ns.map (·.1)).Nodup ∧ ns.length < 1000000
def ITo (M : GT) (li l : Nat) (lr nx : Option Nat) (i : Nat) (mc : Int32) : Prop := M li = some (12, [va_rf lr, va_rf nx, .int (nI i), .int mc, .ref l])
def F_J23_init (N : Nat) (M : GT) (a0 : Nat) : Option (Unit) :=
  (F_J18_init N M a0).bind (fun w1 => some ())
def F_J24_init (N : Nat) (M : GT) (a0 : Nat) : Option (Unit) :=
  (F_J23_init N M a0).bind (fun w1 => some ())
def F_J25_init (N : Nat) (M : GT) (a0 : Nat) (a1 : Nat) (a2 : Nat) : Option (GT) :=
  (F_J24_init N M a0).bind (fun w1 => pf M a0 13 0 (.ref a1) (fun M9 => pf M9 a0 13 1 (.ref a2) (fun M17 => some M17)))
def F_J27_init (N : Nat) (M : GT) (a0 : Nat) (a1 : Nat) (a2 : Int32) : Option (GT) :=
  pf M a0 14 0 (.ref a1) (fun M6 => pf M6 a0 14 1 (.int a2) (fun M11 => pf M11 a0 14 3 (.int 0) (fun M16 => pf M16 a0 14 2 (.int 0) (fun M21 => some M21))))
def F_J27_hasNext (N : Nat) (M : GT) (a0 : Nat) : Option (Int32) :=
  gfI M a0 14 3 (fun g1 => gfI M a0 14 1 (fun g5 => if g1 = g5 then some 0 else some 1))
def hu_add (L : List Int32) (v : Int32) : List Int32 := if v ∈ L then L else L ++ [v]
def hu_from (v0 v1 : Int32) (j : Nat) (L : List Int32) : List Int32 := if j = 0 then hu_add (hu_add L v0) v1 else if j = 1 then hu_add L v1 else L
def hu_ends (κ : CSt) : Nat → Int32 → List Int32 → Option (List Int32)
  | 0, _, _ => none
  | n + 1, i, L => if cI κ 1 ≤ i then some L else ck i 10 (fun j => nn (cL κ j) (fun x => hu_ends κ n (i + 1) (hu_add (hu_add L (41 * x.2.2.1 + x.2.2.2.1)) (41 * x.2.2.2.2.1 + x.2.2.2.2.2.1))))
def hu_write : FSt → List Int32 → Int32 → Option (FSt × Int32)
  | σ, [], n => some (σ, n)
  | σ, p :: t, n => ck n 20 (fun j => hu_write (fsA σ 5 j p) t (n + 1))
def hu_pass (N : Nat) (σ : FSt) (place n : Int32) : List Int32 → Int32 → Option (List Int32 × Int32)
  | [], f => some ([], f)
  | p :: t, f => (F_X0_isBorder N σ n p).bind (fun w => if w = 0 then (hu_pass N σ place n t f).bind (fun r => some (p :: r.1, r.2)) else hu_pass N σ place n t (if p = place then fI σ 4 else f))
def hu_rounds (N : Nat) (place : Int32) : Nat → FSt → List Int32 → Int32 → Option (Int32 × FSt)
  | 0, _, _, _ => none
  | n + 1, σ, L, f => if L.length = 0 then some (f, σ) else (hu_write σ L 0).bind (fun w => (hu_pass N w.1 place w.2 L f).bind (fun r => hu_rounds N place n (fsI w.1 4 (fI w.1 4 + 1)) r.1 r.2))
def F_X0_hullOf (N : Nat) (σ : FSt) (place : Int32) : Option (Int32 × FSt) := (hu_ends (fC σ 1) 11 0 []).bind (fun L => hu_rounds N place 21 (fsI σ 4 0) L (-1))
def F_ends (N : Nat) (v : Ln) (p : Pl) (n : Int32) : Option Int32 := (F_X6_compareTo N v.2.2.2.2.2.1 p).bind (fun w0 => (F_X6_compareTo N v.2.2.2.2.2.2 p).bind (fun w1 => some ((if w1 = 0 then (if w0 = 0 then n + 1 else n) + 1 else (if w0 = 0 then n + 1 else n)))))
def F_X0_told_b155 (N : Nat) (r123 : FSt → Ln → Int32 → Int32 → Option (Int32 × FSt)) (σ : FSt) (v3 : Ln) (v4 : Int32) (v5 : Int32) : Option (Int32 × FSt) :=
  let x155 := (v5 + 1); r123 σ v3 v4 x155
def F_X0_told_L123 (N : Nat) : Nat → FSt → Ln → Int32 → Int32 → Option (Int32 × FSt)
  | 0, _, _, _, _ => none
  | n + 1, σ, v3, v4, v5 =>
    if (cI (fC σ 1) 4) ≤ v5 then some (v4, σ) else ck v5 65 (fun j145 => nn (cP (fC σ 1) j145) (fun x146a0 => (F_X4_isOn N v3 x146a0).bind (fun w146 => if w146 = 0 then F_X0_told_b155 N (F_X0_told_L123 N n) σ v3 v4 v5 else let x152 := (v4 + 1); F_X0_told_b155 N (F_X0_told_L123 N n) σ v3 x152 v5)))
def F_X0_told (N : Nat) (σ : FSt) (a1 : Int32) (a2 : Int32) : Option (Int32 × FSt) :=
  (F_X0_isLine N σ a1).bind (fun w2 => if w2 = 0 then some ((-2), σ) else (F_X0_in N a2.toInt64 0 7).bind (fun w14 => if w14 = 0 then some ((-2), σ) else ck a1 10 (fun j31 => nn (cL (fC σ 1) j31) (fun x32x => if a2 = 0 then some (x32x.2.2.1, σ) else if a2 = 1 then some (x32x.2.2.2.1, σ) else if a2 = 2 then some (x32x.2.2.2.2.1, σ) else if a2 = 3 then some (x32x.2.2.2.2.2.1, σ) else if a2 = 4 then if x32x.2.1 = 0 then some (1, σ) else some (0, σ) else if a2 = 5 then (F_X1_told N (fC σ 1)).bind (fun w116 => let σ116 := (fsC σ 1 w116); F_X0_told_L123 N N σ116 x32x.2 0 0) else if a2 = 6 then (F_X0_hullOf N σ ((41 * x32x.2.2.1) + x32x.2.2.2.1)).bind (fun w177 => some (w177.1, w177.2)) else (F_X0_hullOf N σ ((41 * x32x.2.2.2.2.1) + x32x.2.2.2.2.2.1)).bind (fun w194 => some (w194.1, w194.2))))))
def F_X0_count_b135 (N : Nat) (σ : FSt) (v1 : Int32) : Option (Int32 × FSt) :=
  (F_X0_twos N σ (v1 - 7)).bind (fun w140 => some (w140, σ))
def F_X0_count (N : Nat) (σ : FSt) (a1 : Int32) : Option (Int32 × FSt) :=
  (F_X1_told N (fC σ 1)).bind (fun w4 => let σ4 := (fsC σ 1 w4); if a1 = 0 then some ((cI (fC σ4 1) 1), σ4) else if a1 = 1 then some ((cI (fC σ4 1) 4), σ4) else if a1 = 2 then some ((cI (fC σ4 1) 5), σ4) else if a1 = 3 then some ((cI (fC σ4 1) 6), σ4) else if a1 = 4 then (F_X1_slabs N (fC σ4 1)).bind (fun w104 => some (w104, σ4)) else if a1 = 5 then some ((cI (fC σ4 1) 10), σ4) else if a1 = 6 then some ((cI (fC σ4 1) 11), σ4) else if a1 = 7 then (F_X0_hullOf N σ4 (-1)).bind (fun w126 => some ((fI w126.2 4), w126.2)) else if a1 = 8 then F_X0_count_b135 N σ4 a1 else if a1 = 9 then F_X0_count_b135 N σ4 a1 else if a1 = 10 then F_X0_count_b135 N σ4 a1 else some ((-2), σ4))
def F_X0_point_L102 (N : Nat) : Nat → FSt → (Option Pl) → Int32 → Int32 → Option (Int32 × FSt)
  | 0, _, _, _, _ => none
  | n + 1, σ, v3, v4, v5 =>
    if (cI (fC σ 1) 1) ≤ v5 then some (v4, σ) else ck v5 10 (fun j123 => nn (cL (fC σ 1) j123) (fun x124a0 => nn v3 (fun x124a1 => (F_ends N x124a0.2 x124a1 v4).bind (fun w124 => let x171 := (v5 + 1); (F_X0_point_L102 N n) σ (some x124a1) w124 x171))))
def F_X0_point (N : Nat) (σ : FSt) (a1 : Int32) (a2 : Int32) : Option (Int32 × FSt) :=
  (F_X0_in N a2.toInt64 0 6).bind (fun w6 => if w6 = 0 then some ((-2), σ) else (F_X1_told N (fC σ 1)).bind (fun w19 => let σ19 := (fsC σ 1 w19); (F_X0_in N a1.toInt64 0 (((cI (fC σ19 1) 4) - 1).toInt64)).bind (fun w36 => if w36 = 0 then some ((-12), σ19) else ck a1 65 (fun j53 => if 4 ≤ a2 then if a2 = 4 then nn (cP (fC σ19 1) j53) (fun x76a0 => (F_X1_onOf N (fC σ19 1) x76a0).bind (fun w76 => some (w76, σ19))) else if a2 = 6 then ck a1 65 (fun j94 => some ((cA (fC σ19 1) 7 j94), σ19)) else F_X0_point_L102 N fu11 σ19 (cP (fC σ19 1) j53) 0 0 else nn (cP (fC σ19 1) j53) (fun x62a0 => (F_X0_partOf N x62a0 a2).bind (fun w62 => some (w62, σ19)))))))
def ho_scan (N : Nat) (β : BSt) (now : Int32) (m1 : Nat) : Nat → Int32 → (Nat → Int32) → List Int32 → Nat → Option ((Nat → Int32) × List Int32 × Nat)
  | 0, _, _, _, _ => none
  | n + 1, k, ρ, L, a => if k < 0 then some (ρ, L, a) else ck k m1 (fun j => if ρ j = -1 then ck now m1 (fun jn => if L.length < 72 ∧ 0 < a then (F_J1_nextSetBit N 12 β (k + 1)).bind (fun k2 => ho_scan N β now m1 n k2 (upd ρ j (ρ jn + 1)) (L ++ [k]) (a - 1)) else none) else (F_J1_nextSetBit N 12 β (k + 1)).bind (fun k2 => ho_scan N β now m1 n k2 ρ L a))
def ho_loop (N : Nat) (σ : FSt) (oc : Int32) (m1 : Nat) : Nat → (Nat → Int32) → List Int32 → Nat → Option Int32
  | 0, _, _, _ => none
  | _ + 1, _, [], _ => some (-1)
  | n + 1, ρ, now :: t, a => if now = oc then ck now m1 (fun j => some (ρ j)) else (F_X0_nextTo N σ now).bind (fun β => (F_J1_nextSetBit N 12 β 0).bind (fun k => (ho_scan N β now m1 N k ρ t a).bind (fun r => ho_loop N σ oc m1 n r.1 r.2.1 r.2.2)))
def F_hops_rest (N : Nat) (σ : FSt) (fc oc : Int32) : Option (Int32 × FSt) := if cI (fC σ 1) 11 < 0 ∨ 740 < (cI (fC σ 1) 11).toNatClampNeg then none else ck fc (cI (fC σ 1) 11).toNatClampNeg (fun j => (ho_loop N σ oc (cI (fC σ 1) 11).toNatClampNeg 82 (upd (fun q => if q < (cI (fC σ 1) 11).toNatClampNeg then -1 else 0) j 0) [fc] 80).bind (fun r => some (r, σ)))
def F_X0_hops (N : Nat) (σ : FSt) (a1 : Int32) (a2 : Int32) : Option (Int32 × FSt) :=
  (F_X1_told N (fC σ 1)).bind (fun w4 => let σ4 := (fsC σ 1 w4); (F_X0_in N a1.toInt64 0 (((cI (fC σ4 1) 11) - 1).toInt64)).bind (fun w21 => if w21 = 0 then some ((-2), σ4) else (F_X0_in N a2.toInt64 0 (((cI (fC σ4 1) 11) - 1).toInt64)).bind (fun w40 => if w40 = 0 then some ((-2), σ4) else F_hops_rest N σ4 a1 a2)))
