/-! what the machine's words come to, in numbers -/
set_option maxRecDepth 100000
theorem i32_add (x y : Int) : Int32.ofInt x + Int32.ofInt y = Int32.ofInt (w32 (x + y)) := by rw [i32_w, Int32.ofInt_add]
theorem i32_sub (x y : Int) : Int32.ofInt x - Int32.ofInt y = Int32.ofInt (w32 (x - y)) := by rw [i32_w, Int32.ofInt_sub]
theorem i32_mul (x y : Int) : Int32.ofInt x * Int32.ofInt y = Int32.ofInt (w32 (x * y)) := by rw [i32_w, Int32.ofInt_mul]
theorem i32_neg (x : Int) : -Int32.ofInt x = Int32.ofInt (w32 (-x)) := by rw [i32_w, Int32.ofInt_neg]
theorem i64_add (x y : Int) : Int64.ofInt x + Int64.ofInt y = Int64.ofInt (w64 (x + y)) := by rw [i64_w, Int64.ofInt_add]
theorem i64_sub (x y : Int) : Int64.ofInt x - Int64.ofInt y = Int64.ofInt (w64 (x - y)) := by rw [i64_w, Int64.ofInt_sub]
theorem i64_mul (x y : Int) : Int64.ofInt x * Int64.ofInt y = Int64.ofInt (w64 (x * y)) := by rw [i64_w, Int64.ofInt_mul]
theorem i64_neg (x : Int) : -Int64.ofInt x = Int64.ofInt (w64 (-x)) := by rw [i64_w, Int64.ofInt_neg]
theorem i32_self (x : Int32) : Int32.ofInt x.toInt = x := Int32.ofInt_toInt x
theorem i64_self (x : Int64) : Int64.ofInt x.toInt = x := Int64.ofInt_toInt x
theorem i32_and (x y : Int) : Int32.ofInt x &&& Int32.ofInt y = Int32.ofInt (iAnd x y) := (i32_self _).symm
theorem i32_or (x y : Int) : Int32.ofInt x ||| Int32.ofInt y = Int32.ofInt (iOr x y) := (i32_self _).symm
theorem i32_xor (x y : Int) : Int32.ofInt x ^^^ Int32.ofInt y = Int32.ofInt (iXor x y) := (i32_self _).symm
theorem i64_and (x y : Int) : Int64.ofInt x &&& Int64.ofInt y = Int64.ofInt (jAnd x y) := (i64_self _).symm
theorem i64_or (x y : Int) : Int64.ofInt x ||| Int64.ofInt y = Int64.ofInt (jOr x y) := (i64_self _).symm
theorem i64_xor (x y : Int) : Int64.ofInt x ^^^ Int64.ofInt y = Int64.ofInt (jXor x y) := (i64_self _).symm
theorem bmod_w32 (x : Int) : x.bmod 4294967296 = w32 x := by unfold w32 Int.bmod; dsimp only; omega
theorem bmod_w64 (x : Int) : x.bmod 18446744073709551616 = w64 x := by unfold w64 Int.bmod; dsimp only; omega
theorem i32_div {x y : Int} (hx : in32 x) (hy : in32 y) : Int32.ofInt x / Int32.ofInt y = Int32.ofInt (w32 (x.tdiv y)) := by
  apply Int32.toInt_inj.mp
  rw [Int32.toInt_div, i32_toInt hx, i32_toInt hy, i32_toInt (w32_in _)]
  exact bmod_w32 _
theorem i64_div {x y : Int} (hx : in64 x) (hy : in64 y) : Int64.ofInt x / Int64.ofInt y = Int64.ofInt (w64 (x.tdiv y)) := by
  apply Int64.toInt_inj.mp
  rw [Int64.toInt_div, i64_toInt hx, i64_toInt hy, i64_toInt (w64_in _)]
  exact bmod_w64 _
theorem i32_rem {x y : Int} (hx : in32 x) (hy : in32 y) : Int32.ofInt x - Int32.ofInt x / Int32.ofInt y * Int32.ofInt y = Int32.ofInt (x.tmod y) := by
  rw [i32_div hx hy, i32_w, ← Int32.ofInt_mul, ← Int32.ofInt_sub]
  congr 1
  have h := Int.tmod_add_mul_tdiv x y
  have e : x.tdiv y * y = y * x.tdiv y := Int.mul_comm _ _
  omega
theorem i64_rem {x y : Int} (hx : in64 x) (hy : in64 y) : Int64.ofInt x - Int64.ofInt x / Int64.ofInt y * Int64.ofInt y = Int64.ofInt (x.tmod y) := by
  rw [i64_div hx hy, i64_w, ← Int64.ofInt_mul, ← Int64.ofInt_sub]
  congr 1
  have h := Int.tmod_add_mul_tdiv x y
  have e : x.tdiv y * y = y * x.tdiv y := Int.mul_comm _ _
  omega
theorem tmod_in32 {x y : Int} (hx : in32 x) : in32 (x.tmod y) := by
  unfold in32 at *
  have h3 : (x.tmod y).natAbs = x.natAbs % y.natAbs := Int.natAbs_tmod x y
  have h4 : x.natAbs % y.natAbs ≤ x.natAbs := Nat.mod_le _ _
  rcases Int.le_total 0 x with h | h
  · have h1 : 0 ≤ x.tmod y := Int.tmod_nonneg y h
    omega
  · have h1 : 0 ≤ (-x).tmod y := Int.tmod_nonneg y (by omega)
    rw [Int.neg_tmod] at h1
    omega
theorem tmod_in64 {x y : Int} (hx : in64 x) : in64 (x.tmod y) := by
  unfold in64 at *
  have h3 : (x.tmod y).natAbs = x.natAbs % y.natAbs := Int.natAbs_tmod x y
  have h4 : x.natAbs % y.natAbs ≤ x.natAbs := Nat.mod_le _ _
  rcases Int.le_total 0 x with h | h
  · have h1 : 0 ≤ x.tmod y := Int.tmod_nonneg y h
    omega
  · have h1 : 0 ≤ (-x).tmod y := Int.tmod_nonneg y (by omega)
    rw [Int.neg_tmod] at h1
    omega
theorem b32_toInt (x : Int32) : x.toInt = if 2 * x.toBitVec.toNat < 4294967296 then (x.toBitVec.toNat : Int) else (x.toBitVec.toNat : Int) - 4294967296 := by
  have h := BitVec.toInt_eq_toNat_cond x.toBitVec
  exact h
theorem b64_toInt (x : Int64) : x.toInt = if 2 * x.toBitVec.toNat < 18446744073709551616 then (x.toBitVec.toNat : Int) else (x.toBitVec.toNat : Int) - 18446744073709551616 := by
  have h := BitVec.toInt_eq_toNat_cond x.toBitVec
  exact h
theorem b32_nat (x : Int) : ((Int32.ofInt x).toBitVec.toNat : Int) = x % 4294967296 := by
  rw [Int32.toBitVec_ofInt, BitVec.toNat_ofInt]
  omega
theorem b64_nat (x : Int) : ((Int64.ofInt x).toBitVec.toNat : Int) = x % 18446744073709551616 := by
  rw [Int64.toBitVec_ofInt, BitVec.toNat_ofInt]
  omega
theorem i32_of_nat {a : Int32} {x : Int} (h : (a.toBitVec.toNat : Int) = x % 4294967296) : a = Int32.ofInt x := by
  apply Int32.toBitVec_inj.mp
  apply BitVec.eq_of_toNat_eq
  have := b32_nat x
  omega
theorem i64_of_nat {a : Int64} {x : Int} (h : (a.toBitVec.toNat : Int) = x % 18446744073709551616) : a = Int64.ofInt x := by
  apply Int64.toBitVec_inj.mp
  apply BitVec.eq_of_toNat_eq
  have := b64_nat x
  omega
theorem am31 : ∀ n, n < 32 → ((nI n).toBitVec.smod 32).toNat = n := by decide +kernel
theorem am31u : ∀ n, n < 32 → ((nI n).toUInt32.toBitVec % 32).toNat = n := by decide +kernel
theorem am63 : ∀ n, n < 64 → ((lN n).toBitVec.smod 64).toNat = n := by decide +kernel
theorem an31 (y : Int) : Int32.ofInt y &&& 31 = nI (y % 32).toNat := by
  rw [pk_and _ 5 (by decide +kernel)]
  congr 1
  have := b32_nat y
  omega
theorem an63 {y : Int} (hy : in32 y) : (Int32.ofInt y).toInt64 &&& 63 = lN (y % 64).toNat := by
  have e : (Int32.ofInt y).toInt64 = Int64.ofInt y := by
    apply Int64.toInt_inj.mp
    rw [Int32.toInt_toInt64, i32_toInt hy, i64_toInt (by unfold in32 at hy; unfold in64; omega)]
  rw [e]
  refine (i64_of_nat (a := _) (x := ((y % 64).toNat : Int)) ?_).trans ?_
  · rw [Int64.toBitVec_and, BitVec.toNat_and]
    have h1 := b64_nat y
    have h2 : (63 : Int64).toBitVec.toNat = 2 ^ 6 - 1 := by decide +kernel
    rw [h2, Nat.and_two_pow_sub_one_eq_mod]
    omega
  · rfl
theorem mulmod (a P M : Int) : a % M * P % M = a * P % M := by rw [Int.mul_emod, Int.emod_emod, ← Int.mul_emod]
theorem i32_shl (x y : Int) : Int32.ofInt x <<< (Int32.ofInt y &&& 31) = Int32.ofInt (iShl x y) := by
  rw [an31]
  unfold iShl
  rw [i32_w]
  apply i32_of_nat
  rw [pk_shl _ _ (y % 32).toNat (am31 _ (by omega)), Int.natCast_emod, Int.natCast_mul, b32_nat, Int.natCast_pow]
  exact mulmod _ _ _
theorem iShr_in {x : Int} (y : Int) (hx : in32 x) : in32 (iShr x y) := by
  unfold iShr in32 at *
  have hp : 0 < (2 : Int) ^ (y % 32).toNat := Int.pow_pos (by omega)
  constructor
  · rw [Int.le_ediv_iff_mul_le hp]
    omega
  · rw [Int.ediv_lt_iff_lt_mul hp]
    omega
theorem i32_shr {x : Int} (y : Int) (hx : in32 x) : Int32.ofInt x >>> (Int32.ofInt y &&& 31) = Int32.ofInt (iShr x y) := by
  rw [an31]
  apply Int32.toInt_inj.mp
  rw [pk_shr _ _ (y % 32).toNat (am31 _ (by omega)), i32_toInt hx, i32_toInt (iShr_in y hx)]
  unfold iShr
  rw [Int.shiftRight_eq_div_pow, Int.natCast_pow]; rfl
theorem jShr_in {x : Int} (y : Int) (hx : in64 x) : in64 (jShr x y) := by
  unfold jShr in64 at *
  have hp : 0 < (2 : Int) ^ (y % 64).toNat := Int.pow_pos (by omega)
  constructor
  · rw [Int.le_ediv_iff_mul_le hp]
    omega
  · rw [Int.ediv_lt_iff_lt_mul hp]
    omega
theorem i32_ush (x y : Int) : ((Int32.ofInt x).toUInt32 >>> ((Int32.ofInt y).toUInt32 &&& Int32.toUInt32 31)).toInt32 = Int32.ofInt (iUsh x y) := by
  unfold iUsh
  rw [i32_w]
  apply i32_of_nat
  rw [pk_ushr _ _ (y % 32).toNat, Int.natCast_ediv, b32_nat, Int.natCast_pow]
  · have h1 : 0 ≤ x % 4294967296 := by omega
    have hp : 0 < (2 : Int) ^ (y % 32).toNat := Int.pow_pos (by omega)
    have h2 := Int.ediv_nonneg h1 (show (0 : Int) ≤ 2 ^ (y % 32).toNat by omega)
    have h3 := Int.ediv_le_self (2 ^ (y % 32).toNat) h1
    show x % 4294967296 / 2 ^ (y % 32).toNat = _
    omega
  · have h1 := b32_nat y
    have e : ((Int32.ofInt y).toUInt32 &&& Int32.toUInt32 31).toBitVec = (Int32.ofInt y).toBitVec &&& 31#32 := rfl
    rw [e, BitVec.toNat_umod, BitVec.toNat_and, show (31#32).toNat = 2 ^ 5 - 1 from rfl, Nat.and_two_pow_sub_one_eq_mod]
    show _ % 2 ^ 5 % 32 = _
    omega
theorem i64_shl {x y : Int} (hy : in32 y) : Int64.ofInt x <<< ((Int32.ofInt y).toInt64 &&& 63) = Int64.ofInt (jShl x y) := by
  rw [an63 hy]
  unfold jShl
  rw [i64_w]
  apply i64_of_nat
  have e : (Int64.ofInt x <<< lN (y % 64).toNat).toBitVec = (Int64.ofInt x).toBitVec <<< ((lN (y % 64).toNat).toBitVec.smod 64).toNat := rfl
  rw [e, am63 _ (by omega), BitVec.toNat_shiftLeft, Nat.shiftLeft_eq, Int.natCast_emod, Int.natCast_mul, b64_nat, Int.natCast_pow]
  exact mulmod _ _ _
theorem i64_shr {x y : Int} (hx : in64 x) (hy : in32 y) : Int64.ofInt x >>> ((Int32.ofInt y).toInt64 &&& 63) = Int64.ofInt (jShr x y) := by
  rw [an63 hy]
  apply Int64.toInt_inj.mp
  have e : (Int64.ofInt x >>> lN (y % 64).toNat).toInt = ((Int64.ofInt x).toBitVec.sshiftRight ((lN (y % 64).toNat).toBitVec.smod 64).toNat).toInt := rfl
  rw [e, am63 _ (by omega), BitVec.toInt_sshiftRight, i64_toInt (jShr_in y hx)]
  show (Int64.ofInt x).toInt >>> (y % 64).toNat = _
  rw [i64_toInt hx, Int.shiftRight_eq_div_pow, Int.natCast_pow]
  rfl
theorem i64_ush {x y : Int} (hy : in32 y) : ((Int64.ofInt x).toUInt64 >>> ((Int32.ofInt y).toInt64.toUInt64 &&& Int64.toUInt64 63)).toInt64 = Int64.ofInt (jUsh x y) := by
  unfold jUsh
  rw [i64_w]
  apply i64_of_nat
  have ha := congrArg Int64.toBitVec (an63 hy)
  have e : ((Int64.ofInt x).toUInt64 >>> ((Int32.ofInt y).toInt64.toUInt64 &&& Int64.toUInt64 63)).toInt64.toBitVec = (Int64.ofInt x).toBitVec >>> (((Int32.ofInt y).toInt64 &&& 63).toBitVec % 64).toNat := rfl
  have h63 : ∀ n, n < 64 → ((lN n).toBitVec % 64).toNat = n := by decide +kernel
  rw [e, ha, h63 _ (by omega), BitVec.toNat_ushiftRight, Nat.shiftRight_eq_div_pow, Int.natCast_ediv, b64_nat, Int.natCast_pow]
  have h1 : 0 ≤ x % 18446744073709551616 := by omega
  have hp : 0 < (2 : Int) ^ (y % 64).toNat := Int.pow_pos (by omega)
  have h2 := Int.ediv_nonneg h1 (show (0 : Int) ≤ 2 ^ (y % 64).toNat by omega)
  have h3 := Int.ediv_le_self (2 ^ (y % 64).toNat) h1
  show x % 18446744073709551616 / 2 ^ (y % 64).toNat = _
  omega
theorem i32_i2l {x : Int} (h : in32 x) : (Int32.ofInt x).toInt64 = Int64.ofInt x := by
  apply Int64.toInt_inj.mp
  rw [Int32.toInt_toInt64, i32_toInt h, i64_toInt (by unfold in32 at h; unfold in64; omega)]
theorem i64_l2i (x : Int) : (Int64.ofInt x).toInt32 = Int32.ofInt (w32 x) := by
  rw [i32_w]
  apply i32_of_nat
  have e : (Int64.ofInt x).toInt32.toBitVec = (Int64.ofInt x).toBitVec.signExtend 32 := rfl
  have e2 : (Int64.ofInt x).toBitVec.signExtend 32 = (Int64.ofInt x).toBitVec.setWidth 32 := BitVec.signExtend_eq_setWidth_of_le _ (by omega)
  rw [e, e2, BitVec.toNat_setWidth, Int.natCast_emod, b64_nat]
  show x % 18446744073709551616 % 4294967296 = _
  omega
theorem i32_i2b (x : Int) : (Int32.ofInt x).toInt8.toInt32 = Int32.ofInt (w8 x) := by
  apply Int32.toInt_inj.mp
  rw [Int8.toInt_toInt32, i32_toInt (by unfold w8 in32; omega), Int32.toInt_toInt8, Int32.toInt_ofInt]
  unfold w8 Int.bmod
  simp only [Int32.size]
  omega
theorem i32_eq {x y : Int} (hx : in32 x) (hy : in32 y) : Int32.ofInt x = Int32.ofInt y ↔ x = y := by
  constructor
  · intro h
    have := congrArg Int32.toInt h
    rwa [i32_toInt hx, i32_toInt hy] at this
  · intro h; rw [h]
theorem i32_lt {x y : Int} (hx : in32 x) (hy : in32 y) : Int32.ofInt x < Int32.ofInt y ↔ x < y := by rw [Int32.lt_iff_toInt_lt, i32_toInt hx, i32_toInt hy]
theorem i32_le {x y : Int} (hx : in32 x) (hy : in32 y) : Int32.ofInt x ≤ Int32.ofInt y ↔ x ≤ y := by rw [Int32.le_iff_toInt_le, i32_toInt hx, i32_toInt hy]
theorem i64_eq {x y : Int} (hx : in64 x) (hy : in64 y) : Int64.ofInt x = Int64.ofInt y ↔ x = y := by
  constructor
  · intro h
    have := congrArg Int64.toInt h
    rwa [i64_toInt hx, i64_toInt hy] at this
  · intro h; rw [h]
theorem i64_lt {x y : Int} (hx : in64 x) (hy : in64 y) : Int64.ofInt x < Int64.ofInt y ↔ x < y := by rw [Int64.lt_iff_toInt_lt, i64_toInt hx, i64_toInt hy]
theorem i64_cmp {x y : Int} (hx : in64 x) (hy : in64 y) : lg_cmp (Int64.ofInt x) (Int64.ofInt y) = Int32.ofInt (jCmp x y) := by
  unfold lg_cmp jCmp
  have h1 := i64_lt hy hx
  have h2 := i64_eq hx hy
  by_cases c1 : x > y
  · rw [if_pos (h1.mpr c1), if_pos c1]; rfl
  · rw [if_neg (fun q => c1 (h1.mp q)), if_neg c1]
    by_cases c2 : x = y
    · rw [if_pos (h2.mpr c2), if_pos c2]; rfl
    · rw [if_neg (fun q => c2 (h2.mp q)), if_neg c2]; rfl
theorem jCmp_in (x y : Int) : in32 (jCmp x y) := by
  unfold jCmp in32
  split
  · omega
  · split <;> omega
theorem i32_clamp {x : Int} (h : in32 x) (h0 : 0 ≤ x) : (Int32.ofInt x).toNatClampNeg = x.toNat := by
  show (Int32.ofInt x).toInt.toNat = _
  rw [i32_toInt h]
theorem i32_c0 : (0 : Int32) = Int32.ofInt 0 := by decide +kernel
theorem i64_c0 : (0 : Int64) = Int64.ofInt 0 := by decide +kernel
