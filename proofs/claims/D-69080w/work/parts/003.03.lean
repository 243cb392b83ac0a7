section
/-! THE ABSTRACT MACHINE, its values and states. An AV: an int, a long, an object (0 null, a > 0 the a-th cell made by the law, a < 0 a constant), an array (element kind, owner's path o f, the array's own cell). -/
set_option maxRecDepth 100000
abbrev AV : Type := Int ⊕ Int ⊕ Int ⊕ (Nat × Nat × Nat × Nat)
abbrev vI (x : Int) : AV := .inl x
abbrev vJ (x : Int) : AV := .inr (.inl x)
abbrev vO (x : Int) : AV := .inr (.inr (.inl x))
abbrev vA (e o f v : Nat) : AV := .inr (.inr (.inr (e, o, f, v)))
/-- fields, arraysₚ contents, their lengths, their cells (0: null), kinds of cells, next cell, slots, slots of loose arrays, small cells, other slots -/
abbrev Sg : Type := (Nat → Nat → Int) × (Nat → Nat → Nat → Int) × (Nat → Nat → Nat) × (Nat → Nat → Nat) × (Nat → Nat) × Nat × Nat × Nat × Nat × Nat
def gF (σ : Sg) : Nat → Nat → Int := σ.1
def gA (σ : Sg) : Nat → Nat → Nat → Int := σ.2.1
def gL (σ : Sg) : Nat → Nat → Nat := σ.2.2.1
def gV (σ : Sg) : Nat → Nat → Nat := σ.2.2.2.1
def gK (σ : Sg) : Nat → Nat := σ.2.2.2.2.1
def gN (σ : Sg) : Nat := σ.2.2.2.2.2.1
def gS (σ : Sg) : Nat := σ.2.2.2.2.2.2.1
def gT (σ : Sg) : Nat := σ.2.2.2.2.2.2.2.1
def gC (σ : Sg) : Nat := σ.2.2.2.2.2.2.2.2.1
def gD (σ : Sg) : Nat := σ.2.2.2.2.2.2.2.2.2
def u2 {α : Type} (f : Nat → Nat → α) (o k : Nat) (v : α) : Nat → Nat → α := fun a b => if a = o ∧ b = k then v else f a b
def u1 {α : Type} (f : Nat → α) (o : Nat) (v : α) : Nat → α := fun a => if a = o then v else f a
/-- a field is set -/
def sF (σ : Sg) (o k : Nat) (v : Int) : Sg := (u2 σ.1 o k v, σ.2)
/-- a place of an array is set -/
def sA (σ : Sg) (o k i : Nat) (v : Int) : Sg := (σ.1, u2 σ.2.1 o k (u1 (σ.2.1 o k) i v), σ.2.2)
/-- an array's contents, all at once -/
def sB (σ : Sg) (o k : Nat) (g : Nat → Int) : Sg := (σ.1, u2 σ.2.1 o k g, σ.2.2)
/-- a new object of a kind, with so many slots -/
def nO (σ : Sg) (c n : Nat) : Sg := (gF σ, gA σ, gL σ, gV σ, u1 (gK σ) (gN σ) c, gN σ + 1, gS σ + n, gT σ, gC σ + 1, gD σ + (if c = 50 then 0 else n))
/-- a new array, loose: its path is (its cell, 0) -/
def nA (σ : Sg) (e n : Nat) : Sg := (gF σ, gA σ, u2 (gL σ) (gN σ) 0 n, u2 (gV σ) (gN σ) 0 (gN σ), u1 (gK σ) (gN σ) (100 + e), gN σ + 1, gS σ + n, gT σ + n, gC σ + (if n < 16 then 1 else 0), gD σ)
/-- a loose array comes into a field -/
def mV (σ : Sg) (t o k : Nat) : Sg := (gF σ, u2 (gA σ) o k (gA σ t 0), u2 (u2 (gL σ) t 0 0) o k (gL σ t 0), u2 (u2 (gV σ) t 0 0) o k t, gK σ, gN σ, gS σ, gT σ - gL σ t 0, gC σ, gD σ + (if o < 222 then 0 else gL σ t 0))
/-- a copied stretch -/
def cpy (f g : Nat → Int) (sp dp n : Nat) : Nat → Int := fun k => if dp ≤ k ∧ k < dp + n then f (sp + (k - dp)) else g k
def w32 (x : Int) : Int := (x + 2147483648) % 4294967296 - 2147483648
def w64 (x : Int) : Int := (x + 9223372036854775808) % 18446744073709551616 - 9223372036854775808
def w8 (x : Int) : Int := (x + 128) % 256 - 128
def in32 (x : Int) : Prop := -2147483648 ≤ x ∧ x < 2147483648
def in64 (x : Int) : Prop := -9223372036854775808 ≤ x ∧ x < 9223372036854775808
def iAnd (x y : Int) : Int := (Int32.ofInt x &&& Int32.ofInt y).toInt
def iOr (x y : Int) : Int := (Int32.ofInt x ||| Int32.ofInt y).toInt
def iXor (x y : Int) : Int := (Int32.ofInt x ^^^ Int32.ofInt y).toInt
def iShl (x y : Int) : Int := w32 (x * 2 ^ (y % 32).toNat)
def iShr (x y : Int) : Int := x / 2 ^ (y % 32).toNat
def iUsh (x y : Int) : Int := w32 ((x % 4294967296) / 2 ^ (y % 32).toNat)
def jAnd (x y : Int) : Int := (Int64.ofInt x &&& Int64.ofInt y).toInt
def jOr (x y : Int) : Int := (Int64.ofInt x ||| Int64.ofInt y).toInt
def jXor (x y : Int) : Int := (Int64.ofInt x ^^^ Int64.ofInt y).toInt
def jShl (x y : Int) : Int := w64 (x * 2 ^ (y % 64).toNat)
def jShr (x y : Int) : Int := x / 2 ^ (y % 64).toNat
def jUsh (x y : Int) : Int := w64 ((x % 18446744073709551616) / 2 ^ (y % 64).toNat)
def jCmp (x y : Int) : Int := if x > y then 1 else if x = y then 0 else -1
section Get
variable (σ : Sg) (o k i t c n : Nat) (v : Int) (g : Nat → Int)
theorem gF_sF (a b : Nat) : gF (sF σ o k v) a b = if a = o ∧ b = k then v else gF σ a b := rfl
theorem gA_sF : gA (sF σ o k v) = gA σ := rfl
theorem gL_sF : gL (sF σ o k v) = gL σ := rfl
theorem gV_sF : gV (sF σ o k v) = gV σ := rfl
theorem gK_sF : gK (sF σ o k v) = gK σ := rfl
theorem gN_sF : gN (sF σ o k v) = gN σ := rfl
theorem gS_sF : gS (sF σ o k v) = gS σ := rfl
theorem gT_sF : gT (sF σ o k v) = gT σ := rfl
theorem gC_sF : gC (sF σ o k v) = gC σ := rfl
theorem gD_sF : gD (sF σ o k v) = gD σ := rfl
theorem gF_sA : gF (sA σ o k i v) = gF σ := rfl
theorem gA_sA (a b j : Nat) : gA (sA σ o k i v) a b j = if a = o ∧ b = k then (if j = i then v else gA σ o k j) else gA σ a b j := by
  show (u2 σ.2.1 o k (u1 (σ.2.1 o k) i v)) a b j = _
  unfold u2 u1 gA
  split <;> rfl
theorem gL_sA : gL (sA σ o k i v) = gL σ := rfl
theorem gV_sA : gV (sA σ o k i v) = gV σ := rfl
theorem gK_sA : gK (sA σ o k i v) = gK σ := rfl
theorem gN_sA : gN (sA σ o k i v) = gN σ := rfl
theorem gS_sA : gS (sA σ o k i v) = gS σ := rfl
theorem gT_sA : gT (sA σ o k i v) = gT σ := rfl
theorem gC_sA : gC (sA σ o k i v) = gC σ := rfl
theorem gD_sA : gD (sA σ o k i v) = gD σ := rfl
theorem gF_sB : gF (sB σ o k g) = gF σ := rfl
theorem gA_sB (a b : Nat) : gA (sB σ o k g) a b = if a = o ∧ b = k then g else gA σ a b := rfl
theorem gL_sB : gL (sB σ o k g) = gL σ := rfl
theorem gV_sB : gV (sB σ o k g) = gV σ := rfl
theorem gK_sB : gK (sB σ o k g) = gK σ := rfl
theorem gN_sB : gN (sB σ o k g) = gN σ := rfl
theorem gS_sB : gS (sB σ o k g) = gS σ := rfl
theorem gT_sB : gT (sB σ o k g) = gT σ := rfl
theorem gC_sB : gC (sB σ o k g) = gC σ := rfl
theorem gD_sB : gD (sB σ o k g) = gD σ := rfl
theorem gF_nO : gF (nO σ c n) = gF σ := rfl
theorem gA_nO : gA (nO σ c n) = gA σ := rfl
theorem gL_nO : gL (nO σ c n) = gL σ := rfl
theorem gV_nO : gV (nO σ c n) = gV σ := rfl
theorem gK_nO (a : Nat) : gK (nO σ c n) a = if a = gN σ then c else gK σ a := rfl
theorem gN_nO : gN (nO σ c n) = gN σ + 1 := rfl
theorem gS_nO : gS (nO σ c n) = gS σ + n := rfl
theorem gT_nO : gT (nO σ c n) = gT σ := rfl
theorem gC_nO : gC (nO σ c n) = gC σ + 1 := rfl
theorem gD_nO : gD (nO σ c n) = gD σ + (if c = 50 then 0 else n) := rfl
theorem gF_nA : gF (nA σ c n) = gF σ := rfl
theorem gA_nA : gA (nA σ c n) = gA σ := rfl
theorem gL_nA (a b : Nat) : gL (nA σ c n) a b = if a = gN σ ∧ b = 0 then n else gL σ a b := rfl
theorem gV_nA (a b : Nat) : gV (nA σ c n) a b = if a = gN σ ∧ b = 0 then gN σ else gV σ a b := rfl
theorem gK_nA (a : Nat) : gK (nA σ c n) a = if a = gN σ then 100 + c else gK σ a := rfl
theorem gN_nA : gN (nA σ c n) = gN σ + 1 := rfl
theorem gS_nA : gS (nA σ c n) = gS σ + n := rfl
theorem gT_nA : gT (nA σ c n) = gT σ + n := rfl
theorem gC_nA : gC (nA σ c n) = gC σ + (if n < 16 then 1 else 0) := rfl
theorem gD_nA : gD (nA σ c n) = gD σ := rfl
theorem gF_mV : gF (mV σ t o k) = gF σ := rfl
theorem gA_mV (a b : Nat) : gA (mV σ t o k) a b = if a = o ∧ b = k then gA σ t 0 else gA σ a b := rfl
theorem gL_mV (a b : Nat) : gL (mV σ t o k) a b = if a = o ∧ b = k then gL σ t 0 else if a = t ∧ b = 0 then 0 else gL σ a b := rfl
theorem gV_mV (a b : Nat) : gV (mV σ t o k) a b = if a = o ∧ b = k then t else if a = t ∧ b = 0 then 0 else gV σ a b := rfl
theorem gK_mV : gK (mV σ t o k) = gK σ := rfl
theorem gN_mV : gN (mV σ t o k) = gN σ := rfl
theorem gS_mV : gS (mV σ t o k) = gS σ := rfl
theorem gT_mV : gT (mV σ t o k) = gT σ - gL σ t 0 := rfl
theorem gC_mV : gC (mV σ t o k) = gC σ := rfl
theorem gD_mV : gD (mV σ t o k) = gD σ + (if o < 222 then 0 else gL σ t 0) := rfl
end Get
theorem w32_in (x : Int) : in32 (w32 x) := by unfold in32 w32; omega
theorem w64_in (x : Int) : in64 (w64 x) := by unfold in64 w64; omega
theorem w32_id {x : Int} (h : in32 x) : w32 x = x := by unfold in32 at h; unfold w32; omega
theorem w64_id {x : Int} (h : in64 x) : w64 x = x := by unfold in64 at h; unfold w64; omega
theorem in32_toInt (x : Int32) : in32 x.toInt := ⟨x.le_toInt, x.toInt_lt⟩
theorem in64_toInt (x : Int64) : in64 x.toInt := ⟨x.le_toInt, x.toInt_lt⟩
theorem in32_and (x y : Int) : in32 (iAnd x y) := in32_toInt _
theorem in32_or (x y : Int) : in32 (iOr x y) := in32_toInt _
theorem in32_xor (x y : Int) : in32 (iXor x y) := in32_toInt _
theorem in64_and (x y : Int) : in64 (jAnd x y) := in64_toInt _
theorem in64_or (x y : Int) : in64 (jOr x y) := in64_toInt _
theorem in64_xor (x y : Int) : in64 (jXor x y) := in64_toInt _
/-- the Int32 of a number within -/
theorem i32_toInt {x : Int} (h : in32 x) : (Int32.ofInt x).toInt = x := by
  rw [Int32.toInt_ofInt]
  unfold in32 at h
  unfold Int.bmod
  simp only [Int32.size] 
  omega
theorem i64_toInt {x : Int} (h : in64 x) : (Int64.ofInt x).toInt = x := by
  rw [Int64.toInt_ofInt]
  unfold in64 at h
  unfold Int.bmod
  simp only [Int64.size]
  omega
theorem i32_w (x : Int) : Int32.ofInt (w32 x) = Int32.ofInt x := by
  apply Int32.toInt_inj.mp
  rw [Int32.toInt_ofInt, Int32.toInt_ofInt]
  unfold w32 Int.bmod
  simp only [Int32.size]
  omega
theorem i64_w (x : Int) : Int64.ofInt (w64 x) = Int64.ofInt x := by
  apply Int64.toInt_inj.mp
  rw [Int64.toInt_ofInt, Int64.toInt_ofInt]
  unfold w64 Int.bmod
  simp only [Int64.size]
  omega
end
section
/-! what the machine's words come to, in numbers -/
set_option maxRecDepth 100000
theorem i32_add (x y : Int) : Int32.ofInt x + Int32.ofInt y = Int32.ofInt (w32 (x + y)) := by rw [i32_w, Int32.ofInt_add]
theorem i32_sub (x y : Int) : Int32.ofInt x - Int32.ofInt y = Int32.ofInt (w32 (x - y)) := by rw [i32_w, Int32.ofInt_sub]
theorem i32_mul (x y : Int) : Int32.ofInt x * Int32.ofInt y = Int32.ofInt (w32 (x * y)) := by rw [i32_w, Int32.ofInt_mul]
theorem i32_neg (x : Int) : -Int32.ofInt x = Int32.ofInt (w32 (-x)) := by rw [i32_w, Int32.ofInt_neg]
theorem i64_add (x y : Int) : Int64.ofInt x + Int64.ofInt y = Int64.ofInt (w64 (x + y)) := by rw [i64_w, Int64.ofInt_add]
theorem i64_sub (x y : Int) : Int64.ofInt x - Int64.ofInt y = Int64.ofInt (w64 (x - y)) := by rw [i64_w, Int64.ofInt_sub]
theorem i64_mul (x y : Int) : Int64.ofInt x * Int64.ofInt y = Int64.ofInt (w64 (x * y)) := by rw [i64_w, Int64.ofInt_mul]
theorem i64_neg (x : Int) : -Int64.ofInt x = Int64.ofInt (w64 (-x)) := by rw [i64_w, Int64.ofInt_neg]
theorem i32_self (x : Int32) : Int32.ofInt x.toInt = x := Int32.ofInt_toInt x
theorem i64_self (x : Int64) : Int64.ofInt x.toInt = x := Int64.ofInt_toInt x
theorem i32_and (x y : Int) : Int32.ofInt x &&& Int32.ofInt y = Int32.ofInt (iAnd x y) := (i32_self _).symm
theorem i32_or (x y : Int) : Int32.ofInt x ||| Int32.ofInt y = Int32.ofInt (iOr x y) := (i32_self _).symm
theorem i32_xor (x y : Int) : Int32.ofInt x ^^^ Int32.ofInt y = Int32.ofInt (iXor x y) := (i32_self _).symm
theorem i64_and (x y : Int) : Int64.ofInt x &&& Int64.ofInt y = Int64.ofInt (jAnd x y) := (i64_self _).symm
theorem i64_or (x y : Int) : Int64.ofInt x ||| Int64.ofInt y = Int64.ofInt (jOr x y) := (i64_self _).symm
theorem i64_xor (x y : Int) : Int64.ofInt x ^^^ Int64.ofInt y = Int64.ofInt (jXor x y) := (i64_self _).symm
theorem bmod_w32 (x : Int) : x.bmod 4294967296 = w32 x := by unfold w32 Int.bmod; dsimp only; omega
theorem bmod_w64 (x : Int) : x.bmod 18446744073709551616 = w64 x := by unfold w64 Int.bmod; dsimp only; omega
theorem i32_div {x y : Int} (hx : in32 x) (hy : in32 y) : Int32.ofInt x / Int32.ofInt y = Int32.ofInt (w32 (x.tdiv y)) := by
  apply Int32.toInt_inj.mp
  rw [Int32.toInt_div, i32_toInt hx, i32_toInt hy, i32_toInt (w32_in _)]
  exact bmod_w32 _
theorem i64_div {x y : Int} (hx : in64 x) (hy : in64 y) : Int64.ofInt x / Int64.ofInt y = Int64.ofInt (w64 (x.tdiv y)) := by
  apply Int64.toInt_inj.mp
  rw [Int64.toInt_div, i64_toInt hx, i64_toInt hy, i64_toInt (w64_in _)]
  exact bmod_w64 _
theorem i32_rem {x y : Int} (hx : in32 x) (hy : in32 y) : Int32.ofInt x - Int32.ofInt x / Int32.ofInt y * Int32.ofInt y = Int32.ofInt (x.tmod y) := by
  rw [i32_div hx hy, i32_w, ← Int32.ofInt_mul, ← Int32.ofInt_sub]
  congr 1
  have h := Int.tmod_add_mul_tdiv x y
  have e : x.tdiv y * y = y * x.tdiv y := Int.mul_comm _ _
  omega
theorem i64_rem {x y : Int} (hx : in64 x) (hy : in64 y) : Int64.ofInt x - Int64.ofInt x / Int64.ofInt y * Int64.ofInt y = Int64.ofInt (x.tmod y) := by
  rw [i64_div hx hy, i64_w, ← Int64.ofInt_mul, ← Int64.ofInt_sub]
  congr 1
  have h := Int.tmod_add_mul_tdiv x y
  have e : x.tdiv y * y = y * x.tdiv y := Int.mul_comm _ _
  omega
theorem tmod_in32 {x y : Int} (hx : in32 x) : in32 (x.tmod y) := by
  unfold in32 at *
  have h3 : (x.tmod y).natAbs = x.natAbs % y.natAbs := Int.natAbs_tmod x y
  have h4 : x.natAbs % y.natAbs ≤ x.natAbs := Nat.mod_le _ _
  rcases Int.le_total 0 x with h | h
  · have h1 : 0 ≤ x.tmod y := Int.tmod_nonneg y h
    omega
  · have h1 : 0 ≤ (-x).tmod y := Int.tmod_nonneg y (by omega)
    rw [Int.neg_tmod] at h1
    omega
theorem tmod_in64 {x y : Int} (hx : in64 x) : in64 (x.tmod y) := by
  unfold in64 at *
  have h3 : (x.tmod y).natAbs = x.natAbs % y.natAbs := Int.natAbs_tmod x y
  have h4 : x.natAbs % y.natAbs ≤ x.natAbs := Nat.mod_le _ _
  rcases Int.le_total 0 x with h | h
  · have h1 : 0 ≤ x.tmod y := Int.tmod_nonneg y h
    omega
  · have h1 : 0 ≤ (-x).tmod y := Int.tmod_nonneg y (by omega)
    rw [Int.neg_tmod] at h1
    omega
theorem b32_toInt (x : Int32) : x.toInt = if 2 * x.toBitVec.toNat < 4294967296 then (x.toBitVec.toNat : Int) else (x.toBitVec.toNat : Int) - 4294967296 := by
  have h := BitVec.toInt_eq_toNat_cond x.toBitVec
  exact h
theorem b64_toInt (x : Int64) : x.toInt = if 2 * x.toBitVec.toNat < 18446744073709551616 then (x.toBitVec.toNat : Int) else (x.toBitVec.toNat : Int) - 18446744073709551616 := by
  have h := BitVec.toInt_eq_toNat_cond x.toBitVec
  exact h
theorem b32_nat (x : Int) : ((Int32.ofInt x).toBitVec.toNat : Int) = x % 4294967296 := by
  rw [Int32.toBitVec_ofInt, BitVec.toNat_ofInt]
  omega
theorem b64_nat (x : Int) : ((Int64.ofInt x).toBitVec.toNat : Int) = x % 18446744073709551616 := by
  rw [Int64.toBitVec_ofInt, BitVec.toNat_ofInt]
  omega
theorem i32_of_nat {a : Int32} {x : Int} (h : (a.toBitVec.toNat : Int) = x % 4294967296) : a = Int32.ofInt x := by
  apply Int32.toBitVec_inj.mp
  apply BitVec.eq_of_toNat_eq
  have := b32_nat x
  omega
theorem i64_of_nat {a : Int64} {x : Int} (h : (a.toBitVec.toNat : Int) = x % 18446744073709551616) : a = Int64.ofInt x := by
  apply Int64.toBitVec_inj.mp
  apply BitVec.eq_of_toNat_eq
  have := b64_nat x
  omega
theorem am31 : ∀ n, n < 32 → ((nI n).toBitVec.smod 32).toNat = n := by decide +kernel
theorem am31u : ∀ n, n < 32 → ((nI n).toUInt32.toBitVec % 32).toNat = n := by decide +kernel
theorem am63 : ∀ n, n < 64 → ((lN n).toBitVec.smod 64).toNat = n := by decide +kernel
theorem an31 (y : Int) : Int32.ofInt y &&& 31 = nI (y % 32).toNat := by
  rw [pk_and _ 5 (by decide +kernel)]
  congr 1
  have := b32_nat y
  omega
theorem an63 {y : Int} (hy : in32 y) : (Int32.ofInt y).toInt64 &&& 63 = lN (y % 64).toNat := by
  have e : (Int32.ofInt y).toInt64 = Int64.ofInt y := by
    apply Int64.toInt_inj.mp
    rw [Int32.toInt_toInt64, i32_toInt hy, i64_toInt (by unfold in32 at hy; unfold in64; omega)]
  rw [e]
  refine (i64_of_nat (a := _) (x := ((y % 64).toNat : Int)) ?_).trans ?_
  · rw [Int64.toBitVec_and, BitVec.toNat_and]
    have h1 := b64_nat y
    have h2 : (63 : Int64).toBitVec.toNat = 2 ^ 6 - 1 := by decide +kernel
    rw [h2, Nat.and_two_pow_sub_one_eq_mod]
    omega
  · rfl
theorem mulmod (a P M : Int) : a % M * P % M = a * P % M := by rw [Int.mul_emod, Int.emod_emod, ← Int.mul_emod]
theorem i32_shl (x y : Int) : Int32.ofInt x <<< (Int32.ofInt y &&& 31) = Int32.ofInt (iShl x y) := by
  rw [an31]
  unfold iShl
  rw [i32_w]
  apply i32_of_nat
  rw [pk_shl _ _ (y % 32).toNat (am31 _ (by omega)), Int.natCast_emod, Int.natCast_mul, b32_nat, Int.natCast_pow]
  exact mulmod _ _ _
theorem iShr_in {x : Int} (y : Int) (hx : in32 x) : in32 (iShr x y) := by
  unfold iShr in32 at *
  have hp : 0 < (2 : Int) ^ (y % 32).toNat := Int.pow_pos (by omega)
  constructor
  · rw [Int.le_ediv_iff_mul_le hp]
    omega
  · rw [Int.ediv_lt_iff_lt_mul hp]
    omega
theorem i32_shr {x : Int} (y : Int) (hx : in32 x) : Int32.ofInt x >>> (Int32.ofInt y &&& 31) = Int32.ofInt (iShr x y) := by
  rw [an31]
  apply Int32.toInt_inj.mp
  rw [pk_shr _ _ (y % 32).toNat (am31 _ (by omega)), i32_toInt hx, i32_toInt (iShr_in y hx)]
  unfold iShr
  rw [Int.shiftRight_eq_div_pow, Int.natCast_pow]; rfl
theorem jShr_in {x : Int} (y : Int) (hx : in64 x) : in64 (jShr x y) := by
  unfold jShr in64 at *
  have hp : 0 < (2 : Int) ^ (y % 64).toNat := Int.pow_pos (by omega)
  constructor
  · rw [Int.le_ediv_iff_mul_le hp]
    omega
  · rw [Int.ediv_lt_iff_lt_mul hp]
    omega
theorem i32_ush (x y : Int) : ((Int32.ofInt x).toUInt32 >>> ((Int32.ofInt y).toUInt32 &&& Int32.toUInt32 31)).toInt32 = Int32.ofInt (iUsh x y) := by
  unfold iUsh
  rw [i32_w]
  apply i32_of_nat
  rw [pk_ushr _ _ (y % 32).toNat, Int.natCast_ediv, b32_nat, Int.natCast_pow]
  · have h1 : 0 ≤ x % 4294967296 := by omega
    have hp : 0 < (2 : Int) ^ (y % 32).toNat := Int.pow_pos (by omega)
    have h2 := Int.ediv_nonneg h1 (show (0 : Int) ≤ 2 ^ (y % 32).toNat by omega)
    have h3 := Int.ediv_le_self (2 ^ (y % 32).toNat) h1
    show x % 4294967296 / 2 ^ (y % 32).toNat = _
    omega
  · have h1 := b32_nat y
    have e : ((Int32.ofInt y).toUInt32 &&& Int32.toUInt32 31).toBitVec = (Int32.ofInt y).toBitVec &&& 31#32 := rfl
    rw [e, BitVec.toNat_umod, BitVec.toNat_and, show (31#32).toNat = 2 ^ 5 - 1 from rfl, Nat.and_two_pow_sub_one_eq_mod]
    show _ % 2 ^ 5 % 32 = _
    omega
theorem i64_shl {x y : Int} (hy : in32 y) : Int64.ofInt x <<< ((Int32.ofInt y).toInt64 &&& 63) = Int64.ofInt (jShl x y) := by
  rw [an63 hy]
  unfold jShl
  rw [i64_w]
  apply i64_of_nat
  have e : (Int64.ofInt x <<< lN (y % 64).toNat).toBitVec = (Int64.ofInt x).toBitVec <<< ((lN (y % 64).toNat).toBitVec.smod 64).toNat := rfl
  rw [e, am63 _ (by omega), BitVec.toNat_shiftLeft, Nat.shiftLeft_eq, Int.natCast_emod, Int.natCast_mul, b64_nat, Int.natCast_pow]
  exact mulmod _ _ _
theorem i64_shr {x y : Int} (hx : in64 x) (hy : in32 y) : Int64.ofInt x >>> ((Int32.ofInt y).toInt64 &&& 63) = Int64.ofInt (jShr x y) := by
  rw [an63 hy]
  apply Int64.toInt_inj.mp
  have e : (Int64.ofInt x >>> lN (y % 64).toNat).toInt = ((Int64.ofInt x).toBitVec.sshiftRight ((lN (y % 64).toNat).toBitVec.smod 64).toNat).toInt := rfl
  rw [e, am63 _ (by omega), BitVec.toInt_sshiftRight, i64_toInt (jShr_in y hx)]
  show (Int64.ofInt x).toInt >>> (y % 64).toNat = _
  rw [i64_toInt hx, Int.shiftRight_eq_div_pow, Int.natCast_pow]
  rfl
theorem i64_ush {x y : Int} (hy : in32 y) : ((Int64.ofInt x).toUInt64 >>> ((Int32.ofInt y).toInt64.toUInt64 &&& Int64.toUInt64 63)).toInt64 = Int64.ofInt (jUsh x y) := by
  unfold jUsh
  rw [i64_w]
  apply i64_of_nat
  have ha := congrArg Int64.toBitVec (an63 hy)
  have e : ((Int64.ofInt x).toUInt64 >>> ((Int32.ofInt y).toInt64.toUInt64 &&& Int64.toUInt64 63)).toInt64.toBitVec = (Int64.ofInt x).toBitVec >>> (((Int32.ofInt y).toInt64 &&& 63).toBitVec % 64).toNat := rfl
  have h63 : ∀ n, n < 64 → ((lN n).toBitVec % 64).toNat = n := by decide +kernel
  rw [e, ha, h63 _ (by omega), BitVec.toNat_ushiftRight, Nat.shiftRight_eq_div_pow, Int.natCast_ediv, b64_nat, Int.natCast_pow]
  have h1 : 0 ≤ x % 18446744073709551616 := by omega
  have hp : 0 < (2 : Int) ^ (y % 64).toNat := Int.pow_pos (by omega)
  have h2 := Int.ediv_nonneg h1 (show (0 : Int) ≤ 2 ^ (y % 64).toNat by omega)
  have h3 := Int.ediv_le_self (2 ^ (y % 64).toNat) h1
  show x % 18446744073709551616 / 2 ^ (y % 64).toNat = _
  omega
theorem i32_i2l {x : Int} (h : in32 x) : (Int32.ofInt x).toInt64 = Int64.ofInt x := by
  apply Int64.toInt_inj.mp
  rw [Int32.toInt_toInt64, i32_toInt h, i64_toInt (by unfold in32 at h; unfold in64; omega)]
theorem i64_l2i (x : Int) : (Int64.ofInt x).toInt32 = Int32.ofInt (w32 x) := by
  rw [i32_w]
  apply i32_of_nat
  have e : (Int64.ofInt x).toInt32.toBitVec = (Int64.ofInt x).toBitVec.signExtend 32 := rfl
  have e2 : (Int64.ofInt x).toBitVec.signExtend 32 = (Int64.ofInt x).toBitVec.setWidth 32 := BitVec.signExtend_eq_setWidth_of_le _ (by omega)
  rw [e, e2, BitVec.toNat_setWidth, Int.natCast_emod, b64_nat]
  show x % 18446744073709551616 % 4294967296 = _
  omega
theorem i32_i2b (x : Int) : (Int32.ofInt x).toInt8.toInt32 = Int32.ofInt (w8 x) := by
  apply Int32.toInt_inj.mp
  rw [Int8.toInt_toInt32, i32_toInt (by unfold w8 in32; omega), Int32.toInt_toInt8, Int32.toInt_ofInt]
  unfold w8 Int.bmod
  simp only [Int32.size]
  omega
theorem i32_eq {x y : Int} (hx : in32 x) (hy : in32 y) : Int32.ofInt x = Int32.ofInt y ↔ x = y := by
  constructor
  · intro h
    have := congrArg Int32.toInt h
    rwa [i32_toInt hx, i32_toInt hy] at this
  · intro h; rw [h]
theorem i32_lt {x y : Int} (hx : in32 x) (hy : in32 y) : Int32.ofInt x < Int32.ofInt y ↔ x < y := by rw [Int32.lt_iff_toInt_lt, i32_toInt hx, i32_toInt hy]
theorem i32_le {x y : Int} (hx : in32 x) (hy : in32 y) : Int32.ofInt x ≤ Int32.ofInt y ↔ x ≤ y := by rw [Int32.le_iff_toInt_le, i32_toInt hx, i32_toInt hy]
theorem i64_eq {x y : Int} (hx : in64 x) (hy : in64 y) : Int64.ofInt x = Int64.ofInt y ↔ x = y := by
  constructor
  · intro h
    have := congrArg Int64.toInt h
    rwa [i64_toInt hx, i64_toInt hy] at this
  · intro h; rw [h]
theorem i64_lt {x y : Int} (hx : in64 x) (hy : in64 y) : Int64.ofInt x < Int64.ofInt y ↔ x < y := by rw [Int64.lt_iff_toInt_lt, i64_toInt hx, i64_toInt hy]
theorem i64_cmp {x y : Int} (hx : in64 x) (hy : in64 y) : lg_cmp (Int64.ofInt x) (Int64.ofInt y) = Int32.ofInt (jCmp x y) := by
  unfold lg_cmp jCmp
  have h1 := i64_lt hy hx
  have h2 := i64_eq hx hy
  by_cases c1 : x > y
  · rw [if_pos (h1.mpr c1), if_pos c1]; rfl
  · rw [if_neg (fun q => c1 (h1.mp q)), if_neg c1]
    by_cases c2 : x = y
    · rw [if_pos (h2.mpr c2), if_pos c2]; rfl
    · rw [if_neg (fun q => c2 (h2.mp q)), if_neg c2]; rfl
theorem jCmp_in (x y : Int) : in32 (jCmp x y) := by
  unfold jCmp in32
  split
  · omega
  · split <;> omega
theorem i32_clamp {x : Int} (h : in32 x) (h0 : 0 ≤ x) : (Int32.ofInt x).toNatClampNeg = x.toNat := by
  show (Int32.ofInt x).toInt.toNat = _
  rw [i32_toInt h]
theorem i32_c0 : (0 : Int32) = Int32.ofInt 0 := by decide +kernel
theorem i64_c0 : (0 : Int64) = Int64.ofInt 0 := by decide +kernel
end
section
set_option maxRecDepth 100000
/-- the classes of which cells are made, by their numbers (6 stands for none) -/
abbrev clL : List vw_C := [(RX0, TX0, 21), (RX1, TX1, 2), (RX2, TX2, 4), (RX3, TX3, 5), (RX4, TX4, 5), (RX5, TX5, 8), (RX1, TX1, 2), (RX7, TX7, 51), (RX8, TX8, 3), (RX9, TX9, 7), (RX10, TX10, 26), (RX11, TX11, 16), (RX12, TX12, 7), (RX13, TX13, 3), (RX14, TX14, 5), (RX15, TX15, 6), (RX16, TX16, 1), (RX17, TX17, 72), (RX18, TX18, 60), (RX19, TX19, 7), (RX20, TX20, 4), (RX21, TX21, 7), (RJ10, TJ10, 6)]
/-- kinds of fields: 0 int, 1 boolean, 2 long, 3 object, 4 + e array of elements e, 20 borrowed array -/
def ftL : List (List Nat) := [[3, 3, 3, 3, 3, 3, 3, 3, 3, 3, 3, 3, 3, 1, 0, 0, 0, 0, 1, 0, 0], [5, 0], [3, 4, 0, 4], [5, 4, 4, 4, 0], [3, 3, 3, 0, 0], [8, 3, 0, 0, 3, 0, 0, 0], [], [3, 3, 4, 4, 4, 4, 4, 0, 0, 4, 4, 4, 4, 4, 4, 4, 4, 0, 4, 0, 4, 4, 4, 4, 4, 4, 4, 4, 4, 0, 4, 0, 4, 4, 0, 0, 0, 4, 4, 4, 0, 0, 4, 4, 4, 4, 0, 4, 0, 4, 0], [4, 4, 0], [3, 3, 6, 7, 5, 4, 0], [3, 3, 3, 4, 4, 0, 2, 7, 4, 4, 4, 4, 4, 4, 0, 4, 0, 6, 0, 0, 0, 5, 0, 0, 0, 0], [3, 3, 3, 3, 4, 0, 4, 4, 4, 4, 4, 6, 0, 4, 4, 4], [0, 4, 4, 4, 0, 0, 1], [3, 4, 4], [3, 7, 7, 7, 4], [3, 3, 3, 3, 7, 7], [6], [10, 4, 0, 0, 4, 4, 4, 0, 0, 1, 0, 4, 4, 4, 4, 4, 4, 0, 4, 5, 4, 4, 4, 4, 0, 4, 4, 0, 4, 4, 4, 4, 4, 4, 4, 4, 4, 0, 0, 0, 0, 0, 0, 0, 0, 0, 4, 4, 4, 0, 4, 0, 4, 7, 0, 4, 4, 0, 0, 0, 0, 12, 7, 3, 11, 1, 1, 0, 0, 1, 1, 0], [20, 20, 20, 0, 4, 4, 4, 4, 0, 0, 4, 0, 4, 0, 0, 0, 6, 0, 4, 4, 4, 0, 4, 0, 4, 6, 7, 4, 4, 0, 0, 4, 6, 7, 0, 1, 2, 0, 0, 0, 0, 6, 4, 3, 3, 4, 4, 4, 4, 4, 0, 4, 0, 3, 9, 0, 4, 4, 0, 4], [4, 4, 0, 0, 0, 4, 4], [4, 0, 4, 4], [3, 7, 7, 7, 7, 4, 4], [3, 13, 3, 3, 3, 0]]
def ftOf (c k : Nat) : Nat := (ftL.getD c []).getD (k - 1) 0
/-- kinds of the cells that the two constructors make -/
def kcL : List Nat := [0, 1, 2, 0, 3, 2, 0, 0, 0, 4, 0, 0, 0, 0, 5, 6, 0, 8, 0, 0, 0, 0, 0, 0, 0, 0, 0, 0, 0, 0, 0, 0, 0, 0, 0, 0, 0, 0, 0, 0, 0, 0, 0, 0, 0, 0, 0, 0, 0, 0, 0, 0, 0, 9, 0, 0, 10, 0, 0, 0, 0, 11, 0, 0, 0, 0, 0, 0, 0, 0, 0, 0, 0, 0, 12, 13, 0, 0, 0, 14, 0, 0, 13, 0, 0, 0, 0, 0, 0, 0, 0, 0, 0, 0, 0, 0, 15, 0, 0, 0, 0, 15, 0, 0, 0, 0, 16, 17, 0, 17, 0, 0, 0, 16, 17, 0, 17, 0, 0, 0, 18, 0, 0, 0, 0, 0, 0, 0, 0, 0, 0, 0, 0, 0, 0, 0, 0, 0, 0, 0, 0, 0, 0, 0, 0, 0, 0, 0, 0, 0, 0, 0, 0, 0, 0, 0, 0, 0, 0, 0, 19, 0, 0, 0, 0, 0, 0, 0, 0, 0, 0, 0, 0, 0, 0, 0, 0, 0, 0, 0, 0, 0, 20, 0, 0, 0, 0, 20, 0, 0, 0, 0, 0, 0, 0, 0, 0, 0, 21, 0, 0, 0, 0, 0, 0, 0, 0, 0, 22, 0, 0, 0, 0, 0, 0, 22, 0, 0, 0, 0, 0, 0]
def kcOf (o : Nat) : Nat := kcL.getD o 0
/-- objects in final fields of these -/
def fcL : List (List Int) := [[], [2, 4, 9, 14, 17, 53, 56, 61, 74, 96, 101, 106, 113], [], [], [5], [], [], [], [], [], [], [], [], [], [4, 15], [], [], [4], [], [], [], [], [], [], [], [], [], [], [], [], [], [], [], [], [], [], [], [], [], [], [], [], [], [], [], [], [], [], [], [], [], [], [], [], [], [], [17, 53], [], [], [], [], [17, 53, 56], [], [], [], [], [], [], [], [], [], [], [], [], [17, 61, 75, 79], [], [], [], [], [82], [], [], [], [], [], [], [], [], [], [], [], [], [], [], [], [], [17], [], [], [], [], [17], [], [], [], [], [17, 74, 107, 109], [], [], [], [], [], [], [17, 74, 114, 116], [], [], [], [], [], [], [0, 0, 0, 0, 0, 0, 0, 0, 0, 0, 0, 0, 0, 0, 0, 0, 0, 0, 0, 0, 0, 0, 0, 0, 0, 0, 0, 0, 0, 0, 0, 0, 0, 0, 0, 0, 0, 0, 0, 0, 0, 0, 0, 0, 0, 0, 0, 0, 0, 0, 0, 0, 0, 0, 0, 0, 0, 0, 0, 0, 0, 0, 0, 160], [], [], [], [], [], [], [], [], [], [], [], [], [], [], [], [], [], [], [], [], [], [], [], [], [], [], [], [], [], [], [], [], [], [], [], [], [], [], [], [0, 0, 0, 0, 0, 0, 0, 0, 0, 0, 0, 0, 0, 0, 0, 0, 0, 0, 0, 0, 0, 0, 0, 0, 0, 0, 0, 0, 0, 0, 0, 0, 0, 0, 0, 0, 0, 0, 0, 0, 0, 0, 0, 182, 187, 0, 0, 0, 0, 0, 0, 0, 0, 198], [], [], [], [], [], [], [], [], [], [], [], [], [], [], [], [], [], [], [], [], [], [], [], [], [], [], [], [], [], [], [], [], [], [], [], [], [], [], [], [], [], [], [], [], [], [], [], [160], [], [], [], [], [], [], [160], [], [], [], [], [], []]
def fcOf (o k : Nat) : Int := if k = 0 then 0 else (fcL.getD o []).getD (k - 1) 0
/-- their arrays: path, weight, how long they may become -/
def spL : List (Nat × Nat × Nat × Nat) := [(2, 1, 2, 2560), (4, 2, 2, 2048), (4, 4, 2, 4096), (5, 1, 2, 2560), (9, 1, 2, 4096), (9, 2, 2, 4096), (9, 3, 2, 4096), (9, 4, 2, 4096), (15, 1, 1, 52), (17, 3, 2, 33790), (17, 4, 2, 33790), (17, 5, 2, 33790), (17, 6, 2, 33790), (17, 7, 2, 33790), (17, 10, 2, 512), (17, 11, 2, 512), (17, 12, 2, 512), (17, 13, 2, 512), (17, 14, 2, 512), (17, 15, 2, 512), (17, 16, 2, 512), (17, 17, 2, 512), (17, 19, 1, 5), (17, 21, 2, 4096), (17, 22, 2, 4096), (17, 23, 2, 1024), (17, 24, 2, 1024), (17, 25, 2, 1024), (17, 26, 2, 1024), (17, 27, 2, 1024), (17, 28, 2, 1024), (17, 29, 2, 1024), (17, 31, 1, 16), (17, 33, 2, 2048), (17, 34, 2, 2048), (17, 38, 2, 2048), (17, 39, 2, 2048), (17, 40, 2, 2048), (17, 43, 2, 512), (17, 44, 2, 512), (17, 45, 2, 512), (17, 46, 2, 512), (17, 48, 2, 8192), (17, 50, 2, 17000), (53, 1, 1, 16), (53, 2, 1, 256), (56, 3, 2, 51000), (56, 4, 2, 51000), (56, 5, 2, 51000), (56, 6, 2, 512), (61, 4, 2, 512), (61, 5, 2, 512), (61, 8, 2, 1024), (61, 9, 2, 512), (61, 10, 2, 512), (61, 11, 2, 1024), (61, 12, 2, 1024), (61, 13, 2, 1024), (61, 14, 2, 1024), (61, 16, 2, 31000), (61, 18, 2, 1024), (61, 22, 2, 24600), (74, 5, 2, 537000), (74, 7, 2, 51000), (74, 8, 2, 512), (74, 9, 2, 512), (74, 10, 2, 512), (74, 11, 2, 1024), (74, 12, 2, 1024), (74, 14, 2, 31000), (74, 15, 2, 1024), (74, 16, 2, 4096), (75, 2, 2, 17200), (75, 3, 2, 17200), (75, 4, 2, 16384), (79, 2, 2, 17200), (79, 3, 2, 17200), (82, 2, 2, 70400), (82, 3, 2, 70400), (82, 4, 2, 65536), (96, 2, 2, 51000), (96, 3, 2, 512), (96, 4, 2, 512), (96, 5, 2, 1024), (101, 2, 2, 51000), (101, 3, 2, 512), (101, 4, 2, 512), (101, 5, 2, 1024), (106, 5, 2, 512), (106, 6, 2, 512), (107, 1, 2, 17200), (109, 1, 2, 70400), (113, 5, 2, 512), (113, 6, 2, 512), (114, 1, 2, 17200), (116, 1, 2, 64), (120, 1, 1, 19), (120, 2, 1, 8000), (120, 5, 1, 8002), (120, 6, 1, 8002), (120, 7, 1, 8002), (120, 12, 1, 26000), (120, 13, 1, 26000), (120, 14, 1, 26000), (120, 15, 1, 26000), (120, 16, 1, 26000), (120, 17, 1, 26000), (120, 19, 1, 26000), (120, 20, 1, 13000), (120, 21, 1, 13000), (120, 22, 1, 13000), (120, 23, 1, 13000), (120, 24, 1, 13000), (120, 26, 2, 4096), (120, 27, 2, 2048), (120, 29, 2, 2048), (120, 30, 2, 2048), (120, 31, 2, 2048), (120, 32, 2, 256), (120, 33, 2, 256), (120, 34, 2, 256), (120, 35, 2, 256), (120, 36, 2, 256), (120, 37, 2, 256), (120, 47, 2, 1024), (120, 48, 2, 1024), (120, 49, 2, 1024), (120, 51, 2, 3920), (120, 53, 2, 3920), (120, 54, 2, 3920), (120, 56, 2, 4096), (120, 57, 2, 4096), (120, 62, 1, 2), (120, 63, 1, 256), (120, 65, 1, 2), (160, 5, 2, 2048), (160, 6, 2, 4096), (160, 7, 2, 4096), (160, 8, 2, 4096), (160, 11, 1, 176), (160, 13, 1, 176), (160, 17, 1, 256), (160, 19, 2, 1024), (160, 20, 2, 1024), (160, 21, 2, 1024), (160, 23, 2, 3920), (160, 25, 2, 3920), (160, 26, 2, 3920), (160, 27, 2, 3920), (160, 28, 2, 3920), (160, 29, 2, 3920), (160, 32, 1, 176), (160, 33, 1, 176), (160, 34, 1, 176), (160, 42, 1, 176), (160, 43, 1, 176), (160, 46, 1, 176), (160, 47, 1, 176), (160, 48, 2, 17200), (160, 49, 2, 17200), (160, 50, 2, 5300), (160, 52, 2, 22400), (160, 55, 2, 2048), (160, 57, 2, 71700), (160, 58, 2, 524288), (160, 60, 2, 4096), (182, 1, 2, 16384), (182, 2, 2, 16384), (182, 6, 2, 32768), (182, 7, 2, 16384), (187, 1, 2, 65536), (187, 2, 2, 65536), (187, 6, 2, 131072), (187, 7, 2, 65536), (198, 1, 2, 8192), (198, 3, 1, 176), (198, 4, 1, 176), (208, 2, 1, 176), (208, 3, 1, 176), (208, 4, 1, 176), (208, 5, 1, 176), (208, 6, 2, 17200), (208, 7, 2, 70400), (215, 2, 1, 176), (215, 3, 1, 176), (215, 4, 1, 176), (215, 5, 1, 176), (215, 6, 2, 17200), (215, 7, 2, 70400), (120, 100, 1, 256), (120, 101, 1, 256)]
def nSt (ph : Nat) : Nat := match ph with | 0 => 1 | 1 => 120 | _ => 222
def spW (o k : Nat) : Nat := ((spL.find? (fun q => q.1 == o && q.2.1 == k)).map (fun q => q.2.2.1)).getD 0
def spB (o k : Nat) : Nat := ((spL.find? (fun q => q.1 == o && q.2.1 == k)).map (fun q => q.2.2.2)).getD 0
/-- slots: ways and the model's heap of rows together; small cells; what is loose; all static arrays but that heap -/
theorem sp_sum : (spL.map (fun q => q.2.2.1 * q.2.2.2)).sum + 70400 + 1580320 + 18000 ≤ 6781611 + 2 * 524288 := by decide +kernel
/-- two ways to keep house: in the second one (1) the model's twin may be large, and ways have less -/
def cp (m : Nat) (q : Nat × Nat × Nat × Nat) : Nat := bif q.1 == 187 && !(m == 99) then q.2.2.2 / 2 else q.2.2.2
def cpB (m o f : Nat) : Nat := bif o == 187 && !(m == 99) then spB o f / 2 else spB o f
def md (m : Nat) : Nat := bif m == 99 then 327680 else 0
def gcap (σ : Sg) (o f : Nat) : Nat := bif o == 160 && f == 58 then min 524288 ((1908000 - gD σ) / 2) else bif o == 17 && (Nat.ble 3 f && Nat.ble f 7) then (bif gL σ o f == 0 then 64 else bif Nat.blt (gL σ o f) 64 then 0 else min 33790 (2 * gL σ o f + 2)) else cpB (gK σ 0) o f
/-- lengths of arrays that grow by one place at a time: 64, 130, .. -/
def IvL (l : Nat) : Prop := l ≤ 64 ∨ ∃ k, k ≤ 9 ∧ 64 * 2 ^ k ≤ l ∧ l + 2 ≤ 66 * 2 ^ k
theorem iv_next {l m : Nat} (h : IvL l) (h1 : 2 * l ≤ m) (h2 : m ≤ (bif l == 0 then 64 else bif Nat.blt l 64 then 0 else min 33790 (2 * l + 2))) : IvL m := by
  by_cases c0 : l = 0
  · subst c0
    exact Or.inl h2
  · rw [beq_eq_false_iff_ne.mpr c0] at h2
    by_cases c1 : l < 64
    · rw [(Nat.blt_eq).mpr c1] at h2
      have h2 : m ≤ 0 := h2
      omega
    · rw [show Nat.blt l 64 = false by rw [← Bool.not_eq_true, Nat.blt_eq]; exact c1] at h2
      have h2 : m ≤ min 33790 (2 * l + 2) := h2
      have key : ∃ k, k ≤ 9 ∧ 64 * 2 ^ k ≤ l ∧ l + 2 ≤ 66 * 2 ^ k := by
        rcases h with h | h
        · exact ⟨0, by omega, by omega, by omega⟩
        · exact h
      obtain ⟨k, hk, h4, h5⟩ := key
      have e2 : 2 ^ (k + 1) = 2 * 2 ^ k := by rw [Nat.pow_succ, Nat.mul_comm]
      refine Or.inr ⟨k + 1, ?_, by rw [e2]; omega, by rw [e2]; omega⟩
      by_cases c : k = 9
      · subst c
        have : 64 * 2 ^ 9 ≤ l := h4
        omega
      · omega
end
section
/-! how an abstract state lies in the machine's heap; the walk's judgement Ax, a method's contract Cn -/
set_option maxRecDepth 100000
/-- first cell of the law's own, heap at its start, classesₚ numbers and slots, array classes, constantsₚ cells, the script -/
abbrev Gp : Type := Nat × Heap × va_G × (Nat → ClassId) × (Nat → Option Nat) × Nat × (Nat → Int)
def oV : Option Nat → Value
  | none => .null
  | some a => .ref a
def cO (G : Gp) (r : Int) : Value := if r = 0 then .null else if 0 < r then .ref (G.1 + r.toNat - 1) else oV (G.2.2.2.2.1 (-r).toNat)
def cV (G : Gp) : AV → Value
  | .inl x => .int (Int32.ofInt x)
  | .inr (.inl x) => .long (Int64.ofInt x)
  | .inr (.inr (.inl r)) => cO G r
  | .inr (.inr (.inr q)) => .ref (G.1 + q.2.2.2 - 1)
/-- constants are numbered from 1 up to here -/
def nCon : Nat := 600
def okR (σ : Sg) (r : Int) : Prop := (0 ≤ r ∧ r < gN σ) ∨ (r < 0 ∧ -r < 600)
def okV (σ : Sg) : AV → Prop
  | .inl x => in32 x
  | .inr (.inl x) => in64 x
  | .inr (.inr (.inl r)) => okR σ r
  | .inr (.inr (.inr q)) => 1 ≤ q.2.2.2 ∧ q.2.2.2 < gN σ ∧ gK σ q.2.2.2 = 100 + q.1
/-- borrowed arrays: the walk's kinds, values, sizes are the model's -/
def bT (k : Nat) : Nat := if k = 1 then 20 else if k = 2 then 22 else 24
def fVal (G : Gp) (σ : Sg) (o t k : Nat) : Value :=
  if t ≤ 1 then .int (Int32.ofInt (gF σ o k)) else if t = 2 then .long (Int64.ofInt (gF σ o k)) else if t = 3 then cO G (gF σ o k)
  else if t = 20 then (if gF σ o k = 0 then .null else .ref (G.1 + gV σ 120 (bT k) - 1))
  else if gV σ o k = 0 then .null else .ref (G.1 + gV σ o k - 1)
def fOk (σ : Sg) (t k : Nat) (x : Int) : Prop :=
  (t = 0 → in32 x) ∧ (t = 1 → 0 ≤ x ∧ x ≤ 1) ∧ (t = 2 → in64 x) ∧ (t = 3 → okR σ x) ∧ (t = 20 → x = 0 ∨ (x = 1 ∧ gV σ 120 (bT k) ≠ 0 ∧ gV σ 120 (bT k) < gN σ ∧ gK σ (gV σ 120 (bT k)) = 100 + (if k = 1 then 1 else 0)))
def eVal (G : Gp) (e : Nat) (x : Int) : Value := if e ≤ 2 then .int (Int32.ofInt x) else if e = 3 then .long (Int64.ofInt x) else cO G x
def eOk (σ : Sg) (e : Nat) (x : Int) : Prop :=
  (e = 0 → in32 x) ∧ (e = 1 → -128 ≤ x ∧ x ≤ 127) ∧ (e = 2 → 0 ≤ x ∧ x ≤ 1) ∧ (e = 3 → in64 x) ∧ (4 ≤ e → okR σ x) ∧ (e = 8 → 0 ≤ x ∧ (x = 0 ∨ gK σ x.toNat = 103))
/-- the slots that the static arrays pay for -/
def pSum (σ : Sg) : Nat := (spL.map (fun q => q.2.2.1 * gL σ q.1 q.2.1)).sum
def RepO (G : Gp) (σ : Sg) (H : Heap) : Prop := ∀ (o ci : Nat) (r : vw_C), 1 ≤ o → o < gN σ → gK σ o = ci + 1 → clL[ci]? = some r →
  t_OB (G.1 + o - 1) (G.2.2.1.1 ci) r.2.2 (G.2.2.1.2 ci) H (fun j => fVal G σ o (ftOf ci (j + 1)) (j + 1)) ∧ ∀ j, j < r.2.2 → fOk σ (ftOf ci (j + 1)) (j + 1) (gF σ o (j + 1))
def RepA (G : Gp) (σ : Sg) (H : Heap) : Prop := ∀ o f : Nat, gV σ o f ≠ 0 → gV σ o f < gN σ ∧ 100 ≤ gK σ (gV σ o f) ∧ gL σ o f < 2 ^ 31 ∧
  H[G.1 + gV σ o f - 1]? = some (arrV (G.2.2.2.1 (gK σ (gV σ o f) - 100)) (gL σ o f) (fun j => eVal G (gK σ (gV σ o f) - 100) (gA σ o f j))) ∧
  ∀ j, j < gL σ o f → eOk σ (gK σ (gV σ o f) - 100) (gA σ o f j)
def RepU (σ : Sg) : Prop := (∀ o f oₚ fₚ : Nat, gV σ o f ≠ 0 → gV σ o f = gV σ oₚ fₚ → o = oₚ ∧ f = fₚ) ∧ (∀ o f : Nat, gV σ o f = 0 → gL σ o f = 0) ∧
  (∀ o : Nat, gN σ ≤ o → gK σ o = 0 ∧ ∀ f : Nat, gF σ o f = 0 ∧ gV σ o f = 0 ∧ ∀ i : Nat, gA σ o f i = 0) ∧
  (∀ o ci k e : Nat, gK σ o = ci + 1 → ci < 23 → ftOf ci k = 4 + e → e ≤ 8 → gV σ o k ≠ 0 → gK σ (gV σ o k) = 100 + e) ∧
  (∀ o f : Nat, gV σ o f ≠ 0 → o < gN σ ∧ (gK σ o < 100 ∨ (f = 0 ∧ gV σ o f = o)))
/-- arrays that were made first have at least so much -/
def spM (o k : Nat) : Nat := bif spW o k == 1 then spB o k else bif o == 17 && (Nat.ble 3 k && Nat.ble k 7) then 64 else 16
/-- once the constructors are done: kinds, final objects, arrays that are there -/
def RepP (ph : Nat) (σ : Sg) : Prop := (nSt ph ≤ gN σ) ∧ (∀ o : Nat, o < nSt ph → kcOf o ≠ 0 → gK σ o = kcOf o) ∧ (∀ o k : Nat, o < nSt ph → fcOf o k ≠ 0 → gF σ o k = fcOf o k) ∧
  (∀ o k : Nat, o < nSt ph → spW o k ≠ 0 → gV σ o k ≠ 0 ∧ spM o k ≤ gL σ o k)
/-- the slots of all static arrays but the model's heap of rows -/
def slB : Nat := (spL.map (fun q => q.2.2.1 * q.2.2.2)).sum - 2 * 524288
def slM (m : Nat) : Nat := bif m == 99 then slB else slB - 327680
/-- slots and cells -/
def RepS (σ : Sg) : Prop := gS σ + md (gK σ 0) ≤ pSum σ + gT σ + gD σ + 6 * gC σ ∧ (∀ q ∈ spL, gL σ q.1 q.2.1 ≤ cp (gK σ 0) q) ∧ gS σ ≤ slB + 70400 + 1580320 + 6 * gC σ ∧ gD σ + 2 * gL σ 160 58 ≤ 1908000 ∧ gC σ ≤ 3000 ∧ 16 * gN σ ≤ 16 + 16 * gC σ + gS σ ∧ ∀ f, 3 ≤ f → f ≤ 7 → IvL (gL σ 17 f)
def Rep (G : Gp) (ph : Nat) (σ : Sg) (H : Heap) : Prop := (H.size + 1 = G.1 + gN σ ∧ 1 ≤ gN σ) ∧ ((∀ q : Nat, q < G.1 → H[q]? = G.2.1[q]?) ∧ ∀ (q : Nat) (c : Cell), G.1 ≤ q → H[q]? = some c → c.vm = .none) ∧ RepO G σ H ∧ RepA G σ H ∧ RepU σ ∧ RepP ph σ ∧ RepS σ
/-- locals: what is known of them -/
def lsL (G : Gp) : Nat → List (Option AV) → List (Nat × Value)
  | _, [] => []
  | i, none :: t => lsL G (i + 1) t
  | i, some v :: t => (i, cV G v) :: lsL G (i + 1) t
/-- a word of the tables that lasts -/
def niceW : Cond → Bool
  | .fieldLinkNest .. => true
  | .methodLinkNest .. => true
  | .arrayOver (.object _) => true
  | .arrayOver (.array _) => true
  | w => goodWord w
def elTy (e : Nat) : FieldType := match e with
  | 0 => .int
  | 1 => .byte
  | 2 => .boolean
  | 3 => .long
  | 4 => .object "CircuitWarden$Token"
  | 5 => .object "CircuitWardenModel$Walk$Way"
  | 6 => .object "java/lang/String"
  | 7 => .object "CircuitWardenModel$NetRun"
  | _ => .array .long
/-- letters of the constants that are Strings: tokensₚ from 100 on (by ordinals), the model's words from 200 on -/
def strL : List (Nat × List Int) := [(100, []), (101, []), (102, []), (103, []), (104, [40]), (105, [41]), (106, [123]), (107, [125]), (108, [91]), (109, [93]), (110, [44]), (111, [59]), (112, [58]), (113, [63]), (114, [61]), (115, [126]), (116, [33]), (117, [124]), (118, [94]), (119, [38]), (120, [61, 61]), (121, [33, 61]), (122, [60]), (123, [60, 61]), (124, [62]), (125, [62, 61]), (126, [60, 60]), (127, [62, 62]), (128, [43]), (129, [45]), (130, [42]), (131, [47]), (132, [37]), (133, [108, 101, 118, 101, 108]), (134, [99, 111, 110, 115, 116]), (135, [102, 117, 110]), (136, [109, 111, 100, 101]), (137, [105, 110]), (138, [114, 101, 103]), (139, [119, 105, 114, 101]), (140, [111, 117, 116]), (141, [110, 101, 120, 116]), (142, [105, 102]), (143, [101, 108, 115, 101]), (144, [99, 97, 115, 101]), (145, [100, 101, 102, 97, 117, 108, 116]), (146, [110, 117, 109]), (147, [122, 101, 120, 116]), (148, [115, 101, 120, 116]), (149, [97, 110, 121]), (150, [97, 108, 108]), (151, [111, 100, 100]),
  (200, [108, 101, 118, 101, 108]), (201, [99, 111, 110, 115, 116]), (202, [102, 117, 110]), (203, [109, 111, 100, 101]), (204, [105, 110]), (205, [114, 101, 103]), (206, [119, 105, 114, 101]), (207, [111, 117, 116]), (208, [110, 101, 120, 116]), (209, [105, 102]), (210, [101, 108, 115, 101]), (211, [99, 97, 115, 101]), (212, [100, 101, 102, 97, 117, 108, 116]), (213, [110, 117, 109]), (214, [122, 101, 120, 116]), (215, [115, 101, 120, 116]), (216, [97, 110, 121]), (217, [97, 108, 108]), (218, [111, 100, 100])]
def bindsL : List Int := [0, 1, 2, 3, 3, 4, 4, 4, 4, 5, 5, 6, 6, 7, 7, 7]
def tokN : List String := ["END", "WRONG", "NAME", "NUMBER", "OPEN", "CLOSE", "BEGIN", "FINISH", "FROM", "TO", "COMMA", "STOP", "COLON", "ASK", "BECOMES", "FLIP", "NOT", "OR", "XOR", "AND", "SAME", "OTHER", "LESS", "MOST", "MORE", "LEAST", "LEFT", "RIGHT", "PLUS", "MINUS", "TIMES", "OVER", "REST", "LEVEL", "CONST", "FUN", "MODE", "IN", "REG", "WIRE", "OUT", "NEXT", "IF", "ELSE", "CASE", "DEFAULT", "NUM", "ZEXT", "SEXT", "ANY", "ALL", "ODD"]
/-- String constants that are loaded: number, class, place, text -/
def ldL : List (Nat × String × Nat × String) := [(200, "CircuitWardenModel", 147, "level"), (201, "CircuitWardenModel", 149, "const"), (202, "CircuitWardenModel", 151, "fun"), (203, "CircuitWardenModel", 153, "mode"), (204, "CircuitWardenModel", 155, "in"), (205, "CircuitWardenModel", 157, "reg"), (206, "CircuitWardenModel", 159, "wire"), (207, "CircuitWardenModel", 161, "out"), (208, "CircuitWardenModel", 163, "next"), (209, "CircuitWardenModel", 165, "if"), (210, "CircuitWardenModel", 167, "else"), (211, "CircuitWardenModel", 169, "case"), (212, "CircuitWardenModel", 171, "default"), (213, "CircuitWardenModel", 173, "num"), (214, "CircuitWardenModel", 175, "zext"), (215, "CircuitWardenModel", 177, "sext"), (216, "CircuitWardenModel", 179, "any"), (217, "CircuitWardenModel", 181, "all"), (218, "CircuitWardenModel", 183, "odd"), (398, "CircuitWarden$Reader", 31, "it can't stand there"), (397, "CircuitWarden$Design", 130, "it is wrong")]
/-- what constants are, in the heap of the start -/
abbrev oA (G : Gp) : Nat → Prop := fun q => G.1 ≤ q
def CtT (G : Gp) (U : State) : Prop := ∀ i : Nat, i < 52 → ∃ a b : Nat, G.2.2.2.2.1 (i + 1) = some a ∧ G.2.2.2.2.1 (100 + i) = some b ∧ va_Z "CircuitWarden$Token" (tokN.getD i "") "LCircuitWarden$Token;" (.ref a) (oA G) U G.2.1 ∧
  va_O "CircuitWarden$Token" a (oA G) U G.2.1 ∧ va_OF "java/lang/Enum" "ordinal" "I" (.int (Int32.ofInt i)) a (oA G) U G.2.1 ∧ va_OF "CircuitWarden$Token" "letters" "Ljava/lang/String;" (.ref b) a (oA G) U G.2.1
def CtS (G : Gp) (U : State) : Prop := ∀ q ∈ strL, ∃ a b : Nat, G.2.2.2.2.1 q.1 = some a ∧ G.2.2.2.2.1 (q.1 + 300) = some b ∧ va_O "java/lang/String" a (oA G) U G.2.1 ∧ va_OF "java/lang/String" "coder" "B" (.int 0) a (oA G) U G.2.1 ∧
  va_OF "java/lang/String" "value" "[B" (.ref b) a (oA G) U G.2.1 ∧ va_T .byte b q.2.length (fun j => .int (Int32.ofInt (q.2.getD j 0))) (oA G) U G.2.1
def CtN (G : Gp) (U : State) : Prop := (∃ a : Nat, G.2.2.2.2.1 300 = some a ∧ va_Z "CircuitWarden" "BINDS" "[I" (.ref a) (oA G) U G.2.1 ∧ va_T .int a 16 (fun j => .int (Int32.ofInt (bindsL.getD j 0))) (oA G) U G.2.1) ∧
  (∃ a : Nat, G.2.2.2.2.1 301 = some a ∧ G.2.2.2.2.2.1 ≤ 384 ∧ (∀ j, in32 (G.2.2.2.2.2.2 j)) ∧ va_T .int a G.2.2.2.2.2.1 (fun j => .int (Int32.ofInt (G.2.2.2.2.2.2 j))) (oA G) U G.2.1) ∧
  va_Z "java/lang/String" "COMPACT_STRINGS" "Z" (.int 1) (oA G) U G.2.1 ∧ va_Z "jdk/internal/util/Preconditions" "SIOOBE_FORMATTER" "Ljava/util/function/BiFunction;" (oV (G.2.2.2.2.1 399)) (oA G) U G.2.1
def CtL (G : Gp) (U : State) : Prop := ∀ q ∈ ldL, ∃ a : Nat, G.2.2.2.2.1 q.1 = some a ∧ vk_R q.2.1 q.2.2.1 q.2.2.2 a U
/-- what an exception's making asks -/
def thrL : List Cond := Bundle.ownAtoms "CircuitWarden$Reader" 33 "java/lang/IllegalStateException" ["java/lang/RuntimeException", "java/lang/Exception"] ++ Bundle.ownAtoms "CircuitWarden$Design" 132 "java/lang/IllegalStateException" ["java/lang/RuntimeException", "java/lang/Exception"]
def CtX (G : Gp) (U : State) : Prop := ∀ Uₚ : State, Uₚ.vm = U.vm → (∀ q : Nat, q < G.1 → Uₚ.heap[q]? = G.2.1[q]?) → ∀ (A : Array Value), ∀ w ∈ thrL, w.before A Uₚ = true
/-- the array of all tokens -/
def CtV (G : Gp) (U : State) : Prop := ∃ (a : Nat) (cell : Cell), G.2.2.2.2.1 302 = some a ∧ va_Z "CircuitWarden$Token" "$VALUES" "[LCircuitWarden$Token;" (.ref a) (oA G) U G.2.1 ∧ (∃ cC, U.vm.findClass "java/lang/Cloneable" = some cC ∧ U.vm.assignable (G.2.2.2.1 4) cC = true) ∧ G.2.1[a]? = some cell ∧ cell.cls = G.2.2.2.1 4 ∧ ((∀ k, cell.vm ≠ .statics k) ∧ cell.vm ≠ .unknown) ∧ cell.slots.size = 52 ∧ ∀ j : Nat, j < 52 → cell.slots[j]? = some (oV (G.2.2.2.2.1 (j + 1)))
def Cst (G : Gp) (U : State) : Prop := CtT G U ∧ CtS G U ∧ CtN G U ∧ CtL G U ∧ CtX G U ∧ (∀ i j : Nat, i < 52 → j < 52 → G.2.2.2.2.1 (i + 1) = G.2.2.2.2.1 (j + 1) → i = j) ∧ (∀ n a : Nat, n ≤ 52 → G.2.2.2.2.1 n = some a → a < G.1) ∧ G.2.1.size = G.1 ∧ CtV G U
/-- what is known of the machine's tables all through -/
def Glob (G : Gp) (s : State) : Prop := (∀ w ∈ lw_tbl, niceW w = true → ∀ A : Array Value, w.before A s = true) ∧
  (∀ (ci : Nat) (q : vw_C), clL[ci]? = some q → u_Kn s q.1 q.2.1 q.2.2 (G.2.2.1.1 ci) (G.2.2.1.2 ci)) ∧
  (∀ e : Nat, e ≤ 8 → ArrOfT s (G.2.2.2.1 e) (elTy e) ∧ va_RA s (G.2.2.2.1 e) (elTy e)) ∧ Cst G s
/-- how a walk ends: it returns, or throws -/
def EndP (G : Gp) (ph : Nat) (s : State) (below : List Frame) (σ0 : Sg) (Q : Option AV → Sg → Prop) (E : Int → Sg → Prop) (t : State) : Prop :=
  t.status = .running ∧ ((∃ (r : Option AV) (σ : Sg) (L : List Loc), Q r σ ∧ (∀ v, r = some v → okV σ v) ∧ Rep G ph σ t.heap ∧ gN σ0 ≤ gN σ ∧ gS σ0 ≤ gS σ ∧ (∀ v, okV σ0 v → okV σ v) ∧ Ended t below (.returned (r.map (cV G))) ∧
      s.WarmedH t.vm ∧ s.sameButNew ({ t with vm := s.vm } : State) L (gN σ - gN σ0) (gS σ - gS σ0) ∧ ∀ q ∈ L, G.1 ≤ q.base) ∨
    (∃ (a : Int) (σ : Sg) (L : List Loc), E a σ ∧ 0 < a ∧ okR σ a ∧ (∃ cell : Cell, t.heap[G.1 + a.toNat - 1]? = some cell ∧ cell.vm = .none ∧ cell.cls = G.2.2.1.1 22) ∧ Rep G ph σ t.heap ∧ gN σ0 ≤ gN σ ∧ gS σ0 ≤ gS σ ∧ (∀ v, okV σ0 v → okV σ v) ∧ Ended t below (.threw (G.1 + a.toNat - 1)) ∧
      s.WarmedH t.vm ∧ s.sameButNew ({ t with vm := s.vm } : State) L (gN σ - gN σ0) (gS σ - gS σ0) ∧ ∀ q ∈ L, G.1 ≤ q.base))
/-- a walk's surroundings: all that stays -/
abbrev Cx : Type := Gp × Program × Launch × Env × Room × State × MethodId × Array Value × List Frame × Method × Code × Sg × (Option AV → Sg → Prop) × (Int → Sg → Prop)
def Ax (ph : Nat) (X : Cx) (pc : Nat) (ls : List (Option AV)) (st : List AV) (σ : Sg) : Prop := match X with
  | (G, p, l, e, R, s, m, args, below, meth, c, σ0, Q, E) => ∀ (H : Heap) (locs : List Loc) (lsC : Array Slot), Rep G ph σ H → (∀ q ∈ locs, G.1 ≤ q.base) → lv_has lsC c.maxLocals (lsL G 0 ls) →
      (∀ v, some v ∈ ls → okV σ v) → (∀ v ∈ st, okV σ v) → gN σ0 ≤ gN σ → gS σ0 ≤ gS σ → (∀ v, okV σ0 v → okV σ v) →
      W p l e R s m args below meth c H locs (gN σ - gN σ0) (gS σ - gS σ0) (EndP G ph s below σ0 Q E) (F0 m pc lsC (st.map (cV G)))
/-- a method: its name, code, locals, answer, handlers -/
abbrev MI : Type := MethodName × ByteArray × Nat × Option FieldType × List (Nat × Nat × Nat × Nat)
/-- the surroundings are those of a method y, called with budget k -/
def CxOk (ph : Nat) (X : Cx) (y : MI) (k : Nat) (σ : Sg) (Q : Option AV → Sg → Prop) (E : Int → Sg → Prop) : Prop := match X with
  | (G, p, l, e, R, s, m, args, below, meth, c, σ0, Q0, E0) => p.tables.exec = Jvm.exec ∧ c.code = y.2.1 ∧ c.maxLocals = y.2.2.1 ∧ meth.sig.returnType = y.2.2.2.1 ∧ meth.locks = false ∧ s.vm.findClass y.1.cls = some m.cls ∧ meth.name = y.1.name ∧
      (c.exceptionTable.toList.map (fun h => (h.startPc, h.endPc, h.handlerPc, h.catchType)) = y.2.2.2.2 ∧ l.stackTraces = false ∧ (∀ q : Nat, q < G.1 → s.heap[q]? = G.2.1[q]?) ∧ ∀ (q : Nat) (c : Cell), G.1 ≤ q → s.heap[q]? = some c → c.vm = .none) ∧ Glob G s ∧ k ≤ R.frames ∧ 41 * k ≤ R.locals ∧ 773291 ≤ gN σ0 + R.cells ∧ 6781611 ≤ gS σ0 + R.slots ∧ σ0 = σ ∧ Q0 = Q ∧ E0 = E
/-- locals at a method's entry -/
def lsE (n : Nat) (as : List AV) : List (Option AV) := 
  let l := as.flatMap (fun v => match v with | .inr (.inl _) => [some v, none] | _ => [some v])
  l ++ List.replicate (n - l.length) none
/-- y's contract: with these arguments, from this state, it comes to Q or throws into E -/
def Cn (ph : Nat) (y : MI) (k : Nat) (as : List AV) (σ : Sg) (Q : Option AV → Sg → Prop) (E : Int → Sg → Prop) : Prop := ∀ X : Cx, CxOk ph X y k σ Q E → Ax ph X 0 (lsE y.2.2.1 as) [] σ
end
section
/-! THE SEGMENT's CONDITION: what must hold at a pc for the walk up to the next call, cut or end -/
set_option maxRecDepth 100000
/-- pc, instruction, its length, and three numbers by its kind -/
abbrev En : Type := Nat × Instr × Nat × Nat × Nat × Int
def chk (b : Bool) (P : Prop) : Prop := bif b then P else False
theorem chk_of {b : Bool} {P : Prop} (h : chk b P) : b = true ∧ P := by cases b with | true => exact ⟨rfl, h⟩ | false => exact h.elim
def kls (ph : Nat) (σ : Sg) (o : Nat) : Nat := bif Nat.blt o (nSt ph) then kcOf o else gK σ o
def lkill (ls : List (Option AV)) (i : Nat) : List (Option AV) := match i with
  | 0 => ls
  | j + 1 => match ls.getD j none with
    | some (.inr (.inl _)) => ls.set j none
    | _ => ls
def lset (ls : List (Option AV)) (i : Nat) (v : AV) : List (Option AV) := (lkill ls i).set i (some v)
def lset2 (ls : List (Option AV)) (i : Nat) (v : AV) : List (Option AV) := ((lkill ls i).set i (some v)).set (i + 1) none
def avW : AV → Nat
  | .inr (.inl _) => 2
  | _ => 1
def strOf (r : Int) : Option (List Int) := (strL.find? (fun q => q.1 == (-r).toNat)).map (fun q => q.2)
def swT (pc : Nat) (x : Int) (go : Nat → Prop) : Int → List Int → Prop
  | _, [] => True
  | k, off :: t => (x = k → go ((pc : Int) + off).toNat) ∧ swT pc x go (k + 1) t
def swL (pc : Nat) (x dflt : Int) (go : Nat → Prop) : List (Int × Int) → Prop
  | [] => go ((pc : Int) + dflt).toNat
  | q :: t => (x = q.1 → go ((pc : Int) + q.2).toNat) ∧ (¬ x = q.1 → swL pc x dflt go t)
def elT : ArrayType → Nat
  | .int => 0
  | .byte => 1
  | .boolean => 2
  | .long => 3
  | _ => 99
/-- a test of an int against another one, by the instruction's condition -/
def cmpI (c : Jvm.ClassFile.Cond) (x y : Int) : Prop := match c with
  | .eq => x = y
  | .ne => ¬ x = y
  | .lt => x < y
  | .ge => y ≤ x
  | .gt => y < x
  | .le => x ≤ y
/-- what an array's coming into a field asks -/
def mvOk (σ : Sg) (p o b : Nat) : Prop := bif Nat.blt o 222 then gL σ p 0 ≤ gcap σ o b ∧ (bif spW o b == 1 then gV σ o b = 0 else bif spW o b == 2 then 2 * gL σ o b ≤ gL σ p 0 else False) else gD σ + 2 * gL σ 160 58 + gL σ p 0 ≤ 1908000
end
section
/-! ROWS of the abstract machine, I: stack, locals, numbers, branches -/
set_option maxRecDepth 100000
section Rows
variable {ph k : Nat} {X : Cx} {y : MI} {σ0 σ : Sg} {Q : Option AV → Sg → Prop} {E : Int → Sg → Prop} {pc : Nat} {ls : List (Option AV)} {st : List AV}
/-- a step that leaves locals and heap -/
theorem ax_pure {pcₚ : Nat} {st1 st2 : List AV} (hX : CxOk ph X y k σ0 Q E) (h : Ax ph X pcₚ ls st2 σ) (hok : (∀ v ∈ st1, okV σ v) → ∀ v ∈ st2, okV σ v)
    (row : ∀ (G : Gp) (p : Program) (l : Launch) (e : Env) (R : Room) (s : State) (m : MethodId) (args : Array Value) (below : List Frame) (meth : Method) (c : Code) (H : Heap) (locs : List Loc) (cells slots : Nat) (Qw : State → Prop) (lsC : Array Slot), p.tables.exec = Jvm.exec → c.code = y.2.1 → (∀ v ∈ st1, okV σ v) →
      W p l e R s m args below meth c H locs cells slots Qw (F0 m pcₚ lsC (st2.map (cV G))) → W p l e R s m args below meth c H locs cells slots Qw (F0 m pc lsC (st1.map (cV G)))) : Ax ph X pc ls st1 σ := by
  obtain ⟨G, p, l, e, R, s, m, args, below, meth, c, σ0ₚ, Q0, E0⟩ := X
  intro H locs lsC hR hL hl ho hs hn hsl hm
  exact row G p l e R s m args below meth c H locs _ _ _ lsC hX.1 hX.2.1 hs (h H locs lsC hR hL hl ho (hok hs) hn hsl hm)
theorem okc {σ : Sg} {v : AV} {st : List AV} (h : ∀ w ∈ v :: st, okV σ w) : okV σ v ∧ ∀ w ∈ st, okV σ w := ⟨h v List.mem_cons_self, fun w hw => h w (List.mem_cons_of_mem _ hw)⟩
theorem okp {σ : Sg} {v : AV} {st : List AV} (hv : okV σ v) (h : ∀ w ∈ st, okV σ w) : ∀ w ∈ v :: st, okV σ w := by
  intro w hw
  rcases List.mem_cons.mp hw with e | e
  · rw [e]; exact hv
  · exact h w e
theorem ax_iconst {i : Int} (hX : CxOk ph X y k σ0 Q E) (hi : in32 i) (hd : decode y.2.1 pc = .ok (.iconst i, 1)) (h : Ax ph X (pc + 1) ls (vI i :: st) σ) : Ax ph X pc ls st σ :=
  ax_pure hX h (fun q => okp hi q) (fun G p l e R s m args below meth c H locs cells slots Qw lsC hx hb hs kk => lv_iconst hx hb hd rfl kk)
theorem ax_bipush {i : Int} (hX : CxOk ph X y k σ0 Q E) (hi : -128 ≤ i ∧ i ≤ 127) (hd : decode y.2.1 pc = .ok (.bipush i, 2)) (h : Ax ph X (pc + 2) ls (vI i :: st) σ) : Ax ph X pc ls st σ :=
  ax_pure hX h (fun q => okp (show in32 i by unfold in32; omega) q) (fun G p l e R s m args below meth c H locs cells slots Qw lsC hx hb hs kk => lv_bipush (v := Int32.ofInt i) hx hb hd (by
    apply Int32.toInt_inj.mp
    rw [Int8.toInt_toInt32, Int8.toInt_ofInt, i32_toInt (by unfold in32; omega)]
    unfold Int.bmod
    simp only [Int8.size]
    omega) kk)
theorem ax_sipush {i : Int} (hX : CxOk ph X y k σ0 Q E) (hi : -32768 ≤ i ∧ i ≤ 32767) (hd : decode y.2.1 pc = .ok (.sipush i, 3)) (h : Ax ph X (pc + 3) ls (vI i :: st) σ) : Ax ph X pc ls st σ :=
  ax_pure hX h (fun q => okp (show in32 i by unfold in32; omega) q) (fun G p l e R s m args below meth c H locs cells slots Qw lsC hx hb hs kk => lv_sipush (v := Int32.ofInt i) hx hb hd (by
    apply Int32.toInt_inj.mp
    rw [Int16.toInt_toInt32, Int16.toInt_ofInt, i32_toInt (by unfold in32; omega)]
    unfold Int.bmod
    simp only [Int16.size]
    omega) kk)
theorem ax_lconst {i : Fin 2} (hX : CxOk ph X y k σ0 Q E) (hd : decode y.2.1 pc = .ok (.lconst i, 1)) (h : Ax ph X (pc + 1) ls (vJ (i.val : Nat) :: st) σ) : Ax ph X pc ls st σ :=
  ax_pure hX h (fun q => okp (show in64 ((i.val : Nat) : Int) by unfold in64; have := i.isLt; omega) q) (fun G p l e R s m args below meth c H locs cells slots Qw lsC hx hb hs kk => lv_lconst hx hb hd rfl kk)
theorem ax_iadd {x z : Int} (hX : CxOk ph X y k σ0 Q E) (hd : decode y.2.1 pc = .ok (.iadd, 1)) (h : Ax ph X (pc + 1) ls (vI (w32 (x + z)) :: st) σ) : Ax ph X pc ls (vI z :: vI x :: st) σ :=
  ax_pure hX h (fun q => okp (w32_in _) (okc (okc q).2).2) (fun G p l e R s m args below meth c H locs cells slots Qw lsC hx hb hs kk => lv_iadd hx hb hd (by rw [i32_add]; exact kk))
theorem ax_isub {x z : Int} (hX : CxOk ph X y k σ0 Q E) (hd : decode y.2.1 pc = .ok (.isub, 1)) (h : Ax ph X (pc + 1) ls (vI (w32 (x - z)) :: st) σ) : Ax ph X pc ls (vI z :: vI x :: st) σ :=
  ax_pure hX h (fun q => okp (w32_in _) (okc (okc q).2).2) (fun G p l e R s m args below meth c H locs cells slots Qw lsC hx hb hs kk => lv_isub hx hb hd (by rw [i32_sub]; exact kk))
theorem ax_imul {x z : Int} (hX : CxOk ph X y k σ0 Q E) (hd : decode y.2.1 pc = .ok (.imul, 1)) (h : Ax ph X (pc + 1) ls (vI (w32 (x * z)) :: st) σ) : Ax ph X pc ls (vI z :: vI x :: st) σ :=
  ax_pure hX h (fun q => okp (w32_in _) (okc (okc q).2).2) (fun G p l e R s m args below meth c H locs cells slots Qw lsC hx hb hs kk => lv_imul hx hb hd (by rw [i32_mul]; exact kk))
theorem ax_idiv {x z : Int} (hX : CxOk ph X y k σ0 Q E) (hz : ¬ z = 0) (hd : decode y.2.1 pc = .ok (.idiv, 1)) (h : Ax ph X (pc + 1) ls (vI (w32 (x.tdiv z)) :: st) σ) : Ax ph X pc ls (vI z :: vI x :: st) σ :=
  ax_pure hX h (fun q => okp (w32_in _) (okc (okc q).2).2) (fun G p l e R s m args below meth c H locs cells slots Qw lsC hx hb hs kk => lv_idiv hx hb hd (by
    rw [i32_c0, i32_eq (okc hs).1 (by unfold in32; omega)]; exact hz) (by rw [i32_div (okc (okc hs).2).1 (okc hs).1]; exact kk))
theorem ax_irem {x z : Int} (hX : CxOk ph X y k σ0 Q E) (hz : ¬ z = 0) (hd : decode y.2.1 pc = .ok (.irem, 1)) (h : Ax ph X (pc + 1) ls (vI (x.tmod z) :: st) σ) : Ax ph X pc ls (vI z :: vI x :: st) σ :=
  ax_pure hX h (fun q => okp (tmod_in32 (okc (okc q).2).1) (okc (okc q).2).2) (fun G p l e R s m args below meth c H locs cells slots Qw lsC hx hb hs kk => lv_irem hx hb hd (by
    rw [i32_c0, i32_eq (okc hs).1 (by unfold in32; omega)]; exact hz) (by rw [i32_rem (okc (okc hs).2).1 (okc hs).1]; exact kk))
theorem ax_ineg {x : Int} (hX : CxOk ph X y k σ0 Q E) (hd : decode y.2.1 pc = .ok (.ineg, 1)) (h : Ax ph X (pc + 1) ls (vI (w32 (-x)) :: st) σ) : Ax ph X pc ls (vI x :: st) σ :=
  ax_pure hX h (fun q => okp (w32_in _) (okc q).2) (fun G p l e R s m args below meth c H locs cells slots Qw lsC hx hb hs kk => lv_ineg hx hb hd (by rw [i32_neg]; exact kk))
theorem ax_iand {x z : Int} (hX : CxOk ph X y k σ0 Q E) (hd : decode y.2.1 pc = .ok (.iand, 1)) (h : Ax ph X (pc + 1) ls (vI (iAnd x z) :: st) σ) : Ax ph X pc ls (vI z :: vI x :: st) σ :=
  ax_pure hX h (fun q => okp (in32_and _ _) (okc (okc q).2).2) (fun G p l e R s m args below meth c H locs cells slots Qw lsC hx hb hs kk => lv_iand hx hb hd (by rw [i32_and]; exact kk))
theorem ax_ior {x z : Int} (hX : CxOk ph X y k σ0 Q E) (hd : decode y.2.1 pc = .ok (.ior, 1)) (h : Ax ph X (pc + 1) ls (vI (iOr x z) :: st) σ) : Ax ph X pc ls (vI z :: vI x :: st) σ :=
  ax_pure hX h (fun q => okp (in32_or _ _) (okc (okc q).2).2) (fun G p l e R s m args below meth c H locs cells slots Qw lsC hx hb hs kk => lv_ior hx hb hd (by rw [i32_or]; exact kk))
theorem ax_ixor {x z : Int} (hX : CxOk ph X y k σ0 Q E) (hd : decode y.2.1 pc = .ok (.ixor, 1)) (h : Ax ph X (pc + 1) ls (vI (iXor x z) :: st) σ) : Ax ph X pc ls (vI z :: vI x :: st) σ :=
  ax_pure hX h (fun q => okp (in32_xor _ _) (okc (okc q).2).2) (fun G p l e R s m args below meth c H locs cells slots Qw lsC hx hb hs kk => lv_ixor hx hb hd (by rw [i32_xor]; exact kk))
theorem ax_ishl {x z : Int} (hX : CxOk ph X y k σ0 Q E) (hd : decode y.2.1 pc = .ok (.ishl, 1)) (h : Ax ph X (pc + 1) ls (vI (iShl x z) :: st) σ) : Ax ph X pc ls (vI z :: vI x :: st) σ :=
  ax_pure hX h (fun q => okp (w32_in _) (okc (okc q).2).2) (fun G p l e R s m args below meth c H locs cells slots Qw lsC hx hb hs kk => lv_ishl hx hb hd (by rw [i32_shl]; exact kk))
theorem ax_ishr {x z : Int} (hX : CxOk ph X y k σ0 Q E) (hd : decode y.2.1 pc = .ok (.ishr, 1)) (h : Ax ph X (pc + 1) ls (vI (iShr x z) :: st) σ) : Ax ph X pc ls (vI z :: vI x :: st) σ :=
  ax_pure hX h (fun q => okp (iShr_in _ (okc (okc q).2).1) (okc (okc q).2).2) (fun G p l e R s m args below meth c H locs cells slots Qw lsC hx hb hs kk => lv_ishr hx hb hd (by rw [i32_shr _ (okc (okc hs).2).1]; exact kk))
theorem ax_iushr {x z : Int} (hX : CxOk ph X y k σ0 Q E) (hd : decode y.2.1 pc = .ok (.iushr, 1)) (h : Ax ph X (pc + 1) ls (vI (iUsh x z) :: st) σ) : Ax ph X pc ls (vI z :: vI x :: st) σ :=
  ax_pure hX h (fun q => okp (w32_in _) (okc (okc q).2).2) (fun G p l e R s m args below meth c H locs cells slots Qw lsC hx hb hs kk => lv_iushr hx hb hd (i32_ush x z) kk)
theorem ax_ladd {x z : Int} (hX : CxOk ph X y k σ0 Q E) (hd : decode y.2.1 pc = .ok (.ladd, 1)) (h : Ax ph X (pc + 1) ls (vJ (w64 (x + z)) :: st) σ) : Ax ph X pc ls (vJ z :: vJ x :: st) σ :=
  ax_pure hX h (fun q => okp (w64_in _) (okc (okc q).2).2) (fun G p l e R s m args below meth c H locs cells slots Qw lsC hx hb hs kk => lv_ladd hx hb hd (by rw [i64_add]; exact kk))
theorem ax_lsub {x z : Int} (hX : CxOk ph X y k σ0 Q E) (hd : decode y.2.1 pc = .ok (.lsub, 1)) (h : Ax ph X (pc + 1) ls (vJ (w64 (x - z)) :: st) σ) : Ax ph X pc ls (vJ z :: vJ x :: st) σ :=
  ax_pure hX h (fun q => okp (w64_in _) (okc (okc q).2).2) (fun G p l e R s m args below meth c H locs cells slots Qw lsC hx hb hs kk => lv_lsub hx hb hd (by rw [i64_sub]; exact kk))
theorem ax_lmul {x z : Int} (hX : CxOk ph X y k σ0 Q E) (hd : decode y.2.1 pc = .ok (.lmul, 1)) (h : Ax ph X (pc + 1) ls (vJ (w64 (x * z)) :: st) σ) : Ax ph X pc ls (vJ z :: vJ x :: st) σ :=
  ax_pure hX h (fun q => okp (w64_in _) (okc (okc q).2).2) (fun G p l e R s m args below meth c H locs cells slots Qw lsC hx hb hs kk => lv_lmul hx hb hd (by rw [i64_mul]; exact kk))
theorem ax_ldiv {x z : Int} (hX : CxOk ph X y k σ0 Q E) (hz : ¬ z = 0) (hd : decode y.2.1 pc = .ok (.ldiv, 1)) (h : Ax ph X (pc + 1) ls (vJ (w64 (x.tdiv z)) :: st) σ) : Ax ph X pc ls (vJ z :: vJ x :: st) σ :=
  ax_pure hX h (fun q => okp (w64_in _) (okc (okc q).2).2) (fun G p l e R s m args below meth c H locs cells slots Qw lsC hx hb hs kk => lv_ldiv hx hb hd (by
    rw [i64_c0, i64_eq (okc hs).1 (by unfold in64; omega)]; exact hz) (by rw [i64_div (okc (okc hs).2).1 (okc hs).1]; exact kk))
theorem ax_lrem {x z : Int} (hX : CxOk ph X y k σ0 Q E) (hz : ¬ z = 0) (hd : decode y.2.1 pc = .ok (.lrem, 1)) (h : Ax ph X (pc + 1) ls (vJ (x.tmod z) :: st) σ) : Ax ph X pc ls (vJ z :: vJ x :: st) σ :=
  ax_pure hX h (fun q => okp (tmod_in64 (okc (okc q).2).1) (okc (okc q).2).2) (fun G p l e R s m args below meth c H locs cells slots Qw lsC hx hb hs kk => lv_lrem hx hb hd (by
    rw [i64_c0, i64_eq (okc hs).1 (by unfold in64; omega)]; exact hz) (by rw [i64_rem (okc (okc hs).2).1 (okc hs).1]; exact kk))
theorem ax_lneg {x : Int} (hX : CxOk ph X y k σ0 Q E) (hd : decode y.2.1 pc = .ok (.lneg, 1)) (h : Ax ph X (pc + 1) ls (vJ (w64 (-x)) :: st) σ) : Ax ph X pc ls (vJ x :: st) σ :=
  ax_pure hX h (fun q => okp (w64_in _) (okc q).2) (fun G p l e R s m args below meth c H locs cells slots Qw lsC hx hb hs kk => lv_lneg hx hb hd (by rw [i64_neg]; exact kk))
theorem ax_land {x z : Int} (hX : CxOk ph X y k σ0 Q E) (hd : decode y.2.1 pc = .ok (.land, 1)) (h : Ax ph X (pc + 1) ls (vJ (jAnd x z) :: st) σ) : Ax ph X pc ls (vJ z :: vJ x :: st) σ :=
  ax_pure hX h (fun q => okp (in64_and _ _) (okc (okc q).2).2) (fun G p l e R s m args below meth c H locs cells slots Qw lsC hx hb hs kk => lv_land hx hb hd (by rw [i64_and]; exact kk))
theorem ax_lor {x z : Int} (hX : CxOk ph X y k σ0 Q E) (hd : decode y.2.1 pc = .ok (.lor, 1)) (h : Ax ph X (pc + 1) ls (vJ (jOr x z) :: st) σ) : Ax ph X pc ls (vJ z :: vJ x :: st) σ :=
  ax_pure hX h (fun q => okp (in64_or _ _) (okc (okc q).2).2) (fun G p l e R s m args below meth c H locs cells slots Qw lsC hx hb hs kk => lv_lor hx hb hd (by rw [i64_or]; exact kk))
theorem ax_lxor {x z : Int} (hX : CxOk ph X y k σ0 Q E) (hd : decode y.2.1 pc = .ok (.lxor, 1)) (h : Ax ph X (pc + 1) ls (vJ (jXor x z) :: st) σ) : Ax ph X pc ls (vJ z :: vJ x :: st) σ :=
  ax_pure hX h (fun q => okp (in64_xor _ _) (okc (okc q).2).2) (fun G p l e R s m args below meth c H locs cells slots Qw lsC hx hb hs kk => lv_lxor hx hb hd (by rw [i64_xor]; exact kk))
theorem ax_lshl {x z : Int} (hX : CxOk ph X y k σ0 Q E) (hd : decode y.2.1 pc = .ok (.lshl, 1)) (h : Ax ph X (pc + 1) ls (vJ (jShl x z) :: st) σ) : Ax ph X pc ls (vI z :: vJ x :: st) σ :=
  ax_pure hX h (fun q => okp (w64_in _) (okc (okc q).2).2) (fun G p l e R s m args below meth c H locs cells slots Qw lsC hx hb hs kk => lv_lshl hx hb hd (i64_shl (okc hs).1) kk)
theorem ax_lshr {x z : Int} (hX : CxOk ph X y k σ0 Q E) (hd : decode y.2.1 pc = .ok (.lshr, 1)) (h : Ax ph X (pc + 1) ls (vJ (jShr x z) :: st) σ) : Ax ph X pc ls (vI z :: vJ x :: st) σ :=
  ax_pure hX h (fun q => okp (jShr_in _ (okc (okc q).2).1) (okc (okc q).2).2) (fun G p l e R s m args below meth c H locs cells slots Qw lsC hx hb hs kk => lv_lshr hx hb hd (i64_shr (okc (okc hs).2).1 (okc hs).1) kk)
theorem ax_lushr {x z : Int} (hX : CxOk ph X y k σ0 Q E) (hd : decode y.2.1 pc = .ok (.lushr, 1)) (h : Ax ph X (pc + 1) ls (vJ (jUsh x z) :: st) σ) : Ax ph X pc ls (vI z :: vJ x :: st) σ :=
  ax_pure hX h (fun q => okp (w64_in _) (okc (okc q).2).2) (fun G p l e R s m args below meth c H locs cells slots Qw lsC hx hb hs kk => lv_lushr hx hb hd (i64_ush (okc hs).1) kk)
theorem ax_lcmp {x z : Int} (hX : CxOk ph X y k σ0 Q E) (hd : decode y.2.1 pc = .ok (.lcmp, 1)) (h : Ax ph X (pc + 1) ls (vI (jCmp x z) :: st) σ) : Ax ph X pc ls (vJ z :: vJ x :: st) σ :=
  ax_pure hX h (fun q => okp (jCmp_in _ _) (okc (okc q).2).2) (fun G p l e R s m args below meth c H locs cells slots Qw lsC hx hb hs kk => W.lcmp hx hb hd (by rw [i64_cmp (okc (okc hs).2).1 (okc hs).1]; exact kk))
theorem ax_i2l {x : Int} (hX : CxOk ph X y k σ0 Q E) (hd : decode y.2.1 pc = .ok (.i2l, 1)) (h : Ax ph X (pc + 1) ls (vJ x :: st) σ) : Ax ph X pc ls (vI x :: st) σ :=
  ax_pure hX h (fun q => okp (by have h1 : in32 x := (okc q).1; show in64 x; unfold in32 at h1; unfold in64; omega) (okc q).2) (fun G p l e R s m args below meth c H locs cells slots Qw lsC hx hb hs kk => lv_i2l hx hb hd (i32_i2l (okc hs).1) kk)
theorem ax_l2i {x : Int} (hX : CxOk ph X y k σ0 Q E) (hd : decode y.2.1 pc = .ok (.l2i, 1)) (h : Ax ph X (pc + 1) ls (vI (w32 x) :: st) σ) : Ax ph X pc ls (vJ x :: st) σ :=
  ax_pure hX h (fun q => okp (w32_in _) (okc q).2) (fun G p l e R s m args below meth c H locs cells slots Qw lsC hx hb hs kk => lv_l2i hx hb hd (i64_l2i x) kk)
theorem ax_i2b {x : Int} (hX : CxOk ph X y k σ0 Q E) (hd : decode y.2.1 pc = .ok (.i2b, 1)) (h : Ax ph X (pc + 1) ls (vI (w8 x) :: st) σ) : Ax ph X pc ls (vI x :: st) σ :=
  ax_pure hX h (fun q => okp (show in32 (w8 x) by unfold w8 in32; omega) (okc q).2) (fun G p l e R s m args below meth c H locs cells slots Qw lsC hx hb hs kk => lv_i2b hx hb hd (i32_i2b x) kk)
theorem oV_cat (o : Option Nat) : (oV o).category = 1 := by cases o <;> rfl
theorem cO_cat (G : Gp) (r : Int) : (cO G r).category = 1 := by
  unfold cO
  split
  · rfl
  · split
    · rfl
    · exact oV_cat _
theorem cV_cat (G : Gp) (v : AV) : (cV G v).category = avW v := by
  rcases v with x | x | r | q
  · rfl
  · rfl
  · exact cO_cat G r
  · rfl
theorem ax_dup {v : AV} (hX : CxOk ph X y k σ0 Q E) (hv : avW v = 1) (hd : decode y.2.1 pc = .ok (.dup, 1)) (h : Ax ph X (pc + 1) ls (v :: v :: st) σ) : Ax ph X pc ls (v :: st) σ :=
  ax_pure hX h (fun q => okp (okc q).1 q) (fun G p l e R s m args below meth c H locs cells slots Qw lsC hx hb hs kk => lv_dup hx hb hd (by rw [cV_cat]; exact hv) kk)
theorem ax_pop {v : AV} (hX : CxOk ph X y k σ0 Q E) (hv : avW v = 1) (hd : decode y.2.1 pc = .ok (.pop, 1)) (h : Ax ph X (pc + 1) ls st σ) : Ax ph X pc ls (v :: st) σ :=
  ax_pure hX h (fun q => (okc q).2) (fun G p l e R s m args below meth c H locs cells slots Qw lsC hx hb hs kk => lv_pop hx hb hd (by rw [cV_cat]; exact hv) kk)
theorem ax_dup_x1 {v w : AV} (hX : CxOk ph X y k σ0 Q E) (hv : avW v = 1) (hw : avW w = 1) (hd : decode y.2.1 pc = .ok (.dup_x1, 1)) (h : Ax ph X (pc + 1) ls (v :: w :: v :: st) σ) : Ax ph X pc ls (v :: w :: st) σ :=
  ax_pure hX h (fun q => okp (okc q).1 (okp (okc (okc q).2).1 (okp (okc q).1 (okc (okc q).2).2))) (fun G p l e R s m args below meth c H locs cells slots Qw lsC hx hb hs kk => lv_dup_x1 hx hb hd (by rw [cV_cat]; exact hv) (by rw [cV_cat]; exact hw) kk)
theorem ax_dup2 {v w : AV} (hX : CxOk ph X y k σ0 Q E) (hv : avW v = 1) (hw : avW w = 1) (hd : decode y.2.1 pc = .ok (.dup2, 1)) (h : Ax ph X (pc + 1) ls (v :: w :: v :: w :: st) σ) : Ax ph X pc ls (v :: w :: st) σ :=
  ax_pure hX h (fun q => okp (okc q).1 (okp (okc (okc q).2).1 q)) (fun G p l e R s m args below meth c H locs cells slots Qw lsC hx hb hs kk => lv_dup2_11 hx hb hd (by rw [cV_cat]; exact hv) (by rw [cV_cat]; exact hw) kk)
theorem ax_goto {off : Int} {tgt : Nat} (hX : CxOk ph X y k σ0 Q E) (ht : (pc : Int) + off = tgt) (hd : decode y.2.1 pc = .ok (.goto off, 3)) (h : Ax ph X tgt ls st σ) : Ax ph X pc ls st σ :=
  ax_pure hX h (fun q => q) (fun G p l e R s m args below meth c H locs cells slots Qw lsC hx hb hs kk => lv_goto hx hb hd ht kk)
end Rows
end
section
/-! ROWS II: locals, branches, switches, ends -/
set_option maxRecDepth 100000
theorem lsL_mem {G : Gp} {v : AV} : ∀ {ls : List (Option AV)} {i : Nat} (j : Nat), ls.getD i none = some v → (j + i, cV G v) ∈ lsL G j ls
  | [], i, j, h => by simp at h
  | none :: t, 0, j, h => by simp at h
  | some w :: t, 0, j, h => by
    simp at h
    subst h
    exact List.mem_cons_self
  | none :: t, i + 1, j, h => by
    have hₚ : t.getD i none = some v := by simpa using h
    have := lsL_mem (G := G) (j + 1) hₚ
    show (j + (i + 1), cV G v) ∈ lsL G (j + 1) t
    rwa [show j + (i + 1) = j + 1 + i by omega]
  | some w :: t, i + 1, j, h => by
    have hₚ : t.getD i none = some v := by simpa using h
    have := lsL_mem (G := G) (j + 1) hₚ
    show (j + (i + 1), cV G v) ∈ (j, cV G w) :: lsL G (j + 1) t
    rw [show j + (i + 1) = j + 1 + i by omega]
    exact List.mem_cons_of_mem _ this
theorem lsL_inv {G : Gp} {q : Nat × Value} : ∀ {ls : List (Option AV)} {j : Nat}, q ∈ lsL G j ls → ∃ i v, q = (j + i, cV G v) ∧ ls.getD i none = some v
  | [], j, h => by cases h
  | none :: t, j, h => by
    obtain ⟨i, v, e, h1⟩ := lsL_inv (j := j + 1) (ls := t) h
    exact ⟨i + 1, v, by rw [e]; congr 1; omega, by simpa using h1⟩
  | some w :: t, j, h => by
    rcases List.mem_cons.mp h with e | e
    · exact ⟨0, w, by rw [e]; rfl, rfl⟩
    · obtain ⟨i, v, e, h1⟩ := lsL_inv (j := j + 1) (ls := t) e
      exact ⟨i + 1, v, by rw [e]; congr 1; omega, by simpa using h1⟩
theorem lv_less {ls : Array Slot} {n : Nat} {l lₚ : List (Nat × Value)} (h : lv_has ls n l) (hl : ∀ q ∈ lₚ, q ∈ l) : lv_has ls n lₚ := ⟨h.1, h.2.1, fun q hq => h.2.2 q (hl q hq)⟩
theorem getD_set {ls : List (Option AV)} {i j : Nat} {v : Option AV} : (ls.set i v).getD j none = if i = j ∧ i < ls.length then v else ls.getD j none := by
  rw [List.getD_eq_getElem?_getD, List.getElem?_set, List.getD_eq_getElem?_getD]
  split
  · rename_i e
    subst e
    by_cases h : i < ls.length
    · simp [h]
    · simp [h]
  · rename_i e
    rw [if_neg (fun q => e q.1)]
theorem getD_kill {ls : List (Option AV)} {i j : Nat} {v : AV} (h : (lkill ls i).getD j none = some v) : ls.getD j none = some v ∧ (j + 1 = i → avW v = 1) := by
  cases i with
  | zero => exact ⟨h, fun q => by omega⟩
  | succ a =>
    simp only [lkill] at h
    split at h
    · rename_i x e
      rw [getD_set] at h
      split at h
      · cases h
      · rename_i hn
        refine ⟨h, fun q => ?_⟩
        have hj : j = a := by omega
        subst hj
        rw [e] at h
        exfalso
        apply hn
        refine ⟨rfl, ?_⟩
        have : ls.getD j none ≠ none := by rw [e]; simp
        by_cases hl : j < ls.length
        · exact hl
        · exact absurd (by simp [hl]) this
    · rename_i hne
      refine ⟨h, fun q => ?_⟩
      have hj : j = a := by omega
      subst hj
      rcases v with x | x | r
      · rfl
      · exact absurd h (hne x)
      · rfl
theorem kill_len (ls : List (Option AV)) (i : Nat) : (lkill ls i).length = ls.length := by
  cases i with
  | zero => rfl
  | succ a =>
    simp only [lkill]
    split <;> simp
theorem lset_len (ls : List (Option AV)) (i : Nat) (v : AV) : (lset ls i v).length = ls.length := by simp [lset, kill_len]
theorem lset2_len (ls : List (Option AV)) (i : Nat) (v : AV) : (lset2 ls i v).length = ls.length := by simp [lset2, kill_len]
theorem lset_has {G : Gp} {ls : List (Option AV)} {i n : Nat} {v : AV} {lsC : Array Slot} (h : lv_has lsC n ((i, cV G v) :: (lsL G 0 ls).filter (fun q => !(q.1 == i) && !(q.1 + 1 == i && q.2.category == 2)))) : lv_has lsC n (lsL G 0 (lset ls i v)) := by
  refine lv_less h fun q hq => ?_
  obtain ⟨j, w, e, h1⟩ := lsL_inv hq
  unfold lset at h1
  rw [getD_set] at h1
  split at h1
  · rename_i c
    cases h1
    rw [e, c.1, Nat.zero_add]
    exact List.mem_cons_self
  · rename_i c
    obtain ⟨h2, h3⟩ := getD_kill h1
    have hm := lsL_mem (G := G) 0 h2
    by_cases hj : j = i
    · subst hj
      exfalso
      apply c
      refine ⟨rfl, ?_⟩
      rw [kill_len]
      by_cases hl : j < ls.length
      · exact hl
      · rw [List.getD_eq_getElem?_getD] at h2
        simp [hl] at h2
    · apply List.mem_cons_of_mem
      rw [List.mem_filter, e]
      refine ⟨hm, ?_⟩
      have hc := cV_cat G w
      simp only [Nat.zero_add]
      by_cases hj2 : j + 1 = i
      · rw [hc, h3 hj2]
        simp [hj]
      · simp [hj, hj2]
theorem lset2_has {G : Gp} {ls : List (Option AV)} {i n : Nat} {v : AV} {lsC : Array Slot} (h : lv_has lsC n ((i, cV G v) :: (lsL G 0 ls).filter (fun q => !(q.1 == i) && (!(q.1 == i + 1) && !(q.1 + 1 == i && q.2.category == 2))))) : lv_has lsC n (lsL G 0 (lset2 ls i v)) := by
  refine lv_less h fun q hq => ?_
  obtain ⟨j, w, e, h1⟩ := lsL_inv hq
  unfold lset2 at h1
  rw [getD_set] at h1
  split at h1
  · cases h1
  · rename_i c2
    rw [getD_set] at h1
    split at h1
    · rename_i c
      cases h1
      rw [e, c.1, Nat.zero_add]
      exact List.mem_cons_self
    · rename_i c
      obtain ⟨h2, h3⟩ := getD_kill h1
      have hm := lsL_mem (G := G) 0 h2
      have hjl : j < ls.length := by
        by_cases hl : j < ls.length
        · exact hl
        · rw [List.getD_eq_getElem?_getD] at h2
          simp [hl] at h2
      have hj : ¬ j = i := fun q => c ⟨q.symm, by rw [kill_len, ← q]; exact hjl⟩
      have hj1 : ¬ j = i + 1 := fun q => c2 ⟨q.symm, by rw [List.length_set, kill_len, ← q]; exact hjl⟩
      apply List.mem_cons_of_mem
      rw [List.mem_filter, e]
      refine ⟨hm, ?_⟩
      have hc := cV_cat G w
      simp only [Nat.zero_add]
      by_cases hj2 : j + 1 = i
      · rw [hc, h3 hj2]
        simp [hj, hj1]
      · simp [hj, hj1, hj2]
theorem lset_ok {σ : Sg} {ls : List (Option AV)} {i : Nat} {v : AV} (h : ∀ w, some w ∈ ls → okV σ w) (hv : okV σ v) : ∀ w, some w ∈ lset ls i v → okV σ w := by
  intro w hw
  unfold lset at hw
  rcases List.mem_or_eq_of_mem_set hw with q | q
  · apply h
    cases i with
    | zero => exact q
    | succ a =>
      simp only [lkill] at q
      split at q
      · rcases List.mem_or_eq_of_mem_set q with q | q
        · exact q
        · cases q
      · exact q
  · cases q; exact hv
theorem lset2_ok {σ : Sg} {ls : List (Option AV)} {i : Nat} {v : AV} (h : ∀ w, some w ∈ ls → okV σ w) (hv : okV σ v) : ∀ w, some w ∈ lset2 ls i v → okV σ w := by
  intro w hw
  unfold lset2 at hw
  rcases List.mem_or_eq_of_mem_set hw with q | q
  · exact lset_ok (i := i) h hv w q
  · cases q
theorem mem_getD {ls : List (Option AV)} {i : Nat} {v : AV} (h : ls.getD i none = some v) : some v ∈ ls := by
  rw [List.getD_eq_getElem?_getD] at h
  cases hh : ls[i]? with
  | none => rw [hh] at h; cases h
  | some w =>
    rw [hh] at h
    simp at h
    rw [h] at hh
    exact List.mem_of_getElem? hh
theorem lsL_at {G : Gp} {ls : List (Option AV)} {i n : Nat} {v : AV} {lsC : Array Slot} (hl : lv_has lsC n (lsL G 0 ls)) (h : ls.getD i none = some v) : lsC[i]? = some (.val (cV G v)) := by
  have := hl.2.2 _ (lsL_mem (G := G) 0 h)
  simpa using this
theorem oV_ref (o : Option Nat) : oV o = .null ∨ ∃ a, oV o = .ref a := by
  cases o with
  | none => exact Or.inl rfl
  | some a => exact Or.inr ⟨a, rfl⟩
theorem cO_ref (G : Gp) (r : Int) : cO G r = .null ∨ ∃ a, cO G r = .ref a := by
  unfold cO
  split
  · exact Or.inl rfl
  · split
    · exact Or.inr ⟨_, rfl⟩
    · exact oV_ref _
theorem cV_ref (G : Gp) (v : Int ⊕ (Nat × Nat × Nat × Nat)) : cV G (.inr (.inr v)) = .null ∨ ∃ a, cV G (.inr (.inr v)) = .ref a := by
  rcases v with r | q
  · exact cO_ref G r
  · exact Or.inr ⟨_, rfl⟩
section Rows2
variable {ph k : Nat} {X : Cx} {y : MI} {σ0 σ : Sg} {Q : Option AV → Sg → Prop} {E : Int → Sg → Prop} {pc : Nat} {ls : List (Option AV)} {st : List AV}
theorem ax_iload {i : Nat} {x : Int} (hX : CxOk ph X y k σ0 Q E) (hi : ls.getD i none = some (vI x)) (hd : decode y.2.1 pc = .ok (.iload i, 2)) (h : Ax ph X (pc + 2) ls (vI x :: st) σ) : Ax ph X pc ls st σ := by
  obtain ⟨G, p, l, e, R, s, m, args, below, meth, c, σ0ₚ, Q0, E0⟩ := X
  intro H locs lsC hR hL hl ho hs hn hsl hm
  exact lv_iload hX.1 hX.2.1 hd (lsL_at hl hi) (h H locs lsC hR hL hl ho (okp (ho _ (mem_getD hi)) hs) hn hsl hm)
theorem ax_iload_n {i : Fin 4} {x : Int} (hX : CxOk ph X y k σ0 Q E) (hi : ls.getD i.val none = some (vI x)) (hd : decode y.2.1 pc = .ok (.iload_n i, 1)) (h : Ax ph X (pc + 1) ls (vI x :: st) σ) : Ax ph X pc ls st σ := by
  obtain ⟨G, p, l, e, R, s, m, args, below, meth, c, σ0ₚ, Q0, E0⟩ := X
  intro H locs lsC hR hL hl ho hs hn hsl hm
  exact lv_iload_n hX.1 hX.2.1 hd rfl (lsL_at hl hi) (h H locs lsC hR hL hl ho (okp (ho _ (mem_getD hi)) hs) hn hsl hm)
theorem ax_lload {i : Nat} {x : Int} (hX : CxOk ph X y k σ0 Q E) (hi : ls.getD i none = some (vJ x)) (hd : decode y.2.1 pc = .ok (.lload i, 2)) (h : Ax ph X (pc + 2) ls (vJ x :: st) σ) : Ax ph X pc ls st σ := by
  obtain ⟨G, p, l, e, R, s, m, args, below, meth, c, σ0ₚ, Q0, E0⟩ := X
  intro H locs lsC hR hL hl ho hs hn hsl hm
  exact lv_lload hX.1 hX.2.1 hd (lsL_at hl hi) (h H locs lsC hR hL hl ho (okp (ho _ (mem_getD hi)) hs) hn hsl hm)
theorem ax_lload_n {i : Fin 4} {x : Int} (hX : CxOk ph X y k σ0 Q E) (hi : ls.getD i.val none = some (vJ x)) (hd : decode y.2.1 pc = .ok (.lload_n i, 1)) (h : Ax ph X (pc + 1) ls (vJ x :: st) σ) : Ax ph X pc ls st σ := by
  obtain ⟨G, p, l, e, R, s, m, args, below, meth, c, σ0ₚ, Q0, E0⟩ := X
  intro H locs lsC hR hL hl ho hs hn hsl hm
  exact lv_lload_n hX.1 hX.2.1 hd rfl (lsL_at hl hi) (h H locs lsC hR hL hl ho (okp (ho _ (mem_getD hi)) hs) hn hsl hm)
theorem ax_aload {i : Nat} {v : Int ⊕ (Nat × Nat × Nat × Nat)} (hX : CxOk ph X y k σ0 Q E) (hi : ls.getD i none = some (.inr (.inr v))) (hd : decode y.2.1 pc = .ok (.aload i, 2)) (h : Ax ph X (pc + 2) ls (.inr (.inr v) :: st) σ) : Ax ph X pc ls st σ := by
  obtain ⟨G, p, l, e, R, s, m, args, below, meth, c, σ0ₚ, Q0, E0⟩ := X
  intro H locs lsC hR hL hl ho hs hn hsl hm
  have h1 := h H locs lsC hR hL hl ho (okp (ho _ (mem_getD hi)) hs) hn hsl hm
  have h2 := lsL_at hl hi
  rw [List.map_cons] at h1
  rcases cV_ref G v with e1 | ⟨a, e1⟩
  · rw [e1] at h1 h2
    exact lv_aloadN hX.1 hX.2.1 hd h2 h1
  · rw [e1] at h1 h2
    exact lv_aload hX.1 hX.2.1 hd h2 h1
theorem ax_aload_n {i : Fin 4} {v : Int ⊕ (Nat × Nat × Nat × Nat)} (hX : CxOk ph X y k σ0 Q E) (hi : ls.getD i.val none = some (.inr (.inr v))) (hd : decode y.2.1 pc = .ok (.aload_n i, 1)) (h : Ax ph X (pc + 1) ls (.inr (.inr v) :: st) σ) : Ax ph X pc ls st σ := by
  obtain ⟨G, p, l, e, R, s, m, args, below, meth, c, σ0ₚ, Q0, E0⟩ := X
  intro H locs lsC hR hL hl ho hs hn hsl hm
  have h1 := h H locs lsC hR hL hl ho (okp (ho _ (mem_getD hi)) hs) hn hsl hm
  have h2 := lsL_at hl hi
  rw [List.map_cons] at h1
  rcases cV_ref G v with e1 | ⟨a, e1⟩
  · rw [e1] at h1 h2
    exact lv_aload_nN hX.1 hX.2.1 hd rfl h2 h1
  · rw [e1] at h1 h2
    exact lv_aload_n hX.1 hX.2.1 hd rfl h2 h1
theorem ax_istore {i : Nat} {x : Int} (hX : CxOk ph X y k σ0 Q E) (hi : i < y.2.2.1) (hd : decode y.2.1 pc = .ok (.istore i, 2)) (h : Ax ph X (pc + 2) (lset ls i (vI x)) st σ) : Ax ph X pc ls (vI x :: st) σ := by
  obtain ⟨G, p, l, e, R, s, m, args, below, meth, c, σ0ₚ, Q0, E0⟩ := X
  intro H locs lsC hR hL hl ho hs hn hsl hm
  exact lv_istore hX.1 hX.2.1 hd hl (by rw [hX.2.2.1]; exact hi) rfl (fun lsₚ hₚ => h H locs lsₚ hR hL (lset_has hₚ) (lset_ok ho (okc hs).1) (okc hs).2 hn hsl hm)
theorem ax_istore_n {i : Fin 4} {x : Int} (hX : CxOk ph X y k σ0 Q E) (hi : i.val < y.2.2.1) (hd : decode y.2.1 pc = .ok (.istore_n i, 1)) (h : Ax ph X (pc + 1) (lset ls i.val (vI x)) st σ) : Ax ph X pc ls (vI x :: st) σ := by
  obtain ⟨G, p, l, e, R, s, m, args, below, meth, c, σ0ₚ, Q0, E0⟩ := X
  intro H locs lsC hR hL hl ho hs hn hsl hm
  exact lv_istore_n hX.1 hX.2.1 hd rfl hl (by rw [hX.2.2.1]; exact hi) rfl (fun lsₚ hₚ => h H locs lsₚ hR hL (lset_has hₚ) (lset_ok ho (okc hs).1) (okc hs).2 hn hsl hm)
theorem ax_lstore {i : Nat} {x : Int} (hX : CxOk ph X y k σ0 Q E) (hi : i + 1 < y.2.2.1) (hd : decode y.2.1 pc = .ok (.lstore i, 2)) (h : Ax ph X (pc + 2) (lset2 ls i (vJ x)) st σ) : Ax ph X pc ls (vJ x :: st) σ := by
  obtain ⟨G, p, l, e, R, s, m, args, below, meth, c, σ0ₚ, Q0, E0⟩ := X
  intro H locs lsC hR hL hl ho hs hn hsl hm
  exact lv_lstore hX.1 hX.2.1 hd hl (by rw [hX.2.2.1]; exact hi) rfl (fun lsₚ hₚ => h H locs lsₚ hR hL (lset2_has hₚ) (lset2_ok ho (okc hs).1) (okc hs).2 hn hsl hm)
theorem ax_lstore_n {i : Fin 4} {x : Int} (hX : CxOk ph X y k σ0 Q E) (hi : i.val + 1 < y.2.2.1) (hd : decode y.2.1 pc = .ok (.lstore_n i, 1)) (h : Ax ph X (pc + 1) (lset2 ls i.val (vJ x)) st σ) : Ax ph X pc ls (vJ x :: st) σ := by
  obtain ⟨G, p, l, e, R, s, m, args, below, meth, c, σ0ₚ, Q0, E0⟩ := X
  intro H locs lsC hR hL hl ho hs hn hsl hm
  exact lv_lstore_n hX.1 hX.2.1 hd rfl hl (by rw [hX.2.2.1]; exact hi) rfl (fun lsₚ hₚ => h H locs lsₚ hR hL (lset2_has hₚ) (lset2_ok ho (okc hs).1) (okc hs).2 hn hsl hm)
theorem ax_astore {i : Nat} {v : Int ⊕ (Nat × Nat × Nat × Nat)} (hX : CxOk ph X y k σ0 Q E) (hi : i < y.2.2.1) (hd : decode y.2.1 pc = .ok (.astore i, 2)) (h : Ax ph X (pc + 2) (lset ls i (.inr (.inr v))) st σ) : Ax ph X pc ls (.inr (.inr v) :: st) σ := by
  obtain ⟨G, p, l, e, R, s, m, args, below, meth, c, σ0ₚ, Q0, E0⟩ := X
  intro H locs lsC hR hL hl ho hs hn hsl hm
  rw [List.map_cons]
  rcases cV_ref G v with e1 | ⟨a, e1⟩
  · rw [e1]
    exact lv_astoreN hX.1 hX.2.1 hd hl (by rw [hX.2.2.1]; exact hi) rfl (fun lsₚ hₚ => h H locs lsₚ hR hL (lset_has (by rw [e1]; exact hₚ)) (lset_ok ho (okc hs).1) (okc hs).2 hn hsl hm)
  · rw [e1]
    exact lv_astore hX.1 hX.2.1 hd hl (by rw [hX.2.2.1]; exact hi) rfl (fun lsₚ hₚ => h H locs lsₚ hR hL (lset_has (by rw [e1]; exact hₚ)) (lset_ok ho (okc hs).1) (okc hs).2 hn hsl hm)
theorem ax_astore_n {i : Fin 4} {v : Int ⊕ (Nat × Nat × Nat × Nat)} (hX : CxOk ph X y k σ0 Q E) (hi : i.val < y.2.2.1) (hd : decode y.2.1 pc = .ok (.astore_n i, 1)) (h : Ax ph X (pc + 1) (lset ls i.val (.inr (.inr v))) st σ) : Ax ph X pc ls (.inr (.inr v) :: st) σ := by
  obtain ⟨G, p, l, e, R, s, m, args, below, meth, c, σ0ₚ, Q0, E0⟩ := X
  intro H locs lsC hR hL hl ho hs hn hsl hm
  rw [List.map_cons]
  rcases cV_ref G v with e1 | ⟨a, e1⟩
  · rw [e1]
    exact lv_astore_nN hX.1 hX.2.1 hd rfl hl (by rw [hX.2.2.1]; exact hi) rfl (fun lsₚ hₚ => h H locs lsₚ hR hL (lset_has (by rw [e1]; exact hₚ)) (lset_ok ho (okc hs).1) (okc hs).2 hn hsl hm)
  · rw [e1]
    exact lv_astore_n hX.1 hX.2.1 hd rfl hl (by rw [hX.2.2.1]; exact hi) rfl (fun lsₚ hₚ => h H locs lsₚ hR hL (lset_has (by rw [e1]; exact hₚ)) (lset_ok ho (okc hs).1) (okc hs).2 hn hsl hm)
theorem ax_iinc {i : Nat} {d x : Int} (hX : CxOk ph X y k σ0 Q E) (hi : ls.getD i none = some (vI x)) (hd : decode y.2.1 pc = .ok (.iinc i d, 3)) (h : Ax ph X (pc + 3) (lset ls i (vI (w32 (x + d)))) st σ) : Ax ph X pc ls st σ := by
  obtain ⟨G, p, l, e, R, s, m, args, below, meth, c, σ0ₚ, Q0, E0⟩ := X
  intro H locs lsC hR hL hl ho hs hn hsl hm
  have h2 := lsL_at hl hi
  obtain ⟨kk, hk⟩ := List.getElem?_of_mem (lsL_mem (G := G) 0 hi)
  have hlt : i < c.maxLocals := by
    have := lv_lt h2
    rwa [hl.1] at this
  refine lv_iinc (v := Int32.ofInt (w32 (x + d))) hX.1 hX.2.1 hd hl (k := kk) (x := Int32.ofInt x) (by rw [hk, Nat.zero_add]; rfl) (by rw [i32_add]) hlt rfl (fun lsₚ hₚ => h H locs lsₚ hR hL (lset_has hₚ) (lset_ok ho (w32_in _)) hs hn hsl hm)
/-- branches -/
theorem ax_if {cd : Jvm.ClassFile.Cond} {off : Int} {tgt : Nat} {x : Int} (hX : CxOk ph X y k σ0 Q E) (ht : (pc : Int) + off = tgt) (hd : decode y.2.1 pc = .ok (.ifCond cd off, 3)) (h1 : cmpI cd x 0 → Ax ph X tgt ls st σ) (h2 : ¬ cmpI cd x 0 → Ax ph X (pc + 3) ls st σ) : Ax ph X pc ls (vI x :: st) σ := by
  obtain ⟨G, p, l, e, R, s, m, args, below, meth, c, σ0ₚ, Q0, E0⟩ := X
  intro H locs lsC hR hL hl ho hs hn hsl hm
  have hx : in32 x := (okc hs).1
  have h0 : in32 0 := by unfold in32; omega
  have k1 := fun q => h1 q H locs lsC hR hL hl ho (okc hs).2 hn hsl hm
  have k2 := fun q => h2 q H locs lsC hR hL hl ho (okc hs).2 hn hsl hm
  cases cd with
  | eq => exact lv_if_eq hX.1 hX.2.1 hd ht (fun q => k1 (by rw [i32_c0] at q; exact (i32_eq hx h0).mp q)) (fun q => k2 (fun r => q (by rw [i32_c0]; exact (i32_eq hx h0).mpr r)))
  | ne => exact lv_if_ne hX.1 hX.2.1 hd ht (fun q => k1 (fun r => q (by rw [i32_c0]; exact (i32_eq hx h0).mpr r))) (fun q => k2 (fun r => r (by rw [i32_c0] at q; exact (i32_eq hx h0).mp q)))
  | lt => exact lv_if_lt hX.1 hX.2.1 hd ht (fun q => k1 (by rw [i32_c0] at q; exact (i32_lt hx h0).mp q)) (fun q => k2 (fun r => q (by rw [i32_c0]; exact (i32_lt hx h0).mpr r)))
  | ge => exact lv_if_ge hX.1 hX.2.1 hd ht (fun q => k1 (by rw [i32_c0] at q; exact (i32_le h0 hx).mp q)) (fun q => k2 (fun r => q (by rw [i32_c0]; exact (i32_le h0 hx).mpr r)))
  | gt => exact lv_if_gt hX.1 hX.2.1 hd ht (fun q => k1 (by rw [i32_c0] at q; exact (i32_lt h0 hx).mp q)) (fun q => k2 (fun r => q (by rw [i32_c0]; exact (i32_lt h0 hx).mpr r)))
  | le => exact lv_if_le hX.1 hX.2.1 hd ht (fun q => k1 (by rw [i32_c0] at q; exact (i32_le hx h0).mp q)) (fun q => k2 (fun r => q (by rw [i32_c0]; exact (i32_le hx h0).mpr r)))
theorem ax_icmp {cd : Jvm.ClassFile.Cond} {off : Int} {tgt : Nat} {x z : Int} (hX : CxOk ph X y k σ0 Q E) (ht : (pc : Int) + off = tgt) (hd : decode y.2.1 pc = .ok (.if_icmp cd off, 3)) (h1 : cmpI cd x z → Ax ph X tgt ls st σ) (h2 : ¬ cmpI cd x z → Ax ph X (pc + 3) ls st σ) : Ax ph X pc ls (vI z :: vI x :: st) σ := by
  obtain ⟨G, p, l, e, R, s, m, args, below, meth, c, σ0ₚ, Q0, E0⟩ := X
  intro H locs lsC hR hL hl ho hs hn hsl hm
  have hz : in32 z := (okc hs).1
  have hx : in32 x := (okc (okc hs).2).1
  have k1 := fun q => h1 q H locs lsC hR hL hl ho (okc (okc hs).2).2 hn hsl hm
  have k2 := fun q => h2 q H locs lsC hR hL hl ho (okc (okc hs).2).2 hn hsl hm
  cases cd with
  | eq => exact lv_icmp_eq hX.1 hX.2.1 hd ht (fun q => k1 ((i32_eq hx hz).mp q)) (fun q => k2 (fun r => q ((i32_eq hx hz).mpr r)))
  | ne => exact lv_icmp_ne hX.1 hX.2.1 hd ht (fun q => k1 (fun r => q ((i32_eq hx hz).mpr r))) (fun q => k2 (fun r => r ((i32_eq hx hz).mp q)))
  | lt => exact lv_icmp_lt hX.1 hX.2.1 hd ht (fun q => k1 ((i32_lt hx hz).mp q)) (fun q => k2 (fun r => q ((i32_lt hx hz).mpr r)))
  | ge => exact lv_icmp_ge hX.1 hX.2.1 hd ht (fun q => k1 ((i32_le hz hx).mp q)) (fun q => k2 (fun r => q ((i32_le hz hx).mpr r)))
  | gt => exact lv_icmp_gt hX.1 hX.2.1 hd ht (fun q => k1 ((i32_lt hz hx).mp q)) (fun q => k2 (fun r => q ((i32_lt hz hx).mpr r)))
  | le => exact lv_icmp_le hX.1 hX.2.1 hd ht (fun q => k1 ((i32_le hx hz).mp q)) (fun q => k2 (fun r => q ((i32_le hx hz).mpr r)))
theorem offs_cons (ps : List (Int × Int)) (q : Int × Int) (d x : Int) : Op.lookupswitch.offset (q :: ps) d x = if x = q.1 then q.2 else Op.lookupswitch.offset ps d x := by
  rw [Op.lookupswitch.offset_cons]
  by_cases h : x = q.1
  · simp [h]
  · simp [h, Ne.symm h]
theorem swL_off {go : Nat → Prop} {d x : Int} : ∀ (ps : List (Int × Int)), (∀ q ∈ ps, 0 ≤ (pc : Int) + q.2) → 0 ≤ (pc : Int) + d → swL pc x d go ps → ∃ tgt : Nat, (pc : Int) + Op.lookupswitch.offset ps d x = tgt ∧ go tgt
  | [], _, hd, h => ⟨((pc : Int) + d).toNat, by rw [show Op.lookupswitch.offset [] d x = d from rfl]; omega, h⟩
  | q :: t, hp, hd, h => by
    obtain ⟨h1, h2⟩ := h
    rw [offs_cons]
    by_cases c : x = q.1
    · rw [if_pos c]
      exact ⟨((pc : Int) + q.2).toNat, by have := hp q List.mem_cons_self; omega, h1 c⟩
    · rw [if_neg c]
      exact swL_off t (fun r hr => hp r (List.mem_cons_of_mem _ hr)) hd (h2 c)
theorem ax_lookup {d x : Int} {ps : Array (Int × Int)} {len : Nat} (hX : CxOk ph X y k σ0 Q E) (hd : decode y.2.1 pc = .ok (.lookupswitch d ps, len)) (hp : (ps.toList.zip (ps.toList.drop 1)).all (fun (a, next) => a.1 < next.1) = true)
    (ho1 : ∀ q ∈ ps.toList, 0 ≤ (pc : Int) + q.2) (ho2 : 0 ≤ (pc : Int) + d) (h : swL pc x d (fun p => Ax ph X p ls st σ) ps.toList) : Ax ph X pc ls (vI x :: st) σ := by
  obtain ⟨tgt, e1, h1⟩ := swL_off ps.toList ho1 ho2 h
  obtain ⟨G, p, l, e, R, s, m, args, below, meth, c, σ0ₚ, Q0, E0⟩ := X
  intro H locs lsC hR hL hl ho hs hn hsl hm
  exact lv_lookup hX.1 hX.2.1 hd hp rfl (by rw [i32_toInt (okc hs).1]; exact e1) (h1 H locs lsC hR hL hl ho (okc hs).2 hn hsl hm)
theorem swT_at {go : Nat → Prop} {x : Int} : ∀ (os : List Int) (lo : Int), (∀ q ∈ os, 0 ≤ (pc : Int) + q) → swT pc x go lo os → lo ≤ x → x < lo + os.length → ∃ (off : Int) (tgt : Nat), os[(x - lo).toNat]? = some off ∧ (pc : Int) + off = tgt ∧ go tgt
  | [], lo, _, _, h1, h2 => by simp at h2; omega
  | off :: t, lo, hp, h, h1, h2 => by
    obtain ⟨ha, hb⟩ := h
    by_cases c : x = lo
    · refine ⟨off, ((pc : Int) + off).toNat, ?_, by have := hp off List.mem_cons_self; omega, ha c⟩
      rw [c, Int.sub_self]; rfl
    · obtain ⟨o2, tgt, e1, e2, e3⟩ := swT_at t (lo + 1) (fun r hr => hp r (List.mem_cons_of_mem _ hr)) hb (by omega) (by simp at h2; omega)
      refine ⟨o2, tgt, ?_, e2, e3⟩
      rw [show (x - lo).toNat = (x - (lo + 1)).toNat + 1 by omega, List.getElem?_cons_succ]
      exact e1
theorem ax_table {d lo hi x : Int} {os : Array Int} {len : Nat} (hX : CxOk ph X y k σ0 Q E) (hd : decode y.2.1 pc = .ok (.tableswitch d lo hi os, len)) (hsz : os.size = (hi + 1 - lo).toNat) (hlh : lo ≤ hi)
    (ho1 : ∀ q ∈ os.toList, 0 ≤ (pc : Int) + q) (ho2 : 0 ≤ (pc : Int) + d) (h1 : x < lo ∨ hi < x → Ax ph X ((pc : Int) + d).toNat ls st σ) (h : swT pc x (fun p => Ax ph X p ls st σ) lo os.toList) : Ax ph X pc ls (vI x :: st) σ := by
  by_cases hc : x < lo ∨ hi < x
  · obtain ⟨G, p, l, e, R, s, m, args, below, meth, c, σ0ₚ, Q0, E0⟩ := X
    intro H locs lsC hR hL hl ho hs hn hsl hm
    exact lv_tableOut hX.1 hX.2.1 hd (by rw [i32_toInt (okc hs).1]; exact hc) (tgt := ((pc : Int) + d).toNat) (by omega) (h1 hc H locs lsC hR hL hl ho (okc hs).2 hn hsl hm)
  · obtain ⟨off, tgt, e1, e2, e3⟩ := swT_at os.toList lo ho1 h (by omega) (by rw [Array.length_toList, hsz]; omega)
    obtain ⟨G, p, l, e, R, s, m, args, below, meth, c, σ0ₚ, Q0, E0⟩ := X
    intro H locs lsC hR hL hl ho hs hn hsl hm
    have hx : (Int32.ofInt x).toInt = x := i32_toInt (okc hs).1
    exact lv_tableIn hX.1 hX.2.1 hd (by rw [hx]; omega) (by rw [hx]; omega) (by rw [hx, ← Array.getElem?_toList]; exact e1) e2 (e3 H locs lsC hR hL hl ho (okc hs).2 hn hsl hm)
/-- ends -/
theorem ax_iret {x : Int} (hX : CxOk ph X y k σ0 Q E) (hr : y.2.2.2.1 = some .int) (hd : decode y.2.1 pc = .ok (.ireturn, 1)) (h : Q (some (vI x)) σ) : Ax ph X pc ls [vI x] σ := by
  obtain ⟨G, p, l, e, R, s, m, args, below, meth, c, σ0ₚ, Q0, E0⟩ := X
  obtain ⟨hx, hb, hml, hret, hlocks, hown, hnm, hexc, hG, hk1, hk2, hc1, hc2, rfl, rfl, rfl⟩ := hX
  intro H locs lsC hR hL hl ho hs hn hsl hm T hT X
  obtain ⟨fs, hrt, hrun, hended, hW, hframe⟩ := X.leave (v := some (.int (Int32.ofInt x))) (fun h => by rw [hret, hr] at h; cases h)
  have hmethₚ : T.vm.method? m = some meth := X.method'
  refine ⟨T.setFrames fs, ?_, hrun, Or.inl ⟨some (vI x), σ, locs, h, fun v hv => by cases hv; exact (okc hs).1, by rw [show (T.setFrames fs).heap = T.heap from rfl, hT]; exact hR, hn, hsl, hm, hended, hW, hframe, hL⟩⟩
  have hrₚ := hret.trans hr
  show Steps p.tables e below (T.setTop (F0 m pc lsC [.int (Int32.ofInt x)])) _
  jvm_step X.here [X.here.top, hx, hb, hd, hmethₚ, hrₚ, narrow]
  (try refine ⟨rfl, ?_⟩); (try refine ⟨rfl, ?_⟩)
  first | (intro acts; rw [hrt _ acts rfl rfl rfl]) | rw [hrt _ _ rfl rfl rfl]
  exact Steps.refl _
theorem ax_zret {x : Int} (hX : CxOk ph X y k σ0 Q E) (hr : y.2.2.2.1 = some .boolean) (hx01 : 0 ≤ x ∧ x ≤ 1) (hd : decode y.2.1 pc = .ok (.ireturn, 1)) (h : Q (some (vI x)) σ) : Ax ph X pc ls [vI x] σ := by
  obtain ⟨G, p, l, e, R, s, m, args, below, meth, c, σ0ₚ, Q0, E0⟩ := X
  obtain ⟨hx, hb, hml, hret, hlocks, hown, hnm, hexc, hG, hk1, hk2, hc1, hc2, rfl, rfl, rfl⟩ := hX
  intro H locs lsC hR hL hl ho hs hn hsl hm T hT X
  obtain ⟨fs, hrt, hrun, hended, hW, hframe⟩ := X.leave (v := some (.int (Int32.ofInt x))) (fun h => by rw [hret, hr] at h; cases h)
  have hmethₚ : T.vm.method? m = some meth := X.method'
  refine ⟨T.setFrames fs, ?_, hrun, Or.inl ⟨some (vI x), σ, locs, h, fun v hv => by cases hv; exact (okc hs).1, by rw [show (T.setFrames fs).heap = T.heap from rfl, hT]; exact hR, hn, hsl, hm, hended, hW, hframe, hL⟩⟩
  have hrₚ := hret.trans hr
  have hnar : narrow .boolean (.int (Int32.ofInt x)) = .int (Int32.ofInt x) := by
    rcases (show x = 0 ∨ x = 1 by omega) with q | q <;> (subst q; decide +kernel)
  show Steps p.tables e below (T.setTop (F0 m pc lsC [.int (Int32.ofInt x)])) _
  jvm_step X.here [X.here.top, hx, hb, hd, hmethₚ, hrₚ, hnar]
  (try refine ⟨rfl, ?_⟩); (try refine ⟨rfl, ?_⟩)
  first | (intro acts; rw [hrt _ acts rfl rfl rfl]) | rw [hrt _ _ rfl rfl rfl]
  exact Steps.refl _
theorem ax_lret {x : Int} (hX : CxOk ph X y k σ0 Q E) (hr : y.2.2.2.1 = some .long) (hd : decode y.2.1 pc = .ok (.lreturn, 1)) (h : Q (some (vJ x)) σ) : Ax ph X pc ls [vJ x] σ := by
  obtain ⟨G, p, l, e, R, s, m, args, below, meth, c, σ0ₚ, Q0, E0⟩ := X
  obtain ⟨hx, hb, hml, hret, hlocks, hown, hnm, hexc, hG, hk1, hk2, hc1, hc2, rfl, rfl, rfl⟩ := hX
  intro H locs lsC hR hL hl ho hs hn hsl hm T hT X
  obtain ⟨fs, hrt, hrun, hended, hW, hframe⟩ := X.leave (v := some (.long (Int64.ofInt x))) (fun h => by rw [hret, hr] at h; cases h)
  have hmethₚ : T.vm.method? m = some meth := X.method'
  refine ⟨T.setFrames fs, ?_, hrun, Or.inl ⟨some (vJ x), σ, locs, h, fun v hv => by cases hv; exact (okc hs).1, by rw [show (T.setFrames fs).heap = T.heap from rfl, hT]; exact hR, hn, hsl, hm, hended, hW, hframe, hL⟩⟩
  have hrₚ := hret.trans hr
  show Steps p.tables e below (T.setTop (F0 m pc lsC [.long (Int64.ofInt x)])) _
  jvm_step X.here [X.here.top, hx, hb, hd, hmethₚ, hrₚ, narrow]
  (try refine ⟨rfl, ?_⟩); (try refine ⟨rfl, ?_⟩)
  first | (intro acts; rw [hrt _ acts rfl rfl rfl]) | rw [hrt _ _ rfl rfl rfl]
  exact Steps.refl _
theorem ax_vret (hX : CxOk ph X y k σ0 Q E) (hr : y.2.2.2.1 = none) (hd : decode y.2.1 pc = .ok (.return_, 1)) (h : Q none σ) : Ax ph X pc ls [] σ := by
  obtain ⟨G, p, l, e, R, s, m, args, below, meth, c, σ0ₚ, Q0, E0⟩ := X
  obtain ⟨hx, hb, hml, hret, hlocks, hown, hnm, hexc, hG, hk1, hk2, hc1, hc2, rfl, rfl, rfl⟩ := hX
  intro H locs lsC hR hL hl ho hs hn hsl hm T hT X
  obtain ⟨fs, hrt, hrun, hended, hW, hframe⟩ := X.leave (v := none) (fun _ => rfl)
  have hmethₚ : T.vm.method? m = some meth := X.method'
  refine ⟨T.setFrames fs, ?_, hrun, Or.inl ⟨none, σ, locs, h, fun v hv => (by cases hv), by rw [show (T.setFrames fs).heap = T.heap from rfl, hT]; exact hR, hn, hsl, hm, hended, hW, hframe, hL⟩⟩
  have hrₚ := hret.trans hr
  show Steps p.tables e below (T.setTop (F0 m pc lsC [])) _
  jvm_step X.here [X.here.top, hx, hb, hd, hmethₚ, hrₚ]
  (try refine ⟨rfl, ?_⟩); (try refine ⟨rfl, ?_⟩)
  first | (intro acts; rw [hrt _ acts rfl rfl rfl]) | rw [hrt _ _ rfl rfl rfl]
  exact Steps.refl _
theorem ax_aret {v : Int ⊕ (Nat × Nat × Nat × Nat)} {rt : FieldType} (hX : CxOk ph X y k σ0 Q E) (hr : y.2.2.2.1 = some rt) (hrt : (∃ n, rt = .object n) ∨ ∃ t, rt = .array t) (hd : decode y.2.1 pc = .ok (.areturn, 1)) (h : Q (some (.inr (.inr v))) σ) : Ax ph X pc ls [.inr (.inr v)] σ := by
  obtain ⟨G, p, l, e, R, s, m, args, below, meth, c, σ0ₚ, Q0, E0⟩ := X
  obtain ⟨hx, hb, hml, hret, hlocks, hown, hnm, hexc, hG, hk1, hk2, hc1, hc2, rfl, rfl, rfl⟩ := hX
  intro H locs lsC hR hL hl ho hs hn hsl hm T hT X
  obtain ⟨fs, hrt2, hrun, hended, hW, hframe⟩ := X.leave (v := some (cV G (.inr (.inr v)))) (fun h => by rw [hret, hr] at h; cases h)
  have hmethₚ : T.vm.method? m = some meth := X.method'
  refine ⟨T.setFrames fs, ?_, hrun, Or.inl ⟨some (.inr (.inr v)), σ, locs, h, fun v hv => by cases hv; exact (okc hs).1, by rw [show (T.setFrames fs).heap = T.heap from rfl, hT]; exact hR, hn, hsl, hm, hended, hW, hframe, hL⟩⟩
  have hrₚ := hret.trans hr
  show Steps p.tables e below (T.setTop (F0 m pc lsC [cV G (.inr (.inr v))])) _
  have hvv := cV_ref G v
  generalize cV G (.inr (.inr v)) = w at hrt2 hvv ⊢
  rcases hrt with ⟨n, rfl⟩ | ⟨t, rfl⟩ <;> rcases hvv with rfl | ⟨a, rfl⟩ <;>
    (jvm_step X.here [X.here.top, hx, hb, hd, hmethₚ, hrₚ]
     (try refine ⟨rfl, ?_⟩); (try refine ⟨rfl, ?_⟩)
     first | (intro acts; rw [hrt2 _ acts rfl rfl rfl]) | rw [hrt2 _ _ rfl rfl rfl]
     exact Steps.refl _)
end Rows2
end
section
set_option maxRecDepth 100000
/-- a kind of field fits a type -/
def tyB (t : Nat) (ty : FieldType) : Bool := match ty with
  | .int => t == 0
  | .boolean => t == 1
  | .long => t == 2
  | .object _ => t == 3
  | .array _ => Nat.ble 4 t
  | _ => false
def ClOk (ci : Nat) (q : vw_C) : Prop := (∀ w ∈ u_ws q.1 q.2.1 q.2.2, w ∈ lw_all) ∧ (∃ ty : Nat → FieldType, (∀ k, k < q.2.2 → parseFieldDescriptor (q.2.1 k).2.2.1 = some (ty k)) ∧ ∀ k, k < q.2.2 → tyB (ftOf ci (k + 1)) (ty k) = true) ∧ ∀ a, a < q.2.2 → ∀ b, b < q.2.2 → a ≠ b → (q.2.1 a).2.1 ≠ (q.2.1 b).2.1
theorem clok_0 : ClOk 0 (RX0, TX0, 21) := ⟨in_X0, ⟨tyX0, tyX0_ok, by decide +kernel⟩, nmX0⟩
theorem clok_1 : ClOk 1 (RX1, TX1, 2) := ⟨in_X1, ⟨tyX1, tyX1_ok, by decide +kernel⟩, nmX1⟩
theorem clok_2 : ClOk 2 (RX2, TX2, 4) := ⟨in_X2, ⟨tyX2, tyX2_ok, by decide +kernel⟩, nmX2⟩
theorem clok_3 : ClOk 3 (RX3, TX3, 5) := ⟨in_X3, ⟨tyX3, tyX3_ok, by decide +kernel⟩, nmX3⟩
theorem clok_4 : ClOk 4 (RX4, TX4, 5) := ⟨in_X4, ⟨tyX4, tyX4_ok, by decide +kernel⟩, nmX4⟩
theorem clok_5 : ClOk 5 (RX5, TX5, 8) := ⟨in_X5, ⟨tyX5, tyX5_ok, by decide +kernel⟩, nmX5⟩
theorem clok_7 : ClOk 7 (RX7, TX7, 51) := ⟨in_X7, ⟨tyX7, tyX7_ok, by decide +kernel⟩, nmX7⟩
theorem clok_8 : ClOk 8 (RX8, TX8, 3) := ⟨in_X8, ⟨tyX8, tyX8_ok, by decide +kernel⟩, nmX8⟩
theorem clok_9 : ClOk 9 (RX9, TX9, 7) := ⟨in_X9, ⟨tyX9, tyX9_ok, by decide +kernel⟩, nmX9⟩
theorem clok_10 : ClOk 10 (RX10, TX10, 26) := ⟨in_X10, ⟨tyX10, tyX10_ok, by decide +kernel⟩, nmX10⟩
theorem clok_11 : ClOk 11 (RX11, TX11, 16) := ⟨in_X11, ⟨tyX11, tyX11_ok, by decide +kernel⟩, nmX11⟩
theorem clok_12 : ClOk 12 (RX12, TX12, 7) := ⟨in_X12, ⟨tyX12, tyX12_ok, by decide +kernel⟩, nmX12⟩
theorem clok_13 : ClOk 13 (RX13, TX13, 3) := ⟨in_X13, ⟨tyX13, tyX13_ok, by decide +kernel⟩, nmX13⟩
theorem clok_14 : ClOk 14 (RX14, TX14, 5) := ⟨in_X14, ⟨tyX14, tyX14_ok, by decide +kernel⟩, nmX14⟩
theorem clok_15 : ClOk 15 (RX15, TX15, 6) := ⟨in_X15, ⟨tyX15, tyX15_ok, by decide +kernel⟩, nmX15⟩
theorem clok_16 : ClOk 16 (RX16, TX16, 1) := ⟨in_X16, ⟨tyX16, tyX16_ok, by decide +kernel⟩, nmX16⟩
theorem clok_17 : ClOk 17 (RX17, TX17, 72) := ⟨in_X17, ⟨tyX17, tyX17_ok, by decide +kernel⟩, nmX17⟩
theorem clok_18 : ClOk 18 (RX18, TX18, 60) := ⟨in_X18, ⟨tyX18, tyX18_ok, by decide +kernel⟩, nmX18⟩
theorem clok_19 : ClOk 19 (RX19, TX19, 7) := ⟨in_X19, ⟨tyX19, tyX19_ok, by decide +kernel⟩, nmX19⟩
theorem clok_20 : ClOk 20 (RX20, TX20, 4) := ⟨in_X20, ⟨tyX20, tyX20_ok, by decide +kernel⟩, nmX20⟩
theorem clok_21 : ClOk 21 (RX21, TX21, 7) := ⟨in_X21, ⟨tyX21, tyX21_ok, by decide +kernel⟩, nmX21⟩
theorem clok_22 : ClOk 22 (RJ10, TJ10, 6) := ⟨in_J10, ⟨tyJ10, tyJ10_ok, by decide +kernel⟩, nmJ10⟩
theorem cl_ok {ci : Nat} {q : vw_C} (h : clL[ci]? = some q) (h6 : ci ≠ 6) : ClOk ci q := by
  match ci, h with
  | 0, h => cases h; exact clok_0
  | 1, h => cases h; exact clok_1
  | 2, h => cases h; exact clok_2
  | 3, h => cases h; exact clok_3
  | 4, h => cases h; exact clok_4
  | 5, h => cases h; exact clok_5
  | 6, h => exact absurd rfl h6
  | 7, h => cases h; exact clok_7
  | 8, h => cases h; exact clok_8
  | 9, h => cases h; exact clok_9
  | 10, h => cases h; exact clok_10
  | 11, h => cases h; exact clok_11
  | 12, h => cases h; exact clok_12
  | 13, h => cases h; exact clok_13
  | 14, h => cases h; exact clok_14
  | 15, h => cases h; exact clok_15
  | 16, h => cases h; exact clok_16
  | 17, h => cases h; exact clok_17
  | 18, h => cases h; exact clok_18
  | 19, h => cases h; exact clok_19
  | 20, h => cases h; exact clok_20
  | 21, h => cases h; exact clok_21
  | 22, h => cases h; exact clok_22
  | k + 23, h => simp [clL] at h
end
section
/-! ROWS III: what is known of the tables, and fields that are read -/
set_option maxRecDepth 100000
theorem cst_warm {G : Gp} {s U : State} (h : Cst G s) (hW : s.WarmedH U.vm) : Cst G U := by
  obtain ⟨h1, h2, ⟨⟨a, n1, n2, n3⟩, ⟨b, m1, m2, m3, m4⟩, n5, n6⟩, h4, h5, h6, h7, h8, a9, c9, v1, v2, ⟨cC, v4, v5⟩, v3⟩ := h
  have hv := hW.alike
  refine ⟨fun i hi => ?_, fun q hq => ?_, ⟨⟨a, n1, va_Z.moved hv n2, va_T.moved hv n3⟩, ⟨b, m1, m2, m3, va_T.moved hv m4⟩, va_Z.moved hv n5, va_Z.moved hv n6⟩, fun q hq => ?_, fun Uₚ e1 e2 A w hw => ?_, h6, h7, h8, a9, c9, v1, va_Z.moved hv v2, ⟨cC, by rw [hv.findClass]; exact v4, by rw [hv.assignable]; exact v5⟩, v3⟩
  · obtain ⟨a, b, c1, c2, c3, c4, c5, c6⟩ := h1 i hi
    exact ⟨a, b, c1, c2, va_Z.moved hv c3, va_O.moved hv c4, va_OF.moved hv c5, va_OF.moved hv c6⟩
  · obtain ⟨a, b, c1, c2, c3, c4, c5, c6⟩ := h2 q hq
    exact ⟨a, b, c1, c2, va_O.moved hv c3, va_OF.moved hv c4, va_OF.moved hv c5, va_T.moved hv c6⟩
  · obtain ⟨a, c1, c2⟩ := h4 q hq
    exact ⟨a, c1, vk_R.warm hW c2⟩
  · have h0 := h5 (Uₚ.setVm s.vm) rfl e2 A w hw
    have hWₚ : (Uₚ.setVm s.vm).WarmedH Uₚ.vm := by rw [e1]; exact hW
    have hk : w.keepsFace = true := by
      rcases List.mem_append.mp hw with c | c
      · exact Bundle.ownAtoms_keepsFace w c
      · exact Bundle.ownAtoms_keepsFace w c
    exact Cond.before_shiftedFace (State.Shifted.of_warmed hWₚ) w hk h0
/-- an array class over an array class stays -/
theorem ao_arr {t : FieldType} {A : Array Value} {u U : State} (hvm : u.vm.Alike U.vm) (h : (Cond.arrayOver (.array t)).before #[] u = true) : (Cond.arrayOver (.array t)).before A U = true := by
  obtain ⟨comp, c, k, h1, h2, h3, h4, h5⟩ : ∃ comp c k, u.vm.findClass (FieldType.array t).toString = some comp ∧ (u.vm.classes.findIdx? fun (x : Class) => match x.kind with | .array component _ => component == comp | _ => false) = some c ∧ u.vm.classes[c]? = some k ∧ k.kind = .array comp (.array t) ∧ u.vm.findClass ("[" ++ (FieldType.array t).toString) = some c := by
    unfold Cond.before Cond.holds at h
    simp only [Cond.value, beq_iff_eq] at h
    cases hc : u.vm.findClass (FieldType.array t).toString with
    | none => simp [hc] at h
    | some comp =>
      simp only [hc, Option.bind_some, Option.bind_eq_some_iff, Option.map_eq_some_iff] at h
      obtain ⟨c, hi, k, hk, hb⟩ := h
      have hi0 := hi
      obtain ⟨hlt, hp, -⟩ := Array.findIdx?_eq_some_iff_getElem.mp hi
      have hkk : u.vm.classes[c] = k := (Array.getElem?_eq_some_iff.mp hk).2
      rw [hkk] at hp
      cases hkind : k.kind with
      | array component ty =>
        rw [hkind] at hb hp
        simp at hb hp
        exact ⟨comp, c, k, rfl, hi0, hk, by rw [hkind, hp, hb.1], hb.2⟩
      | _ => rw [hkind] at hb; simp at hb
  obtain ⟨kₚ, hkₚ, he⟩ := hvm.2.2 _ _ h3
  have hi : (U.vm.classes.findIdx? fun (x : Class) => match x.kind with | .array component _ => component == comp | _ => false) = some c := by
    have e1 := va_idx_bare U.vm comp
    have e2 := va_idx_bare u.vm comp
    first | rw [hvm.bare_eq] at e2 | rw [← hvm.bare_eq] at e2
    exact (e1.symm.trans e2).trans h2
  have hkind : kₚ.kind = .array comp (.array t) := by rw [he]; exact h4
  have f1 : U.vm.findClass (FieldType.array t).toString = some comp := by rw [hvm.findClass]; exact h1
  have f2 : U.vm.findClass ("[" ++ (FieldType.array t).toString) = some c := by rw [hvm.findClass]; exact h5
  unfold Cond.before Cond.holds
  simp only [Cond.value]
  rw [f1, Option.bind_some]
  refine (congrArg (fun o : Option Nat => (o.bind (fun c => (U.vm.classes[c]?).map fun (k : Class) => match k.kind with | .array _ ty => decide (ty = FieldType.array t) && decide (U.vm.findClass ("[" ++ (FieldType.array t).toString) = some c) | _ => false) == some true)) hi).trans ?_
  simp [hkₚ, hkind, f2]
theorem glob_warm {G : Gp} {s U : State} (h : Glob G s) (hW : s.WarmedH U.vm) : Glob G U := by
  obtain ⟨h1, h2, h3, h4⟩ := h
  refine ⟨fun w hw hn A => ?_, fun ci q hq => u_Kn_moved hW.alike (h2 ci q hq), fun e he => ⟨arrOfT_moved hW.alike (h3 e he).1, (h3 e he).2.moved hW.alike⟩, cst_warm h4 hW⟩
  have h0 := h1 w hw hn
  have hgood : goodWord w = true → w.before A U = true := fun hg => word_at hW (good_of_word hg) (h0 #[])
  cases w with
  | fieldLinkNest a i b n d g => exact va_Nw.use rfl (va_Nw.warmF hW (h0 #[]))
  | methodLinkNest a i x g => exact va_Nw.use rfl (va_Nw.warmM hW (h0 #[]))
  | arrayOver t =>
    cases t with
    | object C => exact va_AO.use (va_AO.moved hW.alike (h0 #[]))
    | array C => exact ao_arr hW.alike (h0 #[])
    | _ => exact hgood hn
  | _ => exact hgood hn
theorem glob_all {G : Gp} {s : State} (h : Glob G s) (A : Array Value) : ∀ w ∈ lw_all, w.before A s = true := fun w hw => h.1 w (lw_all_tbl hw) (by
  have hg := (List.mem_filter.mp hw).2
  cases w with
  | fieldLinkNest a i b n d g => rfl
  | methodLinkNest a i x g => rfl
  | arrayOver t =>
    cases t with
    | object C => rfl
    | array C => rfl
    | _ => exact hg
  | _ => exact hg) A
/-- the link of a field at a site -/
def FLk (own : String) (idx : Nat) (C n d : String) : Prop := Cond.fieldLink own idx C n d ∈ lw_all ∨ ∃ host, Cond.fieldLinkNest own idx C n d host ∈ lw_tbl
theorem kls_eq {G : Gp} {ph : Nat} {σ : Sg} {H : Heap} (hR : Rep G ph σ H) {o a : Nat} (h : (kls ph σ o == a) = true) (ha : a ≠ 0) : gK σ o = a := by
  have h1 : kls ph σ o = a := by simpa using h
  unfold kls at h1
  cases hb : Nat.blt o (nSt ph) with
  | true =>
    rw [hb] at h1
    have h2 : kcOf o = a := h1
    have := hR.2.2.2.2.2.1.2.1 o (by simpa [Nat.blt_eq] using hb) (by rw [h2]; exact ha)
    rw [this, h2]
  | false =>
    rw [hb] at h1
    exact h1
theorem rep_lt {G : Gp} {ph : Nat} {σ : Sg} {H : Heap} (hR : Rep G ph σ H) {o a : Nat} (h : gK σ o = a) (ha : a ≠ 0) : o < gN σ := by
  rcases Nat.lt_or_ge o (gN σ) with q | q
  · exact q
  · exact absurd ((hR.2.2.2.2.1.2.2.1 o q).1.symm.trans h).symm ha
section Rows3
variable {ph k : Nat} {X : Cx} {y : MI} {σ0 σ : Sg} {Q : Option AV → Sg → Prop} {E : Int → Sg → Prop} {pc : Nat} {ls : List (Option AV)} {st : List AV}
theorem ax_getV {v : AV} {r : Int} {ci b idx : Nat} {q : vw_C} (hX : CxOk ph X y k σ0 Q E) (hcl : clL[ci]? = some q) (h6 : ci ≠ 6) (hb : b < q.2.2) (hC : (q.2.1 b).1 = q.1) (hlk : FLk y.1.cls idx q.1 (q.2.1 b).2.1 (q.2.1 b).2.2.1)
    (hr : 0 < r) (hkl : (kls ph σ r.toNat == ci + 1) = true) (hv : ∀ (G : Gp) (H : Heap), Rep G ph σ H → gK σ r.toNat = ci + 1 → fOk σ (ftOf ci (b + 1)) (b + 1) (gF σ r.toNat (b + 1)) → cV G v = fVal G σ r.toNat (ftOf ci (b + 1)) (b + 1) ∧ okV σ v)
    (hd : decode y.2.1 pc = .ok (.getfield idx, 3)) (h : Ax ph X (pc + 3) ls (v :: st) σ) : Ax ph X pc ls (vO r :: st) σ := by
  obtain ⟨G, p, l, e, R, s, m, args, below, meth, c, σ0ₚ, Q0, E0⟩ := X
  obtain ⟨hx, hbc, hml, hret, hlocks, hown, hnm, hexc, hG, hk1, hk2, hc1, hc2, rfl, rfl, rfl⟩ := hX
  intro H locs lsC hR hL hl ho hs hn hsl hm
  have hK := kls_eq hR hkl (by omega)
  have hlt := rep_lt hR hK (by omega)
  obtain ⟨⟨cell, q1, q2, q3, q4⟩, hfo⟩ := hR.2.2.1 r.toNat ci q (by omega) hlt hK hcl
  obtain ⟨hve, hvo⟩ := hv G H hR hK (hfo b hb)
  obtain ⟨hin, -, -⟩ := cl_ok hcl h6
  obtain ⟨hS, hfc, kC, hkC, hkind⟩ := hG.2.1 ci q hcl
  obtain ⟨cf, kf, fi, f, hi, hsl2⟩ := hS b hb
  have hst := (u_facts hfc hkC (u_lays (glob_all hG args) hin hb) hi).1
  have hcO : cO G r = .ref (G.1 + r.toNat - 1) := by unfold cO; rw [if_neg (by omega), if_pos hr]
  have kk := h H locs lsC hR hL hl ho (okp hvo (okc hs).2) hn hsl hm
  rw [List.map_cons, hve] at kk
  show W p l e R s m args below meth c H locs _ _ _ (F0 m pc lsC (cO G r :: st.map (cV G)))
  rw [hcO]
  have hslot : cell.slots[f.slot]? = some (fVal G σ r.toNat (ftOf ci (b + 1)) (b + 1)) := by rw [hsl2]; exact q4 b hb
  rw [hC] at hi
  rcases hlk with hw | ⟨host, hw⟩
  · exact W.getf hx hbc hown (glob_all hG args _ hw) hi hst q1 (by rw [q3]; exact fun h => by cases h) hslot rfl rfl hd kk
  · exact va_Wgetf hx hbc hown (hG.1 _ hw rfl args) hi hst q1 (by rw [q3]; exact fun h => by cases h) hslot rfl rfl hd kk
end Rows3
end
