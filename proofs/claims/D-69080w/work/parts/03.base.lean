/-! THE ABSTRACT MACHINE, its values and states. An AV: an int, a long, an object (0 null, a > 0 the a-th cell made by the law, a < 0 a constant), an array (element kind, owner's path o f, the array's own cell). -/
set_option maxRecDepth 100000
abbrev AV : Type := Int ⊕ Int ⊕ Int ⊕ (Nat × Nat × Nat × Nat)
abbrev vI (x : Int) : AV := .inl x
abbrev vJ (x : Int) : AV := .inr (.inl x)
abbrev vO (x : Int) : AV := .inr (.inr (.inl x))
abbrev vA (e o f v : Nat) : AV := .inr (.inr (.inr (e, o, f, v)))
/-- fields, arrays' contents, their lengths, their cells (0: null), kinds of cells, next cell, slots, slots of loose arrays, small cells, other slots -/
abbrev Sg : Type := (Nat → Nat → Int) × (Nat → Nat → Nat → Int) × (Nat → Nat → Nat) × (Nat → Nat → Nat) × (Nat → Nat) × Nat × Nat × Nat × Nat × Nat
def gF (σ : Sg) : Nat → Nat → Int := σ.1
def gA (σ : Sg) : Nat → Nat → Nat → Int := σ.2.1
def gL (σ : Sg) : Nat → Nat → Nat := σ.2.2.1
def gV (σ : Sg) : Nat → Nat → Nat := σ.2.2.2.1
def gK (σ : Sg) : Nat → Nat := σ.2.2.2.2.1
def gN (σ : Sg) : Nat := σ.2.2.2.2.2.1
def gS (σ : Sg) : Nat := σ.2.2.2.2.2.2.1
def gT (σ : Sg) : Nat := σ.2.2.2.2.2.2.2.1
def gC (σ : Sg) : Nat := σ.2.2.2.2.2.2.2.2.1
def gD (σ : Sg) : Nat := σ.2.2.2.2.2.2.2.2.2
def u2 {α : Type} (f : Nat → Nat → α) (o k : Nat) (v : α) : Nat → Nat → α := fun a b => if a = o ∧ b = k then v else f a b
def u1 {α : Type} (f : Nat → α) (o : Nat) (v : α) : Nat → α := fun a => if a = o then v else f a
/-- a field is set -/
def sF (σ : Sg) (o k : Nat) (v : Int) : Sg := (u2 σ.1 o k v, σ.2)
/-- a place of an array is set -/
def sA (σ : Sg) (o k i : Nat) (v : Int) : Sg := (σ.1, u2 σ.2.1 o k (u1 (σ.2.1 o k) i v), σ.2.2)
/-- an array's contents, all at once -/
def sB (σ : Sg) (o k : Nat) (g : Nat → Int) : Sg := (σ.1, u2 σ.2.1 o k g, σ.2.2)
/-- a new object of a kind, with so many slots -/
def nO (σ : Sg) (c n : Nat) : Sg := (gF σ, gA σ, gL σ, gV σ, u1 (gK σ) (gN σ) c, gN σ + 1, gS σ + n, gT σ, gC σ + 1, gD σ + n)
/-- a new array, loose: its path is (its cell, 0) -/
def nA (σ : Sg) (e n : Nat) : Sg := (gF σ, gA σ, u2 (gL σ) (gN σ) 0 n, u2 (gV σ) (gN σ) 0 (gN σ), u1 (gK σ) (gN σ) (100 + e), gN σ + 1, gS σ + n, gT σ + n, gC σ + (if n < 16 then 1 else 0), gD σ)
/-- a loose array comes into a field -/
def mV (σ : Sg) (t o k : Nat) : Sg := (gF σ, u2 (gA σ) o k (gA σ t 0), u2 (u2 (gL σ) t 0 0) o k (gL σ t 0), u2 (u2 (gV σ) t 0 0) o k t, gK σ, gN σ, gS σ, gT σ - gL σ t 0, gC σ, gD σ + (if o < 222 then 0 else gL σ t 0))
/-- a copied stretch -/
def cpy (f g : Nat → Int) (sp dp n : Nat) : Nat → Int := fun k => if dp ≤ k ∧ k < dp + n then f (sp + (k - dp)) else g k
def w32 (x : Int) : Int := (x + 2147483648) % 4294967296 - 2147483648
def w64 (x : Int) : Int := (x + 9223372036854775808) % 18446744073709551616 - 9223372036854775808
def w8 (x : Int) : Int := (x + 128) % 256 - 128
def in32 (x : Int) : Prop := -2147483648 ≤ x ∧ x < 2147483648
def in64 (x : Int) : Prop := -9223372036854775808 ≤ x ∧ x < 9223372036854775808
def iAnd (x y : Int) : Int := (Int32.ofInt x &&& Int32.ofInt y).toInt
def iOr (x y : Int) : Int := (Int32.ofInt x ||| Int32.ofInt y).toInt
def iXor (x y : Int) : Int := (Int32.ofInt x ^^^ Int32.ofInt y).toInt
def iShl (x y : Int) : Int := w32 (x * 2 ^ (y % 32).toNat)
def iShr (x y : Int) : Int := x / 2 ^ (y % 32).toNat
def iUsh (x y : Int) : Int := w32 ((x % 4294967296) / 2 ^ (y % 32).toNat)
def jAnd (x y : Int) : Int := (Int64.ofInt x &&& Int64.ofInt y).toInt
def jOr (x y : Int) : Int := (Int64.ofInt x ||| Int64.ofInt y).toInt
def jXor (x y : Int) : Int := (Int64.ofInt x ^^^ Int64.ofInt y).toInt
def jShl (x y : Int) : Int := w64 (x * 2 ^ (y % 64).toNat)
def jShr (x y : Int) : Int := x / 2 ^ (y % 64).toNat
def jUsh (x y : Int) : Int := w64 ((x % 18446744073709551616) / 2 ^ (y % 64).toNat)
def jCmp (x y : Int) : Int := if x > y then 1 else if x = y then 0 else -1
section Get
variable (σ : Sg) (o k i t c n : Nat) (v : Int) (g : Nat → Int)
theorem gF_sF (a b : Nat) : gF (sF σ o k v) a b = if a = o ∧ b = k then v else gF σ a b := rfl
theorem gA_sF : gA (sF σ o k v) = gA σ := rfl
theorem gL_sF : gL (sF σ o k v) = gL σ := rfl
theorem gV_sF : gV (sF σ o k v) = gV σ := rfl
theorem gK_sF : gK (sF σ o k v) = gK σ := rfl
theorem gN_sF : gN (sF σ o k v) = gN σ := rfl
theorem gS_sF : gS (sF σ o k v) = gS σ := rfl
theorem gT_sF : gT (sF σ o k v) = gT σ := rfl
theorem gC_sF : gC (sF σ o k v) = gC σ := rfl
theorem gD_sF : gD (sF σ o k v) = gD σ := rfl
theorem gF_sA : gF (sA σ o k i v) = gF σ := rfl
theorem gA_sA (a b j : Nat) : gA (sA σ o k i v) a b j = if a = o ∧ b = k then (if j = i then v else gA σ o k j) else gA σ a b j := by
  show (u2 σ.2.1 o k (u1 (σ.2.1 o k) i v)) a b j = _
  unfold u2 u1 gA
  split <;> rfl
theorem gL_sA : gL (sA σ o k i v) = gL σ := rfl
theorem gV_sA : gV (sA σ o k i v) = gV σ := rfl
theorem gK_sA : gK (sA σ o k i v) = gK σ := rfl
theorem gN_sA : gN (sA σ o k i v) = gN σ := rfl
theorem gS_sA : gS (sA σ o k i v) = gS σ := rfl
theorem gT_sA : gT (sA σ o k i v) = gT σ := rfl
theorem gC_sA : gC (sA σ o k i v) = gC σ := rfl
theorem gD_sA : gD (sA σ o k i v) = gD σ := rfl
theorem gF_sB : gF (sB σ o k g) = gF σ := rfl
theorem gA_sB (a b : Nat) : gA (sB σ o k g) a b = if a = o ∧ b = k then g else gA σ a b := rfl
theorem gL_sB : gL (sB σ o k g) = gL σ := rfl
theorem gV_sB : gV (sB σ o k g) = gV σ := rfl
theorem gK_sB : gK (sB σ o k g) = gK σ := rfl
theorem gN_sB : gN (sB σ o k g) = gN σ := rfl
theorem gS_sB : gS (sB σ o k g) = gS σ := rfl
theorem gT_sB : gT (sB σ o k g) = gT σ := rfl
theorem gC_sB : gC (sB σ o k g) = gC σ := rfl
theorem gD_sB : gD (sB σ o k g) = gD σ := rfl
theorem gF_nO : gF (nO σ c n) = gF σ := rfl
theorem gA_nO : gA (nO σ c n) = gA σ := rfl
theorem gL_nO : gL (nO σ c n) = gL σ := rfl
theorem gV_nO : gV (nO σ c n) = gV σ := rfl
theorem gK_nO (a : Nat) : gK (nO σ c n) a = if a = gN σ then c else gK σ a := rfl
theorem gN_nO : gN (nO σ c n) = gN σ + 1 := rfl
theorem gS_nO : gS (nO σ c n) = gS σ + n := rfl
theorem gT_nO : gT (nO σ c n) = gT σ := rfl
theorem gC_nO : gC (nO σ c n) = gC σ + 1 := rfl
theorem gD_nO : gD (nO σ c n) = gD σ + n := rfl
theorem gF_nA : gF (nA σ c n) = gF σ := rfl
theorem gA_nA : gA (nA σ c n) = gA σ := rfl
theorem gL_nA (a b : Nat) : gL (nA σ c n) a b = if a = gN σ ∧ b = 0 then n else gL σ a b := rfl
theorem gV_nA (a b : Nat) : gV (nA σ c n) a b = if a = gN σ ∧ b = 0 then gN σ else gV σ a b := rfl
theorem gK_nA (a : Nat) : gK (nA σ c n) a = if a = gN σ then 100 + c else gK σ a := rfl
theorem gN_nA : gN (nA σ c n) = gN σ + 1 := rfl
theorem gS_nA : gS (nA σ c n) = gS σ + n := rfl
theorem gT_nA : gT (nA σ c n) = gT σ + n := rfl
theorem gC_nA : gC (nA σ c n) = gC σ + (if n < 16 then 1 else 0) := rfl
theorem gD_nA : gD (nA σ c n) = gD σ := rfl
theorem gF_mV : gF (mV σ t o k) = gF σ := rfl
theorem gA_mV (a b : Nat) : gA (mV σ t o k) a b = if a = o ∧ b = k then gA σ t 0 else gA σ a b := rfl
theorem gL_mV (a b : Nat) : gL (mV σ t o k) a b = if a = o ∧ b = k then gL σ t 0 else if a = t ∧ b = 0 then 0 else gL σ a b := rfl
theorem gV_mV (a b : Nat) : gV (mV σ t o k) a b = if a = o ∧ b = k then t else if a = t ∧ b = 0 then 0 else gV σ a b := rfl
theorem gK_mV : gK (mV σ t o k) = gK σ := rfl
theorem gN_mV : gN (mV σ t o k) = gN σ := rfl
theorem gS_mV : gS (mV σ t o k) = gS σ := rfl
theorem gT_mV : gT (mV σ t o k) = gT σ - gL σ t 0 := rfl
theorem gC_mV : gC (mV σ t o k) = gC σ := rfl
theorem gD_mV : gD (mV σ t o k) = gD σ + (if o < 222 then 0 else gL σ t 0) := rfl
end Get
theorem w32_in (x : Int) : in32 (w32 x) := by unfold in32 w32; omega
theorem w64_in (x : Int) : in64 (w64 x) := by unfold in64 w64; omega
theorem w32_id {x : Int} (h : in32 x) : w32 x = x := by unfold in32 at h; unfold w32; omega
theorem w64_id {x : Int} (h : in64 x) : w64 x = x := by unfold in64 at h; unfold w64; omega
theorem in32_toInt (x : Int32) : in32 x.toInt := ⟨x.le_toInt, x.toInt_lt⟩
theorem in64_toInt (x : Int64) : in64 x.toInt := ⟨x.le_toInt, x.toInt_lt⟩
theorem in32_and (x y : Int) : in32 (iAnd x y) := in32_toInt _
theorem in32_or (x y : Int) : in32 (iOr x y) := in32_toInt _
theorem in32_xor (x y : Int) : in32 (iXor x y) := in32_toInt _
theorem in64_and (x y : Int) : in64 (jAnd x y) := in64_toInt _
theorem in64_or (x y : Int) : in64 (jOr x y) := in64_toInt _
theorem in64_xor (x y : Int) : in64 (jXor x y) := in64_toInt _
/-- the Int32 of a number within -/
theorem i32_toInt {x : Int} (h : in32 x) : (Int32.ofInt x).toInt = x := by
  rw [Int32.toInt_ofInt]
  unfold in32 at h
  unfold Int.bmod
  simp only [Int32.size] 
  omega
theorem i64_toInt {x : Int} (h : in64 x) : (Int64.ofInt x).toInt = x := by
  rw [Int64.toInt_ofInt]
  unfold in64 at h
  unfold Int.bmod
  simp only [Int64.size]
  omega
theorem i32_w (x : Int) : Int32.ofInt (w32 x) = Int32.ofInt x := by
  apply Int32.toInt_inj.mp
  rw [Int32.toInt_ofInt, Int32.toInt_ofInt]
  unfold w32 Int.bmod
  simp only [Int32.size]
  omega
theorem i64_w (x : Int) : Int64.ofInt (w64 x) = Int64.ofInt x := by
  apply Int64.toInt_inj.mp
  rw [Int64.toInt_ofInt, Int64.toInt_ofInt]
  unfold w64 Int.bmod
  simp only [Int64.size]
  omega
