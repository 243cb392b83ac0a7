/-! THE SEGMENT's CONDITION: what must hold at a pc for the walk up to the next call, cut or end -/
set_option maxRecDepth 100000
/-- pc, instruction, its length, and three numbers by its kind -/
abbrev En : Type := Nat × Instr × Nat × Nat × Nat × Int
def chk (b : Bool) (P : Prop) : Prop := bif b then P else False
theorem chk_of {b : Bool} {P : Prop} (h : chk b P) : b = true ∧ P := by cases b with | true => exact ⟨rfl, h⟩ | false => exact h.elim
def kls (ph : Nat) (σ : Sg) (o : Nat) : Nat := bif Nat.blt o (nSt ph) then kcOf o else gK σ o
def lkill (ls : List (Option AV)) (i : Nat) : List (Option AV) := match i with
  | 0 => ls
  | j + 1 => match ls.getD j none with
    | some (.inr (.inl _)) => ls.set j none
    | _ => ls
def lset (ls : List (Option AV)) (i : Nat) (v : AV) : List (Option AV) := (lkill ls i).set i (some v)
def lset2 (ls : List (Option AV)) (i : Nat) (v : AV) : List (Option AV) := ((lkill ls i).set i (some v)).set (i + 1) none
def avW : AV → Nat
  | .inr (.inl _) => 2
  | _ => 1
def strOf (r : Int) : Option (List Int) := (strL.find? (fun q => q.1 == (-r).toNat)).map (fun q => q.2)
def swT (pc : Nat) (x : Int) (go : Nat → Prop) : Int → List Int → Prop
  | _, [] => True
  | k, off :: t => (x = k → go ((pc : Int) + off).toNat) ∧ swT pc x go (k + 1) t
def swL (pc : Nat) (x dflt : Int) (go : Nat → Prop) : List (Int × Int) → Prop
  | [] => go ((pc : Int) + dflt).toNat
  | q :: t => (x = q.1 → go ((pc : Int) + q.2).toNat) ∧ (¬ x = q.1 → swL pc x dflt go t)
def elT : ArrayType → Nat
  | .int => 0
  | .byte => 1
  | .boolean => 2
  | .long => 3
  | _ => 99
/-- a test of an int against another one, by the instruction's condition -/
def cmpI (c : Jvm.ClassFile.Cond) (x y : Int) : Prop := match c with
  | .eq => x = y
  | .ne => ¬ x = y
  | .lt => x < y
  | .ge => y ≤ x
  | .gt => y < x
  | .le => x ≤ y
/-- what an array's coming into a field asks -/
def mvOk (σ : Sg) (p o b : Nat) : Prop := bif Nat.blt o 222 then gL σ p 0 ≤ spB o b ∧ (bif spW o b == 1 then gV σ o b = 0 else bif spW o b == 2 then 2 * gL σ o b ≤ gL σ p 0 else False) else gD σ + gL σ p 0 ≤ 200000
