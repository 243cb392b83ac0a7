/-! THE GRAMMAR: what the tokens from one on are read as; nodes one behind the other, each before its parts: kind, token, size -/
set_option maxRecDepth 100000
abbrev Nd : Type := Nat × Nat × Nat
/-- no fuel; a fault at a token; nodes and where it goes on -/
abbrev PR : Type := Option (Nat ⊕ (List Nd × Nat))
def pOk (l : List Nd) (j : Nat) : PR := some (.inr (l, j))
def pEr (j : Nat) : PR := some (.inl j)
def pb (r : PR) (f : List Nd → Nat → PR) : PR := match r with
  | some (.inr q) => f q.1 q.2
  | some (.inl e) => some (.inl e)
  | none => none
/-- one behind the other -/
def pS (p q : Nat → PR) (j : Nat) : PR := pb (p j) (fun l j1 => pb (q j1) (fun l2 j2 => pOk (l ++ l2) j2))
/-- a token -/
def pT (K : Nat → Nat) (t j : Nat) : PR := if K j = t then pOk [] (j + 1) else pEr j
/-- a name -/
def pN (K : Nat → Nat) (j : Nat) : PR := if K j = 2 then pOk [(21, j, 1)] (j + 1) else pEr j
/-- a node, whose place is that of the token j0 -/
def pW (k j0 : Nat) (p : Nat → PR) (j : Nat) : PR := pb (p j) (fun l j1 => pOk ((k, j0, l.length + 1) :: l) j1)
def pE (j : Nat) : PR := pOk [] j
def bnd : List Nat := [0, 1, 2, 3, 3, 4, 4, 4, 4, 5, 5, 6, 6, 7, 7, 7]
/-- is a token a sign that binds so: b its strength, s 1 in sums -/
def sgn (b s t : Nat) : Bool := Nat.ble 17 t && (Nat.ble t (bif s == 1 then 32 else 30) && (bnd.getD (t - 17) 99 == b))
section Gr
variable (K : Nat → Nat) (R : Nat → Nat → Nat → PR)
/-- codes of R: 0 sum, 2 expr, 3 unary, 4 and 5 what comes behind an expr in a row up to ) or }, 6 and 7 behind a name up to another one, by | or a comma; 8 label, 9 block, 10 statements up to }, 11 choices, 12 sums behind a comma, 13 parameters, 16.. chains, 32.. their signs -/
def gWidth (d : Nat) : Nat → PR := pS (pT K 8) (pS (R 0 (d + 1)) (pT K 9))
def gNames (c : Nat) : Nat → PR := pS (pN K) (R c 0)
def gExprs (c d : Nat) : Nat → PR := pS (R 2 (d + 1)) (R c d)
def gArgs (d : Nat) : Nat → PR := pS (pT K 4) (gExprs R 4 d)
def gCond (d : Nat) : Nat → PR := pS (pT K 4) (pS (R 2 (d + 1)) (pT K 5))
/-- parts of a chain -/
def gPart (b s d : Nat) : Nat → PR := if b < 7 then R (16 + 2 * (b + 1) + s) d else if s = 1 then (fun j => if K j = 3 then pOk [(20, j, 1)] (j + 1) else if K j = 4 then pS (pT K 4) (pS (R 0 (d + 1)) (pT K 5)) j else pN K j) else R 3 d
def gChain (b s d j : Nat) : PR := pb (gPart K R b s d j) (fun l j1 => if sgn b s (K j1) = true then pb (R (32 + 2 * b + s) d j1) (fun l2 j2 => pOk ((22, j, (l ++ l2).length + 1) :: (l ++ l2)) j2) else pOk l j1)
def gOps (b s d j : Nat) : PR := if sgn b s (K j) = true then pS (pW (K j + 7) j (fun j => gPart K R b s d (j + 1))) (R (32 + 2 * b + s) d) j else pE j
def gExpr (d j : Nat) : PR := if 60 < d then pEr j else pb (R 16 d j) (fun l j1 => if K j1 = 13 then pb (pS (R 2 (d + 1)) (pS (pT K 12) (R 2 (d + 1))) (j1 + 1)) (fun l2 j2 => pOk ((23, j1, (l ++ l2).length + 1) :: (l ++ l2)) j2) else pOk l j1)
def gTurned (d : Nat) (j : Nat) : PR := if 60 < d then pEr j else R 3 d j
def gMade (d j : Nat) : PR := if K j < 46 ∨ 51 < K j then pEr j else pW (K j + 2) j (fun j1 => pS (pT K 4) (pS (if K j < 49 then pS (R 0 (d + 1)) (pT K 10) else pE) (pS (if K j = 46 then R 0 (d + 1) else R 2 (d + 1)) (pT K 5))) (j1 + 1)) j
/-- behind name [ sum, with the sum's nodes -/
def gBits (d j : Nat) (l1 : List Nd) (j2 : Nat) : PR := if K j2 = 12 then pb (pS (R 0 (d + 1)) (pT K 9) (j2 + 1)) (fun l2 j3 => pOk ((45, j, (l1 ++ l2).length + 2) :: (21, j, 1) :: (l1 ++ l2)) j3)
  else pb (pS (R 12 d) (pT K 9) j2) (fun l2 j4 => if K j2 = 10 ∨ K j4 = 4 then pb (gArgs K R d j4) (fun la j5 => pOk ((46, j, (l1 ++ l2 ++ la).length + 3) :: (21, j, 1) :: (47, j + 1, (l1 ++ l2).length + 1) :: (l1 ++ l2 ++ la)) j5)
    else pOk ((44, j, l1.length + 2) :: (21, j, 1) :: l1) j4)
def gNamed (d j : Nat) : PR := if K (j + 1) = 4 then pb (gArgs K R d (j + 1)) (fun la j5 => pOk ((46, j, la.length + 3) :: (21, j, 1) :: (47, j + 1, 1) :: la) j5)
  else if K (j + 1) = 8 then pb (R 0 (d + 1) (j + 2)) (fun l1 j2 => gBits K R d j l1 j2) else pOk [(21, j, 1)] (j + 1)
def gUnary (d j : Nat) : PR :=
  if K j = 15 then pW 40 j (fun j => gTurned R (d + 1) (j + 1)) j
  else if K j = 29 then pW 41 j (fun j => gTurned R (d + 1) (j + 1)) j
  else if K j = 16 then pW 42 j (fun j => gTurned R (d + 1) (j + 1)) j
  else if K j = 4 then pS (pT K 4) (pS (R 2 (d + 1)) (pT K 5)) j
  else if K j = 6 then pW 43 j (pS (pT K 6) (gExprs R 5 d)) j
  else if K j = 2 then gNamed K R d j
  else gMade K R d j
def gLabel (d j : Nat) : PR := if 60 < d then pEr j else if K j = 42 then pW 19 j (pS (pT K 42) (pS (pT K 4) (pS (pN K) (pS (pT K 20) (pS (R 0 (d + 1)) (pS (pT K 5) (pS (R 8 (d + 1)) (pS (pT K 43) (R 8 (d + 1)))))))))) j
  else pW 18 j (gNames K R 6) j
def gBlock (d j : Nat) : PR := if 60 < d then pEr j else pW 12 j (pS (pT K 6) (R 10 d)) j
def gChoice (d j : Nat) : PR := pW 16 j (pS (R 0 (d + 1)) (pS (pT K 12) (R 9 (d + 1)))) j
/-- what comes behind a choice -/
def gChoices (d j : Nat) : PR := if K j = 45 then pS (pW 17 j (pS (pT K 45) (pS (pT K 12) (R 9 (d + 1))))) (pT K 7) j else if K j = 7 then pT K 7 j else pS (gChoice K R d) (R 11 d) j
def gStmt (d j : Nat) : PR :=
  if K j = 2 then pW 13 j (pS (pN K) (pS (pT K 23) (pS (R 2 (d + 1)) (pT K 11)))) j
  else if K j = 42 then pW 14 j (pS (pT K 42) (pS (gCond K R d) (pS (R 9 (d + 1)) (fun j => if K j = 43 then pS (pT K 43) (R 9 (d + 1)) j else pE j)))) j
  else if K j = 44 then pW 15 j (pS (pT K 44) (pS (gCond K R d) (pS (pT K 6) (pS (gChoice K R d) (R 11 d))))) j
  else pEr j
def gStmts (d j : Nat) : PR := if K j = 7 then pT K 7 j else pS (gStmt K R d) (R 10 d) j
def gParam (j : Nat) : PR := pW 5 j (pS (pN K) (gWidth K R 0)) j
def gFun : Nat → PR := pS (pN K) (pS (fun j => pW 4 j (if K j = 8 then pS (pT K 8) (pS (gNames K R 7) (pT K 9)) else pE) j) (pS (pT K 4) (pS (gParam K R) (pS (R 13 0) (pS (pT K 5) (pS (gWidth K R 0) (pS (pT K 14) (pS (R 2 1) (pT K 11)))))))))
def gSignal (t : Nat) : Nat → PR := pS (pN K) (pS (if t < 39 then gWidth K R 0 else pE) (pS (if t = 36 ∨ t = 38 then pS (pT K 14) (R 0 1) else pE) (pS (if t = 37 ∨ t = 38 ∨ t = 40 then pS (pT K 12) (R 8 1) else pE) (pS (if 39 ≤ t then pS (pT K 14) (R 2 1) else pE) (pT K 11)))))
def gItem (j : Nat) : PR :=
  if K j < 33 ∨ 41 < K j then pEr j
  else if K j = 33 then pW 1 j (pS (pT K 33) (pS (pN K) (pS (fun j => if K j = 24 then pS (pT K 24) (gNames K R 7) j else pE j) (pT K 11)))) j
  else if K j = 34 then pW 2 j (pS (pT K 34) (pS (pN K) (pS (pT K 14) (pS (R 0 1) (pT K 11))))) j
  else if K j = 35 then pW 3 j (pS (pT K 35) (gFun K R)) j
  else if K j = 41 then pW 11 j (pS (pT K 41) (R 9 1)) j
  else pW (K j - 30) j (pS (pT K (K j)) (gSignal K R (K j))) j
/-- behind a part: another one, if such a token stands there -/
def gMore (t : Nat) (p q : Nat → PR) (j : Nat) : PR := if K j = t then pS p q (j + 1) else pE j
def gAll (c d j : Nat) : PR :=
  if c = 0 then (if 60 < d then pEr j else R 29 d j)
  else if c = 2 then gExpr K R d j
  else if c = 3 then gUnary K R d j
  else if c = 4 then (if K j = 10 then pS (R 2 (d + 1)) (R 4 d) (j + 1) else pT K 5 j)
  else if c = 5 then (if K j = 10 then pS (R 2 (d + 1)) (R 5 d) (j + 1) else pT K 7 j)
  else if c = 6 then gMore K 17 (pN K) (R 6 0) j
  else if c = 7 then gMore K 10 (pN K) (R 7 0) j
  else if c = 8 then gLabel K R d j
  else if c = 9 then gBlock K R d j
  else if c = 10 then gStmts K R d j
  else if c = 11 then gChoices K R d j
  else if c = 12 then gMore K 10 (R 0 (d + 1)) (R 12 d) j
  else if c = 13 then gMore K 10 (gParam K R) (R 13 0) j
  else if c < 16 then none
  else if c < 32 then gChain K R ((c - 16) / 2) ((c - 16) % 2) d j
  else if c < 48 then gOps K R ((c - 32) / 2) ((c - 32) % 2) d j
  else none
end Gr
/-- all by fuel -/
def pP (K : Nat → Nat) : Nat → Nat → Nat → Nat → PR
  | 0 => fun _ _ _ => none
  | f + 1 => gAll K (pP K f)
def pItem (K : Nat → Nat) (f j : Nat) : PR := gItem K (pP K f) j
