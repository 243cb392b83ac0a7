/-! WHAT A TREE MEANS: sums, looks; functions put in -/
set_option maxRecDepth 100000
/-- no fuel; what is wrong, and where; what it is -/
abbrev ER (α : Type) : Type := Option ((Int × Int) ⊕ α)
def rOk {α : Type} (x : α) : ER α := some (.inr x)
def rEr {α : Type} (y p : Int) : ER α := some (.inl (y, p))
def rb {α β : Type} (r : ER α) (f : α → ER β) : ER β := match r with
  | some (.inr x) => f x
  | some (.inl e) => some (.inl e)
  | none => none
def rW (b : Bool) (y p : Int) : ER Unit := bif b then rOk () else rEr y p
/-- a tree: of each node its kind, place, value, size -/
abbrev Tv : Type := Nat → N4
def kd (V : Tv) (k : Nat) : Int := (V k).1
def pl (V : Tv) (k : Nat) : Int := (V k).2.1
def vl (V : Tv) (k : Nat) : Int := (V k).2.2.1
def sz (V : Tv) (k : Nat) : Nat := (V k).2.2.2.toNat
def af (V : Tv) (k : Nat) : Nat := k + sz V k
/-- what names are: sort, value, order -/
abbrev Sy : Type := Nat → Int × Int × Int
/-- a function that is looked at: its node, its constants, its parameters' looks -/
abbrev Env : Type := Option (Nat × List Int × List Nat)
/-- a look: op, width, parts -/
abbrev Lk : Type := Int × Int × Int × Int × Int
/-- looks, and how many were counted -/
abbrev Ls : Type := List Lk × Nat
def wdt (st : Ls) (l : Nat) : Int := (st.1.getD l (0, 0, 0, 0, 0)).2.1
section El
variable (V : Tv) (S : Sy) (item : Int) (sw : Nat → Int)
def conF (V : Tv) (name : Int) : Nat → Nat → Nat → Option Nat
  | 0, _, _ => none
  | m + 1, q, i => if vl V q = name then some i else conF V name m (q + 1) (i + 1)
/-- the constant, the parameter that a name is -/
def conI (env : Env) (name : Int) : Option Nat := match env with
  | none => none
  | some e => conF V name (sz V (e.1 + 2) - 1) (e.1 + 3) 0
def parF (V : Tv) (name : Int) : Nat → Nat → Nat → Option Nat
  | 0, _, _ => none
  | m + 1, q, i => if kd V q = 5 then (if vl V (q + 1) = name then some i else parF V name m (af V q) (i + 1)) else none
def parI (env : Env) (name : Int) : Option Nat := match env with
  | none => none
  | some e => parF V name 4000 (af V (e.1 + 2)) 0
def lim (env : Env) : Int := match env with
  | none => item
  | some e => (S (vl V (e.1 + 1)).toNat).2.2
def mn (env : Env) (k : Nat) (what : Int) : ER Int :=
  rb (rW (decide ((S (vl V k).toNat).1 ≠ 0 ∧ (S (vl V k).toNat).1 ≠ 5 ∧ (S (vl V k).toNat).2.2 < lim V S item env)) 1 (pl V k)) (fun _ =>
  rb (rW (decide ((S (vl V k).toNat).1 = what)) 3 (pl V k)) (fun _ => rOk (S (vl V k).toNat).2.1))
def reck (kind x y p : Int) : ER Int :=
  rb (rW (decide (kind < 38 ∨ y ≠ 0)) 5 p) (fun _ =>
  let v := if kind = 35 then x + y else if kind = 36 then x - y else if kind = 37 then x * y else if kind = 38 then x.tdiv y else x.tmod y
  rb (rW (decide (-2147483648 ≤ v ∧ v ≤ 2147483647)) 5 p) (fun _ => rOk v))
def smL (R : Nat → ER Int) (k : Nat) : Nat → Nat → Int → ER Int
  | 0, _, _ => none
  | m + 1, p, v => if p < af V k then rb (R (p + 1)) (fun y => rb (reck (kd V p) v y (pl V k)) (fun v => smL R k m (af V p) v)) else rOk v
def sm (env : Env) : Nat → Nat → ER Int
  | 0, _ => none
  | f + 1, k => if kd V k = 20 then rOk (vl V k)
    else if kd V k = 21 then (match conI V env (vl V k) with
      | some i => rOk ((match env with | some e => e.2.1 | none => []).getD i 0)
      | none => rb (rW (parI V env (vl V k)).isNone 3 (pl V k)) (fun _ => mn V S item env k 2))
    else rb (sm env f (k + 1)) (fun v => smL V (sm env f) k 4000 (af V (k + 1)) v)
def sum (env : Env) (k : Nat) : ER Int := sm V S item env 4000 k
def wAt (env : Env) (k : Nat) : ER Int := rb (sum V S item env k) (fun w => rb (rW (decide (1 ≤ w ∧ w ≤ 32)) 5 (pl V k)) (fun _ => rOk w))
def vAt (env : Env) (k : Nat) (w : Int) : ER Int := rb (sum V S item env k) (fun v => rb (rW (decide (0 ≤ v ∧ (30 < w ∨ v < 2 ^ w.toNat))) 5 (pl V k)) (fun _ => rOk v))
def lay (st : Ls) (x : Lk) : Nat × Ls := (st.1.length, (st.1 ++ [x], st.2))
def cou (p : Int) (depth : Nat) (st : Ls) : ER Ls := rb (rW (decide (st.2 < 8000 ∧ depth ≤ 200)) 10 p) (fun _ => rOk (st.1, st.2 + 1))
def elSig (env : Env) (k : Nat) (st : Ls) : ER (Nat × Ls) := match parI V env (vl V k) with
  | some i => rOk ((match env with | some e => e.2.2 | none => []).getD i 0, st)
  | none => rb (rW (conI V env (vl V k)).isNone 3 (pl V k)) (fun _ => rb (mn V S item env k 4) (fun s => rOk (lay st (21, sw s.toNat, s, 0, 0))))
def elBits (env : Env) (k : Nat) (st : Ls) : ER (Nat × Ls) := rb (elSig V S item sw env (k + 1) st) (fun q =>
  rb (sum V S item env (k + 2)) (fun h => rb (rW (decide (0 ≤ h ∧ h < wdt q.2 q.1)) 5 (pl V (k + 2))) (fun _ =>
  rb (if kd V k = 45 then rb (sum V S item env (af V (k + 2))) (fun l => rb (rW (decide (0 ≤ l ∧ l ≤ h)) 5 (pl V (af V (k + 2)))) (fun _ => rOk l)) else rOk h) (fun l =>
  rOk (lay q.2 (45, h - l + 1, q.1, h, l))))))
variable (E : Env → Nat → Nat → Ls → ER (Nat × Ls))
def elChainL (env : Env) (k depth : Nat) : Nat → Nat → Nat → Ls → ER (Nat × Ls)
  | 0, _, _, _ => none
  | m + 1, p, x, st => if p < af V k then rb (cou (pl V p) depth st) (fun st => rb (E env (p + 1) (depth + 1) st) (fun q =>
      rb (rW (decide (kd V p = 33 ∨ kd V p = 34 ∨ wdt q.2 x = wdt q.2 q.1)) 4 (pl V p)) (fun _ =>
      let r := lay q.2 (kd V p, (if 27 ≤ kd V p ∧ kd V p ≤ 32 then 1 else wdt q.2 x), x, q.1, 0)
      elChainL env k depth m (af V p) r.1 r.2)))
    else rOk (x, st)
def elChoose (env : Env) (k depth : Nat) (st : Ls) : ER (Nat × Ls) := rb (E env (k + 1) (depth + 1) st) (fun x => rb (cou (pl V k) depth x.2) (fun st =>
  rb (E env (af V (k + 1)) (depth + 1) st) (fun y => rb (E env (af V (af V (k + 1))) (depth + 1) y.2) (fun z =>
  rb (rW (decide (wdt z.2 x.1 = 1)) 4 (pl V (k + 1))) (fun _ => rb (rW (decide (wdt z.2 y.1 = wdt z.2 z.1)) 4 (pl V k)) (fun _ =>
  rOk (lay z.2 (23, wdt z.2 y.1, x.1, y.1, z.1))))))))
/-- parts from one on to an end: their looks; the first one isn't counted here -/
def elParts (env : Env) (first to depth : Nat) : Nat → Nat → List Nat → Ls → ER (List Nat × Ls)
  | 0, _, _, _ => none
  | m + 1, p, g, st => if p < to then rb (if p = first then rOk st else cou (pl V p) (depth + 1) st) (fun st => rb (E env p (depth + 1) st) (fun q => elParts env first to depth m (af V p) (g ++ [q.1]) q.2)) else rOk (g, st)
def elRowL : List Nat → Nat → Ls → Nat × Ls
  | [], x, st => (x, st)
  | y :: g, x, st => let r := lay st (43, wdt st x + wdt st y, x, y, 0); elRowL g r.1 r.2
def elRow (env : Env) (k depth : Nat) (st : Ls) : ER (Nat × Ls) := rb (elParts V E env (k + 1) (af V k) depth 4000 (k + 1) [] st) (fun q =>
  rb (rW (decide ((q.1.map (wdt q.2)).sum ≤ 32)) 4 (pl V k)) (fun _ => match q.1 with
    | x :: g => rOk (elRowL g x q.2)
    | [] => none))
def nPar (V : Tv) : Nat → Nat → Nat
  | 0, _ => 0
  | m + 1, p => if kd V p = 5 then nPar V m (af V p) + 1 else 0
def nParts (V : Tv) (to : Nat) : Nat → Nat → Nat
  | 0, _ => 0
  | m + 1, p => if p < to then nParts V to m (af V p) + 1 else 0
def elConsts (env : Env) (to : Nat) : Nat → Nat → List Int → ER (List Int)
  | 0, _, _ => none
  | m + 1, p, c => if p < to then rb (sum V S item env p) (fun v => elConsts env to m (af V p) (c ++ [v])) else rOk c
/-- widths of parameters; then the function's own width's node -/
def elPar (env : Env) (st : Ls) : Nat → Nat → Nat → List Nat → ER Nat
  | 0, _, _, _ => none
  | m + 1, p, a, g => if kd V p = 5 then rb (wAt V S item env (p + 2)) (fun w => rb (rW (decide (w = wdt st (g.headD 0))) 4 (pl V a)) (fun _ => elPar env st m (af V p) (af V a) g.tail)) else rOk p
def elCall (env : Env) (k depth : Nat) (st : Ls) : ER (Nat × Ls) :=
  rb (rW ((conI V env (vl V (k + 1))).isNone && (parI V env (vl V (k + 1))).isNone) 3 (pl V (k + 1))) (fun _ =>
  rb (mn V S item env (k + 1) 3) (fun f =>
  rb (rW (decide (sz V (f.toNat + 2) - 1 = nParts V (af V (k + 2)) 4000 (k + 3) ∧ nPar V 4000 (af V (f.toNat + 2)) = nParts V (af V k) 4000 (af V (k + 2)))) 6 (pl V (k + 1))) (fun _ =>
  rb (elConsts V S item env (af V (k + 2)) 4000 (k + 3) []) (fun cs =>
  rb (elParts V E env (af V (k + 2)) (af V k) depth 4000 (af V (k + 2)) [] st) (fun g =>
  let en : Env := some (f.toNat, cs, g.1)
  rb (elPar V S item en g.2 4000 (af V (f.toNat + 2)) (af V (k + 2)) g.1) (fun p =>
  rb (wAt V S item en p) (fun w => rb (E en (af V p) (depth + 1) g.2) (fun e =>
  rb (rW (decide (w = wdt e.2 e.1)) 4 (pl V (k + 1))) (fun _ => rOk e)))))))))
def elx (env : Env) (k depth : Nat) (st : Ls) : ER (Nat × Ls) :=
  if kd V k = 21 then elSig V S item sw env k st
  else if kd V k = 22 then rb (E env (k + 1) (depth + 1) st) (fun q => elChainL V E env k depth 4000 (af V (k + 1)) q.1 q.2)
  else if kd V k = 23 then elChoose V E env k depth st
  else rb (cou (pl V k) depth st) (fun st =>
    if kd V k = 44 ∨ kd V k = 45 then elBits V S item sw env k st
    else if kd V k = 46 then elCall V S item E env k depth st
    else if kd V k = 43 then elRow V E env k depth st
    else if kd V k = 48 then rb (wAt V S item env (k + 1)) (fun w => rb (vAt V S item env (af V (k + 1)) w) (fun v => rOk (lay st (48, w, v, 0, 0))))
    else if kd V k = 49 ∨ kd V k = 50 then rb (wAt V S item env (k + 1)) (fun w => rb (E env (af V (k + 1)) (depth + 1) st) (fun e =>
      rb (rW (decide (wdt e.2 e.1 ≤ w)) 4 (pl V k)) (fun _ => rOk (lay e.2 (kd V k, w, e.1, 0, 0)))))
    else rb (E env (k + 1) (depth + 1) st) (fun x => rOk (lay x.2 (kd V k, (if kd V k = 40 ∨ kd V k = 41 then wdt x.2 x.1 else 1), x.1, 0, 0))))
end El
/-- the looks of an EXPR -/
def el (V : Tv) (S : Sy) (item : Int) (sw : Nat → Int) : Nat → Env → Nat → Nat → Ls → ER (Nat × Ls)
  | 0 => fun _ _ _ _ => none
  | f + 1 => elx V S item sw (el V S item sw f)
