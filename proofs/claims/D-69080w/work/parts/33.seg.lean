/-! THE WALK's CONDITION: what must hold at a pc for all that comes up to the next call of a contract, the next cut or the end -/
set_option maxRecDepth 100000
/-- y's contract, with what it leaves alone -/
def Ct (ph a k : Nat) (as : List AV) (σ : Sg) (Q : Option AV → Sg → Prop) (E : Int → Sg → Prop) : Prop := Low σ → Cn ph (mY a) k as σ (fun r σ' => Fr (mdT a as) σ σ' ∧ Q r σ') (fun x σ' => Fr (mdX (mdT a as)) σ σ' ∧ E x σ')
/-- a static array is longer than it was, unless c holds: e its elements, cp whether they stay, cc cells and t slots that are lost -/
def grx (c : Prop) [Decidable c] (σ : Sg) (e o f n : Nat) (cp : Bool) (cc t : Nat) : Sg :=
  (gF σ, u2 (gA σ) o f (fun j => if c then gA σ o f j else if cp = true ∧ j < gL σ o f then gA σ o f j else 0), u2 (gL σ) o f (if c then gL σ o f else n), u2 (gV σ) o f (if c then gV σ o f else gN σ + cc), (fun a => if c then gK σ a else if gN σ ≤ a ∧ a ≤ gN σ + cc then 100 + e else gK σ a),
    (if c then gN σ else gN σ + cc + 1), (if c then gS σ else gS σ + n + t), gT σ, gC σ, (if c then gD σ else gD σ + (if o < 222 then 0 else n + t)))
def dbl : Nat → Nat → Nat → Nat
  | 0, l, _ => l
  | k + 1, l, n => if n ≤ l then l else dbl k (2 * l) n
def dbc : Nat → Nat → Nat → Nat
  | 0, _, _ => 0
  | k + 1, l, n => if n ≤ l then 0 else 1 + dbc k (2 * l) n
def grw (σ : Sg) (o f n : Nat) : Sg := grx (n ≤ gL σ o f) σ 0 o f (2 * n) true 0 0
def grr (σ : Sg) (o f n : Nat) : Sg := grx (n < gL σ o f) σ 0 o f (2 * gL σ o f) true 0 0
def grd (σ : Sg) (o f n : Nat) : Sg := grx (n ≤ gL σ o f) σ 0 o f (dbl 20 (gL σ o f) n) true (dbc 20 (gL σ o f) n - 1) (dbl 20 (gL σ o f) n - 2 * gL σ o f)
def grm (σ : Sg) (o f : Nat) : Sg := grx False σ 0 o f (2 * gL σ o f) true 0 0
def grz (σ : Sg) (o f n : Nat) : Sg := grx (n ≤ gL σ o f) σ 3 o f (2 * n) false 0 0
/-- a number within -/
def b32 (x : Int) (P : Prop) : Prop := (-2147483648 ≤ x ∧ x < 2147483648) ∧ P
def b64 (x : Int) (P : Prop) : Prop := (-9223372036854775808 ≤ x ∧ x < 9223372036854775808) ∧ P
def cmpN (b : Nat) (x y : Int) : Prop := match b with
  | 0 => x = y
  | 1 => ¬ x = y
  | 2 => x < y
  | 3 => y ≤ x
  | 4 => y < x
  | _ => x ≤ y
/-- objects in fields that are set once and for all before they are read -/
def qcOf (o b : Nat) : Int := bif o == 14 && b == 3 then 9 else bif o == 15 && b == 2 then 2 else bif o == 17 && b == 2 then 9 else 0
section Stp
variable (ph scL : Nat) (scX : Nat → Int) (d : Md)
def stGet (a b : Nat) (c : Int) (go : List AV → Prop) (σ : Sg) : List AV → Prop
  | .inr (.inr (.inl r)) :: st =>
    bif a == 7 then (bif b == 1 then (-52 ≤ r ∧ r ≤ -1) ∧ go (vO (r - 99) :: st) else (-52 ≤ r ∧ r ≤ -1) ∧ go (vI (-r - 1) :: st))
    else bif a == 30 then (bif b == 1 then (strOf r).isSome = true ∧ go (vO (r - 300) :: st) else (strOf r).isSome = true ∧ go (vI 0 :: st))
    else bif a == 21 then ((0 < r ∧ gK σ r.toNat = 21) ∧ (bif c == 0 then go (vI (gF σ r.toNat b) :: st) else (gV σ r.toNat b ≠ 0 ∧ go (vA 0 r.toNat b (gV σ r.toNat b) :: st))))
    else chk (decide (0 < r) && (kls ph σ r.toNat == a)) (
      bif c == 0 || c == 1 then go (vI (gF σ r.toNat b) :: st) else bif c == 2 then go (vJ (gF σ r.toNat b) :: st)
      else bif c == 3 then (bif qcOf r.toNat b != 0 then (gF σ r.toNat b = qcOf r.toNat b ∧ go (vO (qcOf r.toNat b) :: st)) else go (vO (bif (Nat.blt r.toNat (nSt ph) && (fcOf r.toNat b != 0)) then fcOf r.toNat b else gF σ r.toNat b) :: st))
      else bif c == 20 then gF σ r.toNat b = 1 ∧ go (vA (bif b == 1 then 1 else 0) 120 (bT b) (gV σ 120 (bT b)) :: st)
      else bif (Nat.blt r.toNat (nSt ph) && (spW r.toNat b != 0)) then go (vA (c.toNat - 4) r.toNat b (gV σ r.toNat b) :: st) else (gV σ r.toNat b ≠ 0 ∧ go (vA (c.toNat - 4) r.toNat b (gV σ r.toNat b) :: st)))
  | _ => False
def stPutA (a b : Nat) (c : Int) (go : List AV → Sg → Prop) (σ : Sg) (v : AV) (r : Int) (st : List AV) : Prop := match v with
  | .inr (.inr (.inr q)) => chk (q.1 == c.toNat - 4) (bif q.2.2.1 == b && q.2.1 == r.toNat then (q.2.2.2 = gV σ r.toNat b ∧ go st σ)
      else chk (q.2.2.1 == 0 && mvF d r.toNat) (q.2.2.2 = q.2.1 ∧ gV σ q.2.1 0 = q.2.1 ∧ mvOk σ q.2.1 r.toNat b ∧ go st (mV σ q.2.1 r.toNat b)))
  | _ => False
def stPut (a b : Nat) (c : Int) (go : List AV → Sg → Prop) (σ : Sg) : List AV → Prop
  | v :: .inr (.inr (.inl r)) :: st => bif a == 21 then ((0 < r ∧ gK σ r.toNat = 21 ∧ (mdIn d r.toNat b = true)) ∧ (bif c == 0 then (match v with | .inl x => go st (sF σ r.toNat b x) | _ => False) else (match v with
        | .inr (.inr (.inr q)) => chk (q.1 == 0 && (q.2.2.1 == 0 && mvF d r.toNat)) (q.2.2.2 = q.2.1 ∧ gV σ q.2.1 0 = q.2.1 ∧ mvOk σ q.2.1 r.toNat b ∧ go st (mV σ q.2.1 r.toNat b))
        | _ => False)))
      else chk (decide (0 < r) && ((kls ph σ r.toNat == a) && mdIn d r.toNat b)) (
      bif c == 0 then (match v with | .inl x => go st (sF σ r.toNat b x) | _ => False)
      else bif c == 1 then (match v with | .inl x => (0 ≤ x ∧ x ≤ 1) ∧ go st (sF σ r.toNat b x) | _ => False)
      else bif c == 2 then (match v with | .inr (.inl x) => go st (sF σ r.toNat b x) | _ => False)
      else bif c == 3 then (match v with | .inr (.inr (.inl x)) => chk (!(Nat.blt r.toNat (nSt ph)) || (fcOf r.toNat b == 0)) (go st (sF σ r.toNat b x)) | _ => False)
      else bif c == 20 then (match v with | .inr (.inr (.inr q)) => chk (q.2.1 == 120 && (q.2.2.1 == bT b && Nat.blt 120 (nSt ph))) (q.2.2.2 = gV σ 120 (bT b) ∧ go st (sF σ r.toNat b 1)) | _ => False)
      else stPutA d a b c go σ v r st)
  | _ => False
/-- a place of an array is read: a says of which sort of array -/
def stAld (a t : Nat) (go : List AV → Prop) (σ : Sg) : List AV → Prop
  | .inl i :: .inr (.inr (.inr q)) :: st => chk (bif t == 0 then q.1 == 0 else bif t == 1 then (q.1 == 1 || q.1 == 2) else bif t == 3 then q.1 == 3 else (Nat.blt 3 q.1 && Nat.ble q.1 8)) (q.2.2.2 = gV σ q.2.1 q.2.2.1 ∧ (0 ≤ i ∧ i < gL σ q.2.1 q.2.2.1) ∧
      (bif t == 3 then go (vJ (gA σ q.2.1 q.2.2.1 i.toNat) :: st)
       else bif t == 4 then (bif q.1 == 8 then ((gA σ q.2.1 q.2.2.1 0 = gV σ 120 100 ∧ gV σ 120 100 ≠ 0) ∧ (gA σ q.2.1 q.2.2.1 1 = gV σ 120 101 ∧ gV σ 120 101 ≠ 0) ∧ (i = 0 ∨ i = 1)) ∧ (i = 0 → go (vA 3 120 100 (gV σ 120 100) :: st)) ∧ (i = 1 → go (vA 3 120 101 (gV σ 120 101) :: st))
          else bif q.1 == 7 then (gA σ q.2.1 q.2.2.1 0 = 208 ∧ gA σ q.2.1 q.2.2.1 1 = 215 ∧ (i = 0 ∨ i = 1)) ∧ (i = 0 → go (vO 208 :: st)) ∧ (i = 1 → go (vO 215 :: st))
          else go (vO (gA σ q.2.1 q.2.2.1 i.toNat) :: st))
       else go (vI (gA σ q.2.1 q.2.2.1 i.toNat) :: st)))
  | .inl i :: .inr (.inr (.inl r)) :: st => bif a == 3 then chk (t == 0 && r == -300) ((0 ≤ i ∧ i < 16) ∧ go (vI (bindsL.getD i.toNat 0) :: st))
      else bif a == 1 then chk (t == 0 && r == -301) ((0 ≤ i ∧ i < scL) ∧ go (vI (scX i.toNat) :: st))
      else chk (a == 2 && t == 1) (∃ cs, strOf (r + 300) = some cs ∧ (0 ≤ i ∧ i < cs.length) ∧ go (vI (cs.getD i.toNat 0) :: st))
  | _ => False
def stAst (t : Nat) (go : List AV → Sg → Prop) (σ : Sg) : List AV → Prop
  | v :: .inl i :: .inr (.inr (.inr q)) :: st => q.2.2.2 = gV σ q.2.1 q.2.2.1 ∧ (0 ≤ i ∧ i < gL σ q.2.1 q.2.2.1) ∧ mdIn d q.2.1 q.2.2.1 = true ∧ (match v with
      | .inl x => bif t == 0 then chk (q.1 == 0) (go st (sA σ q.2.1 q.2.2.1 i.toNat x)) else chk (t == 1) (bif q.1 == 1 then go st (sA σ q.2.1 q.2.2.1 i.toNat (w8 x)) else chk (q.1 == 2) ((0 ≤ x ∧ x ≤ 1) ∧ go st (sA σ q.2.1 q.2.2.1 i.toNat x)))
      | .inr (.inl x) => chk (t == 3 && q.1 == 3) (go st (sA σ q.2.1 q.2.2.1 i.toNat x))
      | .inr (.inr (.inl x)) => chk (t == 4) (bif q.1 == 5 then (0 < x ∧ gK σ x.toNat = 21) ∧ go st (sA σ q.2.1 q.2.2.1 i.toNat x) else bif q.1 == 7 then (0 < x ∧ gK σ x.toNat = 22) ∧ go st (sA σ q.2.1 q.2.2.1 i.toNat x)
          else chk (q.1 == 6) ((∃ n cs, (n, cs) ∈ strL ∧ x = -(n : Int)) ∧ go st (sA σ q.2.1 q.2.2.1 i.toNat x)))
      | _ => False)
  | _ => False
/-- what a receiver must be: c its kind -/
def stRec (σ : Sg) (c : Int) (v : AV) (P : Prop) : Prop := match v with
  | .inr (.inr (.inl r)) => bif c == 7 then (-52 ≤ r ∧ r ≤ -1) ∧ P else bif c == 30 then (strOf r).isSome = true ∧ P else bif c == 21 then (0 < r ∧ gK σ r.toNat = 21) ∧ P else bif c == -1 then (0 < r) ∧ P
      else chk (decide (0 < r) && kls ph σ r.toNat == c.toNat) P
  | _ => False
/-- a call: method a, b values, kind of the receiver c (0: static, -1: a constructor) -/
def stCall (k : Nat) (cl : Nat → List AV → Sg → (Option AV → Sg → Prop) → (Int → Sg → Prop) → Prop) (nx : List AV → Sg → Prop) (ex : Int → Sg → Prop) (a b : Nat) (c : Int) (st : List AV) (σ : Sg) : Prop :=
  chk (Nat.ble b st.length && (Nat.ble (((st.drop b).map avW).sum) 8 && Nat.ble (((st.take b).reverse.map avW).sum) (mY a).2.2.1)) (1 ≤ k ∧
    (bif c == 0 then cl a (st.take b).reverse σ (fun r σ' => nx (r.toList ++ st.drop b) σ') ex
     else match (st.take b).reverse with
      | v :: _ => stRec ph σ c v (cl a (st.take b).reverse σ (fun r σ' => nx (r.toList ++ st.drop b) σ') ex)
      | _ => False))
/-- copies of stretches -/
def stCopy (k : Nat) (go : List AV → Sg → Prop) (σ : Sg) : List AV → Prop
  | .inl n :: .inl dp :: .inr (.inr (.inr e)) :: .inl sp :: .inr (.inr (.inr q)) :: st => chk (e.1 == q.1 && (Nat.ble q.1 3 && Nat.ble ((st.map avW).sum) 8)) ((1 ≤ k ∧ mdIn d e.2.1 e.2.2.1 = true) ∧ (q.2.2.2 = gV σ q.2.1 q.2.2.1 ∧ e.2.2.2 = gV σ e.2.1 e.2.2.1) ∧ (0 ≤ n ∧ 0 ≤ sp ∧ 0 ≤ dp ∧ sp + n ≤ gL σ q.2.1 q.2.2.1 ∧ dp + n ≤ gL σ e.2.1 e.2.2.1) ∧
      go st (sB σ e.2.1 e.2.2.1 (cpy (gA σ q.2.1 q.2.2.1) (gA σ e.2.1 e.2.2.1) sp.toNat dp.toNat n.toNat)))
  | _ => False
/-- what the growth of an array asks: new length m, lost t -/
def grOk (σ : Sg) (o f m t : Nat) : Prop := 2 * gL σ o f ≤ m ∧ 16 ≤ m ∧ m + t ≤ 540000 ∧ (if o < 222 then m ≤ spB o f ∧ spW o f = 2 else gD σ + m + t ≤ 200000)
/-- an array grows, and is laid back: f its field, c its object's kind -/
def stGrow (k a f : Nat) (c : Int) (go : List AV → Sg → Prop) (σ : Sg) : List AV → Prop
  | .inl n :: .inr (.inr (.inr q)) :: .inr (.inr (.inl r)) :: st => chk (q.2.2.1 == f && (grF d r.toNat && ((q.1 == (bif a == 2004 then 3 else 0)) && Nat.ble ((st.map avW).sum) 7))) ((3 ≤ k ∧ (0 < r ∧ gK σ r.toNat = c.toNat) ∧ q.2.1 = r.toNat ∧ mdIn d r.toNat f = true ∧ q.2.2.2 = gV σ q.2.1 f ∧ 0 ≤ n) ∧
      (bif a == 2000 then (gL σ r.toNat f < n.toNat → grOk σ r.toNat f (2 * n.toNat) 0) ∧ go st (grw σ r.toNat f n.toNat)
       else bif a == 2001 then (¬ n.toNat < gL σ r.toNat f → grOk σ r.toNat f (2 * gL σ r.toNat f) 0) ∧ go st (grr σ r.toNat f n.toNat)
       else bif a == 2002 then (gL σ r.toNat f < n.toNat → (8 ≤ gL σ r.toNat f ∧ grOk σ r.toNat f (dbl 20 (gL σ r.toNat f) n.toNat) (dbl 20 (gL σ r.toNat f) n.toNat)) ∧ n.toNat ≤ dbl 20 (gL σ r.toNat f) n.toNat) ∧ go st (grd σ r.toNat f n.toNat)
       else chk (a == 2004) ((gL σ r.toNat f < n.toNat → grOk σ r.toNat f (2 * n.toNat) 0) ∧ go st (grz σ r.toNat f n.toNat))))
  | .inr (.inr (.inr q)) :: .inr (.inr (.inl r)) :: st => chk (a == 2003 && (q.2.2.1 == f && (grF d r.toNat && (q.1 == 0 && Nat.ble ((st.map avW).sum) 7)))) ((3 ≤ k ∧ (0 < r ∧ gK σ r.toNat = c.toNat) ∧ q.2.1 = r.toNat ∧ mdIn d r.toNat f = true ∧ q.2.2.2 = gV σ q.2.1 f) ∧ grOk σ r.toNat f (2 * gL σ r.toNat f) 0 ∧ go st (grm σ r.toNat f))
  | _ => False
variable (k : Nat) (mc : Bool) (cl : Nat → List AV → Sg → (Option AV → Sg → Prop) → (Int → Sg → Prop) → Prop) (Q : Option AV → Sg → Prop) (E : Int → Sg → Prop) (hs : List (Nat × Nat × Nat × Nat))
/-- one instruction: nx goes on behind it, n2 behind the next one, jp elsewhere -/
def stp (en : En) (nx n2 : List (Option AV) → List AV → Sg → Prop) (jp : Nat → List (Option AV) → List AV → Sg → Prop) (ls : List (Option AV)) (st : List AV) (σ : Sg) : Prop := match en with
  | (pc, ins, _, a, b, c) => match ins with
    | .iconst i => nx ls (vI i :: st) σ
    | .bipush i => nx ls (vI i :: st) σ
    | .sipush i => nx ls (vI i :: st) σ
    | .lconst i => nx ls (vJ (i.val : Nat) :: st) σ
    | .ldc2_w _ => nx ls (vJ c :: st) σ
    | .ldc _ => chk (!(a == 9)) (nx ls (vO c :: st) σ)
    | .getstatic _ => bif a == 1 then nx ls (vI c :: st) σ else nx ls (vO c :: st) σ
    | .iload i => (match ls.getD i none with | some (.inl x) => nx ls (vI x :: st) σ | _ => False)
    | .iload_n i => (match ls.getD i.val none with | some (.inl x) => nx ls (vI x :: st) σ | _ => False)
    | .lload i => (match ls.getD i none with | some (.inr (.inl x)) => nx ls (vJ x :: st) σ | _ => False)
    | .lload_n i => (match ls.getD i.val none with | some (.inr (.inl x)) => nx ls (vJ x :: st) σ | _ => False)
    | .aload i => (match ls.getD i none with | some (.inr (.inr v)) => nx ls (.inr (.inr v) :: st) σ | _ => False)
    | .aload_n i => (match ls.getD i.val none with | some (.inr (.inr v)) => nx ls (.inr (.inr v) :: st) σ | _ => False)
    | .istore i => (match st with | .inl x :: st => chk (Nat.blt i ls.length) (nx (lset ls i (vI x)) st σ) | _ => False)
    | .istore_n i => (match st with | .inl x :: st => chk (Nat.blt i.val ls.length) (nx (lset ls i.val (vI x)) st σ) | _ => False)
    | .lstore i => (match st with | .inr (.inl x) :: st => chk (Nat.blt (i + 1) ls.length) (nx (lset2 ls i (vJ x)) st σ) | _ => False)
    | .lstore_n i => (match st with | .inr (.inl x) :: st => chk (Nat.blt (i.val + 1) ls.length) (nx (lset2 ls i.val (vJ x)) st σ) | _ => False)
    | .astore i => (match st with | .inr (.inr v) :: st => chk (Nat.blt i ls.length) (nx (lset ls i (.inr (.inr v))) st σ) | _ => False)
    | .astore_n i => (match st with | .inr (.inr v) :: st => chk (Nat.blt i.val ls.length) (nx (lset ls i.val (.inr (.inr v))) st σ) | _ => False)
    | .iinc i e => (match ls.getD i none with | some (.inl x) => b32 (x + e) (nx (lset ls i (vI (x + e))) st σ) | _ => False)
    | .iadd => (match st with | .inl y :: .inl x :: st => bif a == 1 then nx ls (vI (w32 (x + y)) :: st) σ else b32 (x + y) (nx ls (vI (x + y) :: st) σ) | _ => False)
    | .isub => (match st with | .inl y :: .inl x :: st => bif a == 1 then nx ls (vI (w32 (x - y)) :: st) σ else b32 (x - y) (nx ls (vI (x - y) :: st) σ) | _ => False)
    | .imul => (match st with | .inl y :: .inl x :: st => bif a == 1 then nx ls (vI (w32 (x * y)) :: st) σ else b32 (x * y) (nx ls (vI (x * y) :: st) σ) | _ => False)
    | .idiv => (match st with | .inl y :: .inl x :: st => ¬ y = 0 ∧ b32 (x.tdiv y) (nx ls (vI (x.tdiv y) :: st) σ) | _ => False)
    | .irem => (match st with | .inl y :: .inl x :: st => ¬ y = 0 ∧ nx ls (vI (x.tmod y) :: st) σ | _ => False)
    | .ineg => (match st with | .inl x :: st => b32 (-x) (nx ls (vI (-x) :: st) σ) | _ => False)
    | .iand => (match st with | .inl y :: .inl x :: st => nx ls (vI (iAnd x y) :: st) σ | _ => False)
    | .ior => (match st with | .inl y :: .inl x :: st => nx ls (vI (iOr x y) :: st) σ | _ => False)
    | .ixor => (match st with | .inl y :: .inl x :: st => nx ls (vI (iXor x y) :: st) σ | _ => False)
    | .ishl => (match st with | .inl y :: .inl x :: st => nx ls (vI (iShl x y) :: st) σ | _ => False)
    | .ishr => (match st with | .inl y :: .inl x :: st => nx ls (vI (iShr x y) :: st) σ | _ => False)
    | .iushr => (match st with | .inl y :: .inl x :: st => nx ls (vI (iUsh x y) :: st) σ | _ => False)
    | .ladd => (match st with | .inr (.inl y) :: .inr (.inl x) :: st => b64 (x + y) (nx ls (vJ (x + y) :: st) σ) | _ => False)
    | .lsub => (match st with | .inr (.inl y) :: .inr (.inl x) :: st => b64 (x - y) (nx ls (vJ (x - y) :: st) σ) | _ => False)
    | .lmul => (match st with | .inr (.inl y) :: .inr (.inl x) :: st => nx ls (vJ (w64 (x * y)) :: st) σ | _ => False)
    | .ldiv => (match st with | .inr (.inl y) :: .inr (.inl x) :: st => ¬ y = 0 ∧ b64 (x.tdiv y) (nx ls (vJ (x.tdiv y) :: st) σ) | _ => False)
    | .lrem => (match st with | .inr (.inl y) :: .inr (.inl x) :: st => ¬ y = 0 ∧ nx ls (vJ (x.tmod y) :: st) σ | _ => False)
    | .lneg => (match st with | .inr (.inl x) :: st => b64 (-x) (nx ls (vJ (-x) :: st) σ) | _ => False)
    | .land => (match st with | .inr (.inl y) :: .inr (.inl x) :: st => nx ls (vJ (jAnd x y) :: st) σ | _ => False)
    | .lor => (match st with | .inr (.inl y) :: .inr (.inl x) :: st => nx ls (vJ (jOr x y) :: st) σ | _ => False)
    | .lxor => (match st with | .inr (.inl y) :: .inr (.inl x) :: st => nx ls (vJ (jXor x y) :: st) σ | _ => False)
    | .lshl => (match st with | .inl y :: .inr (.inl x) :: st => nx ls (vJ (jShl x y) :: st) σ | _ => False)
    | .lshr => (match st with | .inl y :: .inr (.inl x) :: st => nx ls (vJ (jShr x y) :: st) σ | _ => False)
    | .lushr => (match st with | .inl y :: .inr (.inl x) :: st => nx ls (vJ (jUsh x y) :: st) σ | _ => False)
    | .lcmp => (match st with | .inr (.inl y) :: .inr (.inl x) :: st => chk (a == 1) ((cmpN b x y → jp c.toNat ls st σ) ∧ (¬ cmpN b x y → n2 ls st σ)) | _ => False)
    | .i2l => (match st with | .inl x :: st => nx ls (vJ x :: st) σ | _ => False)
    | .l2i => (match st with | .inr (.inl x) :: st => nx ls (vI (w32 x) :: st) σ | _ => False)
    | .i2b => (match st with | .inl x :: st => nx ls (vI (w8 x) :: st) σ | _ => False)
    | .i2c => (match st with | .inl x :: st => (0 ≤ x ∧ x < 65536) ∧ nx ls (vI x :: st) σ | _ => False)
    | .dup => (match st with | v :: st => chk (avW v == 1) (nx ls (v :: v :: st) σ) | _ => False)
    | .pop => (match st with | v :: st => chk (avW v == 1) (nx ls st σ) | _ => False)
    | .dup_x1 => (match st with | v :: w :: st => chk (avW v == 1 && avW w == 1) (nx ls (v :: w :: v :: st) σ) | _ => False)
    | .dup2 => (match st with | v :: w :: st => chk (avW v == 1 && avW w == 1) (nx ls (v :: w :: v :: w :: st) σ) | _ => False)
    | .ifCond cd off => (match st with | .inl x :: st => (cmpI cd x 0 → jp ((pc : Int) + off).toNat ls st σ) ∧ (¬ cmpI cd x 0 → nx ls st σ) | _ => False)
    | .if_icmp cd off => (match st with | .inl y :: .inl x :: st => (cmpI cd x y → jp ((pc : Int) + off).toNat ls st σ) ∧ (¬ cmpI cd x y → nx ls st σ) | _ => False)
    | .if_acmp .eq off => (match st with | .inr (.inr (.inl y)) :: .inr (.inr (.inl x)) :: st => (-52 ≤ x ∧ -52 ≤ y) ∧ (x = y → jp ((pc : Int) + off).toNat ls st σ) ∧ (¬ x = y → nx ls st σ) | _ => False)
    | .if_acmp .ne off => (match st with | .inr (.inr (.inl y)) :: .inr (.inr (.inl x)) :: st => (-52 ≤ x ∧ -52 ≤ y) ∧ (¬ x = y → jp ((pc : Int) + off).toNat ls st σ) ∧ (x = y → nx ls st σ) | _ => False)
    | .ifnonnull off => (match st with | .inr (.inr (.inl x)) :: st => 0 ≤ x ∧ (¬ x = 0 → jp ((pc : Int) + off).toNat ls st σ) ∧ (x = 0 → nx ls st σ) | _ => False)
    | .goto off => jp ((pc : Int) + off).toNat ls st σ
    | .tableswitch e lo hi offs => (match st with | .inl x :: st => chk (offs.size == (hi + 1 - lo).toNat && decide (lo ≤ hi)) ((x < lo ∨ hi < x → jp ((pc : Int) + e).toNat ls st σ) ∧ swT pc x (fun p => jp p ls st σ) lo offs.toList) | _ => False)
    | .lookupswitch e ps => (match st with | .inl x :: st => swL pc x e (fun p => jp p ls st σ) ps.toList | _ => False)
    | .getfield _ => stGet ph a b c (fun st => nx ls st σ) σ st
    | .putfield _ => stPut ph d a b c (fun st σ => nx ls st σ) σ st
    | .iaload => stAld scL scX a 0 (fun st => nx ls st σ) σ st
    | .baload => stAld scL scX a 1 (fun st => nx ls st σ) σ st
    | .laload => stAld scL scX a 3 (fun st => nx ls st σ) σ st
    | .aaload => stAld scL scX a 4 (fun st => nx ls st σ) σ st
    | .iastore => stAst d 0 (fun st σ => nx ls st σ) σ st
    | .bastore => stAst d 1 (fun st σ => nx ls st σ) σ st
    | .lastore => stAst d 3 (fun st σ => nx ls st σ) σ st
    | .aastore => stAst d 4 (fun st σ => nx ls st σ) σ st
    | .arraylength => (match st with
        | .inr (.inr (.inr q)) :: st => chk (Nat.ble q.1 8) (q.2.2.2 = gV σ q.2.1 q.2.2.1 ∧ nx ls (vI (gL σ q.2.1 q.2.2.1) :: st) σ)
        | .inr (.inr (.inl r)) :: st => bif a == 1 then chk (r == -301) (nx ls (vI scL :: st) σ) else chk (a == 2) (∃ cs, strOf (r + 300) = some cs ∧ nx ls (vI (cs.length : Nat) :: st) σ)
        | _ => False)
    | .newarray t => (match st with | .inl n :: st => chk ((d.1 && tmp d) && Nat.ble (elT t) 3) ((0 ≤ n ∧ gT σ + n.toNat ≤ 540000 ∧ (n.toNat < 16 → cnt d = true ∧ gC σ + 1 ≤ 100000)) ∧ nx ls (vA (elT t) (gN σ) 0 (gN σ) :: st) (nA σ (elT t) n.toNat)) | _ => False)
    | .new _ => bif a == 50 then (match st with | [] => chk (d.1 && hs.isEmpty) ((6 ≤ k ∧ (bif cnt d then gD σ + 6 ≤ 200000 ∧ gC σ + 1 ≤ 100000 else True)) ∧ E (gN σ) (nO σ 50 6)) | _ => False) else chk (d.1 && cnt d) ((gD σ + b ≤ 200000 ∧ gC σ + 1 ≤ 100000) ∧ nx ls (vO (gN σ) :: st) (nO σ a b))
    | .anewarray _ => (match st with | .inl n :: st => chk (d.1 && tmp d) ((0 ≤ n ∧ gT σ + n.toNat ≤ 540000 ∧ (n.toNat < 16 → cnt d = true ∧ gC σ + 1 ≤ 100000)) ∧ nx ls (vA a (gN σ) 0 (gN σ) :: st) (nA σ a n.toNat)) | _ => False)
    | .invokestatic _ => bif a == 1004 then stCopy d k (fun st σ => nx ls st σ) σ st else bif Nat.ble 2000 a then chk mc ((bif cnt d || tmp d then Low σ else True) ∧ stGrow d k a b c (fun st σ => n2 ls st σ) σ st) else chk (Nat.blt a 453 && c == 0) (stCall ph k cl (fun st σ => nx ls st σ) (fun r σ' => match hs.find? (fun h => Nat.ble h.1 pc && Nat.blt pc h.2.1) with | some h => chk (cnt d) (jp h.2.2.1 ls [vO r] σ') | none => E r σ') a b c st σ)
    | .invokevirtual _ => chk (Nat.blt a 453 && !(c == 0 || c == -1)) (stCall ph k cl (fun st σ => nx ls st σ) (fun r σ' => match hs.find? (fun h => Nat.ble h.1 pc && Nat.blt pc h.2.1) with | some h => chk (cnt d) (jp h.2.2.1 ls [vO r] σ') | none => E r σ') a b c st σ)
    | .invokespecial _ => bif a == 1000 then (match st with | .inr (.inr (.inl r)) :: st => chk (Nat.ble ((st.map avW).sum) 8) ((1 ≤ k ∧ 0 < r) ∧ nx ls st σ) | _ => False) else chk (Nat.blt a 453 && c == -1) (stCall ph k cl (fun st σ => nx ls st σ) (fun r σ' => match hs.find? (fun h => Nat.ble h.1 pc && Nat.blt pc h.2.1) with | some h => chk (cnt d) (jp h.2.2.1 ls [vO r] σ') | none => E r σ') a b c st σ)
    | .ireturn => (match st with | .inl x :: [] => bif a == 1 then (0 ≤ x ∧ x ≤ 1) ∧ Q (some (vI x)) σ else bif a == 2 then (-128 ≤ x ∧ x ≤ 127) ∧ Q (some (vI x)) σ else bif a == 3 then (0 ≤ x ∧ x ≤ 65535) ∧ Q (some (vI x)) σ else Q (some (vI x)) σ | _ => False)
    | .lreturn => (match st with | .inr (.inl x) :: [] => Q (some (vJ x)) σ | _ => False)
    | .areturn => (match st with | .inr (.inr v) :: [] => Q (some (.inr (.inr v))) σ | _ => False)
    | .return_ => (match st with | [] => Q none σ | _ => False)
    | _ => False
end Stp
/-- frames left, the method's table and handlers, cuts, what holds there, how it ends; is the first instruction one to be cut at; what comes -/
abbrev SegT : Type := Nat → List En → List Nat → List (Nat × Nat × Nat × Nat) → (Nat → List (Option AV) → List AV → Sg → Prop) → (Option AV → Sg → Prop) → (Int → Sg → Prop) → Bool → List En → List (Option AV) → List AV → Sg → Prop
def segF (il : Nat → Bool) (mc : Bool) (ph scL : Nat) (scX : Nat → Int) (d : Md) (ih : SegT) : SegT := fun k tab cuts hs K Q E b cur ls st σ => match cur with
    | [] => False
    | en :: rest => bif b && cuts.contains en.1 then K en.1 ls st σ else
      stp ph scL scX d k mc (fun a as σ Q' E' => bif il a then ih (k - 1) (tb a) [] (mY a).2.2.2.2 (fun _ _ _ _ => False) Q' E' false (tb a) (lsE (mY a).2.2.1 as) [] σ else chk (subMd (mdT a as) d) ((bif cnt d || tmp d then Low σ else True) ∧ Ct ph a (k - 1) as σ Q' E')) Q E hs en
        (fun ls st σ => ih k tab cuts hs K Q E true rest ls st σ) (fun ls st σ => ih k tab cuts hs K Q E true rest.tail ls st σ) (fun pc ls st σ => ih k tab cuts hs K Q E true (tab.dropWhile (fun e => !(e.1 == pc))) ls st σ) ls st σ
/-- so far: by fuel -/
noncomputable def seg (il : Nat → Bool) (mc : Bool) (ph scL : Nat) (scX : Nat → Int) (d : Md) (n : Nat) : SegT := Nat.rec (motive := fun _ => SegT) (fun _ _ _ _ _ _ _ _ _ _ _ _ => False) (fun _ ih => segF il mc ph scL scX d ih) n
