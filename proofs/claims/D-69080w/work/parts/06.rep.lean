/-! how an abstract state lies in the machine's heap; the walk's judgement Ax, a method's contract Cn -/
set_option maxRecDepth 100000
/-- first cell of the law's own, heap at its start, classes' numbers and slots, array classes, constants' cells, the script -/
abbrev Gp : Type := Nat × Heap × va_G × (Nat → ClassId) × (Nat → Option Nat) × Nat × (Nat → Int)
def oV : Option Nat → Value
  | none => .null
  | some a => .ref a
def cO (G : Gp) (r : Int) : Value := if r = 0 then .null else if 0 < r then .ref (G.1 + r.toNat - 1) else oV (G.2.2.2.2.1 (-r).toNat)
def cV (G : Gp) : AV → Value
  | .inl x => .int (Int32.ofInt x)
  | .inr (.inl x) => .long (Int64.ofInt x)
  | .inr (.inr (.inl r)) => cO G r
  | .inr (.inr (.inr q)) => .ref (G.1 + q.2.2.2 - 1)
/-- constants are numbered from 1 up to here -/
def nCon : Nat := 600
def okR (σ : Sg) (r : Int) : Prop := (0 ≤ r ∧ r < gN σ) ∨ (r < 0 ∧ -r < 600)
def okV (σ : Sg) : AV → Prop
  | .inl x => in32 x
  | .inr (.inl x) => in64 x
  | .inr (.inr (.inl r)) => okR σ r
  | .inr (.inr (.inr q)) => 1 ≤ q.2.2.2 ∧ q.2.2.2 < gN σ ∧ gK σ q.2.2.2 = 100 + q.1
/-- borrowed arrays: the walk's kinds, values, sizes are the model's -/
def bT (k : Nat) : Nat := if k = 1 then 20 else if k = 2 then 22 else 24
def fVal (G : Gp) (σ : Sg) (o t k : Nat) : Value :=
  if t ≤ 1 then .int (Int32.ofInt (gF σ o k)) else if t = 2 then .long (Int64.ofInt (gF σ o k)) else if t = 3 then cO G (gF σ o k)
  else if t = 20 then (if gF σ o k = 0 then .null else .ref (G.1 + gV σ 120 (bT k) - 1))
  else if gV σ o k = 0 then .null else .ref (G.1 + gV σ o k - 1)
def fOk (σ : Sg) (t k : Nat) (x : Int) : Prop :=
  (t = 0 → in32 x) ∧ (t = 1 → 0 ≤ x ∧ x ≤ 1) ∧ (t = 2 → in64 x) ∧ (t = 3 → okR σ x) ∧ (t = 20 → x = 0 ∨ (x = 1 ∧ gV σ 120 (bT k) ≠ 0 ∧ gV σ 120 (bT k) < gN σ ∧ gK σ (gV σ 120 (bT k)) = 100 + (if k = 1 then 1 else 0)))
def eVal (G : Gp) (e : Nat) (x : Int) : Value := if e ≤ 2 then .int (Int32.ofInt x) else if e = 3 then .long (Int64.ofInt x) else cO G x
def eOk (σ : Sg) (e : Nat) (x : Int) : Prop :=
  (e = 0 → in32 x) ∧ (e = 1 → -128 ≤ x ∧ x ≤ 127) ∧ (e = 2 → 0 ≤ x ∧ x ≤ 1) ∧ (e = 3 → in64 x) ∧ (4 ≤ e → okR σ x) ∧ (e = 8 → 0 ≤ x ∧ (x = 0 ∨ gK σ x.toNat = 103))
/-- the slots that the static arrays pay for -/
def pSum (σ : Sg) : Nat := (spL.map (fun q => q.2.2.1 * gL σ q.1 q.2.1)).sum
def RepO (G : Gp) (σ : Sg) (H : Heap) : Prop := ∀ (o ci : Nat) (r : vw_C), 1 ≤ o → o < gN σ → gK σ o = ci + 1 → clL[ci]? = some r →
  t_OB (G.1 + o - 1) (G.2.2.1.1 ci) r.2.2 (G.2.2.1.2 ci) H (fun j => fVal G σ o (ftOf ci (j + 1)) (j + 1)) ∧ ∀ j, j < r.2.2 → fOk σ (ftOf ci (j + 1)) (j + 1) (gF σ o (j + 1))
def RepA (G : Gp) (σ : Sg) (H : Heap) : Prop := ∀ o f : Nat, gV σ o f ≠ 0 → gV σ o f < gN σ ∧ 100 ≤ gK σ (gV σ o f) ∧ gL σ o f < 2 ^ 31 ∧
  H[G.1 + gV σ o f - 1]? = some (arrV (G.2.2.2.1 (gK σ (gV σ o f) - 100)) (gL σ o f) (fun j => eVal G (gK σ (gV σ o f) - 100) (gA σ o f j))) ∧
  ∀ j, j < gL σ o f → eOk σ (gK σ (gV σ o f) - 100) (gA σ o f j)
def RepU (σ : Sg) : Prop := (∀ o f o' f' : Nat, gV σ o f ≠ 0 → gV σ o f = gV σ o' f' → o = o' ∧ f = f') ∧ (∀ o f : Nat, gV σ o f = 0 → gL σ o f = 0) ∧
  (∀ o : Nat, gN σ ≤ o → gK σ o = 0 ∧ ∀ f : Nat, gF σ o f = 0 ∧ gV σ o f = 0 ∧ ∀ i : Nat, gA σ o f i = 0) ∧
  (∀ o ci k e : Nat, gK σ o = ci + 1 → ci < 23 → ftOf ci k = 4 + e → e ≤ 8 → gV σ o k ≠ 0 → gK σ (gV σ o k) = 100 + e) ∧
  (∀ o f : Nat, gV σ o f ≠ 0 → o < gN σ ∧ (gK σ o < 100 ∨ (f = 0 ∧ gV σ o f = o)))
/-- once the constructors are done: kinds, final objects, arrays that are there -/
def RepP (ph : Nat) (σ : Sg) : Prop := (nSt ph ≤ gN σ) ∧ (∀ o : Nat, o < nSt ph → kcOf o ≠ 0 → gK σ o = kcOf o) ∧ (∀ o k : Nat, o < nSt ph → fcOf o k ≠ 0 → gF σ o k = fcOf o k) ∧
  (∀ o k : Nat, o < nSt ph → spW o k ≠ 0 → gV σ o k ≠ 0)
/-- slots and cells -/
def RepS (σ : Sg) : Prop := gS σ ≤ pSum σ + gT σ + gD σ ∧ (∀ q ∈ spL, gL σ q.1 q.2.1 ≤ q.2.2.2) ∧ gT σ ≤ 540000 ∧ gD σ ≤ 200000 ∧ gC σ ≤ 100000 ∧ 16 * gN σ ≤ 16 + 16 * gC σ + gS σ
def Rep (G : Gp) (ph : Nat) (σ : Sg) (H : Heap) : Prop := (H.size + 1 = G.1 + gN σ ∧ 1 ≤ gN σ) ∧ ((∀ q : Nat, q < G.1 → H[q]? = G.2.1[q]?) ∧ ∀ (q : Nat) (c : Cell), G.1 ≤ q → H[q]? = some c → c.vm = .none) ∧ RepO G σ H ∧ RepA G σ H ∧ RepU σ ∧ RepP ph σ ∧ RepS σ
/-- locals: what is known of them -/
def lsL (G : Gp) : Nat → List (Option AV) → List (Nat × Value)
  | _, [] => []
  | i, none :: t => lsL G (i + 1) t
  | i, some v :: t => (i, cV G v) :: lsL G (i + 1) t
/-- a word of the tables that lasts -/
def niceW : Cond → Bool
  | .fieldLinkNest .. => true
  | .methodLinkNest .. => true
  | .arrayOver (.object _) => true
  | w => goodWord w
def elTy (e : Nat) : FieldType := match e with
  | 0 => .int
  | 1 => .byte
  | 2 => .boolean
  | 3 => .long
  | 4 => .object "CircuitWarden$Token"
  | 5 => .object "CircuitWardenModel$Walk$Way"
  | 6 => .object "java/lang/String"
  | 7 => .object "CircuitWardenModel$NetRun"
  | _ => .array .long
/-- letters of the constants that are Strings: tokens' from 100 on (by ordinals), the model's words from 200 on -/
def strL : List (Nat × List Int) := [(100, []), (101, []), (102, []), (103, []), (104, [40]), (105, [41]), (106, [123]), (107, [125]), (108, [91]), (109, [93]), (110, [44]), (111, [59]), (112, [58]), (113, [63]), (114, [61]), (115, [126]), (116, [33]), (117, [124]), (118, [94]), (119, [38]), (120, [61, 61]), (121, [33, 61]), (122, [60]), (123, [60, 61]), (124, [62]), (125, [62, 61]), (126, [60, 60]), (127, [62, 62]), (128, [43]), (129, [45]), (130, [42]), (131, [47]), (132, [37]), (133, [108, 101, 118, 101, 108]), (134, [99, 111, 110, 115, 116]), (135, [102, 117, 110]), (136, [109, 111, 100, 101]), (137, [105, 110]), (138, [114, 101, 103]), (139, [119, 105, 114, 101]), (140, [111, 117, 116]), (141, [110, 101, 120, 116]), (142, [105, 102]), (143, [101, 108, 115, 101]), (144, [99, 97, 115, 101]), (145, [100, 101, 102, 97, 117, 108, 116]), (146, [110, 117, 109]), (147, [122, 101, 120, 116]), (148, [115, 101, 120, 116]), (149, [97, 110, 121]), (150, [97, 108, 108]), (151, [111, 100, 100]),
  (200, [108, 101, 118, 101, 108]), (201, [99, 111, 110, 115, 116]), (202, [102, 117, 110]), (203, [109, 111, 100, 101]), (204, [105, 110]), (205, [114, 101, 103]), (206, [119, 105, 114, 101]), (207, [111, 117, 116]), (208, [110, 101, 120, 116]), (209, [105, 102]), (210, [101, 108, 115, 101]), (211, [99, 97, 115, 101]), (212, [100, 101, 102, 97, 117, 108, 116]), (213, [110, 117, 109]), (214, [122, 101, 120, 116]), (215, [115, 101, 120, 116]), (216, [97, 110, 121]), (217, [97, 108, 108]), (218, [111, 100, 100])]
def bindsL : List Int := [0, 1, 2, 3, 3, 4, 4, 4, 4, 5, 5, 6, 6, 7, 7, 7]
def tokN : List String := ["END", "WRONG", "NAME", "NUMBER", "OPEN", "CLOSE", "BEGIN", "FINISH", "FROM", "TO", "COMMA", "STOP", "COLON", "ASK", "BECOMES", "FLIP", "NOT", "OR", "XOR", "AND", "SAME", "OTHER", "LESS", "MOST", "MORE", "LEAST", "LEFT", "RIGHT", "PLUS", "MINUS", "TIMES", "OVER", "REST", "LEVEL", "CONST", "FUN", "MODE", "IN", "REG", "WIRE", "OUT", "NEXT", "IF", "ELSE", "CASE", "DEFAULT", "NUM", "ZEXT", "SEXT", "ANY", "ALL", "ODD"]
/-- String constants that are loaded: number, class, place, text -/
def ldL : List (Nat × String × Nat × String) := [(200, "CircuitWardenModel", 147, "level"), (201, "CircuitWardenModel", 149, "const"), (202, "CircuitWardenModel", 151, "fun"), (203, "CircuitWardenModel", 153, "mode"), (204, "CircuitWardenModel", 155, "in"), (205, "CircuitWardenModel", 157, "reg"), (206, "CircuitWardenModel", 159, "wire"), (207, "CircuitWardenModel", 161, "out"), (208, "CircuitWardenModel", 163, "next"), (209, "CircuitWardenModel", 165, "if"), (210, "CircuitWardenModel", 167, "else"), (211, "CircuitWardenModel", 169, "case"), (212, "CircuitWardenModel", 171, "default"), (213, "CircuitWardenModel", 173, "num"), (214, "CircuitWardenModel", 175, "zext"), (215, "CircuitWardenModel", 177, "sext"), (216, "CircuitWardenModel", 179, "any"), (217, "CircuitWardenModel", 181, "all"), (218, "CircuitWardenModel", 183, "odd"), (398, "CircuitWarden$Reader", 31, "it can't stand there"), (397, "CircuitWarden$Design", 130, "it is wrong")]
/-- what constants are, in the heap of the start -/
abbrev oA (G : Gp) : Nat → Prop := fun q => G.1 ≤ q
def CtT (G : Gp) (U : State) : Prop := ∀ i : Nat, i < 52 → ∃ a b : Nat, G.2.2.2.2.1 (i + 1) = some a ∧ G.2.2.2.2.1 (100 + i) = some b ∧ va_Z "CircuitWarden$Token" (tokN.getD i "") "LCircuitWarden$Token;" (.ref a) (oA G) U G.2.1 ∧
  va_O "CircuitWarden$Token" a (oA G) U G.2.1 ∧ va_OF "java/lang/Enum" "ordinal" "I" (.int (Int32.ofInt i)) a (oA G) U G.2.1 ∧ va_OF "CircuitWarden$Token" "letters" "Ljava/lang/String;" (.ref b) a (oA G) U G.2.1
def CtS (G : Gp) (U : State) : Prop := ∀ q ∈ strL, ∃ a b : Nat, G.2.2.2.2.1 q.1 = some a ∧ G.2.2.2.2.1 (q.1 + 300) = some b ∧ va_O "java/lang/String" a (oA G) U G.2.1 ∧ va_OF "java/lang/String" "coder" "B" (.int 0) a (oA G) U G.2.1 ∧
  va_OF "java/lang/String" "value" "[B" (.ref b) a (oA G) U G.2.1 ∧ va_T .byte b q.2.length (fun j => .int (Int32.ofInt (q.2.getD j 0))) (oA G) U G.2.1
def CtN (G : Gp) (U : State) : Prop := (∃ a : Nat, G.2.2.2.2.1 300 = some a ∧ va_Z "CircuitWarden" "BINDS" "[I" (.ref a) (oA G) U G.2.1 ∧ va_T .int a 16 (fun j => .int (Int32.ofInt (bindsL.getD j 0))) (oA G) U G.2.1) ∧
  (∃ a : Nat, G.2.2.2.2.1 301 = some a ∧ G.2.2.2.2.2.1 ≤ 384 ∧ (∀ j, in32 (G.2.2.2.2.2.2 j)) ∧ va_T .int a G.2.2.2.2.2.1 (fun j => .int (Int32.ofInt (G.2.2.2.2.2.2 j))) (oA G) U G.2.1) ∧
  va_Z "java/lang/String" "COMPACT_STRINGS" "Z" (.int 1) (oA G) U G.2.1 ∧ va_Z "jdk/internal/util/Preconditions" "SIOOBE_FORMATTER" "Ljava/util/function/BiFunction;" (oV (G.2.2.2.2.1 399)) (oA G) U G.2.1
def CtL (G : Gp) (U : State) : Prop := ∀ q ∈ ldL, ∃ a : Nat, G.2.2.2.2.1 q.1 = some a ∧ vk_R q.2.1 q.2.2.1 q.2.2.2 a U
/-- what an exception's making asks -/
def thrL : List Cond := Bundle.ownAtoms "CircuitWarden$Reader" 33 "java/lang/IllegalStateException" ["java/lang/RuntimeException", "java/lang/Exception"] ++ Bundle.ownAtoms "CircuitWarden$Design" 132 "java/lang/IllegalStateException" ["java/lang/RuntimeException", "java/lang/Exception"]
def CtX (G : Gp) (U : State) : Prop := ∀ U' : State, U'.vm = U.vm → (∀ q : Nat, q < G.1 → U'.heap[q]? = G.2.1[q]?) → ∀ (A : Array Value), ∀ w ∈ thrL, w.before A U' = true
def Cst (G : Gp) (U : State) : Prop := CtT G U ∧ CtS G U ∧ CtN G U ∧ CtL G U ∧ CtX G U ∧ (∀ i j : Nat, i < 52 → j < 52 → G.2.2.2.2.1 (i + 1) = G.2.2.2.2.1 (j + 1) → i = j) ∧ (∀ n a : Nat, G.2.2.2.2.1 n = some a → a < G.1) ∧ G.2.1.size = G.1
/-- what is known of the machine's tables all through -/
def Glob (G : Gp) (s : State) : Prop := (∀ w ∈ lw_tbl, niceW w = true → ∀ A : Array Value, w.before A s = true) ∧
  (∀ (ci : Nat) (q : vw_C), clL[ci]? = some q → u_Kn s q.1 q.2.1 q.2.2 (G.2.2.1.1 ci) (G.2.2.1.2 ci)) ∧
  (∀ e : Nat, e ≤ 8 → ArrOfT s (G.2.2.2.1 e) (elTy e) ∧ va_RA s (G.2.2.2.1 e) (elTy e)) ∧ Cst G s
/-- how a walk ends: it returns, or throws -/
def EndP (G : Gp) (ph : Nat) (s : State) (below : List Frame) (σ0 : Sg) (Q : Option AV → Sg → Prop) (E : Int → Sg → Prop) (t : State) : Prop :=
  t.status = .running ∧ ((∃ (r : Option AV) (σ : Sg) (L : List Loc), Q r σ ∧ (∀ v, r = some v → okV σ v) ∧ Rep G ph σ t.heap ∧ gN σ0 ≤ gN σ ∧ gS σ0 ≤ gS σ ∧ (∀ v, okV σ0 v → okV σ v) ∧ Ended t below (.returned (r.map (cV G))) ∧
      s.WarmedH t.vm ∧ s.sameButNew ({ t with vm := s.vm } : State) L (gN σ - gN σ0) (gS σ - gS σ0) ∧ ∀ q ∈ L, G.1 ≤ q.base) ∨
    (∃ (a : Int) (σ : Sg) (L : List Loc), E a σ ∧ 0 < a ∧ okR σ a ∧ (∃ cell : Cell, t.heap[G.1 + a.toNat - 1]? = some cell ∧ cell.vm = .none ∧ cell.cls = G.2.2.1.1 22) ∧ Rep G ph σ t.heap ∧ gN σ0 ≤ gN σ ∧ gS σ0 ≤ gS σ ∧ (∀ v, okV σ0 v → okV σ v) ∧ Ended t below (.threw (G.1 + a.toNat - 1)) ∧
      s.WarmedH t.vm ∧ s.sameButNew ({ t with vm := s.vm } : State) L (gN σ - gN σ0) (gS σ - gS σ0) ∧ ∀ q ∈ L, G.1 ≤ q.base))
/-- a walk's surroundings: all that stays -/
abbrev Cx : Type := Gp × Program × Launch × Env × Room × State × MethodId × Array Value × List Frame × Method × Code × Sg × (Option AV → Sg → Prop) × (Int → Sg → Prop)
def Ax (ph : Nat) (X : Cx) (pc : Nat) (ls : List (Option AV)) (st : List AV) (σ : Sg) : Prop := match X with
  | (G, p, l, e, R, s, m, args, below, meth, c, σ0, Q, E) => ∀ (H : Heap) (locs : List Loc) (lsC : Array Slot), Rep G ph σ H → (∀ q ∈ locs, G.1 ≤ q.base) → lv_has lsC c.maxLocals (lsL G 0 ls) →
      (∀ v, some v ∈ ls → okV σ v) → (∀ v ∈ st, okV σ v) → gN σ0 ≤ gN σ → gS σ0 ≤ gS σ → (∀ v, okV σ0 v → okV σ v) →
      W p l e R s m args below meth c H locs (gN σ - gN σ0) (gS σ - gS σ0) (EndP G ph s below σ0 Q E) (F0 m pc lsC (st.map (cV G)))
/-- a method: its name, code, locals, answer, handlers -/
abbrev MI : Type := MethodName × ByteArray × Nat × Option FieldType × List (Nat × Nat × Nat × Nat)
/-- the surroundings are those of a method y, called with budget k -/
def CxOk (ph : Nat) (X : Cx) (y : MI) (k : Nat) (σ : Sg) (Q : Option AV → Sg → Prop) (E : Int → Sg → Prop) : Prop := match X with
  | (G, p, l, e, R, s, m, args, below, meth, c, σ0, Q0, E0) => p.tables.exec = Jvm.exec ∧ c.code = y.2.1 ∧ c.maxLocals = y.2.2.1 ∧ meth.sig.returnType = y.2.2.2.1 ∧ meth.locks = false ∧ s.vm.findClass y.1.cls = some m.cls ∧ meth.name = y.1.name ∧
      (c.exceptionTable.toList.map (fun h => (h.startPc, h.endPc, h.handlerPc, h.catchType)) = y.2.2.2.2 ∧ l.stackTraces = false ∧ (∀ q : Nat, q < G.1 → s.heap[q]? = G.2.1[q]?) ∧ ∀ (q : Nat) (c : Cell), G.1 ≤ q → s.heap[q]? = some c → c.vm = .none) ∧ Glob G s ∧ k ≤ R.frames ∧ 41 * k ≤ R.locals ∧ 773291 ≤ gN σ0 + R.cells ∧ 6781611 ≤ gS σ0 + R.slots ∧ σ0 = σ ∧ Q0 = Q ∧ E0 = E
/-- locals at a method's entry -/
def lsE (n : Nat) (as : List AV) : List (Option AV) := 
  let l := as.flatMap (fun v => match v with | .inr (.inl _) => [some v, none] | _ => [some v])
  l ++ List.replicate (n - l.length) none
/-- y's contract: with these arguments, from this state, it comes to Q or throws into E -/
def Cn (ph : Nat) (y : MI) (k : Nat) (as : List AV) (σ : Sg) (Q : Option AV → Sg → Prop) (E : Int → Sg → Prop) : Prop := ∀ X : Cx, CxOk ph X y k σ Q E → Ax ph X 0 (lsE y.2.2.1 as) [] σ
