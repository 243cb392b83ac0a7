/-! when a table is right -/
set_option maxRecDepth 100000
def FGet (own : String) (idx a b : Nat) (c : Int) : Prop := (a = 7 ∧ b = 1 ∧ FLk own idx "CircuitWarden$Token" "letters" "Ljava/lang/String;") ∨ (a = 7 ∧ b = 2 ∧ FLk own idx "java/lang/Enum" "ordinal" "I") ∨ (a = 30 ∧ b = 1 ∧ FLk own idx "java/lang/String" "value" "[B") ∨ (a = 30 ∧ b = 2 ∧ FLk own idx "java/lang/String" "coder" "B") ∨
  ∃ (ci : Nat) (q : vw_C), a = ci + 1 ∧ clL[ci]? = some q ∧ ci ≠ 6 ∧ 1 ≤ b ∧ b - 1 < q.2.2 ∧ (q.2.1 (b - 1)).1 = q.1 ∧ FLk own idx q.1 (q.2.1 (b - 1)).2.1 (q.2.1 (b - 1)).2.2.1 ∧ c = (ftOf ci b : Nat)
def FPut (own : String) (idx a b : Nat) (c : Int) : Prop := ∃ (ci : Nat) (q : vw_C), a = ci + 1 ∧ clL[ci]? = some q ∧ ci ≠ 6 ∧ 1 ≤ b ∧ b - 1 < q.2.2 ∧ (q.2.1 (b - 1)).1 = q.1 ∧ FLk own idx q.1 (q.2.1 (b - 1)).2.1 (q.2.1 (b - 1)).2.2.1 ∧ c = (ftOf ci b : Nat) ∧ ((q.2.1 (b - 1)).2.2.2 = false ∨ own = q.1)
def SGet (own : String) (idx a : Nat) (c : Int) : Prop := (∃ i : Nat, i < 52 ∧ a = 0 ∧ c = -((i : Int) + 1) ∧ FLk own idx "CircuitWarden$Token" (tokN.getD i "") "LCircuitWarden$Token;") ∨ (a = 0 ∧ c = -300 ∧ FLk own idx "CircuitWarden" "BINDS" "[I") ∨ (a = 1 ∧ c = 1 ∧ FLk own idx "java/lang/String" "COMPACT_STRINGS" "Z") ∨
  (a = 0 ∧ c = -399 ∧ FLk own idx "jdk/internal/util/Preconditions" "SIOOBE_FORMATTER" "Ljava/util/function/BiFunction;")
def MiOk (a n : Nat) : Prop := MW (mY a) ∧ (mY a).2.2.1 ≤ 22 ∧ plainFor (mY a).1 = true ∧ ((mY a).1.cls ≠ "java/lang/invoke/MethodHandle" ∧ (mY a).1.cls ≠ "java/lang/invoke/VarHandle") ∧ (parseMethodDescriptor (mY a).1.desc).map (fun d => d.parameters.length) = some n
def gnO (a : Nat) : Nat := match a with
  | 2000 => nGrown
  | 2001 => nRoom
  | 2002 => nWide
  | 2003 => nMore
  | _ => nSwide
def CallS (own : String) (idx a b : Nat) : Prop := (a < 453 ∧ MLk own idx (mY a).1 ∧ Cond.static (mY a).1 ∈ lw_all ∧ Cond.initialized (mY a).1.cls ∈ lw_all ∧ MiOk a b) ∨ (a = 1004 ∧ Cond.methodLink own idx arraycopyName ∈ lw_all) ∨
  (2000 ≤ a ∧ MLk own idx (mY (gnO a)).1 ∧ Cond.static (mY (gnO a)).1 ∈ lw_all ∧ Cond.initialized (mY (gnO a)).1.cls ∈ lw_all ∧ MiOk (gnO a) (if a = 2003 then 1 else 2))
def ClsOf (c : Int) (C : String) : Prop := (c = 30 ∧ C = "java/lang/String") ∨ ∃ (ci : Nat) (q : vw_C), c = (ci : Int) + 1 ∧ clL[ci]? = some q ∧ ci ≠ 6 ∧ C = q.1
def CallV (own : String) (idx a b : Nat) (c : Int) : Prop := (∃ C, MLk own idx (mY a).1 ∧ Cond.instanceMethod (mY a).1 ∈ lw_all ∧ Cond.selects C (mY a).1 (mY a).1 ∈ lw_all ∧ MiOk a (b - 1) ∧ 1 ≤ b ∧ ClsOf c C) ∨ (a = nOrd ∧ b = 1 ∧ c = 7 ∧ Cond.methodLink own idx ⟨"CircuitWarden$Token", "ordinal", "()I"⟩ ∈ lw_all)
def CallI (own : String) (idx a b : Nat) : Prop := (a < 453 ∧ MLk own idx (mY a).1 ∧ Cond.code (mY a).1 (mY a).2.1 (mY a).2.2.1 none ∈ lw_all ∧ Cond.instanceMethod (mY a).1 ∈ lw_all ∧ (mY a).1.name = "<init>" ∧ MiOk a (b - 1) ∧ 1 ≤ b) ∨ (a = 1000 ∧ Cond.methodLink own idx Lib.objectInit ∈ lw_all)
def NewO (own : String) (idx a b : Nat) : Prop := (∃ (ci : Nat) (q : vw_C), a = ci + 1 ∧ clL[ci]? = some q ∧ ci ≠ 6 ∧ Cond.classLink own idx q.1 ∈ lw_all ∧ Cond.instantiable q.1 b ∈ lw_all ∧ Cond.initialized q.1 ∈ lw_all) ∨ (a = 50 ∧ b = 6)
/-- a link: what sort, its place, three numbers -/
abbrev LQ : Type := Nat × Nat × Nat × Nat × Int
def QOk (own : String) (q : LQ) : Prop := match q.1 with
  | 0 => FGet own q.2.1 q.2.2.1 q.2.2.2.1 q.2.2.2.2
  | 1 => FPut own q.2.1 q.2.2.1 q.2.2.2.1 q.2.2.2.2
  | 2 => SGet own q.2.1 q.2.2.1 q.2.2.2.2
  | 3 => ∃ (n : Nat) (tx : String), q.2.2.2.2 = -(n : Int) ∧ (n, own, q.2.1, tx) ∈ ldL
  | 4 => ∃ v : Int64, Cond.constantLong own q.2.1 v ∈ lw_all ∧ v.toInt = q.2.2.2.2
  | 5 => CallS own q.2.1 q.2.2.1 q.2.2.2.1
  | 6 => CallV own q.2.1 q.2.2.1 q.2.2.2.1 q.2.2.2.2
  | 7 => CallI own q.2.1 q.2.2.1 q.2.2.2.1
  | 8 => NewO own q.2.1 q.2.2.1 q.2.2.2.1
  | _ => ∃ C : String, (5 ≤ q.2.2.1 ∧ q.2.2.1 ≤ 7) ∧ elTy q.2.2.1 = .object C ∧ Cond.classLink own q.2.1 C ∈ lw_all ∧ Cond.arrayOver (.object C) ∈ lw_tbl
/-- the link that an entry asks for; true where it asks for none -/
def lkB (L : List LQ) (en : En) : Bool := match en with
  | (_, ins, _, a, b, c) => match ins with
    | .getfield i => L.contains (0, i, a, b, c)
    | .putfield i => L.contains (1, i, a, b, c)
    | .getstatic i => L.contains (2, i, a, b, c)
    | .ldc i => a == 9 || L.contains (3, i, a, b, c)
    | .ldc2_w i => L.contains (4, i, a, b, c)
    | .invokestatic i => a == 999 || L.contains (5, i, a, b, c)
    | .invokevirtual i => a == 999 || L.contains (6, i, a, b, c)
    | .invokespecial i => a == 998 || L.contains (7, i, a, b, c)
    | .new i => L.contains (8, i, a, b, c)
    | .anewarray i => L.contains (9, i, a, b, c)
    | _ => true
/-- what else an entry must be: targets, ends, final fields -/
def finB (a b : Nat) : Bool := match clL[a - 1]? with
  | some q => (q.2.1 (b - 1)).2.2.2
  | none => true
def etB (y : MI) (en : En) : Bool := match en with
  | (pc, ins, len, a, b, _) => match ins with
    | .ifCond _ off => decide (0 ≤ (pc : Int) + off) && len == 3
    | .if_icmp _ off => decide (0 ≤ (pc : Int) + off) && len == 3
    | .if_acmp _ off => decide (0 ≤ (pc : Int) + off) && len == 3
    | .ifnonnull off => decide (0 ≤ (pc : Int) + off) && len == 3
    | .goto off => decide (0 ≤ (pc : Int) + off) && len == 3
    | .tableswitch e _ _ offs => decide (0 ≤ (pc : Int) + e) && offs.toList.all (fun q => decide (0 ≤ (pc : Int) + q))
    | .lookupswitch e ps => decide (0 ≤ (pc : Int) + e) && (ps.toList.all (fun q => decide (0 ≤ (pc : Int) + q.2)) && (ps.toList.zip (ps.toList.drop 1)).all (fun (a, next) => decide (a.1 < next.1)))
    | .iconst i => decide (-1 ≤ i ∧ i ≤ 5) && len == 1
    | .bipush i => decide (-128 ≤ i ∧ i ≤ 127) && len == 2
    | .sipush i => decide (-32768 ≤ i ∧ i ≤ 32767) && len == 3
    | .putfield _ => (!(finB a b) || y.1.name == "<init>") && len == 3
    | .ireturn => (match y.2.2.2.1 with | some .int => a == 0 | some .boolean => a == 1 | some .byte => a == 2 | some .char => a == 3 | _ => false) && len == 1
    | .lreturn => (match y.2.2.2.1 with | some .long => true | _ => false) && len == 1
    | .areturn => (match y.2.2.2.1 with | some (.object _) => true | some (.array _) => true | _ => false) && len == 1
    | .return_ => (match y.2.2.2.1 with | none => true | _ => false) && len == 1
    | .getfield _ | .getstatic _ | .ldc2_w _ | .invokestatic _ | .invokevirtual _ | .invokespecial _ | .new _ | .anewarray _ | .iinc _ _ => len == 3
    | .ldc _ | .newarray _ | .iload _ | .lload _ | .aload _ | .istore _ | .lstore _ | .astore _ => len == 2
    | .multianewarray _ _ => true
    | .iaload => len == 1 && (!(a == 1) || y.1.cls == "CircuitWardenLaw")
    | .arraylength => len == 1 && (!(a == 1) || y.1.cls == "CircuitWardenLaw")
    | _ => len == 1
def cdB (cd : Jvm.ClassFile.Cond) (b : Nat) : Bool := match cd with
  | .eq => b == 0
  | .ne => b == 1
  | .lt => b == 2
  | .ge => b == 3
  | .gt => b == 4
  | .le => b == 5
/-- entries one behind the other -/
def wfT : List En → Bool
  | [] => true
  | [e] => match e with
    | (_, .lcmp, _) => false
    | (_, .invokestatic _, _, a, _) => !(Nat.ble 2000 a)
    | _ => true
  | e1 :: e2 :: t => (e2.1 == e1.1 + e1.2.2.1) && (match e1 with
      | (_, .lcmp, _, a, b, c) => !(a == 1) || (match e2 with | (pc, .ifCond cd off, _) => ((pc : Int) + off == c) && (decide (0 ≤ c) && cdB cd b) | _ => false)
      | (_, .invokestatic _, _, a, b, c) => !(Nat.ble 2000 a) || (match e2 with | (_, .putfield _, _, a2, b2, c2) => (a2 : Int) == c && (b2 == b && (c2 == (bif a == 2004 then 7 else 4))) | _ => false)
      | _ => true) && wfT (e2 :: t)
def isThr (en : En) : Bool := match en with
  | (_, .new _, _, a, _) => a == 50
  | _ => false
/-- an exception is made and thrown there -/
def ThrD (y : MI) (pc : Nat) : Prop := ∃ (n idx li ic : Nat) (tx : String), (∀ w ∈ Bundle.ownAtoms y.1.cls ic "java/lang/IllegalStateException" ["java/lang/RuntimeException", "java/lang/Exception"], w ∈ thrL) ∧ Cond.classLink y.1.cls idx "java/lang/IllegalStateException" ∈ lw_all ∧ (n, y.1.cls, li, tx) ∈ ldL ∧
  decode y.2.1 pc = .ok (.new idx, 3) ∧ decode y.2.1 (pc + 3) = .ok (.dup, 1) ∧ decode y.2.1 (pc + 4) = .ok (.ldc li, 2) ∧ decode y.2.1 (pc + 6) = .ok (.invokespecial ic, 3) ∧ decode y.2.1 (pc + 9) = .ok (.athrow, 1)
def HndO (y : MI) : Prop := y.2.2.2.2.length ≤ 1 ∧ ∀ h ∈ y.2.2.2.2, Cond.classLink y.1.cls h.2.2.2 "java/lang/IllegalStateException" ∈ lw_all ∧ h.2.2.2 ≠ 0
def TabOk (y : MI) (tab : List En) (L : List LQ) : Prop := (tab.all (fun en => decide (decode y.2.1 en.1 = .ok (en.2.1, en.2.2.1))) = true) ∧ (tab.all (lkB L) = true) ∧ (tab.all (etB y) = true) ∧ wfT tab = true ∧ (∀ q ∈ L, QOk y.1.cls q) ∧ (∀ en ∈ tab, isThr en = true → ThrD y en.1) ∧ HndO y
def noThr {y : MI} {tab : List En} (h : tab.all (fun en => !isThr en) = true) : ∀ en ∈ tab, isThr en = true → ThrD y en.1 := fun en he ht => by
  have := List.all_eq_true.mp h en he
  rw [ht] at this
  cases this
theorem noHnd {y : MI} (h : y.2.2.2.2 = []) : HndO y := ⟨by rw [h]; exact Nat.zero_le _, fun q hq => by rw [h] at hq; cases hq⟩
