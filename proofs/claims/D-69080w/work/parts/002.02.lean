set_option maxRecDepth 100000
/-! java/lang/Enum -/
def RJ0 : String := "java/lang/Enum"
abbrev cJ0_ordinal : ByteArray := prog_25_method_2_code
def yJ0_ordinal : MethodName := ⟨RJ0, "ordinal", "()I"⟩
theorem q297 : (Jvm.Cond.initialized "java/lang/Enum") ∈ lw_all := lw_g (lw_at lw_m1 8 rfl) rfl
theorem q1539 : (Jvm.Cond.declares ({ cls := "java/lang/Enum", name := "ordinal", desc := "()I" } : Jvm.MethodName)) ∈ lw_tbl := lw_at lw_m6 50 rfl
theorem q1541 : (Jvm.Cond.instanceMethod ({ cls := "java/lang/Enum", name := "ordinal", desc := "()I" } : Jvm.MethodName)) ∈ lw_all := lw_g (lw_at lw_m6 52 rfl) rfl
theorem q1542 : (Jvm.Cond.code ({ cls := "java/lang/Enum", name := "ordinal", desc := "()I" } : Jvm.MethodName) prog_25_method_2_code (1 : Nat) (Option.some Jvm.ClassFile.FieldType.int)) ∈ lw_all := lw_g (lw_at lw_m6 53 rfl) rfl
theorem q3575 : (Jvm.Cond.fieldLink "java/lang/Enum" (7 : Nat) "java/lang/Enum" "ordinal" "I") ∈ lw_all := lw_g (lw_at lw_m14 166 rfl) rfl
/-! java/lang/Long -/
def RJ1 : String := "java/lang/Long"
abbrev cJ1_bitCount : ByteArray := prog_28_method_50_code
def yJ1_bitCount : MethodName := ⟨RJ1, "bitCount", "(J)I"⟩
theorem q309 : (Jvm.Cond.initialized "java/lang/Long") ∈ lw_all := lw_g (lw_at lw_m1 20 rfl) rfl
theorem q1165 : (Jvm.Cond.static ({ cls := "java/lang/Long", name := "bitCount", desc := "(J)I" } : Jvm.MethodName)) ∈ lw_all := lw_g (lw_at lw_m4 156 rfl) rfl
theorem q1166 : (Jvm.Cond.code ({ cls := "java/lang/Long", name := "bitCount", desc := "(J)I" } : Jvm.MethodName) prog_28_method_50_code (2 : Nat) (Option.some Jvm.ClassFile.FieldType.int)) ∈ lw_all := lw_g (lw_at lw_m4 157 rfl) rfl
theorem q1167 : (Jvm.Cond.constantLong "java/lang/Long" (314 : Nat) (6148914691236517205 : Int64)) ∈ lw_all := lw_g (lw_at lw_m4 158 rfl) rfl
theorem q1168 : (Jvm.Cond.constantLong "java/lang/Long" (316 : Nat) (3689348814741910323 : Int64)) ∈ lw_all := lw_g (lw_at lw_m4 159 rfl) rfl
theorem q1169 : (Jvm.Cond.constantLong "java/lang/Long" (318 : Nat) (1085102592571150095 : Int64)) ∈ lw_all := lw_g (lw_at lw_m4 160 rfl) rfl
/-! java/lang/IllegalStateException -/
def RJ10 : String := "java/lang/IllegalStateException"
def TJ10 : u_T := fun k => match k with
  | 0 => ("java/lang/Throwable", "cause", "Ljava/lang/Throwable;", false)
  | 1 => ("java/lang/Throwable", "stackTrace", "[Ljava/lang/StackTraceElement;", false)
  | 2 => ("java/lang/Throwable", "suppressedExceptions", "Ljava/util/List;", false)
  | 3 => ("java/lang/Throwable", "detailMessage", "Ljava/lang/String;", false)
  | 4 => ("java/lang/Throwable", "backtrace", "Ljava/lang/Object;", false)
  | _ => ("java/lang/Throwable", "depth", "I", false)
def tyJ10 : Nat → FieldType := fun k => match k with
  | 0 => .object "java/lang/Throwable"
  | 1 => .array (.object "java/lang/StackTraceElement")
  | 2 => .object "java/util/List"
  | 3 => .object "java/lang/String"
  | 4 => .object "java/lang/Object"
  | _ => .int
abbrev wsJ100 : List Cond := u_ws RJ10 TJ10 6
theorem nmJ10 : ∀ a, a < 6 → ∀ b, b < 6 → a ≠ b → (TJ10 a).2.1 ≠ (TJ10 b).2.1 := by decide +kernel
theorem tyJ10_ok : ∀ k, k < 6 → parseFieldDescriptor (TJ10 k).2.2.1 = some (tyJ10 k) := by decide +kernel
abbrev cJ10_init : ByteArray := prog_27_method_2_code
def yJ10_init : MethodName := ⟨RJ10, "<init>", "(Ljava/lang/String;)V"⟩
theorem q323 : (Jvm.Cond.initialized "java/lang/IllegalStateException") ∈ lw_all := lw_g (lw_at lw_m1 34 rfl) rfl
theorem q1620 : (Jvm.Cond.instantiable "java/lang/IllegalStateException" (6 : Nat)) ∈ lw_all := lw_g (lw_at lw_m6 131 rfl) rfl
theorem q1621 : (Jvm.Cond.castable "java/lang/IllegalStateException" "java/lang/IllegalStateException") ∈ lw_tbl := lw_at lw_m6 132 rfl
theorem q1628 : (Jvm.Cond.selects "java/lang/IllegalStateException" ({ cls := "java/lang/Throwable", name := "fillInStackTrace", desc := "(I)Ljava/lang/Throwable;" } : Jvm.MethodName) ({ cls := "java/lang/Throwable", name := "fillInStackTrace", desc := "(I)Ljava/lang/Throwable;" } : Jvm.MethodName)) ∈ lw_all := lw_g (lw_at lw_m6 139 rfl) rfl
theorem q1629 : (Jvm.Cond.selects "java/lang/IllegalStateException" ({ cls := "java/lang/Throwable", name := "fillInStackTrace", desc := "()Ljava/lang/Throwable;" } : Jvm.MethodName) ({ cls := "java/lang/Throwable", name := "fillInStackTrace", desc := "()Ljava/lang/Throwable;" } : Jvm.MethodName)) ∈ lw_all := lw_g (lw_at lw_m6 140 rfl) rfl
theorem q1630 : (Jvm.Cond.lays "java/lang/IllegalStateException" "java/lang/Throwable" "cause" "Ljava/lang/Throwable;") ∈ lw_all := lw_g (lw_at lw_m6 141 rfl) rfl
theorem q1632 : (Jvm.Cond.lays "java/lang/IllegalStateException" "java/lang/Throwable" "stackTrace" "[Ljava/lang/StackTraceElement;") ∈ lw_all := lw_g (lw_at lw_m6 143 rfl) rfl
theorem q1634 : (Jvm.Cond.lays "java/lang/IllegalStateException" "java/lang/Throwable" "suppressedExceptions" "Ljava/util/List;") ∈ lw_all := lw_g (lw_at lw_m6 145 rfl) rfl
theorem q1636 : (Jvm.Cond.lays "java/lang/IllegalStateException" "java/lang/Throwable" "detailMessage" "Ljava/lang/String;") ∈ lw_all := lw_g (lw_at lw_m6 147 rfl) rfl
theorem q1638 : (Jvm.Cond.lays "java/lang/IllegalStateException" "java/lang/Throwable" "backtrace" "Ljava/lang/Object;") ∈ lw_all := lw_g (lw_at lw_m6 149 rfl) rfl
theorem q1660 : (Jvm.Cond.instanceMethod ({ cls := "java/lang/IllegalStateException", name := "<init>", desc := "(Ljava/lang/String;)V" } : Jvm.MethodName)) ∈ lw_all := lw_g (lw_at lw_m6 171 rfl) rfl
theorem q1661 : (Jvm.Cond.code ({ cls := "java/lang/IllegalStateException", name := "<init>", desc := "(Ljava/lang/String;)V" } : Jvm.MethodName) prog_27_method_2_code (2 : Nat) (Option.none : Option Jvm.ClassFile.FieldType)) ∈ lw_all := lw_g (lw_at lw_m6 172 rfl) rfl
theorem q1662 : (Jvm.Cond.methodLink "java/lang/IllegalStateException" (7 : Nat) ({ cls := "java/lang/RuntimeException", name := "<init>", desc := "(Ljava/lang/String;)V" } : Jvm.MethodName)) ∈ lw_all := lw_g (lw_at lw_m6 173 rfl) rfl
theorem q1680 : (Jvm.Cond.lays "java/lang/IllegalStateException" "java/lang/Throwable" "depth" "I") ∈ lw_all := lw_g (lw_at lw_m6 191 rfl) rfl
theorem q1683 : (Jvm.Cond.superclass "java/lang/IllegalStateException" "java/lang/RuntimeException") ∈ lw_all := lw_g (lw_at lw_m6 194 rfl) rfl
theorem in_J10 : ∀ w ∈ wsJ100, w ∈ lw_all := lw_in wsJ100 [1630, 1632, 1634, 1636, 1638, 1680] (by decide +kernel) (by decide +kernel)
/-! java/lang/Object -/
def RJ11 : String := "java/lang/Object"
abbrev cJ11_init : ByteArray := object_method_1_code
def yJ11_init : MethodName := ⟨RJ11, "<init>", "()V"⟩
theorem q330 : (Jvm.Cond.instanceMethod ({ cls := "java/lang/Object", name := "<init>", desc := "()V" } : Jvm.MethodName)) ∈ lw_all := lw_g (lw_at lw_m1 41 rfl) rfl
theorem q331 : (Jvm.Cond.code ({ cls := "java/lang/Object", name := "<init>", desc := "()V" } : Jvm.MethodName) object_method_1_code (1 : Nat) (Option.none : Option Jvm.ClassFile.FieldType)) ∈ lw_all := lw_g (lw_at lw_m1 42 rfl) rfl
theorem q446 : (Jvm.Cond.native ({ cls := "java/lang/Object", name := "clone", desc := "()Ljava/lang/Object;" } : Jvm.MethodName)) ∈ lw_all := lw_g (lw_at lw_m1 157 rfl) rfl
theorem q447 : (Jvm.Cond.instanceMethod ({ cls := "java/lang/Object", name := "clone", desc := "()Ljava/lang/Object;" } : Jvm.MethodName)) ∈ lw_all := lw_g (lw_at lw_m1 158 rfl) rfl
/-! java/lang/Math -/
def RJ2 : String := "java/lang/Math"
abbrev cJ2_min : ByteArray := prog_29_method_69_code
def yJ2_min : MethodName := ⟨RJ2, "min", "(II)I"⟩
theorem q310 : (Jvm.Cond.initialized "java/lang/Math") ∈ lw_all := lw_g (lw_at lw_m1 21 rfl) rfl
theorem q1356 : (Jvm.Cond.static ({ cls := "java/lang/Math", name := "min", desc := "(II)I" } : Jvm.MethodName)) ∈ lw_all := lw_g (lw_at lw_m5 107 rfl) rfl
theorem q1357 : (Jvm.Cond.code ({ cls := "java/lang/Math", name := "min", desc := "(II)I" } : Jvm.MethodName) prog_29_method_69_code (2 : Nat) (Option.some Jvm.ClassFile.FieldType.int)) ∈ lw_all := lw_g (lw_at lw_m5 108 rfl) rfl
/-! java/lang/String -/
def RJ3 : String := "java/lang/String"
abbrev cJ3_length : ByteArray := prog_31_method_54_code
def yJ3_length : MethodName := ⟨RJ3, "length", "()I"⟩
abbrev cJ3_coder : ByteArray := prog_31_method_152_code
def yJ3_coder : MethodName := ⟨RJ3, "coder", "()B"⟩
abbrev cJ3_charAt : ByteArray := prog_31_method_56_code
def yJ3_charAt : MethodName := ⟨RJ3, "charAt", "(I)C"⟩
abbrev cJ3_isLatin1 : ByteArray := prog_31_method_154_code
def yJ3_isLatin1 : MethodName := ⟨RJ3, "isLatin1", "()Z"⟩
abbrev cJ3_checkIndex : ByteArray := prog_31_method_155_code
def yJ3_checkIndex : MethodName := ⟨RJ3, "checkIndex", "(II)V"⟩
theorem q316 : (Jvm.Cond.initialized "java/lang/String") ∈ lw_all := lw_g (lw_at lw_m1 27 rfl) rfl
theorem q1544 : (Jvm.Cond.instanceMethod ({ cls := "java/lang/String", name := "length", desc := "()I" } : Jvm.MethodName)) ∈ lw_all := lw_g (lw_at lw_m6 55 rfl) rfl
theorem q1545 : (Jvm.Cond.selects "java/lang/String" ({ cls := "java/lang/String", name := "length", desc := "()I" } : Jvm.MethodName) ({ cls := "java/lang/String", name := "length", desc := "()I" } : Jvm.MethodName)) ∈ lw_all := lw_g (lw_at lw_m6 56 rfl) rfl
theorem q1546 : (Jvm.Cond.code ({ cls := "java/lang/String", name := "length", desc := "()I" } : Jvm.MethodName) prog_31_method_54_code (1 : Nat) (Option.some Jvm.ClassFile.FieldType.int)) ∈ lw_all := lw_g (lw_at lw_m6 57 rfl) rfl
theorem q1547 : (Jvm.Cond.methodLink "java/lang/String" (335 : Nat) ({ cls := "java/lang/String", name := "coder", desc := "()B" } : Jvm.MethodName)) ∈ lw_all := lw_g (lw_at lw_m6 58 rfl) rfl
theorem q1548 : (Jvm.Cond.instanceMethod ({ cls := "java/lang/String", name := "coder", desc := "()B" } : Jvm.MethodName)) ∈ lw_all := lw_g (lw_at lw_m6 59 rfl) rfl
theorem q1549 : (Jvm.Cond.selects "java/lang/String" ({ cls := "java/lang/String", name := "coder", desc := "()B" } : Jvm.MethodName) ({ cls := "java/lang/String", name := "coder", desc := "()B" } : Jvm.MethodName)) ∈ lw_all := lw_g (lw_at lw_m6 60 rfl) rfl
theorem q1550 : (Jvm.Cond.code ({ cls := "java/lang/String", name := "coder", desc := "()B" } : Jvm.MethodName) prog_31_method_152_code (1 : Nat) (Option.some Jvm.ClassFile.FieldType.byte)) ∈ lw_all := lw_g (lw_at lw_m6 61 rfl) rfl
theorem q1551 : (Jvm.Cond.fieldLink "java/lang/String" (38 : Nat) "java/lang/String" "COMPACT_STRINGS" "Z") ∈ lw_all := lw_g (lw_at lw_m6 62 rfl) rfl
theorem q1552 : (Jvm.Cond.laysStatic "java/lang/String" "COMPACT_STRINGS" "Z") ∈ lw_tbl := lw_at lw_m6 63 rfl
theorem q1554 : (Jvm.Cond.instanceMethod ({ cls := "java/lang/String", name := "charAt", desc := "(I)C" } : Jvm.MethodName)) ∈ lw_all := lw_g (lw_at lw_m6 65 rfl) rfl
theorem q1555 : (Jvm.Cond.selects "java/lang/String" ({ cls := "java/lang/String", name := "charAt", desc := "(I)C" } : Jvm.MethodName) ({ cls := "java/lang/String", name := "charAt", desc := "(I)C" } : Jvm.MethodName)) ∈ lw_all := lw_g (lw_at lw_m6 66 rfl) rfl
theorem q1556 : (Jvm.Cond.code ({ cls := "java/lang/String", name := "charAt", desc := "(I)C" } : Jvm.MethodName) prog_31_method_56_code (2 : Nat) (Option.some Jvm.ClassFile.FieldType.char)) ∈ lw_all := lw_g (lw_at lw_m6 67 rfl) rfl
theorem q1557 : (Jvm.Cond.methodLink "java/lang/String" (492 : Nat) ({ cls := "java/lang/String", name := "isLatin1", desc := "()Z" } : Jvm.MethodName)) ∈ lw_all := lw_g (lw_at lw_m6 68 rfl) rfl
theorem q1558 : (Jvm.Cond.instanceMethod ({ cls := "java/lang/String", name := "isLatin1", desc := "()Z" } : Jvm.MethodName)) ∈ lw_all := lw_g (lw_at lw_m6 69 rfl) rfl
theorem q1559 : (Jvm.Cond.selects "java/lang/String" ({ cls := "java/lang/String", name := "isLatin1", desc := "()Z" } : Jvm.MethodName) ({ cls := "java/lang/String", name := "isLatin1", desc := "()Z" } : Jvm.MethodName)) ∈ lw_all := lw_g (lw_at lw_m6 70 rfl) rfl
theorem q1560 : (Jvm.Cond.code ({ cls := "java/lang/String", name := "isLatin1", desc := "()Z" } : Jvm.MethodName) prog_31_method_154_code (1 : Nat) (Option.some Jvm.ClassFile.FieldType.boolean)) ∈ lw_all := lw_g (lw_at lw_m6 71 rfl) rfl
theorem q1561 : (Jvm.Cond.methodLink "java/lang/String" (495 : Nat) ({ cls := "java/lang/StringLatin1", name := "charAt", desc := "([BI)C" } : Jvm.MethodName)) ∈ lw_all := lw_g (lw_at lw_m6 72 rfl) rfl
theorem q1565 : (Jvm.Cond.static ({ cls := "java/lang/String", name := "checkIndex", desc := "(II)V" } : Jvm.MethodName)) ∈ lw_all := lw_g (lw_at lw_m6 76 rfl) rfl
theorem q1566 : (Jvm.Cond.code ({ cls := "java/lang/String", name := "checkIndex", desc := "(II)V" } : Jvm.MethodName) prog_31_method_155_code (2 : Nat) (Option.none : Option Jvm.ClassFile.FieldType)) ∈ lw_all := lw_g (lw_at lw_m6 77 rfl) rfl
theorem q1567 : (Jvm.Cond.fieldLink "java/lang/String" (1053 : Nat) "jdk/internal/util/Preconditions" "SIOOBE_FORMATTER" "Ljava/util/function/BiFunction;") ∈ lw_all := lw_g (lw_at lw_m6 78 rfl) rfl
theorem q1569 : (Jvm.Cond.methodLink "java/lang/String" (1059 : Nat) ({ cls := "jdk/internal/util/Preconditions", name := "checkIndex", desc := "(IILjava/util/function/BiFunction;)I" } : Jvm.MethodName)) ∈ lw_all := lw_g (lw_at lw_m6 80 rfl) rfl
theorem q1572 : (Jvm.Cond.methodLink "java/lang/String" (498 : Nat) ({ cls := "java/lang/StringUTF16", name := "charAt", desc := "([BI)C" } : Jvm.MethodName)) ∈ lw_all := lw_g (lw_at lw_m6 83 rfl) rfl
theorem q3577 : (Jvm.Cond.fieldLink "java/lang/String" (9 : Nat) "java/lang/String" "value" "[B") ∈ lw_all := lw_g (lw_at lw_m14 168 rfl) rfl
theorem q3578 : (Jvm.Cond.fieldLink "java/lang/String" (15 : Nat) "java/lang/String" "coder" "B") ∈ lw_all := lw_g (lw_at lw_m14 169 rfl) rfl
/-! java/lang/StringLatin1 -/
def RJ4 : String := "java/lang/StringLatin1"
abbrev cJ4_charAt : ByteArray := prog_32_method_2_code
def yJ4_charAt : MethodName := ⟨RJ4, "charAt", "([BI)C"⟩
theorem q317 : (Jvm.Cond.initialized "java/lang/StringLatin1") ∈ lw_all := lw_g (lw_at lw_m1 28 rfl) rfl
theorem q1562 : (Jvm.Cond.static ({ cls := "java/lang/StringLatin1", name := "charAt", desc := "([BI)C" } : Jvm.MethodName)) ∈ lw_all := lw_g (lw_at lw_m6 73 rfl) rfl
theorem q1563 : (Jvm.Cond.code ({ cls := "java/lang/StringLatin1", name := "charAt", desc := "([BI)C" } : Jvm.MethodName) prog_32_method_2_code (2 : Nat) (Option.some Jvm.ClassFile.FieldType.char)) ∈ lw_all := lw_g (lw_at lw_m6 74 rfl) rfl
theorem q1564 : (Jvm.Cond.methodLink "java/lang/StringLatin1" (9 : Nat) ({ cls := "java/lang/String", name := "checkIndex", desc := "(II)V" } : Jvm.MethodName)) ∈ lw_all := lw_g (lw_at lw_m6 75 rfl) rfl
/-! jdk/internal/util/Preconditions -/
def RJ5 : String := "jdk/internal/util/Preconditions"
abbrev cJ5_checkIndex : ByteArray := prog_36_method_11_code
def yJ5_checkIndex : MethodName := ⟨RJ5, "checkIndex", "(IILjava/util/function/BiFunction;)I"⟩
theorem q318 : (Jvm.Cond.initialized "jdk/internal/util/Preconditions") ∈ lw_all := lw_g (lw_at lw_m1 29 rfl) rfl
theorem q1568 : (Jvm.Cond.laysStatic "jdk/internal/util/Preconditions" "SIOOBE_FORMATTER" "Ljava/util/function/BiFunction;") ∈ lw_tbl := lw_at lw_m6 79 rfl
theorem q1570 : (Jvm.Cond.static ({ cls := "jdk/internal/util/Preconditions", name := "checkIndex", desc := "(IILjava/util/function/BiFunction;)I" } : Jvm.MethodName)) ∈ lw_all := lw_g (lw_at lw_m6 81 rfl) rfl
theorem q1571 : (Jvm.Cond.code ({ cls := "jdk/internal/util/Preconditions", name := "checkIndex", desc := "(IILjava/util/function/BiFunction;)I" } : Jvm.MethodName) prog_36_method_11_code (3 : Nat) (Option.some Jvm.ClassFile.FieldType.int)) ∈ lw_all := lw_g (lw_at lw_m6 82 rfl) rfl
/-! java/lang/StringUTF16 -/
def RJ6 : String := "java/lang/StringUTF16"
abbrev cJ6_charAt : ByteArray := prog_33_method_83_code
def yJ6_charAt : MethodName := ⟨RJ6, "charAt", "([BI)C"⟩
abbrev cJ6_checkIndex : ByteArray := prog_33_method_91_code
def yJ6_checkIndex : MethodName := ⟨RJ6, "checkIndex", "(I[B)V"⟩
abbrev cJ6_length : ByteArray := prog_33_method_6_code
def yJ6_length : MethodName := ⟨RJ6, "length", "([B)I"⟩
abbrev cJ6_getChar : ByteArray := prog_33_method_5_code
def yJ6_getChar : MethodName := ⟨RJ6, "getChar", "([BI)C"⟩
theorem q319 : (Jvm.Cond.initialized "java/lang/StringUTF16") ∈ lw_all := lw_g (lw_at lw_m1 30 rfl) rfl
theorem q1573 : (Jvm.Cond.static ({ cls := "java/lang/StringUTF16", name := "charAt", desc := "([BI)C" } : Jvm.MethodName)) ∈ lw_all := lw_g (lw_at lw_m6 84 rfl) rfl
theorem q1574 : (Jvm.Cond.code ({ cls := "java/lang/StringUTF16", name := "charAt", desc := "([BI)C" } : Jvm.MethodName) prog_33_method_83_code (2 : Nat) (Option.some Jvm.ClassFile.FieldType.char)) ∈ lw_all := lw_g (lw_at lw_m6 85 rfl) rfl
theorem q1575 : (Jvm.Cond.methodLink "java/lang/StringUTF16" (67 : Nat) ({ cls := "java/lang/StringUTF16", name := "checkIndex", desc := "(I[B)V" } : Jvm.MethodName)) ∈ lw_all := lw_g (lw_at lw_m6 86 rfl) rfl
theorem q1576 : (Jvm.Cond.static ({ cls := "java/lang/StringUTF16", name := "checkIndex", desc := "(I[B)V" } : Jvm.MethodName)) ∈ lw_all := lw_g (lw_at lw_m6 87 rfl) rfl
theorem q1577 : (Jvm.Cond.code ({ cls := "java/lang/StringUTF16", name := "checkIndex", desc := "(I[B)V" } : Jvm.MethodName) prog_33_method_91_code (2 : Nat) (Option.none : Option Jvm.ClassFile.FieldType)) ∈ lw_all := lw_g (lw_at lw_m6 88 rfl) rfl
theorem q1578 : (Jvm.Cond.methodLink "java/lang/StringUTF16" (48 : Nat) ({ cls := "java/lang/StringUTF16", name := "length", desc := "([B)I" } : Jvm.MethodName)) ∈ lw_all := lw_g (lw_at lw_m6 89 rfl) rfl
theorem q1579 : (Jvm.Cond.static ({ cls := "java/lang/StringUTF16", name := "length", desc := "([B)I" } : Jvm.MethodName)) ∈ lw_all := lw_g (lw_at lw_m6 90 rfl) rfl
theorem q1580 : (Jvm.Cond.code ({ cls := "java/lang/StringUTF16", name := "length", desc := "([B)I" } : Jvm.MethodName) prog_33_method_6_code (1 : Nat) (Option.some Jvm.ClassFile.FieldType.int)) ∈ lw_all := lw_g (lw_at lw_m6 91 rfl) rfl
theorem q1581 : (Jvm.Cond.methodLink "java/lang/StringUTF16" (414 : Nat) ({ cls := "java/lang/String", name := "checkIndex", desc := "(II)V" } : Jvm.MethodName)) ∈ lw_all := lw_g (lw_at lw_m6 92 rfl) rfl
theorem q1582 : (Jvm.Cond.methodLink "java/lang/StringUTF16" (71 : Nat) ({ cls := "java/lang/StringUTF16", name := "getChar", desc := "([BI)C" } : Jvm.MethodName)) ∈ lw_all := lw_g (lw_at lw_m6 93 rfl) rfl
theorem q1583 : (Jvm.Cond.static ({ cls := "java/lang/StringUTF16", name := "getChar", desc := "([BI)C" } : Jvm.MethodName)) ∈ lw_all := lw_g (lw_at lw_m6 94 rfl) rfl
theorem q1584 : (Jvm.Cond.code ({ cls := "java/lang/StringUTF16", name := "getChar", desc := "([BI)C" } : Jvm.MethodName) prog_33_method_5_code (2 : Nat) (Option.some Jvm.ClassFile.FieldType.char)) ∈ lw_all := lw_g (lw_at lw_m6 95 rfl) rfl
theorem q1585 : (Jvm.Cond.fieldLink "java/lang/StringUTF16" (44 : Nat) "java/lang/StringUTF16" "$assertionsDisabled" "Z") ∈ lw_all := lw_g (lw_at lw_m6 96 rfl) rfl
theorem q1586 : (Jvm.Cond.laysStatic "java/lang/StringUTF16" "$assertionsDisabled" "Z") ∈ lw_tbl := lw_at lw_m6 97 rfl
theorem q1587 : (Jvm.Cond.fieldLink "java/lang/StringUTF16" (59 : Nat) "java/lang/StringUTF16" "HI_BYTE_SHIFT" "I") ∈ lw_all := lw_g (lw_at lw_m6 98 rfl) rfl
theorem q1588 : (Jvm.Cond.laysStatic "java/lang/StringUTF16" "HI_BYTE_SHIFT" "I") ∈ lw_tbl := lw_at lw_m6 99 rfl
theorem q1589 : (Jvm.Cond.fieldLink "java/lang/StringUTF16" (63 : Nat) "java/lang/StringUTF16" "LO_BYTE_SHIFT" "I") ∈ lw_all := lw_g (lw_at lw_m6 100 rfl) rfl
theorem q1590 : (Jvm.Cond.laysStatic "java/lang/StringUTF16" "LO_BYTE_SHIFT" "I") ∈ lw_tbl := lw_at lw_m6 101 rfl
/-! java/lang/Throwable -/
def RJ7 : String := "java/lang/Throwable"
def TJ7 : u_T := fun k => match k with
  | 0 => ("java/lang/Throwable", "cause", "Ljava/lang/Throwable;", false)
  | 1 => ("java/lang/Throwable", "stackTrace", "[Ljava/lang/StackTraceElement;", false)
  | 2 => ("java/lang/Throwable", "suppressedExceptions", "Ljava/util/List;", false)
  | 3 => ("java/lang/Throwable", "detailMessage", "Ljava/lang/String;", false)
  | _ => ("java/lang/Throwable", "backtrace", "Ljava/lang/Object;", false)
def tyJ7 : Nat → FieldType := fun k => match k with
  | 0 => .object "java/lang/Throwable"
  | 1 => .array (.object "java/lang/StackTraceElement")
  | 2 => .object "java/util/List"
  | 3 => .object "java/lang/String"
  | _ => .object "java/lang/Object"
abbrev wsJ70 : List Cond := u_ws RJ7 TJ7 5
theorem nmJ7 : ∀ a, a < 5 → ∀ b, b < 5 → a ≠ b → (TJ7 a).2.1 ≠ (TJ7 b).2.1 := by decide +kernel
theorem tyJ7_ok : ∀ k, k < 5 → parseFieldDescriptor (TJ7 k).2.2.1 = some (tyJ7 k) := by decide +kernel
abbrev cJ7_init : ByteArray := prog_35_method_1_code
def yJ7_init : MethodName := ⟨RJ7, "<init>", "()V"⟩
abbrev cJ7_init_2 : ByteArray := prog_35_method_2_code
def yJ7_init_2 : MethodName := ⟨RJ7, "<init>", "(Ljava/lang/String;)V"⟩
theorem q320 : (Jvm.Cond.initialized "java/lang/Throwable") ∈ lw_all := lw_g (lw_at lw_m1 31 rfl) rfl
theorem q1626 : (Jvm.Cond.declares ({ cls := "java/lang/Throwable", name := "<init>", desc := "()V" } : Jvm.MethodName)) ∈ lw_tbl := lw_at lw_m6 137 rfl
theorem q1627 : (Jvm.Cond.declares ({ cls := "java/lang/Throwable", name := "<init>", desc := "(Ljava/lang/String;)V" } : Jvm.MethodName)) ∈ lw_tbl := lw_at lw_m6 138 rfl
theorem q1631 : (Jvm.Cond.lays "java/lang/Throwable" "java/lang/Throwable" "cause" "Ljava/lang/Throwable;") ∈ lw_all := lw_g (lw_at lw_m6 142 rfl) rfl
theorem q1633 : (Jvm.Cond.lays "java/lang/Throwable" "java/lang/Throwable" "stackTrace" "[Ljava/lang/StackTraceElement;") ∈ lw_all := lw_g (lw_at lw_m6 144 rfl) rfl
theorem q1635 : (Jvm.Cond.lays "java/lang/Throwable" "java/lang/Throwable" "suppressedExceptions" "Ljava/util/List;") ∈ lw_all := lw_g (lw_at lw_m6 146 rfl) rfl
theorem q1637 : (Jvm.Cond.lays "java/lang/Throwable" "java/lang/Throwable" "detailMessage" "Ljava/lang/String;") ∈ lw_all := lw_g (lw_at lw_m6 148 rfl) rfl
theorem q1639 : (Jvm.Cond.lays "java/lang/Throwable" "java/lang/Throwable" "backtrace" "Ljava/lang/Object;") ∈ lw_all := lw_g (lw_at lw_m6 150 rfl) rfl
theorem q1640 : (Jvm.Cond.fieldLink "java/lang/Throwable" (198 : Nat) "java/lang/Throwable" "backtrace" "Ljava/lang/Object;") ∈ lw_all := lw_g (lw_at lw_m6 151 rfl) rfl
theorem q1641 : (Jvm.Cond.superclass "java/lang/Throwable" "java/lang/Object") ∈ lw_all := lw_g (lw_at lw_m6 152 rfl) rfl
theorem q1642 : (Jvm.Cond.instanceMethod ({ cls := "java/lang/Throwable", name := "<init>", desc := "()V" } : Jvm.MethodName)) ∈ lw_all := lw_g (lw_at lw_m6 153 rfl) rfl
theorem q1643 : (Jvm.Cond.code ({ cls := "java/lang/Throwable", name := "<init>", desc := "()V" } : Jvm.MethodName) prog_35_method_1_code (1 : Nat) (Option.none : Option Jvm.ClassFile.FieldType)) ∈ lw_all := lw_g (lw_at lw_m6 154 rfl) rfl
theorem q1644 : (Jvm.Cond.methodLink "java/lang/Throwable" (1 : Nat) ({ cls := "java/lang/Object", name := "<init>", desc := "()V" } : Jvm.MethodName)) ∈ lw_all := lw_g (lw_at lw_m6 155 rfl) rfl
theorem q1645 : (Jvm.Cond.fieldLink "java/lang/Throwable" (13 : Nat) "java/lang/Throwable" "UNASSIGNED_STACK" "[Ljava/lang/StackTraceElement;") ∈ lw_all := lw_g (lw_at lw_m6 156 rfl) rfl
theorem q1646 : (Jvm.Cond.laysStatic "java/lang/Throwable" "UNASSIGNED_STACK" "[Ljava/lang/StackTraceElement;") ∈ lw_tbl := lw_at lw_m6 157 rfl
theorem q1647 : (Jvm.Cond.fieldLink "java/lang/Throwable" (20 : Nat) "java/lang/Throwable" "SUPPRESSED_SENTINEL" "Ljava/util/List;") ∈ lw_all := lw_g (lw_at lw_m6 158 rfl) rfl
theorem q1648 : (Jvm.Cond.laysStatic "java/lang/Throwable" "SUPPRESSED_SENTINEL" "Ljava/util/List;") ∈ lw_tbl := lw_at lw_m6 159 rfl
theorem q1649 : (Jvm.Cond.methodLink "java/lang/Throwable" (27 : Nat) ({ cls := "java/lang/Throwable", name := "fillInStackTrace", desc := "()Ljava/lang/Throwable;" } : Jvm.MethodName)) ∈ lw_all := lw_g (lw_at lw_m6 160 rfl) rfl
theorem q1650 : (Jvm.Cond.instanceMethod ({ cls := "java/lang/Throwable", name := "fillInStackTrace", desc := "()Ljava/lang/Throwable;" } : Jvm.MethodName)) ∈ lw_all := lw_g (lw_at lw_m6 161 rfl) rfl
theorem q1651 : (Jvm.Cond.sameMethod "java/lang/Throwable" "java/lang/Throwable" "fillInStackTrace" "()Ljava/lang/Throwable;") ∈ lw_all := lw_g (lw_at lw_m6 162 rfl) rfl
theorem q1652 : (Jvm.Cond.codeSync ({ cls := "java/lang/Throwable", name := "fillInStackTrace", desc := "()Ljava/lang/Throwable;" } : Jvm.MethodName) prog_35_method_18_code (1 : Nat) (Option.some (Jvm.ClassFile.FieldType.object "java/lang/Throwable"))) ∈ lw_all := lw_g (lw_at lw_m6 163 rfl) rfl
theorem q1653 : (Jvm.Cond.methodLink "java/lang/Throwable" (202 : Nat) ({ cls := "java/lang/Throwable", name := "fillInStackTrace", desc := "(I)Ljava/lang/Throwable;" } : Jvm.MethodName)) ∈ lw_all := lw_g (lw_at lw_m6 164 rfl) rfl
theorem q1654 : (Jvm.Cond.privateMethod ({ cls := "java/lang/Throwable", name := "fillInStackTrace", desc := "(I)Ljava/lang/Throwable;" } : Jvm.MethodName)) ∈ lw_tbl := lw_at lw_m6 165 rfl
theorem q1655 : (Jvm.Cond.instanceMethod ({ cls := "java/lang/Throwable", name := "fillInStackTrace", desc := "(I)Ljava/lang/Throwable;" } : Jvm.MethodName)) ∈ lw_all := lw_g (lw_at lw_m6 166 rfl) rfl
theorem q1656 : (Jvm.Cond.instantiable "java/lang/Throwable" (6 : Nat)) ∈ lw_all := lw_g (lw_at lw_m6 167 rfl) rfl
theorem q1657 : (Jvm.Cond.native ({ cls := "java/lang/Throwable", name := "fillInStackTrace", desc := "(I)Ljava/lang/Throwable;" } : Jvm.MethodName)) ∈ lw_all := lw_g (lw_at lw_m6 168 rfl) rfl
theorem q1669 : (Jvm.Cond.instanceMethod ({ cls := "java/lang/Throwable", name := "<init>", desc := "(Ljava/lang/String;)V" } : Jvm.MethodName)) ∈ lw_all := lw_g (lw_at lw_m6 180 rfl) rfl
theorem q1670 : (Jvm.Cond.code ({ cls := "java/lang/Throwable", name := "<init>", desc := "(Ljava/lang/String;)V" } : Jvm.MethodName) prog_35_method_2_code (2 : Nat) (Option.none : Option Jvm.ClassFile.FieldType)) ∈ lw_all := lw_g (lw_at lw_m6 181 rfl) rfl
theorem q1671 : (Jvm.Cond.fieldLink "java/lang/Throwable" (198 : Nat) "java/lang/Throwable" "backtrace" "Ljava/lang/Object;") ∈ lw_all := lw_g (lw_at lw_m6 182 rfl) rfl
theorem q1672 : (Jvm.Cond.fieldLink "java/lang/Throwable" (31 : Nat) "java/lang/Throwable" "detailMessage" "Ljava/lang/String;") ∈ lw_all := lw_g (lw_at lw_m6 183 rfl) rfl
theorem q1673 : (Jvm.Cond.fieldLink "java/lang/Throwable" (7 : Nat) "java/lang/Throwable" "cause" "Ljava/lang/Throwable;") ∈ lw_all := lw_g (lw_at lw_m6 184 rfl) rfl
theorem q1674 : (Jvm.Cond.fieldLink "java/lang/Throwable" (17 : Nat) "java/lang/Throwable" "stackTrace" "[Ljava/lang/StackTraceElement;") ∈ lw_all := lw_g (lw_at lw_m6 185 rfl) rfl
theorem q1675 : (Jvm.Cond.fieldLink "java/lang/Throwable" (24 : Nat) "java/lang/Throwable" "suppressedExceptions" "Ljava/util/List;") ∈ lw_all := lw_g (lw_at lw_m6 186 rfl) rfl
theorem q1676 : (Jvm.Cond.soleField "java/lang/Throwable" "backtrace") ∈ lw_all := lw_g (lw_at lw_m6 187 rfl) rfl
theorem q1677 : (Jvm.Cond.soleField "java/lang/Throwable" "detailMessage") ∈ lw_all := lw_g (lw_at lw_m6 188 rfl) rfl
theorem q1678 : (Jvm.Cond.soleField "java/lang/Throwable" "cause") ∈ lw_all := lw_g (lw_at lw_m6 189 rfl) rfl
theorem q1679 : (Jvm.Cond.soleField "java/lang/Throwable" "stackTrace") ∈ lw_all := lw_g (lw_at lw_m6 190 rfl) rfl
theorem q1681 : (Jvm.Cond.soleField "java/lang/Throwable" "depth") ∈ lw_all := lw_g (lw_at lw_m6 192 rfl) rfl
theorem q1682 : (Jvm.Cond.soleField "java/lang/Throwable" "suppressedExceptions") ∈ lw_all := lw_g (lw_at lw_m6 193 rfl) rfl
theorem q3574 : (Jvm.Cond.sameMethod "java/lang/Throwable" "java/lang/Throwable" "fillInStackTrace" "(I)Ljava/lang/Throwable;") ∈ lw_all := lw_g (lw_at lw_m14 165 rfl) rfl
theorem in_J7 : ∀ w ∈ wsJ70, w ∈ lw_all := lw_in wsJ70 [1631, 1633, 1635, 1637, 1639] (by decide +kernel) (by decide +kernel)
/-! java/lang/Exception -/
def RJ8 : String := "java/lang/Exception"
abbrev cJ8_init : ByteArray := prog_26_method_2_code
def yJ8_init : MethodName := ⟨RJ8, "<init>", "(Ljava/lang/String;)V"⟩
theorem q321 : (Jvm.Cond.initialized "java/lang/Exception") ∈ lw_all := lw_g (lw_at lw_m1 32 rfl) rfl
theorem q1624 : (Jvm.Cond.declares ({ cls := "java/lang/Exception", name := "<init>", desc := "()V" } : Jvm.MethodName)) ∈ lw_tbl := lw_at lw_m6 135 rfl
theorem q1625 : (Jvm.Cond.declares ({ cls := "java/lang/Exception", name := "<init>", desc := "(Ljava/lang/String;)V" } : Jvm.MethodName)) ∈ lw_tbl := lw_at lw_m6 136 rfl
theorem q1666 : (Jvm.Cond.instanceMethod ({ cls := "java/lang/Exception", name := "<init>", desc := "(Ljava/lang/String;)V" } : Jvm.MethodName)) ∈ lw_all := lw_g (lw_at lw_m6 177 rfl) rfl
theorem q1667 : (Jvm.Cond.code ({ cls := "java/lang/Exception", name := "<init>", desc := "(Ljava/lang/String;)V" } : Jvm.MethodName) prog_26_method_2_code (2 : Nat) (Option.none : Option Jvm.ClassFile.FieldType)) ∈ lw_all := lw_g (lw_at lw_m6 178 rfl) rfl
theorem q1668 : (Jvm.Cond.methodLink "java/lang/Exception" (7 : Nat) ({ cls := "java/lang/Throwable", name := "<init>", desc := "(Ljava/lang/String;)V" } : Jvm.MethodName)) ∈ lw_all := lw_g (lw_at lw_m6 179 rfl) rfl
/-! java/lang/RuntimeException -/
def RJ9 : String := "java/lang/RuntimeException"
abbrev cJ9_init : ByteArray := prog_30_method_2_code
def yJ9_init : MethodName := ⟨RJ9, "<init>", "(Ljava/lang/String;)V"⟩
theorem q322 : (Jvm.Cond.initialized "java/lang/RuntimeException") ∈ lw_all := lw_g (lw_at lw_m1 33 rfl) rfl
theorem q1622 : (Jvm.Cond.declares ({ cls := "java/lang/RuntimeException", name := "<init>", desc := "()V" } : Jvm.MethodName)) ∈ lw_tbl := lw_at lw_m6 133 rfl
theorem q1623 : (Jvm.Cond.declares ({ cls := "java/lang/RuntimeException", name := "<init>", desc := "(Ljava/lang/String;)V" } : Jvm.MethodName)) ∈ lw_tbl := lw_at lw_m6 134 rfl
theorem q1663 : (Jvm.Cond.instanceMethod ({ cls := "java/lang/RuntimeException", name := "<init>", desc := "(Ljava/lang/String;)V" } : Jvm.MethodName)) ∈ lw_all := lw_g (lw_at lw_m6 174 rfl) rfl
theorem q1664 : (Jvm.Cond.code ({ cls := "java/lang/RuntimeException", name := "<init>", desc := "(Ljava/lang/String;)V" } : Jvm.MethodName) prog_30_method_2_code (2 : Nat) (Option.none : Option Jvm.ClassFile.FieldType)) ∈ lw_all := lw_g (lw_at lw_m6 175 rfl) rfl
theorem q1665 : (Jvm.Cond.methodLink "java/lang/RuntimeException" (7 : Nat) ({ cls := "java/lang/Exception", name := "<init>", desc := "(Ljava/lang/String;)V" } : Jvm.MethodName)) ∈ lw_all := lw_g (lw_at lw_m6 176 rfl) rfl
/-! CircuitWarden -/
def RX0 : String := "CircuitWarden"
def TX0 : u_T := fun k => match k with
  | 0 => ("CircuitWarden", "tape", "LCircuitWarden$Bytes;", true)
  | 1 => ("CircuitWarden", "names", "LCircuitWarden$Names;", true)
  | 2 => ("CircuitWarden", "tree", "LCircuitWarden$Tree;", true)
  | 3 => ("CircuitWarden", "reader", "LCircuitWarden$Reader;", true)
  | 4 => ("CircuitWarden", "design", "LCircuitWarden$Design;", true)
  | 5 => ("CircuitWarden", "levels", "LCircuitWarden$Levels;", true)
  | 6 => ("CircuitWarden", "labels", "LCircuitWarden$Labels;", true)
  | 7 => ("CircuitWarden", "ways", "LCircuitWarden$Ways;", true)
  | 8 => ("CircuitWarden", "gates", "LCircuitWarden$Gates;", true)
  | 9 => ("CircuitWarden", "source", "LCircuitWarden$Source;", true)
  | 10 => ("CircuitWarden", "otherSource", "LCircuitWarden$Source;", true)
  | 11 => ("CircuitWarden", "net", "LCircuitWarden$NetRun;", true)
  | 12 => ("CircuitWarden", "otherNet", "LCircuitWarden$NetRun;", true)
  | 13 => ("CircuitWarden", "ended", "Z", false)
  | 14 => ("CircuitWarden", "wrong", "I", false)
  | 15 => ("CircuitWarden", "place", "I", false)
  | 16 => ("CircuitWarden", "leakedAt", "I", false)
  | 17 => ("CircuitWarden", "wayCount", "I", false)
  | 18 => ("CircuitWarden", "runs", "Z", false)
  | 19 => ("CircuitWarden", "observer", "I", false)
  | _ => ("CircuitWarden", "cycles", "I", false)
def tyX0 : Nat → FieldType := fun k => match k with
  | 0 => .object "CircuitWarden$Bytes"
  | 1 => .object "CircuitWarden$Names"
  | 2 => .object "CircuitWarden$Tree"
  | 3 => .object "CircuitWarden$Reader"
  | 4 => .object "CircuitWarden$Design"
  | 5 => .object "CircuitWarden$Levels"
  | 6 => .object "CircuitWarden$Labels"
  | 7 => .object "CircuitWarden$Ways"
  | 8 => .object "CircuitWarden$Gates"
  | 9 => .object "CircuitWarden$Source"
  | 10 => .object "CircuitWarden$Source"
  | 11 => .object "CircuitWarden$NetRun"
  | 12 => .object "CircuitWarden$NetRun"
  | 13 => .boolean
  | 14 => .int
  | 15 => .int
  | 16 => .int
  | 17 => .int
  | 18 => .boolean
  | 19 => .int
  | _ => .int
abbrev wsX00 : List Cond := u_ws RX0 TX0 21
theorem nmX0 : ∀ a, a < 21 → ∀ b, b < 21 → a ≠ b → (TX0 a).2.1 ≠ (TX0 b).2.1 := by decide +kernel
theorem tyX0_ok : ∀ k, k < 21 → parseFieldDescriptor (TX0 k).2.2.1 = some (tyX0 k) := by decide +kernel
abbrev cX0_init : ByteArray := prog_1_method_6_code
def yX0_init : MethodName := ⟨RX0, "<init>", "()V"⟩
abbrev cX0_grown : ByteArray := prog_1_method_1_code
def yX0_grown : MethodName := ⟨RX0, "grown", "([II)[I"⟩
abbrev cX0_empty : ByteArray := prog_1_method_7_code
def yX0_empty : MethodName := ⟨RX0, "empty", "()V"⟩
abbrev cX0_valueOf : ByteArray := prog_1_method_4_code
def yX0_valueOf : MethodName := ⟨RX0, "valueOf", "(LCircuitWarden$Design;I[J)J"⟩
abbrev cX0_mask : ByteArray := prog_1_method_2_code
def yX0_mask : MethodName := ⟨RX0, "mask", "(I)J"⟩
abbrev cX0_truth : ByteArray := prog_1_method_3_code
def yX0_truth : MethodName := ⟨RX0, "truth", "(Z)I"⟩
abbrev cX0_operated : ByteArray := prog_1_method_5_code
def yX0_operated : MethodName := ⟨RX0, "operated", "(IIJJ)J"⟩
abbrev cX0_feed : ByteArray := prog_1_method_9_code
def yX0_feed : MethodName := ⟨RX0, "feed", "(IIIII)I"⟩
abbrev cX0_four : ByteArray := prog_1_method_8_code
def yX0_four : MethodName := ⟨RX0, "four", "(I)V"⟩
abbrev cX0_end : ByteArray := prog_1_method_12_code
def yX0_end : MethodName := ⟨RX0, "end", "(I)I"⟩
abbrev cX0_judged : ByteArray := prog_1_method_11_code
def yX0_judged : MethodName := ⟨RX0, "judged", "()I"⟩
abbrev cX0_joins : ByteArray := prog_1_method_10_code
def yX0_joins : MethodName := ⟨RX0, "joins", "()Z"⟩
abbrev cX0_told : ByteArray := prog_1_method_13_code
def yX0_told : MethodName := ⟨RX0, "told", "(I)I"⟩
abbrev cX0_count : ByteArray := prog_1_method_14_code
def yX0_count : MethodName := ⟨RX0, "count", "(I)I"⟩
abbrev cX0_item : ByteArray := prog_1_method_16_code
def yX0_item : MethodName := ⟨RX0, "item", "(II)I"⟩
abbrev cX0_isItem : ByteArray := prog_1_method_15_code
def yX0_isItem : MethodName := ⟨RX0, "isItem", "(I)Z"⟩
abbrev cX0_label : ByteArray := prog_1_method_17_code
def yX0_label : MethodName := ⟨RX0, "label", "(IIZ)I"⟩
abbrev cX0_join : ByteArray := prog_1_method_19_code
def yX0_join : MethodName := ⟨RX0, "join", "(II)I"⟩
abbrev cX0_isLevel : ByteArray := prog_1_method_18_code
def yX0_isLevel : MethodName := ⟨RX0, "isLevel", "(I)Z"⟩
abbrev cX0_gate : ByteArray := prog_1_method_20_code
def yX0_gate : MethodName := ⟨RX0, "gate", "(ZII)I"⟩
abbrev cX0_literal : ByteArray := prog_1_method_21_code
def yX0_literal : MethodName := ⟨RX0, "literal", "(III)I"⟩
abbrev cX0_begin : ByteArray := prog_1_method_22_code
def yX0_begin : MethodName := ⟨RX0, "begin", "(I)I"⟩
abbrev cX0_drive : ByteArray := prog_1_method_26_code
def yX0_drive : MethodName := ⟨RX0, "drive", "(IIJ)I"⟩
abbrev cX0_isRun : ByteArray := prog_1_method_25_code
def yX0_isRun : MethodName := ⟨RX0, "isRun", "(I)Z"⟩
abbrev cX0_sourceOf : ByteArray := prog_1_method_23_code
def yX0_sourceOf : MethodName := ⟨RX0, "sourceOf", "(I)LCircuitWarden$Source;"⟩
abbrev cX0_netOf : ByteArray := prog_1_method_24_code
def yX0_netOf : MethodName := ⟨RX0, "netOf", "(I)LCircuitWarden$NetRun;"⟩
abbrev cX0_step : ByteArray := prog_1_method_30_code
def yX0_step : MethodName := ⟨RX0, "step", "(I)I"⟩
abbrev cX0_cycle : ByteArray := prog_1_method_29_code
def yX0_cycle : MethodName := ⟨RX0, "cycle", "()V"⟩
abbrev cX0_taintAll : ByteArray := prog_1_method_28_code
def yX0_taintAll : MethodName := ⟨RX0, "taintAll", "()V"⟩
abbrev cX0_modesNow : ByteArray := prog_1_method_27_code
def yX0_modesNow : MethodName := ⟨RX0, "modesNow", "()I"⟩
abbrev cX0_value : ByteArray := prog_1_method_31_code
def yX0_value : MethodName := ⟨RX0, "value", "(IIZ)J"⟩
abbrev cX0_taint : ByteArray := prog_1_method_32_code
def yX0_taint : MethodName := ⟨RX0, "taint", "(I)J"⟩
abbrev cX0_broken : ByteArray := prog_1_method_33_code
def yX0_broken : MethodName := ⟨RX0, "broken", "()I"⟩
theorem q290 : (Jvm.Cond.initialized "CircuitWarden") ∈ lw_all := lw_g (lw_at lw_m1 1 rfl) rfl
theorem q325 : (Jvm.Cond.instantiable "CircuitWarden" (21 : Nat)) ∈ lw_all := lw_g (lw_at lw_m1 36 rfl) rfl
theorem q327 : (Jvm.Cond.instanceMethod ({ cls := "CircuitWarden", name := "<init>", desc := "()V" } : Jvm.MethodName)) ∈ lw_all := lw_g (lw_at lw_m1 38 rfl) rfl
theorem q328 : (Jvm.Cond.code ({ cls := "CircuitWarden", name := "<init>", desc := "()V" } : Jvm.MethodName) prog_1_method_6_code (1 : Nat) (Option.none : Option Jvm.ClassFile.FieldType)) ∈ lw_all := lw_g (lw_at lw_m1 39 rfl) rfl
theorem q329 : (Jvm.Cond.methodLink "CircuitWarden" (47 : Nat) ({ cls := "java/lang/Object", name := "<init>", desc := "()V" } : Jvm.MethodName)) ∈ lw_all := lw_g (lw_at lw_m1 40 rfl) rfl
theorem q332 : (Jvm.Cond.classLink "CircuitWarden" (53 : Nat) "CircuitWarden$Bytes") ∈ lw_all := lw_g (lw_at lw_m1 43 rfl) rfl
theorem q334 : (Jvm.Cond.methodLinkNest "CircuitWarden" (55 : Nat) ({ cls := "CircuitWarden$Bytes", name := "<init>", desc := "()V" } : Jvm.MethodName) "CircuitWarden") ∈ lw_tbl := lw_at lw_m1 45 rfl
theorem q341 : (Jvm.Cond.fieldLinkNest "CircuitWarden" (175 : Nat) "CircuitWarden$Bytes" "size" "I" "CircuitWarden") ∈ lw_tbl := lw_at lw_m1 52 rfl
theorem q348 : (Jvm.Cond.classLink "CircuitWarden" (60 : Nat) "CircuitWarden$Names") ∈ lw_all := lw_g (lw_at lw_m1 59 rfl) rfl
theorem q350 : (Jvm.Cond.methodLinkNest "CircuitWarden" (62 : Nat) ({ cls := "CircuitWarden$Names", name := "<init>", desc := "()V" } : Jvm.MethodName) "CircuitWarden") ∈ lw_tbl := lw_at lw_m1 61 rfl
theorem q372 : (Jvm.Cond.classLink "CircuitWarden" (67 : Nat) "CircuitWarden$Tree") ∈ lw_all := lw_g (lw_at lw_m1 83 rfl) rfl
theorem q374 : (Jvm.Cond.methodLink "CircuitWarden" (69 : Nat) ({ cls := "CircuitWarden$Tree", name := "<init>", desc := "()V" } : Jvm.MethodName)) ∈ lw_all := lw_g (lw_at lw_m1 85 rfl) rfl
theorem q394 : (Jvm.Cond.static ({ cls := "CircuitWarden", name := "grown", desc := "([II)[I" } : Jvm.MethodName)) ∈ lw_all := lw_g (lw_at lw_m1 105 rfl) rfl
theorem q395 : (Jvm.Cond.code ({ cls := "CircuitWarden", name := "grown", desc := "([II)[I" } : Jvm.MethodName) prog_1_method_1_code (3 : Nat) (Option.some (Jvm.ClassFile.FieldType.array Jvm.ClassFile.FieldType.int))) ∈ lw_all := lw_g (lw_at lw_m1 106 rfl) rfl
theorem q396 : (Jvm.Cond.methodLink "CircuitWarden" (1 : Nat) ({ cls := "java/lang/System", name := "arraycopy", desc := "(Ljava/lang/Object;ILjava/lang/Object;II)V" } : Jvm.MethodName)) ∈ lw_all := lw_g (lw_at lw_m1 107 rfl) rfl
theorem q407 : (Jvm.Cond.fieldLinkNest "CircuitWarden" (217 : Nat) "CircuitWarden$Tree" "places" "[I" "CircuitWarden") ∈ lw_tbl := lw_at lw_m1 118 rfl
theorem q427 : (Jvm.Cond.classLink "CircuitWarden" (74 : Nat) "CircuitWarden$Reader") ∈ lw_all := lw_g (lw_at lw_m1 138 rfl) rfl
theorem q429 : (Jvm.Cond.methodLink "CircuitWarden" (76 : Nat) ({ cls := "CircuitWarden$Reader", name := "<init>", desc := "(LCircuitWarden$Names;)V" } : Jvm.MethodName)) ∈ lw_all := lw_g (lw_at lw_m1 140 rfl) rfl
theorem q498 : (Jvm.Cond.classLink "CircuitWarden" (8 : Nat) "CircuitWarden$Design") ∈ lw_all := lw_g (lw_at lw_m1 209 rfl) rfl
theorem q500 : (Jvm.Cond.methodLink "CircuitWarden" (83 : Nat) ({ cls := "CircuitWarden$Design", name := "<init>", desc := "(LCircuitWarden$Names;)V" } : Jvm.MethodName)) ∈ lw_all := lw_g (lw_at lw_m1 211 rfl) rfl
theorem q509 : (Jvm.Cond.fieldLinkNest "CircuitWarden" (25 : Nat) "CircuitWarden$Design" "op" "[I" "CircuitWarden") ∈ lw_tbl := lw_at lw_m1 220 rfl
theorem q513 : (Jvm.Cond.fieldLinkNest "CircuitWarden" (16 : Nat) "CircuitWarden$Design" "width" "[I" "CircuitWarden") ∈ lw_tbl := lw_at lw_m1 224 rfl
theorem q516 : (Jvm.Cond.fieldLinkNest "CircuitWarden" (7 : Nat) "CircuitWarden$Design" "a" "[I" "CircuitWarden") ∈ lw_tbl := lw_at lw_m1 227 rfl
theorem q521 : (Jvm.Cond.fieldLinkNest "CircuitWarden" (13 : Nat) "CircuitWarden$Design" "b" "[I" "CircuitWarden") ∈ lw_tbl := lw_at lw_m1 232 rfl
theorem q525 : (Jvm.Cond.fieldLinkNest "CircuitWarden" (28 : Nat) "CircuitWarden$Design" "c" "[I" "CircuitWarden") ∈ lw_tbl := lw_at lw_m1 236 rfl
theorem q539 : (Jvm.Cond.fieldLinkNest "CircuitWarden" (278 : Nat) "CircuitWarden$Design" "kinds" "[I" "CircuitWarden") ∈ lw_tbl := lw_at lw_m2 10 rfl
theorem q544 : (Jvm.Cond.fieldLinkNest "CircuitWarden" (281 : Nat) "CircuitWarden$Design" "widths" "[I" "CircuitWarden") ∈ lw_tbl := lw_at lw_m2 15 rfl
theorem q550 : (Jvm.Cond.fieldLinkNest "CircuitWarden" (220 : Nat) "CircuitWarden$Design" "nodes" "[I" "CircuitWarden") ∈ lw_tbl := lw_at lw_m2 21 rfl
theorem q554 : (Jvm.Cond.fieldLinkNest "CircuitWarden" (284 : Nat) "CircuitWarden$Design" "labels" "[I" "CircuitWarden") ∈ lw_tbl := lw_at lw_m2 25 rfl
theorem q570 : (Jvm.Cond.fieldLinkNest "CircuitWarden" (253 : Nat) "CircuitWarden$Design" "signals" "I" "CircuitWarden") ∈ lw_tbl := lw_at lw_m2 41 rfl
theorem q574 : (Jvm.Cond.fieldLinkNest "CircuitWarden" (271 : Nat) "CircuitWarden$Design" "modeBits" "I" "CircuitWarden") ∈ lw_tbl := lw_at lw_m2 45 rfl
theorem q610 : (Jvm.Cond.fieldLinkNest "CircuitWarden" (182 : Nat) "CircuitWarden$Design" "levels" "I" "CircuitWarden") ∈ lw_tbl := lw_at lw_m2 81 rfl
theorem q613 : (Jvm.Cond.fieldLinkNest "CircuitWarden" (187 : Nat) "CircuitWarden$Design" "higher" "[I" "CircuitWarden") ∈ lw_tbl := lw_at lw_m2 84 rfl
theorem q615 : (Jvm.Cond.fieldLinkNest "CircuitWarden" (190 : Nat) "CircuitWarden$Design" "lower" "[I" "CircuitWarden") ∈ lw_tbl := lw_at lw_m2 86 rfl
theorem q616 : (Jvm.Cond.fieldLinkNest "CircuitWarden" (184 : Nat) "CircuitWarden$Design" "edges" "I" "CircuitWarden") ∈ lw_tbl := lw_at lw_m2 87 rfl
theorem q619 : (Jvm.Cond.fieldLinkNest "CircuitWarden" (198 : Nat) "CircuitWarden$Design" "wrong" "I" "CircuitWarden") ∈ lw_tbl := lw_at lw_m2 90 rfl
theorem q621 : (Jvm.Cond.fieldLinkNest "CircuitWarden" (202 : Nat) "CircuitWarden$Design" "place" "I" "CircuitWarden") ∈ lw_tbl := lw_at lw_m2 92 rfl
theorem q740 : (Jvm.Cond.classLink "CircuitWarden" (88 : Nat) "CircuitWarden$Levels") ∈ lw_all := lw_g (lw_at lw_m2 211 rfl) rfl
theorem q742 : (Jvm.Cond.methodLinkNest "CircuitWarden" (90 : Nat) ({ cls := "CircuitWarden$Levels", name := "<init>", desc := "()V" } : Jvm.MethodName) "CircuitWarden") ∈ lw_tbl := lw_at lw_m2 213 rfl
theorem q749 : (Jvm.Cond.fieldLinkNest "CircuitWarden" (250 : Nat) "CircuitWarden$Levels" "count" "I" "CircuitWarden") ∈ lw_tbl := lw_at lw_m2 220 rfl
theorem q757 : (Jvm.Cond.classLink "CircuitWarden" (95 : Nat) "CircuitWarden$Labels") ∈ lw_all := lw_g (lw_at lw_m2 228 rfl) rfl
theorem q759 : (Jvm.Cond.methodLink "CircuitWarden" (97 : Nat) ({ cls := "CircuitWarden$Labels", name := "<init>", desc := "(LCircuitWarden$Design;LCircuitWarden$Levels;)V" } : Jvm.MethodName)) ∈ lw_all := lw_g (lw_at lw_m2 230 rfl) rfl
theorem q791 : (Jvm.Cond.classLink "CircuitWarden" (104 : Nat) "CircuitWarden$Ways") ∈ lw_all := lw_g (lw_at lw_m3 22 rfl) rfl
theorem q793 : (Jvm.Cond.methodLink "CircuitWarden" (106 : Nat) ({ cls := "CircuitWarden$Ways", name := "<init>", desc := "(LCircuitWarden$Design;LCircuitWarden$Levels;LCircuitWarden$Labels;)V" } : Jvm.MethodName)) ∈ lw_all := lw_g (lw_at lw_m3 24 rfl) rfl
theorem q822 : (Jvm.Cond.fieldLinkNest "CircuitWarden" (209 : Nat) "CircuitWarden$Ways" "ways" "I" "CircuitWarden") ∈ lw_tbl := lw_at lw_m3 53 rfl
theorem q881 : (Jvm.Cond.classLink "CircuitWarden" (113 : Nat) "CircuitWarden$Gates") ∈ lw_all := lw_g (lw_at lw_m3 112 rfl) rfl
theorem q883 : (Jvm.Cond.methodLink "CircuitWarden" (115 : Nat) ({ cls := "CircuitWarden$Gates", name := "<init>", desc := "(LCircuitWarden$Design;LCircuitWarden$Ways;)V" } : Jvm.MethodName)) ∈ lw_all := lw_g (lw_at lw_m3 114 rfl) rfl
theorem q897 : (Jvm.Cond.fieldLinkNest "CircuitWarden" (305 : Nat) "CircuitWarden$Net" "first" "[I" "CircuitWarden") ∈ lw_tbl := lw_at lw_m3 128 rfl
theorem q901 : (Jvm.Cond.fieldLinkNest "CircuitWarden" (308 : Nat) "CircuitWarden$Net" "second" "[I" "CircuitWarden") ∈ lw_tbl := lw_at lw_m3 132 rfl
theorem q906 : (Jvm.Cond.fieldLinkNest "CircuitWarden" (259 : Nat) "CircuitWarden$Net" "count" "I" "CircuitWarden") ∈ lw_tbl := lw_at lw_m3 137 rfl
theorem q937 : (Jvm.Cond.fieldLinkNest "CircuitWarden" (266 : Nat) "CircuitWarden$Twin" "made" "LCircuitWarden$Net;" "CircuitWarden") ∈ lw_tbl := lw_at lw_m3 168 rfl
theorem q951 : (Jvm.Cond.fieldLinkNest "CircuitWarden" (256 : Nat) "CircuitWarden$Gates" "net" "LCircuitWarden$Net;" "CircuitWarden") ∈ lw_tbl := lw_at lw_m3 182 rfl
theorem q954 : (Jvm.Cond.fieldLinkNest "CircuitWarden" (262 : Nat) "CircuitWarden$Gates" "twin" "LCircuitWarden$Twin;" "CircuitWarden") ∈ lw_tbl := lw_at lw_m3 185 rfl
theorem q1000 : (Jvm.Cond.classLink "CircuitWarden" (122 : Nat) "CircuitWarden$Source") ∈ lw_all := lw_g (lw_at lw_m3 231 rfl) rfl
theorem q1002 : (Jvm.Cond.methodLink "CircuitWarden" (124 : Nat) ({ cls := "CircuitWarden$Source", name := "<init>", desc := "(LCircuitWarden$Design;)V" } : Jvm.MethodName)) ∈ lw_all := lw_g (lw_at lw_m3 233 rfl) rfl
theorem q1009 : (Jvm.Cond.fieldLinkNest "CircuitWarden" (336 : Nat) "CircuitWarden$Source" "now" "[J" "CircuitWarden") ∈ lw_tbl := lw_at lw_m4 0 rfl
theorem q1023 : (Jvm.Cond.classLink "CircuitWarden" (134 : Nat) "CircuitWarden$NetRun") ∈ lw_all := lw_g (lw_at lw_m4 14 rfl) rfl
theorem q1025 : (Jvm.Cond.methodLink "CircuitWarden" (136 : Nat) ({ cls := "CircuitWarden$NetRun", name := "<init>", desc := "(LCircuitWarden$Design;LCircuitWarden$Gates;)V" } : Jvm.MethodName)) ∈ lw_all := lw_g (lw_at lw_m4 16 rfl) rfl
theorem q1044 : (Jvm.Cond.fieldLinkNest "CircuitWarden" (344 : Nat) "CircuitWarden$NetRun" "values" "[J" "CircuitWarden") ∈ lw_tbl := lw_at lw_m4 35 rfl
theorem q1046 : (Jvm.Cond.fieldLinkNest "CircuitWarden" (350 : Nat) "CircuitWarden$NetRun" "taints" "[J" "CircuitWarden") ∈ lw_tbl := lw_at lw_m4 37 rfl
theorem q1060 : (Jvm.Cond.methodLink "CircuitWarden" (146 : Nat) ({ cls := "CircuitWarden$Tree", name := "end", desc := "(I)V" } : Jvm.MethodName)) ∈ lw_all := lw_g (lw_at lw_m4 51 rfl) rfl
theorem q1064 : (Jvm.Cond.methodLink "CircuitWarden" (150 : Nat) ({ cls := "CircuitWarden", name := "empty", desc := "()V" } : Jvm.MethodName)) ∈ lw_all := lw_g (lw_at lw_m4 55 rfl) rfl
theorem q1065 : (Jvm.Cond.privateMethod ({ cls := "CircuitWarden", name := "empty", desc := "()V" } : Jvm.MethodName)) ∈ lw_tbl := lw_at lw_m4 56 rfl
theorem q1066 : (Jvm.Cond.instanceMethod ({ cls := "CircuitWarden", name := "empty", desc := "()V" } : Jvm.MethodName)) ∈ lw_all := lw_g (lw_at lw_m4 57 rfl) rfl
theorem q1067 : (Jvm.Cond.code ({ cls := "CircuitWarden", name := "empty", desc := "()V" } : Jvm.MethodName) prog_1_method_7_code (2 : Nat) (Option.none : Option Jvm.ClassFile.FieldType)) ∈ lw_all := lw_g (lw_at lw_m4 58 rfl) rfl
theorem q1068 : (Jvm.Cond.methodLink "CircuitWarden" (153 : Nat) ({ cls := "CircuitWarden$Design", name := "none", desc := "()V" } : Jvm.MethodName)) ∈ lw_all := lw_g (lw_at lw_m4 59 rfl) rfl
theorem q1072 : (Jvm.Cond.methodLink "CircuitWarden" (156 : Nat) ({ cls := "CircuitWarden$Levels", name := "clear", desc := "()V" } : Jvm.MethodName)) ∈ lw_all := lw_g (lw_at lw_m4 63 rfl) rfl
theorem q1076 : (Jvm.Cond.methodLink "CircuitWarden" (159 : Nat) ({ cls := "CircuitWarden$Levels", name := "join", desc := "()Z" } : Jvm.MethodName)) ∈ lw_all := lw_g (lw_at lw_m4 67 rfl) rfl
theorem q1088 : (Jvm.Cond.methodLink "CircuitWarden" (163 : Nat) ({ cls := "CircuitWarden$Ways", name := "begin", desc := "()V" } : Jvm.MethodName)) ∈ lw_all := lw_g (lw_at lw_m4 79 rfl) rfl
theorem q1102 : (Jvm.Cond.methodLink "CircuitWarden" (166 : Nat) ({ cls := "CircuitWarden$Ways", name := "go", desc := "()Z" } : Jvm.MethodName)) ∈ lw_all := lw_g (lw_at lw_m4 93 rfl) rfl
theorem q1155 : (Jvm.Cond.static ({ cls := "CircuitWarden", name := "valueOf", desc := "(LCircuitWarden$Design;I[J)J" } : Jvm.MethodName)) ∈ lw_all := lw_g (lw_at lw_m4 146 rfl) rfl
theorem q1156 : (Jvm.Cond.code ({ cls := "CircuitWarden", name := "valueOf", desc := "(LCircuitWarden$Design;I[J)J" } : Jvm.MethodName) prog_1_method_4_code (10 : Nat) (Option.some Jvm.ClassFile.FieldType.long)) ∈ lw_all := lw_g (lw_at lw_m4 147 rfl) rfl
theorem q1157 : (Jvm.Cond.methodLink "CircuitWarden" (19 : Nat) ({ cls := "CircuitWarden", name := "mask", desc := "(I)J" } : Jvm.MethodName)) ∈ lw_all := lw_g (lw_at lw_m4 148 rfl) rfl
theorem q1158 : (Jvm.Cond.static ({ cls := "CircuitWarden", name := "mask", desc := "(I)J" } : Jvm.MethodName)) ∈ lw_all := lw_g (lw_at lw_m4 149 rfl) rfl
theorem q1159 : (Jvm.Cond.code ({ cls := "CircuitWarden", name := "mask", desc := "(I)J" } : Jvm.MethodName) prog_1_method_2_code (1 : Nat) (Option.some Jvm.ClassFile.FieldType.long)) ∈ lw_all := lw_g (lw_at lw_m4 150 rfl) rfl
theorem q1160 : (Jvm.Cond.constantLong "CircuitWarden" (31 : Nat) (-1 : Int64)) ∈ lw_all := lw_g (lw_at lw_m4 151 rfl) rfl
theorem q1161 : (Jvm.Cond.methodLink "CircuitWarden" (33 : Nat) ({ cls := "CircuitWarden", name := "truth", desc := "(Z)I" } : Jvm.MethodName)) ∈ lw_all := lw_g (lw_at lw_m4 152 rfl) rfl
theorem q1162 : (Jvm.Cond.static ({ cls := "CircuitWarden", name := "truth", desc := "(Z)I" } : Jvm.MethodName)) ∈ lw_all := lw_g (lw_at lw_m4 153 rfl) rfl
theorem q1163 : (Jvm.Cond.code ({ cls := "CircuitWarden", name := "truth", desc := "(Z)I" } : Jvm.MethodName) prog_1_method_3_code (1 : Nat) (Option.some Jvm.ClassFile.FieldType.int)) ∈ lw_all := lw_g (lw_at lw_m4 154 rfl) rfl
theorem q1164 : (Jvm.Cond.methodLink "CircuitWarden" (37 : Nat) ({ cls := "java/lang/Long", name := "bitCount", desc := "(J)I" } : Jvm.MethodName)) ∈ lw_all := lw_g (lw_at lw_m4 155 rfl) rfl
theorem q1170 : (Jvm.Cond.methodLink "CircuitWarden" (43 : Nat) ({ cls := "CircuitWarden", name := "operated", desc := "(IIJJ)J" } : Jvm.MethodName)) ∈ lw_all := lw_g (lw_at lw_m4 161 rfl) rfl
theorem q1171 : (Jvm.Cond.static ({ cls := "CircuitWarden", name := "operated", desc := "(IIJJ)J" } : Jvm.MethodName)) ∈ lw_all := lw_g (lw_at lw_m4 162 rfl) rfl
theorem q1172 : (Jvm.Cond.code ({ cls := "CircuitWarden", name := "operated", desc := "(IIJJ)J" } : Jvm.MethodName) prog_1_method_5_code (6 : Nat) (Option.some Jvm.ClassFile.FieldType.long)) ∈ lw_all := lw_g (lw_at lw_m4 163 rfl) rfl
theorem q1222 : (Jvm.Cond.methodLink "CircuitWarden" (169 : Nat) ({ cls := "CircuitWarden$Gates", name := "make", desc := "()Z" } : Jvm.MethodName)) ∈ lw_all := lw_g (lw_at lw_m4 213 rfl) rfl
theorem q1392 : (Jvm.Cond.fieldLink "CircuitWarden" (56 : Nat) "CircuitWarden" "tape" "LCircuitWarden$Bytes;") ∈ lw_all := lw_g (lw_at lw_m5 143 rfl) rfl
theorem q1393 : (Jvm.Cond.fieldLink "CircuitWarden" (63 : Nat) "CircuitWarden" "names" "LCircuitWarden$Names;") ∈ lw_all := lw_g (lw_at lw_m5 144 rfl) rfl
theorem q1394 : (Jvm.Cond.fieldLink "CircuitWarden" (70 : Nat) "CircuitWarden" "tree" "LCircuitWarden$Tree;") ∈ lw_all := lw_g (lw_at lw_m5 145 rfl) rfl
theorem q1395 : (Jvm.Cond.fieldLink "CircuitWarden" (79 : Nat) "CircuitWarden" "reader" "LCircuitWarden$Reader;") ∈ lw_all := lw_g (lw_at lw_m5 146 rfl) rfl
theorem q1396 : (Jvm.Cond.fieldLink "CircuitWarden" (84 : Nat) "CircuitWarden" "design" "LCircuitWarden$Design;") ∈ lw_all := lw_g (lw_at lw_m5 147 rfl) rfl
theorem q1397 : (Jvm.Cond.fieldLink "CircuitWarden" (91 : Nat) "CircuitWarden" "levels" "LCircuitWarden$Levels;") ∈ lw_all := lw_g (lw_at lw_m5 148 rfl) rfl
theorem q1398 : (Jvm.Cond.fieldLink "CircuitWarden" (100 : Nat) "CircuitWarden" "labels" "LCircuitWarden$Labels;") ∈ lw_all := lw_g (lw_at lw_m5 149 rfl) rfl
theorem q1399 : (Jvm.Cond.fieldLink "CircuitWarden" (109 : Nat) "CircuitWarden" "ways" "LCircuitWarden$Ways;") ∈ lw_all := lw_g (lw_at lw_m5 150 rfl) rfl
theorem q1400 : (Jvm.Cond.fieldLink "CircuitWarden" (118 : Nat) "CircuitWarden" "gates" "LCircuitWarden$Gates;") ∈ lw_all := lw_g (lw_at lw_m5 151 rfl) rfl
theorem q1401 : (Jvm.Cond.fieldLink "CircuitWarden" (127 : Nat) "CircuitWarden" "source" "LCircuitWarden$Source;") ∈ lw_all := lw_g (lw_at lw_m5 152 rfl) rfl
theorem q1402 : (Jvm.Cond.fieldLink "CircuitWarden" (131 : Nat) "CircuitWarden" "otherSource" "LCircuitWarden$Source;") ∈ lw_all := lw_g (lw_at lw_m5 153 rfl) rfl
theorem q1403 : (Jvm.Cond.fieldLink "CircuitWarden" (139 : Nat) "CircuitWarden" "net" "LCircuitWarden$NetRun;") ∈ lw_all := lw_g (lw_at lw_m5 154 rfl) rfl
theorem q1404 : (Jvm.Cond.fieldLink "CircuitWarden" (143 : Nat) "CircuitWarden" "otherNet" "LCircuitWarden$NetRun;") ∈ lw_all := lw_g (lw_at lw_m5 155 rfl) rfl
theorem q1405 : (Jvm.Cond.fieldLink "CircuitWarden" (240 : Nat) "CircuitWarden" "ended" "Z") ∈ lw_all := lw_g (lw_at lw_m5 156 rfl) rfl
theorem q1406 : (Jvm.Cond.fieldLink "CircuitWarden" (201 : Nat) "CircuitWarden" "wrong" "I") ∈ lw_all := lw_g (lw_at lw_m5 157 rfl) rfl
theorem q1407 : (Jvm.Cond.fieldLink "CircuitWarden" (205 : Nat) "CircuitWarden" "place" "I") ∈ lw_all := lw_g (lw_at lw_m5 158 rfl) rfl
theorem q1408 : (Jvm.Cond.fieldLink "CircuitWarden" (230 : Nat) "CircuitWarden" "leakedAt" "I") ∈ lw_all := lw_g (lw_at lw_m5 159 rfl) rfl
theorem q1409 : (Jvm.Cond.fieldLink "CircuitWarden" (211 : Nat) "CircuitWarden" "wayCount" "I") ∈ lw_all := lw_g (lw_at lw_m5 160 rfl) rfl
theorem q1410 : (Jvm.Cond.fieldLink "CircuitWarden" (244 : Nat) "CircuitWarden" "runs" "Z") ∈ lw_all := lw_g (lw_at lw_m5 161 rfl) rfl
theorem q1411 : (Jvm.Cond.fieldLink "CircuitWarden" (321 : Nat) "CircuitWarden" "observer" "I") ∈ lw_all := lw_g (lw_at lw_m5 162 rfl) rfl
theorem q1412 : (Jvm.Cond.fieldLink "CircuitWarden" (324 : Nat) "CircuitWarden" "cycles" "I") ∈ lw_all := lw_g (lw_at lw_m5 163 rfl) rfl
theorem q1413 : (Jvm.Cond.laysFinal "CircuitWarden" "CircuitWarden" "tape" "LCircuitWarden$Bytes;") ∈ lw_all := lw_g (lw_at lw_m5 164 rfl) rfl
theorem q1414 : (Jvm.Cond.soleField "CircuitWarden" "tape") ∈ lw_all := lw_g (lw_at lw_m5 165 rfl) rfl
theorem q1415 : (Jvm.Cond.laysFinal "CircuitWarden" "CircuitWarden" "names" "LCircuitWarden$Names;") ∈ lw_all := lw_g (lw_at lw_m5 166 rfl) rfl
theorem q1416 : (Jvm.Cond.soleField "CircuitWarden" "names") ∈ lw_all := lw_g (lw_at lw_m5 167 rfl) rfl
theorem q1417 : (Jvm.Cond.laysFinal "CircuitWarden" "CircuitWarden" "tree" "LCircuitWarden$Tree;") ∈ lw_all := lw_g (lw_at lw_m5 168 rfl) rfl
theorem q1418 : (Jvm.Cond.soleField "CircuitWarden" "tree") ∈ lw_all := lw_g (lw_at lw_m5 169 rfl) rfl
theorem q1419 : (Jvm.Cond.laysFinal "CircuitWarden" "CircuitWarden" "reader" "LCircuitWarden$Reader;") ∈ lw_all := lw_g (lw_at lw_m5 170 rfl) rfl
theorem q1420 : (Jvm.Cond.soleField "CircuitWarden" "reader") ∈ lw_all := lw_g (lw_at lw_m5 171 rfl) rfl
theorem q1421 : (Jvm.Cond.laysFinal "CircuitWarden" "CircuitWarden" "design" "LCircuitWarden$Design;") ∈ lw_all := lw_g (lw_at lw_m5 172 rfl) rfl
theorem q1422 : (Jvm.Cond.soleField "CircuitWarden" "design") ∈ lw_all := lw_g (lw_at lw_m5 173 rfl) rfl
theorem q1423 : (Jvm.Cond.laysFinal "CircuitWarden" "CircuitWarden" "levels" "LCircuitWarden$Levels;") ∈ lw_all := lw_g (lw_at lw_m5 174 rfl) rfl
theorem q1424 : (Jvm.Cond.soleField "CircuitWarden" "levels") ∈ lw_all := lw_g (lw_at lw_m5 175 rfl) rfl
theorem q1425 : (Jvm.Cond.laysFinal "CircuitWarden" "CircuitWarden" "labels" "LCircuitWarden$Labels;") ∈ lw_all := lw_g (lw_at lw_m5 176 rfl) rfl
theorem q1426 : (Jvm.Cond.soleField "CircuitWarden" "labels") ∈ lw_all := lw_g (lw_at lw_m5 177 rfl) rfl
theorem q1427 : (Jvm.Cond.laysFinal "CircuitWarden" "CircuitWarden" "ways" "LCircuitWarden$Ways;") ∈ lw_all := lw_g (lw_at lw_m5 178 rfl) rfl
theorem q1428 : (Jvm.Cond.soleField "CircuitWarden" "ways") ∈ lw_all := lw_g (lw_at lw_m5 179 rfl) rfl
theorem q1429 : (Jvm.Cond.laysFinal "CircuitWarden" "CircuitWarden" "gates" "LCircuitWarden$Gates;") ∈ lw_all := lw_g (lw_at lw_m5 180 rfl) rfl
theorem q1430 : (Jvm.Cond.soleField "CircuitWarden" "gates") ∈ lw_all := lw_g (lw_at lw_m5 181 rfl) rfl
theorem q1431 : (Jvm.Cond.laysFinal "CircuitWarden" "CircuitWarden" "source" "LCircuitWarden$Source;") ∈ lw_all := lw_g (lw_at lw_m5 182 rfl) rfl
theorem q1432 : (Jvm.Cond.soleField "CircuitWarden" "source") ∈ lw_all := lw_g (lw_at lw_m5 183 rfl) rfl
theorem q1433 : (Jvm.Cond.laysFinal "CircuitWarden" "CircuitWarden" "otherSource" "LCircuitWarden$Source;") ∈ lw_all := lw_g (lw_at lw_m5 184 rfl) rfl
theorem q1434 : (Jvm.Cond.soleField "CircuitWarden" "otherSource") ∈ lw_all := lw_g (lw_at lw_m5 185 rfl) rfl
theorem q1435 : (Jvm.Cond.laysFinal "CircuitWarden" "CircuitWarden" "net" "LCircuitWarden$NetRun;") ∈ lw_all := lw_g (lw_at lw_m5 186 rfl) rfl
theorem q1436 : (Jvm.Cond.soleField "CircuitWarden" "net") ∈ lw_all := lw_g (lw_at lw_m5 187 rfl) rfl
theorem q1437 : (Jvm.Cond.laysFinal "CircuitWarden" "CircuitWarden" "otherNet" "LCircuitWarden$NetRun;") ∈ lw_all := lw_g (lw_at lw_m5 188 rfl) rfl
theorem q1438 : (Jvm.Cond.soleField "CircuitWarden" "otherNet") ∈ lw_all := lw_g (lw_at lw_m5 189 rfl) rfl
theorem q1439 : (Jvm.Cond.lays "CircuitWarden" "CircuitWarden" "ended" "Z") ∈ lw_all := lw_g (lw_at lw_m5 190 rfl) rfl
theorem q1440 : (Jvm.Cond.soleField "CircuitWarden" "ended") ∈ lw_all := lw_g (lw_at lw_m5 191 rfl) rfl
theorem q1441 : (Jvm.Cond.lays "CircuitWarden" "CircuitWarden" "wrong" "I") ∈ lw_all := lw_g (lw_at lw_m5 192 rfl) rfl
theorem q1442 : (Jvm.Cond.soleField "CircuitWarden" "wrong") ∈ lw_all := lw_g (lw_at lw_m5 193 rfl) rfl
theorem q1443 : (Jvm.Cond.lays "CircuitWarden" "CircuitWarden" "place" "I") ∈ lw_all := lw_g (lw_at lw_m5 194 rfl) rfl
theorem q1444 : (Jvm.Cond.soleField "CircuitWarden" "place") ∈ lw_all := lw_g (lw_at lw_m5 195 rfl) rfl
theorem q1445 : (Jvm.Cond.lays "CircuitWarden" "CircuitWarden" "leakedAt" "I") ∈ lw_all := lw_g (lw_at lw_m5 196 rfl) rfl
theorem q1446 : (Jvm.Cond.soleField "CircuitWarden" "leakedAt") ∈ lw_all := lw_g (lw_at lw_m5 197 rfl) rfl
theorem q1447 : (Jvm.Cond.lays "CircuitWarden" "CircuitWarden" "wayCount" "I") ∈ lw_all := lw_g (lw_at lw_m5 198 rfl) rfl
theorem q1448 : (Jvm.Cond.soleField "CircuitWarden" "wayCount") ∈ lw_all := lw_g (lw_at lw_m5 199 rfl) rfl
theorem q1449 : (Jvm.Cond.lays "CircuitWarden" "CircuitWarden" "runs" "Z") ∈ lw_all := lw_g (lw_at lw_m5 200 rfl) rfl
theorem q1450 : (Jvm.Cond.soleField "CircuitWarden" "runs") ∈ lw_all := lw_g (lw_at lw_m5 201 rfl) rfl
theorem q1451 : (Jvm.Cond.lays "CircuitWarden" "CircuitWarden" "observer" "I") ∈ lw_all := lw_g (lw_at lw_m5 202 rfl) rfl
theorem q1452 : (Jvm.Cond.soleField "CircuitWarden" "observer") ∈ lw_all := lw_g (lw_at lw_m5 203 rfl) rfl
theorem q1453 : (Jvm.Cond.lays "CircuitWarden" "CircuitWarden" "cycles" "I") ∈ lw_all := lw_g (lw_at lw_m5 204 rfl) rfl
theorem q1454 : (Jvm.Cond.soleField "CircuitWarden" "cycles") ∈ lw_all := lw_g (lw_at lw_m5 205 rfl) rfl
theorem q1455 : (Jvm.Cond.superclass "CircuitWarden" "java/lang/Object") ∈ lw_all := lw_g (lw_at lw_m5 206 rfl) rfl
theorem q1457 : (Jvm.Cond.instanceMethod ({ cls := "CircuitWarden", name := "feed", desc := "(IIIII)I" } : Jvm.MethodName)) ∈ lw_all := lw_g (lw_at lw_m5 208 rfl) rfl
theorem q1458 : (Jvm.Cond.selects "CircuitWarden" ({ cls := "CircuitWarden", name := "feed", desc := "(IIIII)I" } : Jvm.MethodName) ({ cls := "CircuitWarden", name := "feed", desc := "(IIIII)I" } : Jvm.MethodName)) ∈ lw_all := lw_g (lw_at lw_m5 209 rfl) rfl
theorem q1459 : (Jvm.Cond.code ({ cls := "CircuitWarden", name := "feed", desc := "(IIIII)I" } : Jvm.MethodName) prog_1_method_9_code (6 : Nat) (Option.some Jvm.ClassFile.FieldType.int)) ∈ lw_all := lw_g (lw_at lw_m5 210 rfl) rfl
theorem q1460 : (Jvm.Cond.methodLink "CircuitWarden" (179 : Nat) ({ cls := "CircuitWarden", name := "four", desc := "(I)V" } : Jvm.MethodName)) ∈ lw_all := lw_g (lw_at lw_m5 211 rfl) rfl
theorem q1461 : (Jvm.Cond.privateMethod ({ cls := "CircuitWarden", name := "four", desc := "(I)V" } : Jvm.MethodName)) ∈ lw_tbl := lw_at lw_m5 212 rfl
theorem q1462 : (Jvm.Cond.instanceMethod ({ cls := "CircuitWarden", name := "four", desc := "(I)V" } : Jvm.MethodName)) ∈ lw_all := lw_g (lw_at lw_m5 213 rfl) rfl
theorem q1463 : (Jvm.Cond.code ({ cls := "CircuitWarden", name := "four", desc := "(I)V" } : Jvm.MethodName) prog_1_method_8_code (3 : Nat) (Option.none : Option Jvm.ClassFile.FieldType)) ∈ lw_all := lw_g (lw_at lw_m5 214 rfl) rfl
theorem q1464 : (Jvm.Cond.methodLink "CircuitWarden" (172 : Nat) ({ cls := "CircuitWarden$Bytes", name := "add", desc := "(I)V" } : Jvm.MethodName)) ∈ lw_all := lw_g (lw_at lw_m5 215 rfl) rfl
theorem q1470 : (Jvm.Cond.instanceMethod ({ cls := "CircuitWarden", name := "end", desc := "(I)I" } : Jvm.MethodName)) ∈ lw_all := lw_g (lw_at lw_m5 221 rfl) rfl
theorem q1471 : (Jvm.Cond.selects "CircuitWarden" ({ cls := "CircuitWarden", name := "end", desc := "(I)I" } : Jvm.MethodName) ({ cls := "CircuitWarden", name := "end", desc := "(I)I" } : Jvm.MethodName)) ∈ lw_all := lw_g (lw_at lw_m5 222 rfl) rfl
theorem q1472 : (Jvm.Cond.code ({ cls := "CircuitWarden", name := "end", desc := "(I)I" } : Jvm.MethodName) prog_1_method_12_code (4 : Nat) (Option.some Jvm.ClassFile.FieldType.int)) ∈ lw_all := lw_g (lw_at lw_m5 223 rfl) rfl
theorem q1473 : (Jvm.Cond.methodLink "CircuitWarden" (233 : Nat) ({ cls := "CircuitWarden$Names", name := "cut", desc := "(I)V" } : Jvm.MethodName)) ∈ lw_all := lw_g (lw_at lw_m5 224 rfl) rfl
theorem q1500 : (Jvm.Cond.methodLink "CircuitWarden" (236 : Nat) ({ cls := "CircuitWarden$Reader", name := "read", desc := "(LCircuitWarden$Bytes;ILCircuitWarden$Tree;)I" } : Jvm.MethodName)) ∈ lw_all := lw_g (lw_at lw_m6 11 rfl) rfl
theorem q1804 : (Jvm.Cond.laysStatic "CircuitWarden" "BINDS" "[I") ∈ lw_tbl := lw_at lw_m7 75 rfl
theorem q1850 : (Jvm.Cond.methodLink "CircuitWarden" (247 : Nat) ({ cls := "CircuitWarden", name := "judged", desc := "()I" } : Jvm.MethodName)) ∈ lw_all := lw_g (lw_at lw_m7 121 rfl) rfl
theorem q1851 : (Jvm.Cond.privateMethod ({ cls := "CircuitWarden", name := "judged", desc := "()I" } : Jvm.MethodName)) ∈ lw_tbl := lw_at lw_m7 122 rfl
theorem q1852 : (Jvm.Cond.instanceMethod ({ cls := "CircuitWarden", name := "judged", desc := "()I" } : Jvm.MethodName)) ∈ lw_all := lw_g (lw_at lw_m7 123 rfl) rfl
theorem q1853 : (Jvm.Cond.code ({ cls := "CircuitWarden", name := "judged", desc := "()I" } : Jvm.MethodName) prog_1_method_11_code (2 : Nat) (Option.some Jvm.ClassFile.FieldType.int)) ∈ lw_all := lw_g (lw_at lw_m7 124 rfl) rfl
theorem q1854 : (Jvm.Cond.methodLink "CircuitWarden" (194 : Nat) ({ cls := "CircuitWarden$Design", name := "lay", desc := "(LCircuitWarden$Tree;)Z" } : Jvm.MethodName)) ∈ lw_all := lw_g (lw_at lw_m7 125 rfl) rfl
theorem q2016 : (Jvm.Cond.methodLink "CircuitWarden" (206 : Nat) ({ cls := "CircuitWarden", name := "joins", desc := "()Z" } : Jvm.MethodName)) ∈ lw_all := lw_g (lw_at lw_m8 47 rfl) rfl
theorem q2017 : (Jvm.Cond.privateMethod ({ cls := "CircuitWarden", name := "joins", desc := "()Z" } : Jvm.MethodName)) ∈ lw_tbl := lw_at lw_m8 48 rfl
theorem q2018 : (Jvm.Cond.instanceMethod ({ cls := "CircuitWarden", name := "joins", desc := "()Z" } : Jvm.MethodName)) ∈ lw_all := lw_g (lw_at lw_m8 49 rfl) rfl
theorem q2019 : (Jvm.Cond.code ({ cls := "CircuitWarden", name := "joins", desc := "()Z" } : Jvm.MethodName) prog_1_method_10_code (4 : Nat) (Option.some Jvm.ClassFile.FieldType.boolean)) ∈ lw_all := lw_g (lw_at lw_m8 50 rfl) rfl
theorem q2020 : (Jvm.Cond.methodLink "CircuitWarden" (193 : Nat) ({ cls := "CircuitWarden$Levels", name := "add", desc := "(I)V" } : Jvm.MethodName)) ∈ lw_all := lw_g (lw_at lw_m8 51 rfl) rfl
theorem q2024 : (Jvm.Cond.methodLink "CircuitWarden" (214 : Nat) ({ cls := "CircuitWarden$Ways", name := "leaks", desc := "()Z" } : Jvm.MethodName)) ∈ lw_all := lw_g (lw_at lw_m8 55 rfl) rfl
theorem q2028 : (Jvm.Cond.methodLink "CircuitWarden" (223 : Nat) ({ cls := "CircuitWarden$Ways", name := "leak", desc := "()I" } : Jvm.MethodName)) ∈ lw_all := lw_g (lw_at lw_m8 59 rfl) rfl
theorem q2032 : (Jvm.Cond.methodLink "CircuitWarden" (227 : Nat) ({ cls := "CircuitWarden$Ways", name := "setting", desc := "()I" } : Jvm.MethodName)) ∈ lw_all := lw_g (lw_at lw_m8 63 rfl) rfl
theorem q2037 : (Jvm.Cond.instanceMethod ({ cls := "CircuitWarden", name := "told", desc := "(I)I" } : Jvm.MethodName)) ∈ lw_all := lw_g (lw_at lw_m8 68 rfl) rfl
theorem q2038 : (Jvm.Cond.selects "CircuitWarden" ({ cls := "CircuitWarden", name := "told", desc := "(I)I" } : Jvm.MethodName) ({ cls := "CircuitWarden", name := "told", desc := "(I)I" } : Jvm.MethodName)) ∈ lw_all := lw_g (lw_at lw_m8 69 rfl) rfl
theorem q2039 : (Jvm.Cond.code ({ cls := "CircuitWarden", name := "told", desc := "(I)I" } : Jvm.MethodName) prog_1_method_13_code (2 : Nat) (Option.some Jvm.ClassFile.FieldType.int)) ∈ lw_all := lw_g (lw_at lw_m8 70 rfl) rfl
theorem q2041 : (Jvm.Cond.instanceMethod ({ cls := "CircuitWarden", name := "count", desc := "(I)I" } : Jvm.MethodName)) ∈ lw_all := lw_g (lw_at lw_m8 72 rfl) rfl
theorem q2042 : (Jvm.Cond.selects "CircuitWarden" ({ cls := "CircuitWarden", name := "count", desc := "(I)I" } : Jvm.MethodName) ({ cls := "CircuitWarden", name := "count", desc := "(I)I" } : Jvm.MethodName)) ∈ lw_all := lw_g (lw_at lw_m8 73 rfl) rfl
theorem q2043 : (Jvm.Cond.code ({ cls := "CircuitWarden", name := "count", desc := "(I)I" } : Jvm.MethodName) prog_1_method_14_code (2 : Nat) (Option.some Jvm.ClassFile.FieldType.int)) ∈ lw_all := lw_g (lw_at lw_m8 74 rfl) rfl
theorem q2045 : (Jvm.Cond.instanceMethod ({ cls := "CircuitWarden", name := "item", desc := "(II)I" } : Jvm.MethodName)) ∈ lw_all := lw_g (lw_at lw_m8 76 rfl) rfl
theorem q2046 : (Jvm.Cond.selects "CircuitWarden" ({ cls := "CircuitWarden", name := "item", desc := "(II)I" } : Jvm.MethodName) ({ cls := "CircuitWarden", name := "item", desc := "(II)I" } : Jvm.MethodName)) ∈ lw_all := lw_g (lw_at lw_m8 77 rfl) rfl
theorem q2047 : (Jvm.Cond.code ({ cls := "CircuitWarden", name := "item", desc := "(II)I" } : Jvm.MethodName) prog_1_method_16_code (3 : Nat) (Option.some Jvm.ClassFile.FieldType.int)) ∈ lw_all := lw_g (lw_at lw_m8 78 rfl) rfl
theorem q2048 : (Jvm.Cond.methodLink "CircuitWarden" (274 : Nat) ({ cls := "CircuitWarden", name := "isItem", desc := "(I)Z" } : Jvm.MethodName)) ∈ lw_all := lw_g (lw_at lw_m8 79 rfl) rfl
theorem q2049 : (Jvm.Cond.privateMethod ({ cls := "CircuitWarden", name := "isItem", desc := "(I)Z" } : Jvm.MethodName)) ∈ lw_tbl := lw_at lw_m8 80 rfl
theorem q2050 : (Jvm.Cond.instanceMethod ({ cls := "CircuitWarden", name := "isItem", desc := "(I)Z" } : Jvm.MethodName)) ∈ lw_all := lw_g (lw_at lw_m8 81 rfl) rfl
theorem q2051 : (Jvm.Cond.code ({ cls := "CircuitWarden", name := "isItem", desc := "(I)Z" } : Jvm.MethodName) prog_1_method_15_code (2 : Nat) (Option.some Jvm.ClassFile.FieldType.boolean)) ∈ lw_all := lw_g (lw_at lw_m8 82 rfl) rfl
theorem q2053 : (Jvm.Cond.instanceMethod ({ cls := "CircuitWarden", name := "label", desc := "(IIZ)I" } : Jvm.MethodName)) ∈ lw_all := lw_g (lw_at lw_m8 84 rfl) rfl
theorem q2054 : (Jvm.Cond.selects "CircuitWarden" ({ cls := "CircuitWarden", name := "label", desc := "(IIZ)I" } : Jvm.MethodName) ({ cls := "CircuitWarden", name := "label", desc := "(IIZ)I" } : Jvm.MethodName)) ∈ lw_all := lw_g (lw_at lw_m8 85 rfl) rfl
theorem q2055 : (Jvm.Cond.code ({ cls := "CircuitWarden", name := "label", desc := "(IIZ)I" } : Jvm.MethodName) prog_1_method_17_code (4 : Nat) (Option.some Jvm.ClassFile.FieldType.int)) ∈ lw_all := lw_g (lw_at lw_m8 86 rfl) rfl
theorem q2056 : (Jvm.Cond.methodLink "CircuitWarden" (286 : Nat) ({ cls := "CircuitWarden$Labels", name := "told", desc := "(II)I" } : Jvm.MethodName)) ∈ lw_all := lw_g (lw_at lw_m8 87 rfl) rfl
theorem q2057 : (Jvm.Cond.methodLink "CircuitWarden" (290 : Nat) ({ cls := "CircuitWarden$Labels", name := "reckon", desc := "(I)V" } : Jvm.MethodName)) ∈ lw_all := lw_g (lw_at lw_m8 88 rfl) rfl
theorem q2058 : (Jvm.Cond.methodLink "CircuitWarden" (293 : Nat) ({ cls := "CircuitWarden$Labels", name := "own", desc := "(I)I" } : Jvm.MethodName)) ∈ lw_all := lw_g (lw_at lw_m8 89 rfl) rfl
theorem q2060 : (Jvm.Cond.instanceMethod ({ cls := "CircuitWarden", name := "join", desc := "(II)I" } : Jvm.MethodName)) ∈ lw_all := lw_g (lw_at lw_m8 91 rfl) rfl
theorem q2061 : (Jvm.Cond.selects "CircuitWarden" ({ cls := "CircuitWarden", name := "join", desc := "(II)I" } : Jvm.MethodName) ({ cls := "CircuitWarden", name := "join", desc := "(II)I" } : Jvm.MethodName)) ∈ lw_all := lw_g (lw_at lw_m8 92 rfl) rfl
theorem q2062 : (Jvm.Cond.code ({ cls := "CircuitWarden", name := "join", desc := "(II)I" } : Jvm.MethodName) prog_1_method_19_code (3 : Nat) (Option.some Jvm.ClassFile.FieldType.int)) ∈ lw_all := lw_g (lw_at lw_m8 93 rfl) rfl
theorem q2063 : (Jvm.Cond.methodLink "CircuitWarden" (297 : Nat) ({ cls := "CircuitWarden", name := "isLevel", desc := "(I)Z" } : Jvm.MethodName)) ∈ lw_all := lw_g (lw_at lw_m8 94 rfl) rfl
theorem q2064 : (Jvm.Cond.privateMethod ({ cls := "CircuitWarden", name := "isLevel", desc := "(I)Z" } : Jvm.MethodName)) ∈ lw_tbl := lw_at lw_m8 95 rfl
theorem q2065 : (Jvm.Cond.instanceMethod ({ cls := "CircuitWarden", name := "isLevel", desc := "(I)Z" } : Jvm.MethodName)) ∈ lw_all := lw_g (lw_at lw_m8 96 rfl) rfl
theorem q2066 : (Jvm.Cond.code ({ cls := "CircuitWarden", name := "isLevel", desc := "(I)Z" } : Jvm.MethodName) prog_1_method_18_code (2 : Nat) (Option.some Jvm.ClassFile.FieldType.boolean)) ∈ lw_all := lw_g (lw_at lw_m8 97 rfl) rfl
theorem q2067 : (Jvm.Cond.methodLink "CircuitWarden" (300 : Nat) ({ cls := "CircuitWarden$Levels", name := "join", desc := "(II)I" } : Jvm.MethodName)) ∈ lw_all := lw_g (lw_at lw_m8 98 rfl) rfl
theorem q2069 : (Jvm.Cond.instanceMethod ({ cls := "CircuitWarden", name := "gate", desc := "(ZII)I" } : Jvm.MethodName)) ∈ lw_all := lw_g (lw_at lw_m8 100 rfl) rfl
theorem q2070 : (Jvm.Cond.selects "CircuitWarden" ({ cls := "CircuitWarden", name := "gate", desc := "(ZII)I" } : Jvm.MethodName) ({ cls := "CircuitWarden", name := "gate", desc := "(ZII)I" } : Jvm.MethodName)) ∈ lw_all := lw_g (lw_at lw_m8 101 rfl) rfl
theorem q2071 : (Jvm.Cond.code ({ cls := "CircuitWarden", name := "gate", desc := "(ZII)I" } : Jvm.MethodName) prog_1_method_20_code (5 : Nat) (Option.some Jvm.ClassFile.FieldType.int)) ∈ lw_all := lw_g (lw_at lw_m8 102 rfl) rfl
theorem q2072 : (Jvm.Cond.methodLink "CircuitWarden" (302 : Nat) ({ cls := "CircuitWarden$Net", name := "isGate", desc := "(I)Z" } : Jvm.MethodName)) ∈ lw_all := lw_g (lw_at lw_m8 103 rfl) rfl
theorem q2074 : (Jvm.Cond.instanceMethod ({ cls := "CircuitWarden", name := "literal", desc := "(III)I" } : Jvm.MethodName)) ∈ lw_all := lw_g (lw_at lw_m8 105 rfl) rfl
theorem q2075 : (Jvm.Cond.selects "CircuitWarden" ({ cls := "CircuitWarden", name := "literal", desc := "(III)I" } : Jvm.MethodName) ({ cls := "CircuitWarden", name := "literal", desc := "(III)I" } : Jvm.MethodName)) ∈ lw_all := lw_g (lw_at lw_m8 106 rfl) rfl
theorem q2076 : (Jvm.Cond.code ({ cls := "CircuitWarden", name := "literal", desc := "(III)I" } : Jvm.MethodName) prog_1_method_21_code (6 : Nat) (Option.some Jvm.ClassFile.FieldType.int)) ∈ lw_all := lw_g (lw_at lw_m8 107 rfl) rfl
theorem q2077 : (Jvm.Cond.methodLink "CircuitWarden" (311 : Nat) ({ cls := "CircuitWarden$Gates", name := "literal", desc := "(IIZ)I" } : Jvm.MethodName)) ∈ lw_all := lw_g (lw_at lw_m8 108 rfl) rfl
theorem q2081 : (Jvm.Cond.methodLink "CircuitWarden" (315 : Nat) ({ cls := "CircuitWarden$Twin", name := "value", desc := "(I)I" } : Jvm.MethodName)) ∈ lw_all := lw_g (lw_at lw_m8 112 rfl) rfl
theorem q2082 : (Jvm.Cond.methodLink "CircuitWarden" (318 : Nat) ({ cls := "CircuitWarden$Twin", name := "taint", desc := "(I)I" } : Jvm.MethodName)) ∈ lw_all := lw_g (lw_at lw_m8 113 rfl) rfl
theorem q2084 : (Jvm.Cond.instanceMethod ({ cls := "CircuitWarden", name := "begin", desc := "(I)I" } : Jvm.MethodName)) ∈ lw_all := lw_g (lw_at lw_m8 115 rfl) rfl
theorem q2085 : (Jvm.Cond.selects "CircuitWarden" ({ cls := "CircuitWarden", name := "begin", desc := "(I)I" } : Jvm.MethodName) ({ cls := "CircuitWarden", name := "begin", desc := "(I)I" } : Jvm.MethodName)) ∈ lw_all := lw_g (lw_at lw_m8 116 rfl) rfl
theorem q2086 : (Jvm.Cond.code ({ cls := "CircuitWarden", name := "begin", desc := "(I)I" } : Jvm.MethodName) prog_1_method_22_code (2 : Nat) (Option.some Jvm.ClassFile.FieldType.int)) ∈ lw_all := lw_g (lw_at lw_m8 117 rfl) rfl
theorem q2087 : (Jvm.Cond.methodLink "CircuitWarden" (327 : Nat) ({ cls := "CircuitWarden$Source", name := "begin", desc := "()V" } : Jvm.MethodName)) ∈ lw_all := lw_g (lw_at lw_m8 118 rfl) rfl
theorem q2094 : (Jvm.Cond.methodLink "CircuitWarden" (328 : Nat) ({ cls := "CircuitWarden$NetRun", name := "begin", desc := "()V" } : Jvm.MethodName)) ∈ lw_all := lw_g (lw_at lw_m8 125 rfl) rfl
theorem q2099 : (Jvm.Cond.instanceMethod ({ cls := "CircuitWarden", name := "drive", desc := "(IIJ)I" } : Jvm.MethodName)) ∈ lw_all := lw_g (lw_at lw_m8 130 rfl) rfl
theorem q2100 : (Jvm.Cond.selects "CircuitWarden" ({ cls := "CircuitWarden", name := "drive", desc := "(IIJ)I" } : Jvm.MethodName) ({ cls := "CircuitWarden", name := "drive", desc := "(IIJ)I" } : Jvm.MethodName)) ∈ lw_all := lw_g (lw_at lw_m8 131 rfl) rfl
theorem q2101 : (Jvm.Cond.code ({ cls := "CircuitWarden", name := "drive", desc := "(IIJ)I" } : Jvm.MethodName) prog_1_method_26_code (5 : Nat) (Option.some Jvm.ClassFile.FieldType.int)) ∈ lw_all := lw_g (lw_at lw_m8 132 rfl) rfl
theorem q2102 : (Jvm.Cond.methodLink "CircuitWarden" (329 : Nat) ({ cls := "CircuitWarden", name := "isRun", desc := "(I)Z" } : Jvm.MethodName)) ∈ lw_all := lw_g (lw_at lw_m8 133 rfl) rfl
theorem q2103 : (Jvm.Cond.privateMethod ({ cls := "CircuitWarden", name := "isRun", desc := "(I)Z" } : Jvm.MethodName)) ∈ lw_tbl := lw_at lw_m8 134 rfl
theorem q2104 : (Jvm.Cond.instanceMethod ({ cls := "CircuitWarden", name := "isRun", desc := "(I)Z" } : Jvm.MethodName)) ∈ lw_all := lw_g (lw_at lw_m8 135 rfl) rfl
theorem q2105 : (Jvm.Cond.code ({ cls := "CircuitWarden", name := "isRun", desc := "(I)Z" } : Jvm.MethodName) prog_1_method_25_code (2 : Nat) (Option.some Jvm.ClassFile.FieldType.boolean)) ∈ lw_all := lw_g (lw_at lw_m8 136 rfl) rfl
theorem q2106 : (Jvm.Cond.methodLink "CircuitWarden" (332 : Nat) ({ cls := "CircuitWarden", name := "sourceOf", desc := "(I)LCircuitWarden$Source;" } : Jvm.MethodName)) ∈ lw_all := lw_g (lw_at lw_m8 137 rfl) rfl
theorem q2107 : (Jvm.Cond.privateMethod ({ cls := "CircuitWarden", name := "sourceOf", desc := "(I)LCircuitWarden$Source;" } : Jvm.MethodName)) ∈ lw_tbl := lw_at lw_m8 138 rfl
theorem q2108 : (Jvm.Cond.instanceMethod ({ cls := "CircuitWarden", name := "sourceOf", desc := "(I)LCircuitWarden$Source;" } : Jvm.MethodName)) ∈ lw_all := lw_g (lw_at lw_m8 139 rfl) rfl
theorem q2109 : (Jvm.Cond.code ({ cls := "CircuitWarden", name := "sourceOf", desc := "(I)LCircuitWarden$Source;" } : Jvm.MethodName) prog_1_method_23_code (2 : Nat) (Option.some (Jvm.ClassFile.FieldType.object "CircuitWarden$Source"))) ∈ lw_all := lw_g (lw_at lw_m8 140 rfl) rfl
theorem q2110 : (Jvm.Cond.methodLink "CircuitWarden" (340 : Nat) ({ cls := "CircuitWarden", name := "netOf", desc := "(I)LCircuitWarden$NetRun;" } : Jvm.MethodName)) ∈ lw_all := lw_g (lw_at lw_m8 141 rfl) rfl
theorem q2111 : (Jvm.Cond.privateMethod ({ cls := "CircuitWarden", name := "netOf", desc := "(I)LCircuitWarden$NetRun;" } : Jvm.MethodName)) ∈ lw_tbl := lw_at lw_m8 142 rfl
theorem q2112 : (Jvm.Cond.instanceMethod ({ cls := "CircuitWarden", name := "netOf", desc := "(I)LCircuitWarden$NetRun;" } : Jvm.MethodName)) ∈ lw_all := lw_g (lw_at lw_m8 143 rfl) rfl
theorem q2113 : (Jvm.Cond.code ({ cls := "CircuitWarden", name := "netOf", desc := "(I)LCircuitWarden$NetRun;" } : Jvm.MethodName) prog_1_method_24_code (2 : Nat) (Option.some (Jvm.ClassFile.FieldType.object "CircuitWarden$NetRun"))) ∈ lw_all := lw_g (lw_at lw_m8 144 rfl) rfl
theorem q2115 : (Jvm.Cond.instanceMethod ({ cls := "CircuitWarden", name := "step", desc := "(I)I" } : Jvm.MethodName)) ∈ lw_all := lw_g (lw_at lw_m8 146 rfl) rfl
theorem q2116 : (Jvm.Cond.selects "CircuitWarden" ({ cls := "CircuitWarden", name := "step", desc := "(I)I" } : Jvm.MethodName) ({ cls := "CircuitWarden", name := "step", desc := "(I)I" } : Jvm.MethodName)) ∈ lw_all := lw_g (lw_at lw_m8 147 rfl) rfl
theorem q2117 : (Jvm.Cond.code ({ cls := "CircuitWarden", name := "step", desc := "(I)I" } : Jvm.MethodName) prog_1_method_30_code (3 : Nat) (Option.some Jvm.ClassFile.FieldType.int)) ∈ lw_all := lw_g (lw_at lw_m8 148 rfl) rfl
theorem q2118 : (Jvm.Cond.methodLink "CircuitWarden" (375 : Nat) ({ cls := "CircuitWarden", name := "cycle", desc := "()V" } : Jvm.MethodName)) ∈ lw_all := lw_g (lw_at lw_m8 149 rfl) rfl
theorem q2119 : (Jvm.Cond.privateMethod ({ cls := "CircuitWarden", name := "cycle", desc := "()V" } : Jvm.MethodName)) ∈ lw_tbl := lw_at lw_m8 150 rfl
theorem q2120 : (Jvm.Cond.instanceMethod ({ cls := "CircuitWarden", name := "cycle", desc := "()V" } : Jvm.MethodName)) ∈ lw_all := lw_g (lw_at lw_m8 151 rfl) rfl
theorem q2121 : (Jvm.Cond.code ({ cls := "CircuitWarden", name := "cycle", desc := "()V" } : Jvm.MethodName) prog_1_method_29_code (1 : Nat) (Option.none : Option Jvm.ClassFile.FieldType)) ∈ lw_all := lw_g (lw_at lw_m8 152 rfl) rfl
theorem q2122 : (Jvm.Cond.methodLink "CircuitWarden" (360 : Nat) ({ cls := "CircuitWarden$Source", name := "settle", desc := "()V" } : Jvm.MethodName)) ∈ lw_all := lw_g (lw_at lw_m8 153 rfl) rfl
theorem q2131 : (Jvm.Cond.methodLink "CircuitWarden" (363 : Nat) ({ cls := "CircuitWarden$NetRun", name := "reckon", desc := "()V" } : Jvm.MethodName)) ∈ lw_all := lw_g (lw_at lw_m8 162 rfl) rfl
theorem q2157 : (Jvm.Cond.methodLink "CircuitWarden" (365 : Nat) ({ cls := "CircuitWarden", name := "taintAll", desc := "()V" } : Jvm.MethodName)) ∈ lw_all := lw_g (lw_at lw_m8 188 rfl) rfl
theorem q2158 : (Jvm.Cond.privateMethod ({ cls := "CircuitWarden", name := "taintAll", desc := "()V" } : Jvm.MethodName)) ∈ lw_tbl := lw_at lw_m8 189 rfl
theorem q2159 : (Jvm.Cond.instanceMethod ({ cls := "CircuitWarden", name := "taintAll", desc := "()V" } : Jvm.MethodName)) ∈ lw_all := lw_g (lw_at lw_m8 190 rfl) rfl
theorem q2160 : (Jvm.Cond.code ({ cls := "CircuitWarden", name := "taintAll", desc := "()V" } : Jvm.MethodName) prog_1_method_28_code (3 : Nat) (Option.none : Option Jvm.ClassFile.FieldType)) ∈ lw_all := lw_g (lw_at lw_m8 191 rfl) rfl
theorem q2161 : (Jvm.Cond.methodLink "CircuitWarden" (347 : Nat) ({ cls := "CircuitWarden", name := "modesNow", desc := "()I" } : Jvm.MethodName)) ∈ lw_all := lw_g (lw_at lw_m8 192 rfl) rfl
theorem q2162 : (Jvm.Cond.privateMethod ({ cls := "CircuitWarden", name := "modesNow", desc := "()I" } : Jvm.MethodName)) ∈ lw_tbl := lw_at lw_m8 193 rfl
theorem q2163 : (Jvm.Cond.instanceMethod ({ cls := "CircuitWarden", name := "modesNow", desc := "()I" } : Jvm.MethodName)) ∈ lw_all := lw_g (lw_at lw_m8 194 rfl) rfl
theorem q2164 : (Jvm.Cond.code ({ cls := "CircuitWarden", name := "modesNow", desc := "()I" } : Jvm.MethodName) prog_1_method_27_code (3 : Nat) (Option.some Jvm.ClassFile.FieldType.int)) ∈ lw_all := lw_g (lw_at lw_m8 195 rfl) rfl
theorem q2165 : (Jvm.Cond.methodLink "CircuitWarden" (353 : Nat) ({ cls := "CircuitWarden$Levels", name := "lies", desc := "(II)Z" } : Jvm.MethodName)) ∈ lw_all := lw_g (lw_at lw_m8 196 rfl) rfl
theorem q2166 : (Jvm.Cond.methodLink "CircuitWarden" (357 : Nat) ({ cls := "CircuitWarden$NetRun", name := "reckonTwin", desc := "()V" } : Jvm.MethodName)) ∈ lw_all := lw_g (lw_at lw_m8 197 rfl) rfl
theorem q2172 : (Jvm.Cond.methodLink "CircuitWarden" (368 : Nat) ({ cls := "CircuitWarden$Source", name := "step", desc := "()V" } : Jvm.MethodName)) ∈ lw_all := lw_g (lw_at lw_m8 203 rfl) rfl
theorem q2178 : (Jvm.Cond.methodLink "CircuitWarden" (371 : Nat) ({ cls := "CircuitWarden$NetRun", name := "clock", desc := "(Z)V" } : Jvm.MethodName)) ∈ lw_all := lw_g (lw_at lw_m8 209 rfl) rfl
theorem q2193 : (Jvm.Cond.instanceMethod ({ cls := "CircuitWarden", name := "value", desc := "(IIZ)J" } : Jvm.MethodName)) ∈ lw_all := lw_g (lw_at lw_m8 224 rfl) rfl
theorem q2194 : (Jvm.Cond.selects "CircuitWarden" ({ cls := "CircuitWarden", name := "value", desc := "(IIZ)J" } : Jvm.MethodName) ({ cls := "CircuitWarden", name := "value", desc := "(IIZ)J" } : Jvm.MethodName)) ∈ lw_all := lw_g (lw_at lw_m8 225 rfl) rfl
theorem q2195 : (Jvm.Cond.code ({ cls := "CircuitWarden", name := "value", desc := "(IIZ)J" } : Jvm.MethodName) prog_1_method_31_code (4 : Nat) (Option.some Jvm.ClassFile.FieldType.long)) ∈ lw_all := lw_g (lw_at lw_m8 226 rfl) rfl
theorem q2196 : (Jvm.Cond.methodLink "CircuitWarden" (378 : Nat) ({ cls := "CircuitWarden$NetRun", name := "value", desc := "(IZ)J" } : Jvm.MethodName)) ∈ lw_all := lw_g (lw_at lw_m8 227 rfl) rfl
theorem q2198 : (Jvm.Cond.instanceMethod ({ cls := "CircuitWarden", name := "taint", desc := "(I)J" } : Jvm.MethodName)) ∈ lw_all := lw_g (lw_at lw_m8 229 rfl) rfl
theorem q2199 : (Jvm.Cond.selects "CircuitWarden" ({ cls := "CircuitWarden", name := "taint", desc := "(I)J" } : Jvm.MethodName) ({ cls := "CircuitWarden", name := "taint", desc := "(I)J" } : Jvm.MethodName)) ∈ lw_all := lw_g (lw_at lw_m8 230 rfl) rfl
theorem q2200 : (Jvm.Cond.code ({ cls := "CircuitWarden", name := "taint", desc := "(I)J" } : Jvm.MethodName) prog_1_method_32_code (2 : Nat) (Option.some Jvm.ClassFile.FieldType.long)) ∈ lw_all := lw_g (lw_at lw_m8 231 rfl) rfl
theorem q2201 : (Jvm.Cond.methodLink "CircuitWarden" (381 : Nat) ({ cls := "CircuitWarden$NetRun", name := "taint", desc := "(IZ)J" } : Jvm.MethodName)) ∈ lw_all := lw_g (lw_at lw_m8 232 rfl) rfl
theorem q2203 : (Jvm.Cond.instanceMethod ({ cls := "CircuitWarden", name := "broken", desc := "()I" } : Jvm.MethodName)) ∈ lw_all := lw_g (lw_at lw_m8 234 rfl) rfl
theorem q2204 : (Jvm.Cond.selects "CircuitWarden" ({ cls := "CircuitWarden", name := "broken", desc := "()I" } : Jvm.MethodName) ({ cls := "CircuitWarden", name := "broken", desc := "()I" } : Jvm.MethodName)) ∈ lw_all := lw_g (lw_at lw_m8 235 rfl) rfl
theorem q2205 : (Jvm.Cond.code ({ cls := "CircuitWarden", name := "broken", desc := "()I" } : Jvm.MethodName) prog_1_method_33_code (1 : Nat) (Option.some Jvm.ClassFile.FieldType.int)) ∈ lw_all := lw_g (lw_at lw_m8 236 rfl) rfl
theorem in_X0 : ∀ w ∈ wsX00, w ∈ lw_all := lw_in wsX00 [1413, 1415, 1417, 1419, 1421, 1423, 1425, 1427, 1429, 1431, 1433, 1435, 1437, 1439, 1441, 1443, 1445, 1447, 1449, 1451, 1453] (by decide +kernel) (by decide +kernel)
/-! CircuitWarden$Bytes -/
def RX1 : String := "CircuitWarden$Bytes"
def TX1 : u_T := fun k => match k with
  | 0 => ("CircuitWarden$Bytes", "all", "[B", false)
  | _ => ("CircuitWarden$Bytes", "size", "I", false)
def tyX1 : Nat → FieldType := fun k => match k with
  | 0 => .array .byte
  | _ => .int
abbrev wsX10 : List Cond := u_ws RX1 TX1 2
theorem nmX1 : ∀ a, a < 2 → ∀ b, b < 2 → a ≠ b → (TX1 a).2.1 ≠ (TX1 b).2.1 := by decide +kernel
theorem tyX1_ok : ∀ k, k < 2 → parseFieldDescriptor (TX1 k).2.2.1 = some (tyX1 k) := by decide +kernel
abbrev cX1_init : ByteArray := prog_3_method_1_code
def yX1_init : MethodName := ⟨RX1, "<init>", "()V"⟩
abbrev cX1_add : ByteArray := prog_3_method_3_code
def yX1_add : MethodName := ⟨RX1, "add", "(I)V"⟩
abbrev cX1_get : ByteArray := prog_3_method_2_code
def yX1_get : MethodName := ⟨RX1, "get", "(I)I"⟩
theorem q291 : (Jvm.Cond.initialized "CircuitWarden$Bytes") ∈ lw_all := lw_g (lw_at lw_m1 2 rfl) rfl
theorem q333 : (Jvm.Cond.instantiable "CircuitWarden$Bytes" (2 : Nat)) ∈ lw_all := lw_g (lw_at lw_m1 44 rfl) rfl
theorem q335 : (Jvm.Cond.instanceMethod ({ cls := "CircuitWarden$Bytes", name := "<init>", desc := "()V" } : Jvm.MethodName)) ∈ lw_all := lw_g (lw_at lw_m1 46 rfl) rfl
theorem q336 : (Jvm.Cond.code ({ cls := "CircuitWarden$Bytes", name := "<init>", desc := "()V" } : Jvm.MethodName) prog_3_method_1_code (1 : Nat) (Option.none : Option Jvm.ClassFile.FieldType)) ∈ lw_all := lw_g (lw_at lw_m1 47 rfl) rfl
theorem q337 : (Jvm.Cond.methodLink "CircuitWarden$Bytes" (1 : Nat) ({ cls := "java/lang/Object", name := "<init>", desc := "()V" } : Jvm.MethodName)) ∈ lw_all := lw_g (lw_at lw_m1 48 rfl) rfl
theorem q338 : (Jvm.Cond.fieldLink "CircuitWarden$Bytes" (7 : Nat) "CircuitWarden$Bytes" "all" "[B") ∈ lw_all := lw_g (lw_at lw_m1 49 rfl) rfl
theorem q339 : (Jvm.Cond.fieldLink "CircuitWarden$Bytes" (13 : Nat) "CircuitWarden$Bytes" "size" "I") ∈ lw_all := lw_g (lw_at lw_m1 50 rfl) rfl
theorem q342 : (Jvm.Cond.lays "CircuitWarden$Bytes" "CircuitWarden$Bytes" "all" "[B") ∈ lw_all := lw_g (lw_at lw_m1 53 rfl) rfl
theorem q343 : (Jvm.Cond.soleField "CircuitWarden$Bytes" "all") ∈ lw_all := lw_g (lw_at lw_m1 54 rfl) rfl
theorem q344 : (Jvm.Cond.lays "CircuitWarden$Bytes" "CircuitWarden$Bytes" "size" "I") ∈ lw_all := lw_g (lw_at lw_m1 55 rfl) rfl
theorem q345 : (Jvm.Cond.soleField "CircuitWarden$Bytes" "size") ∈ lw_all := lw_g (lw_at lw_m1 56 rfl) rfl
theorem q346 : (Jvm.Cond.superclass "CircuitWarden$Bytes" "java/lang/Object") ∈ lw_all := lw_g (lw_at lw_m1 57 rfl) rfl
theorem q1465 : (Jvm.Cond.instanceMethod ({ cls := "CircuitWarden$Bytes", name := "add", desc := "(I)V" } : Jvm.MethodName)) ∈ lw_all := lw_g (lw_at lw_m5 216 rfl) rfl
theorem q1466 : (Jvm.Cond.selects "CircuitWarden$Bytes" ({ cls := "CircuitWarden$Bytes", name := "add", desc := "(I)V" } : Jvm.MethodName) ({ cls := "CircuitWarden$Bytes", name := "add", desc := "(I)V" } : Jvm.MethodName)) ∈ lw_all := lw_g (lw_at lw_m5 217 rfl) rfl
theorem q1467 : (Jvm.Cond.code ({ cls := "CircuitWarden$Bytes", name := "add", desc := "(I)V" } : Jvm.MethodName) prog_3_method_3_code (3 : Nat) (Option.none : Option Jvm.ClassFile.FieldType)) ∈ lw_all := lw_g (lw_at lw_m5 218 rfl) rfl
theorem q1468 : (Jvm.Cond.methodLink "CircuitWarden$Bytes" (17 : Nat) ({ cls := "java/lang/System", name := "arraycopy", desc := "(Ljava/lang/Object;ILjava/lang/Object;II)V" } : Jvm.MethodName)) ∈ lw_all := lw_g (lw_at lw_m5 219 rfl) rfl
theorem q1489 : (Jvm.Cond.instanceMethod ({ cls := "CircuitWarden$Bytes", name := "get", desc := "(I)I" } : Jvm.MethodName)) ∈ lw_all := lw_g (lw_at lw_m6 0 rfl) rfl
theorem q1490 : (Jvm.Cond.selects "CircuitWarden$Bytes" ({ cls := "CircuitWarden$Bytes", name := "get", desc := "(I)I" } : Jvm.MethodName) ({ cls := "CircuitWarden$Bytes", name := "get", desc := "(I)I" } : Jvm.MethodName)) ∈ lw_all := lw_g (lw_at lw_m6 1 rfl) rfl
theorem q1491 : (Jvm.Cond.code ({ cls := "CircuitWarden$Bytes", name := "get", desc := "(I)I" } : Jvm.MethodName) prog_3_method_2_code (2 : Nat) (Option.some Jvm.ClassFile.FieldType.int)) ∈ lw_all := lw_g (lw_at lw_m6 2 rfl) rfl
theorem in_X1 : ∀ w ∈ wsX10, w ∈ lw_all := lw_in wsX10 [342, 344] (by decide +kernel) (by decide +kernel)
/-! CircuitWarden$Ways -/
def RX10 : String := "CircuitWarden$Ways"
def TX10 : u_T := fun k => match k with
  | 0 => ("CircuitWarden$Ways", "d", "LCircuitWarden$Design;", true)
  | 1 => ("CircuitWarden$Ways", "levels", "LCircuitWarden$Levels;", true)
  | 2 => ("CircuitWarden$Ways", "labels", "LCircuitWarden$Labels;", true)
  | 3 => ("CircuitWarden$Ways", "held", "[I", false)
  | 4 => ("CircuitWarden$Ways", "places", "[I", false)
  | 5 => ("CircuitWarden$Ways", "helds", "I", false)
  | 6 => ("CircuitWarden$Ways", "modesHeld", "J", false)
  | 7 => ("CircuitWarden$Ways", "named", "[J", false)
  | 8 => ("CircuitWarden$Ways", "now", "[I", false)
  | 9 => ("CircuitWarden$Ways", "values", "[I", false)
  | 10 => ("CircuitWarden$Ways", "opens", "[I", false)
  | 11 => ("CircuitWarden$Ways", "hows", "[I", false)
  | 12 => ("CircuitWarden$Ways", "stops", "[I", false)
  | 13 => ("CircuitWarden$Ways", "keeps", "[I", false)
  | 14 => ("CircuitWarden$Ways", "open", "I", false)
  | 15 => ("CircuitWarden$Ways", "kept", "[I", false)
  | 16 => ("CircuitWarden$Ways", "keptTop", "I", false)
  | 17 => ("CircuitWarden$Ways", "firsts", "[Z", false)
  | 18 => ("CircuitWarden$Ways", "parted", "I", false)
  | 19 => ("CircuitWarden$Ways", "met", "I", false)
  | 20 => ("CircuitWarden$Ways", "ways", "I", false)
  | 21 => ("CircuitWarden$Ways", "owns", "[B", false)
  | 22 => ("CircuitWarden$Ways", "leakOut", "I", false)
  | 23 => ("CircuitWarden$Ways", "leakHeld", "I", false)
  | 24 => ("CircuitWarden$Ways", "outSetting", "I", false)
  | _ => ("CircuitWarden$Ways", "heldSetting", "I", false)
def tyX10 : Nat → FieldType := fun k => match k with
  | 0 => .object "CircuitWarden$Design"
  | 1 => .object "CircuitWarden$Levels"
  | 2 => .object "CircuitWarden$Labels"
  | 3 => .array .int
  | 4 => .array .int
  | 5 => .int
  | 6 => .long
  | 7 => .array .long
  | 8 => .array .int
  | 9 => .array .int
  | 10 => .array .int
  | 11 => .array .int
  | 12 => .array .int
  | 13 => .array .int
  | 14 => .int
  | 15 => .array .int
  | 16 => .int
  | 17 => .array .boolean
  | 18 => .int
  | 19 => .int
  | 20 => .int
  | 21 => .array .byte
  | 22 => .int
  | 23 => .int
  | 24 => .int
  | _ => .int
abbrev wsX100 : List Cond := u_ws RX10 TX10 26
theorem nmX10 : ∀ a, a < 26 → ∀ b, b < 26 → a ≠ b → (TX10 a).2.1 ≠ (TX10 b).2.1 := by decide +kernel
theorem tyX10_ok : ∀ k, k < 26 → parseFieldDescriptor (TX10 k).2.2.1 = some (tyX10 k) := by decide +kernel
abbrev cX10_init : ByteArray := prog_17_method_1_code
def yX10_init : MethodName := ⟨RX10, "<init>", "(LCircuitWarden$Design;LCircuitWarden$Levels;LCircuitWarden$Labels;)V"⟩
abbrev cX10_begin : ByteArray := prog_17_method_5_code
def yX10_begin : MethodName := ⟨RX10, "begin", "()V"⟩
abbrev cX10_isCheck : ByteArray := prog_17_method_3_code
def yX10_isCheck : MethodName := ⟨RX10, "isCheck", "(I)Z"⟩
abbrev cX10_go : ByteArray := prog_17_method_6_code
def yX10_go : MethodName := ⟨RX10, "go", "()Z"⟩
abbrev cX10_isMode : ByteArray := prog_17_method_4_code
def yX10_isMode : MethodName := ⟨RX10, "isMode", "(I)Z"⟩
abbrev cX10_isTooMany : ByteArray := prog_17_method_2_code
def yX10_isTooMany : MethodName := ⟨RX10, "isTooMany", "()Z"⟩
abbrev cX10_outs : ByteArray := prog_17_method_10_code
def yX10_outs : MethodName := ⟨RX10, "outs", "(I)V"⟩
abbrev cX10_all : ByteArray := prog_17_method_11_code
def yX10_all : MethodName := ⟨RX10, "all", "(I)V"⟩
abbrev cX10_way : ByteArray := prog_17_method_13_code
def yX10_way : MethodName := ⟨RX10, "way", "(I)V"⟩
abbrev cX10_close : ByteArray := prog_17_method_18_code
def yX10_close : MethodName := ⟨RX10, "close", "()I"⟩
abbrev cX10_keep : ByteArray := prog_17_method_17_code
def yX10_keep : MethodName := ⟨RX10, "keep", "()V"⟩
abbrev cX10_branch : ByteArray := prog_17_method_16_code
def yX10_branch : MethodName := ⟨RX10, "branch", "(I)I"⟩
abbrev cX10_parts : ByteArray := prog_17_method_12_code
def yX10_parts : MethodName := ⟨RX10, "parts", "()Z"⟩
abbrev cX10_open : ByteArray := prog_17_method_15_code
def yX10_open : MethodName := ⟨RX10, "open", "(III)V"⟩
abbrev cX10_put : ByteArray := prog_17_method_14_code
def yX10_put : MethodName := ⟨RX10, "put", "(II)V"⟩
abbrev cX10_end : ByteArray := prog_17_method_19_code
def yX10_end : MethodName := ⟨RX10, "end", "(I)V"⟩
abbrev cX10_fits : ByteArray := prog_17_method_20_code
def yX10_fits : MethodName := ⟨RX10, "fits", "(III)Z"⟩
abbrev cX10_leaks : ByteArray := prog_17_method_7_code
def yX10_leaks : MethodName := ⟨RX10, "leaks", "()Z"⟩
abbrev cX10_leak : ByteArray := prog_17_method_8_code
def yX10_leak : MethodName := ⟨RX10, "leak", "()I"⟩
abbrev cX10_setting : ByteArray := prog_17_method_9_code
def yX10_setting : MethodName := ⟨RX10, "setting", "()I"⟩
theorem q302 : (Jvm.Cond.initialized "CircuitWarden$Ways") ∈ lw_all := lw_g (lw_at lw_m1 13 rfl) rfl
theorem q537 : (Jvm.Cond.fieldLinkNest "CircuitWarden$Ways" (72 : Nat) "CircuitWarden$Design" "kinds" "[I" "CircuitWarden") ∈ lw_tbl := lw_at lw_m2 8 rfl
theorem q545 : (Jvm.Cond.fieldLinkNest "CircuitWarden$Ways" (218 : Nat) "CircuitWarden$Design" "widths" "[I" "CircuitWarden") ∈ lw_tbl := lw_at lw_m2 16 rfl
theorem q553 : (Jvm.Cond.fieldLinkNest "CircuitWarden$Ways" (113 : Nat) "CircuitWarden$Design" "labels" "[I" "CircuitWarden") ∈ lw_tbl := lw_at lw_m2 24 rfl
theorem q569 : (Jvm.Cond.fieldLinkNest "CircuitWarden$Ways" (87 : Nat) "CircuitWarden$Design" "signals" "I" "CircuitWarden") ∈ lw_tbl := lw_at lw_m2 40 rfl
theorem q573 : (Jvm.Cond.fieldLinkNest "CircuitWarden$Ways" (107 : Nat) "CircuitWarden$Design" "modeBits" "I" "CircuitWarden") ∈ lw_tbl := lw_at lw_m2 44 rfl
theorem q581 : (Jvm.Cond.fieldLinkNest "CircuitWarden$Ways" (67 : Nat) "CircuitWarden$Design" "steps" "[I" "CircuitWarden") ∈ lw_tbl := lw_at lw_m2 52 rfl
theorem q584 : (Jvm.Cond.fieldLinkNest "CircuitWarden$Ways" (104 : Nat) "CircuitWarden$Design" "stepSignals" "[I" "CircuitWarden") ∈ lw_tbl := lw_at lw_m2 55 rfl
theorem q589 : (Jvm.Cond.fieldLinkNest "CircuitWarden$Ways" (189 : Nat) "CircuitWarden$Design" "stepRoots" "[I" "CircuitWarden") ∈ lw_tbl := lw_at lw_m2 60 rfl
theorem q599 : (Jvm.Cond.fieldLinkNest "CircuitWarden$Ways" (209 : Nat) "CircuitWarden$Design" "stepEnds" "[I" "CircuitWarden") ∈ lw_tbl := lw_at lw_m2 70 rfl
theorem q602 : (Jvm.Cond.fieldLinkNest "CircuitWarden$Ways" (101 : Nat) "CircuitWarden$Design" "stepSeconds" "[I" "CircuitWarden") ∈ lw_tbl := lw_at lw_m2 73 rfl
theorem q605 : (Jvm.Cond.fieldLinkNest "CircuitWarden$Ways" (94 : Nat) "CircuitWarden$Design" "stepCount" "I" "CircuitWarden") ∈ lw_tbl := lw_at lw_m2 76 rfl
theorem q766 : (Jvm.Cond.fieldLinkNest "CircuitWarden$Ways" (198 : Nat) "CircuitWarden$Labels" "known" "[Z" "CircuitWarden") ∈ lw_tbl := lw_at lw_m2 237 rfl
theorem q768 : (Jvm.Cond.fieldLinkNest "CircuitWarden$Ways" (201 : Nat) "CircuitWarden$Labels" "values" "[J" "CircuitWarden") ∈ lw_tbl := lw_at lw_m2 239 rfl
theorem q770 : (Jvm.Cond.fieldLinkNest "CircuitWarden$Ways" (196 : Nat) "CircuitWarden$Labels" "labels" "[B" "CircuitWarden") ∈ lw_tbl := lw_at lw_m3 1 rfl
theorem q772 : (Jvm.Cond.fieldLinkNest "CircuitWarden$Ways" (221 : Nat) "CircuitWarden$Labels" "shifts" "[I" "CircuitWarden") ∈ lw_tbl := lw_at lw_m3 3 rfl
theorem q792 : (Jvm.Cond.instantiable "CircuitWarden$Ways" (26 : Nat)) ∈ lw_all := lw_g (lw_at lw_m3 23 rfl) rfl
theorem q794 : (Jvm.Cond.instanceMethod ({ cls := "CircuitWarden$Ways", name := "<init>", desc := "(LCircuitWarden$Design;LCircuitWarden$Levels;LCircuitWarden$Labels;)V" } : Jvm.MethodName)) ∈ lw_all := lw_g (lw_at lw_m3 25 rfl) rfl
theorem q795 : (Jvm.Cond.code ({ cls := "CircuitWarden$Ways", name := "<init>", desc := "(LCircuitWarden$Design;LCircuitWarden$Levels;LCircuitWarden$Labels;)V" } : Jvm.MethodName) prog_17_method_1_code (4 : Nat) (Option.none : Option Jvm.ClassFile.FieldType)) ∈ lw_all := lw_g (lw_at lw_m3 26 rfl) rfl
theorem q796 : (Jvm.Cond.methodLink "CircuitWarden$Ways" (3 : Nat) ({ cls := "java/lang/Object", name := "<init>", desc := "()V" } : Jvm.MethodName)) ∈ lw_all := lw_g (lw_at lw_m3 27 rfl) rfl
theorem q797 : (Jvm.Cond.fieldLink "CircuitWarden$Ways" (51 : Nat) "CircuitWarden$Ways" "d" "LCircuitWarden$Design;") ∈ lw_all := lw_g (lw_at lw_m3 28 rfl) rfl
theorem q798 : (Jvm.Cond.fieldLink "CircuitWarden$Ways" (55 : Nat) "CircuitWarden$Ways" "levels" "LCircuitWarden$Levels;") ∈ lw_all := lw_g (lw_at lw_m3 29 rfl) rfl
theorem q799 : (Jvm.Cond.fieldLink "CircuitWarden$Ways" (59 : Nat) "CircuitWarden$Ways" "labels" "LCircuitWarden$Labels;") ∈ lw_all := lw_g (lw_at lw_m3 30 rfl) rfl
theorem q800 : (Jvm.Cond.fieldLink "CircuitWarden$Ways" (9 : Nat) "CircuitWarden$Ways" "held" "[I") ∈ lw_all := lw_g (lw_at lw_m3 31 rfl) rfl
theorem q802 : (Jvm.Cond.fieldLink "CircuitWarden$Ways" (15 : Nat) "CircuitWarden$Ways" "places" "[I") ∈ lw_all := lw_g (lw_at lw_m3 33 rfl) rfl
theorem q805 : (Jvm.Cond.fieldLink "CircuitWarden$Ways" (80 : Nat) "CircuitWarden$Ways" "helds" "I") ∈ lw_all := lw_g (lw_at lw_m3 36 rfl) rfl
theorem q806 : (Jvm.Cond.fieldLink "CircuitWarden$Ways" (83 : Nat) "CircuitWarden$Ways" "modesHeld" "J") ∈ lw_all := lw_g (lw_at lw_m3 37 rfl) rfl
theorem q807 : (Jvm.Cond.fieldLink "CircuitWarden$Ways" (18 : Nat) "CircuitWarden$Ways" "named" "[J") ∈ lw_all := lw_g (lw_at lw_m3 38 rfl) rfl
theorem q809 : (Jvm.Cond.fieldLink "CircuitWarden$Ways" (22 : Nat) "CircuitWarden$Ways" "now" "[I") ∈ lw_all := lw_g (lw_at lw_m3 40 rfl) rfl
theorem q810 : (Jvm.Cond.fieldLink "CircuitWarden$Ways" (25 : Nat) "CircuitWarden$Ways" "values" "[I") ∈ lw_all := lw_g (lw_at lw_m3 41 rfl) rfl
theorem q811 : (Jvm.Cond.fieldLink "CircuitWarden$Ways" (28 : Nat) "CircuitWarden$Ways" "opens" "[I") ∈ lw_all := lw_g (lw_at lw_m3 42 rfl) rfl
theorem q812 : (Jvm.Cond.fieldLink "CircuitWarden$Ways" (31 : Nat) "CircuitWarden$Ways" "hows" "[I") ∈ lw_all := lw_g (lw_at lw_m3 43 rfl) rfl
theorem q813 : (Jvm.Cond.fieldLink "CircuitWarden$Ways" (34 : Nat) "CircuitWarden$Ways" "stops" "[I") ∈ lw_all := lw_g (lw_at lw_m3 44 rfl) rfl
theorem q814 : (Jvm.Cond.fieldLink "CircuitWarden$Ways" (37 : Nat) "CircuitWarden$Ways" "keeps" "[I") ∈ lw_all := lw_g (lw_at lw_m3 45 rfl) rfl
theorem q815 : (Jvm.Cond.fieldLink "CircuitWarden$Ways" (176 : Nat) "CircuitWarden$Ways" "open" "I") ∈ lw_all := lw_g (lw_at lw_m3 46 rfl) rfl
theorem q816 : (Jvm.Cond.fieldLink "CircuitWarden$Ways" (40 : Nat) "CircuitWarden$Ways" "kept" "[I") ∈ lw_all := lw_g (lw_at lw_m3 47 rfl) rfl
theorem q817 : (Jvm.Cond.fieldLink "CircuitWarden$Ways" (179 : Nat) "CircuitWarden$Ways" "keptTop" "I") ∈ lw_all := lw_g (lw_at lw_m3 48 rfl) rfl
theorem q818 : (Jvm.Cond.fieldLink "CircuitWarden$Ways" (43 : Nat) "CircuitWarden$Ways" "firsts" "[Z") ∈ lw_all := lw_g (lw_at lw_m3 49 rfl) rfl
theorem q819 : (Jvm.Cond.fieldLink "CircuitWarden$Ways" (155 : Nat) "CircuitWarden$Ways" "parted" "I") ∈ lw_all := lw_g (lw_at lw_m3 50 rfl) rfl
theorem q820 : (Jvm.Cond.fieldLink "CircuitWarden$Ways" (164 : Nat) "CircuitWarden$Ways" "met" "I") ∈ lw_all := lw_g (lw_at lw_m3 51 rfl) rfl
theorem q821 : (Jvm.Cond.fieldLink "CircuitWarden$Ways" (63 : Nat) "CircuitWarden$Ways" "ways" "I") ∈ lw_all := lw_g (lw_at lw_m3 52 rfl) rfl
theorem q823 : (Jvm.Cond.fieldLink "CircuitWarden$Ways" (47 : Nat) "CircuitWarden$Ways" "owns" "[B") ∈ lw_all := lw_g (lw_at lw_m3 54 rfl) rfl
theorem q824 : (Jvm.Cond.fieldLink "CircuitWarden$Ways" (119 : Nat) "CircuitWarden$Ways" "leakOut" "I") ∈ lw_all := lw_g (lw_at lw_m3 55 rfl) rfl
theorem q825 : (Jvm.Cond.fieldLink "CircuitWarden$Ways" (122 : Nat) "CircuitWarden$Ways" "leakHeld" "I") ∈ lw_all := lw_g (lw_at lw_m3 56 rfl) rfl
theorem q826 : (Jvm.Cond.fieldLink "CircuitWarden$Ways" (139 : Nat) "CircuitWarden$Ways" "outSetting" "I") ∈ lw_all := lw_g (lw_at lw_m3 57 rfl) rfl
theorem q827 : (Jvm.Cond.fieldLink "CircuitWarden$Ways" (142 : Nat) "CircuitWarden$Ways" "heldSetting" "I") ∈ lw_all := lw_g (lw_at lw_m3 58 rfl) rfl
theorem q828 : (Jvm.Cond.laysFinal "CircuitWarden$Ways" "CircuitWarden$Ways" "d" "LCircuitWarden$Design;") ∈ lw_all := lw_g (lw_at lw_m3 59 rfl) rfl
theorem q829 : (Jvm.Cond.soleField "CircuitWarden$Ways" "d") ∈ lw_all := lw_g (lw_at lw_m3 60 rfl) rfl
theorem q830 : (Jvm.Cond.laysFinal "CircuitWarden$Ways" "CircuitWarden$Ways" "levels" "LCircuitWarden$Levels;") ∈ lw_all := lw_g (lw_at lw_m3 61 rfl) rfl
theorem q831 : (Jvm.Cond.soleField "CircuitWarden$Ways" "levels") ∈ lw_all := lw_g (lw_at lw_m3 62 rfl) rfl
theorem q832 : (Jvm.Cond.laysFinal "CircuitWarden$Ways" "CircuitWarden$Ways" "labels" "LCircuitWarden$Labels;") ∈ lw_all := lw_g (lw_at lw_m3 63 rfl) rfl
theorem q833 : (Jvm.Cond.soleField "CircuitWarden$Ways" "labels") ∈ lw_all := lw_g (lw_at lw_m3 64 rfl) rfl
theorem q834 : (Jvm.Cond.lays "CircuitWarden$Ways" "CircuitWarden$Ways" "held" "[I") ∈ lw_all := lw_g (lw_at lw_m3 65 rfl) rfl
theorem q835 : (Jvm.Cond.soleField "CircuitWarden$Ways" "held") ∈ lw_all := lw_g (lw_at lw_m3 66 rfl) rfl
theorem q836 : (Jvm.Cond.lays "CircuitWarden$Ways" "CircuitWarden$Ways" "places" "[I") ∈ lw_all := lw_g (lw_at lw_m3 67 rfl) rfl
theorem q837 : (Jvm.Cond.soleField "CircuitWarden$Ways" "places") ∈ lw_all := lw_g (lw_at lw_m3 68 rfl) rfl
theorem q838 : (Jvm.Cond.lays "CircuitWarden$Ways" "CircuitWarden$Ways" "helds" "I") ∈ lw_all := lw_g (lw_at lw_m3 69 rfl) rfl
theorem q839 : (Jvm.Cond.soleField "CircuitWarden$Ways" "helds") ∈ lw_all := lw_g (lw_at lw_m3 70 rfl) rfl
theorem q840 : (Jvm.Cond.lays "CircuitWarden$Ways" "CircuitWarden$Ways" "modesHeld" "J") ∈ lw_all := lw_g (lw_at lw_m3 71 rfl) rfl
theorem q841 : (Jvm.Cond.soleField "CircuitWarden$Ways" "modesHeld") ∈ lw_all := lw_g (lw_at lw_m3 72 rfl) rfl
theorem q842 : (Jvm.Cond.lays "CircuitWarden$Ways" "CircuitWarden$Ways" "named" "[J") ∈ lw_all := lw_g (lw_at lw_m3 73 rfl) rfl
theorem q843 : (Jvm.Cond.soleField "CircuitWarden$Ways" "named") ∈ lw_all := lw_g (lw_at lw_m3 74 rfl) rfl
theorem q844 : (Jvm.Cond.lays "CircuitWarden$Ways" "CircuitWarden$Ways" "now" "[I") ∈ lw_all := lw_g (lw_at lw_m3 75 rfl) rfl
theorem q845 : (Jvm.Cond.soleField "CircuitWarden$Ways" "now") ∈ lw_all := lw_g (lw_at lw_m3 76 rfl) rfl
theorem q846 : (Jvm.Cond.lays "CircuitWarden$Ways" "CircuitWarden$Ways" "values" "[I") ∈ lw_all := lw_g (lw_at lw_m3 77 rfl) rfl
theorem q847 : (Jvm.Cond.soleField "CircuitWarden$Ways" "values") ∈ lw_all := lw_g (lw_at lw_m3 78 rfl) rfl
theorem q848 : (Jvm.Cond.lays "CircuitWarden$Ways" "CircuitWarden$Ways" "opens" "[I") ∈ lw_all := lw_g (lw_at lw_m3 79 rfl) rfl
theorem q849 : (Jvm.Cond.soleField "CircuitWarden$Ways" "opens") ∈ lw_all := lw_g (lw_at lw_m3 80 rfl) rfl
theorem q850 : (Jvm.Cond.lays "CircuitWarden$Ways" "CircuitWarden$Ways" "hows" "[I") ∈ lw_all := lw_g (lw_at lw_m3 81 rfl) rfl
theorem q851 : (Jvm.Cond.soleField "CircuitWarden$Ways" "hows") ∈ lw_all := lw_g (lw_at lw_m3 82 rfl) rfl
theorem q852 : (Jvm.Cond.lays "CircuitWarden$Ways" "CircuitWarden$Ways" "stops" "[I") ∈ lw_all := lw_g (lw_at lw_m3 83 rfl) rfl
theorem q853 : (Jvm.Cond.soleField "CircuitWarden$Ways" "stops") ∈ lw_all := lw_g (lw_at lw_m3 84 rfl) rfl
theorem q854 : (Jvm.Cond.lays "CircuitWarden$Ways" "CircuitWarden$Ways" "keeps" "[I") ∈ lw_all := lw_g (lw_at lw_m3 85 rfl) rfl
theorem q855 : (Jvm.Cond.soleField "CircuitWarden$Ways" "keeps") ∈ lw_all := lw_g (lw_at lw_m3 86 rfl) rfl
theorem q856 : (Jvm.Cond.lays "CircuitWarden$Ways" "CircuitWarden$Ways" "open" "I") ∈ lw_all := lw_g (lw_at lw_m3 87 rfl) rfl
theorem q857 : (Jvm.Cond.soleField "CircuitWarden$Ways" "open") ∈ lw_all := lw_g (lw_at lw_m3 88 rfl) rfl
theorem q858 : (Jvm.Cond.lays "CircuitWarden$Ways" "CircuitWarden$Ways" "kept" "[I") ∈ lw_all := lw_g (lw_at lw_m3 89 rfl) rfl
theorem q859 : (Jvm.Cond.soleField "CircuitWarden$Ways" "kept") ∈ lw_all := lw_g (lw_at lw_m3 90 rfl) rfl
theorem q860 : (Jvm.Cond.lays "CircuitWarden$Ways" "CircuitWarden$Ways" "keptTop" "I") ∈ lw_all := lw_g (lw_at lw_m3 91 rfl) rfl
theorem q861 : (Jvm.Cond.soleField "CircuitWarden$Ways" "keptTop") ∈ lw_all := lw_g (lw_at lw_m3 92 rfl) rfl
theorem q862 : (Jvm.Cond.lays "CircuitWarden$Ways" "CircuitWarden$Ways" "firsts" "[Z") ∈ lw_all := lw_g (lw_at lw_m3 93 rfl) rfl
theorem q863 : (Jvm.Cond.soleField "CircuitWarden$Ways" "firsts") ∈ lw_all := lw_g (lw_at lw_m3 94 rfl) rfl
theorem q864 : (Jvm.Cond.lays "CircuitWarden$Ways" "CircuitWarden$Ways" "parted" "I") ∈ lw_all := lw_g (lw_at lw_m3 95 rfl) rfl
theorem q865 : (Jvm.Cond.soleField "CircuitWarden$Ways" "parted") ∈ lw_all := lw_g (lw_at lw_m3 96 rfl) rfl
theorem q866 : (Jvm.Cond.lays "CircuitWarden$Ways" "CircuitWarden$Ways" "met" "I") ∈ lw_all := lw_g (lw_at lw_m3 97 rfl) rfl
theorem q867 : (Jvm.Cond.soleField "CircuitWarden$Ways" "met") ∈ lw_all := lw_g (lw_at lw_m3 98 rfl) rfl
theorem q868 : (Jvm.Cond.lays "CircuitWarden$Ways" "CircuitWarden$Ways" "ways" "I") ∈ lw_all := lw_g (lw_at lw_m3 99 rfl) rfl
theorem q869 : (Jvm.Cond.soleField "CircuitWarden$Ways" "ways") ∈ lw_all := lw_g (lw_at lw_m3 100 rfl) rfl
theorem q870 : (Jvm.Cond.lays "CircuitWarden$Ways" "CircuitWarden$Ways" "owns" "[B") ∈ lw_all := lw_g (lw_at lw_m3 101 rfl) rfl
theorem q871 : (Jvm.Cond.soleField "CircuitWarden$Ways" "owns") ∈ lw_all := lw_g (lw_at lw_m3 102 rfl) rfl
theorem q872 : (Jvm.Cond.lays "CircuitWarden$Ways" "CircuitWarden$Ways" "leakOut" "I") ∈ lw_all := lw_g (lw_at lw_m3 103 rfl) rfl
theorem q873 : (Jvm.Cond.soleField "CircuitWarden$Ways" "leakOut") ∈ lw_all := lw_g (lw_at lw_m3 104 rfl) rfl
theorem q874 : (Jvm.Cond.lays "CircuitWarden$Ways" "CircuitWarden$Ways" "leakHeld" "I") ∈ lw_all := lw_g (lw_at lw_m3 105 rfl) rfl
theorem q875 : (Jvm.Cond.soleField "CircuitWarden$Ways" "leakHeld") ∈ lw_all := lw_g (lw_at lw_m3 106 rfl) rfl
theorem q876 : (Jvm.Cond.lays "CircuitWarden$Ways" "CircuitWarden$Ways" "outSetting" "I") ∈ lw_all := lw_g (lw_at lw_m3 107 rfl) rfl
theorem q877 : (Jvm.Cond.soleField "CircuitWarden$Ways" "outSetting") ∈ lw_all := lw_g (lw_at lw_m3 108 rfl) rfl
theorem q878 : (Jvm.Cond.lays "CircuitWarden$Ways" "CircuitWarden$Ways" "heldSetting" "I") ∈ lw_all := lw_g (lw_at lw_m3 109 rfl) rfl
theorem q879 : (Jvm.Cond.soleField "CircuitWarden$Ways" "heldSetting") ∈ lw_all := lw_g (lw_at lw_m3 110 rfl) rfl
theorem q880 : (Jvm.Cond.superclass "CircuitWarden$Ways" "java/lang/Object") ∈ lw_all := lw_g (lw_at lw_m3 111 rfl) rfl
theorem q1089 : (Jvm.Cond.instanceMethod ({ cls := "CircuitWarden$Ways", name := "begin", desc := "()V" } : Jvm.MethodName)) ∈ lw_all := lw_g (lw_at lw_m4 80 rfl) rfl
theorem q1090 : (Jvm.Cond.selects "CircuitWarden$Ways" ({ cls := "CircuitWarden$Ways", name := "begin", desc := "()V" } : Jvm.MethodName) ({ cls := "CircuitWarden$Ways", name := "begin", desc := "()V" } : Jvm.MethodName)) ∈ lw_all := lw_g (lw_at lw_m4 81 rfl) rfl
theorem q1091 : (Jvm.Cond.code ({ cls := "CircuitWarden$Ways", name := "begin", desc := "()V" } : Jvm.MethodName) prog_17_method_5_code (3 : Nat) (Option.none : Option Jvm.ClassFile.FieldType)) ∈ lw_all := lw_g (lw_at lw_m4 82 rfl) rfl
theorem q1092 : (Jvm.Cond.methodLink "CircuitWarden$Ways" (75 : Nat) ({ cls := "CircuitWarden$Labels", name := "begin", desc := "()V" } : Jvm.MethodName)) ∈ lw_all := lw_g (lw_at lw_m4 83 rfl) rfl
theorem q1097 : (Jvm.Cond.methodLinkNest "CircuitWarden$Ways" (90 : Nat) ({ cls := "CircuitWarden", name := "grown", desc := "([II)[I" } : Jvm.MethodName) "CircuitWarden") ∈ lw_tbl := lw_at lw_m4 88 rfl
theorem q1098 : (Jvm.Cond.methodLink "CircuitWarden$Ways" (97 : Nat) ({ cls := "CircuitWarden$Ways", name := "isCheck", desc := "(I)Z" } : Jvm.MethodName)) ∈ lw_all := lw_g (lw_at lw_m4 89 rfl) rfl
theorem q1099 : (Jvm.Cond.instanceMethod ({ cls := "CircuitWarden$Ways", name := "isCheck", desc := "(I)Z" } : Jvm.MethodName)) ∈ lw_all := lw_g (lw_at lw_m4 90 rfl) rfl
theorem q1100 : (Jvm.Cond.selects "CircuitWarden$Ways" ({ cls := "CircuitWarden$Ways", name := "isCheck", desc := "(I)Z" } : Jvm.MethodName) ({ cls := "CircuitWarden$Ways", name := "isCheck", desc := "(I)Z" } : Jvm.MethodName)) ∈ lw_all := lw_g (lw_at lw_m4 91 rfl) rfl
theorem q1101 : (Jvm.Cond.code ({ cls := "CircuitWarden$Ways", name := "isCheck", desc := "(I)Z" } : Jvm.MethodName) prog_17_method_3_code (2 : Nat) (Option.some Jvm.ClassFile.FieldType.boolean)) ∈ lw_all := lw_g (lw_at lw_m4 92 rfl) rfl
theorem q1103 : (Jvm.Cond.instanceMethod ({ cls := "CircuitWarden$Ways", name := "go", desc := "()Z" } : Jvm.MethodName)) ∈ lw_all := lw_g (lw_at lw_m4 94 rfl) rfl
theorem q1104 : (Jvm.Cond.selects "CircuitWarden$Ways" ({ cls := "CircuitWarden$Ways", name := "go", desc := "()Z" } : Jvm.MethodName) ({ cls := "CircuitWarden$Ways", name := "go", desc := "()Z" } : Jvm.MethodName)) ∈ lw_all := lw_g (lw_at lw_m4 95 rfl) rfl
theorem q1105 : (Jvm.Cond.code ({ cls := "CircuitWarden$Ways", name := "go", desc := "()Z" } : Jvm.MethodName) prog_17_method_6_code (4 : Nat) (Option.some Jvm.ClassFile.FieldType.boolean)) ∈ lw_all := lw_g (lw_at lw_m4 96 rfl) rfl
theorem q1106 : (Jvm.Cond.methodLink "CircuitWarden$Ways" (110 : Nat) ({ cls := "CircuitWarden$Ways", name := "isMode", desc := "(I)Z" } : Jvm.MethodName)) ∈ lw_all := lw_g (lw_at lw_m4 97 rfl) rfl
theorem q1107 : (Jvm.Cond.privateMethod ({ cls := "CircuitWarden$Ways", name := "isMode", desc := "(I)Z" } : Jvm.MethodName)) ∈ lw_tbl := lw_at lw_m4 98 rfl
theorem q1108 : (Jvm.Cond.instanceMethod ({ cls := "CircuitWarden$Ways", name := "isMode", desc := "(I)Z" } : Jvm.MethodName)) ∈ lw_all := lw_g (lw_at lw_m4 99 rfl) rfl
theorem q1109 : (Jvm.Cond.code ({ cls := "CircuitWarden$Ways", name := "isMode", desc := "(I)Z" } : Jvm.MethodName) prog_17_method_4_code (2 : Nat) (Option.some Jvm.ClassFile.FieldType.boolean)) ∈ lw_all := lw_g (lw_at lw_m4 100 rfl) rfl
theorem q1110 : (Jvm.Cond.methodLink "CircuitWarden$Ways" (115 : Nat) ({ cls := "CircuitWarden$Labels", name := "told", desc := "(II)I" } : Jvm.MethodName)) ∈ lw_all := lw_g (lw_at lw_m4 101 rfl) rfl
theorem q1122 : (Jvm.Cond.methodLink "CircuitWarden$Ways" (125 : Nat) ({ cls := "CircuitWarden$Ways", name := "isTooMany", desc := "()Z" } : Jvm.MethodName)) ∈ lw_all := lw_g (lw_at lw_m4 113 rfl) rfl
theorem q1123 : (Jvm.Cond.privateMethod ({ cls := "CircuitWarden$Ways", name := "isTooMany", desc := "()Z" } : Jvm.MethodName)) ∈ lw_tbl := lw_at lw_m4 114 rfl
theorem q1124 : (Jvm.Cond.instanceMethod ({ cls := "CircuitWarden$Ways", name := "isTooMany", desc := "()Z" } : Jvm.MethodName)) ∈ lw_all := lw_g (lw_at lw_m4 115 rfl) rfl
theorem q1125 : (Jvm.Cond.code ({ cls := "CircuitWarden$Ways", name := "isTooMany", desc := "()Z" } : Jvm.MethodName) prog_17_method_2_code (1 : Nat) (Option.some Jvm.ClassFile.FieldType.boolean)) ∈ lw_all := lw_g (lw_at lw_m4 116 rfl) rfl
theorem q1126 : (Jvm.Cond.methodLink "CircuitWarden$Ways" (129 : Nat) ({ cls := "CircuitWarden$Labels", name := "reckon", desc := "(I)V" } : Jvm.MethodName)) ∈ lw_all := lw_g (lw_at lw_m4 117 rfl) rfl
theorem q1173 : (Jvm.Cond.methodLink "CircuitWarden$Ways" (133 : Nat) ({ cls := "CircuitWarden$Ways", name := "outs", desc := "(I)V" } : Jvm.MethodName)) ∈ lw_all := lw_g (lw_at lw_m4 164 rfl) rfl
theorem q1174 : (Jvm.Cond.privateMethod ({ cls := "CircuitWarden$Ways", name := "outs", desc := "(I)V" } : Jvm.MethodName)) ∈ lw_tbl := lw_at lw_m4 165 rfl
theorem q1175 : (Jvm.Cond.instanceMethod ({ cls := "CircuitWarden$Ways", name := "outs", desc := "(I)V" } : Jvm.MethodName)) ∈ lw_all := lw_g (lw_at lw_m4 166 rfl) rfl
theorem q1176 : (Jvm.Cond.code ({ cls := "CircuitWarden$Ways", name := "outs", desc := "(I)V" } : Jvm.MethodName) prog_17_method_10_code (3 : Nat) (Option.none : Option Jvm.ClassFile.FieldType)) ∈ lw_all := lw_g (lw_at lw_m4 167 rfl) rfl
theorem q1177 : (Jvm.Cond.methodLink "CircuitWarden$Ways" (145 : Nat) ({ cls := "CircuitWarden$Labels", name := "own", desc := "(I)I" } : Jvm.MethodName)) ∈ lw_all := lw_g (lw_at lw_m4 168 rfl) rfl
theorem q1178 : (Jvm.Cond.methodLink "CircuitWarden$Ways" (149 : Nat) ({ cls := "CircuitWarden$Levels", name := "lies", desc := "(II)Z" } : Jvm.MethodName)) ∈ lw_all := lw_g (lw_at lw_m4 169 rfl) rfl
theorem q1179 : (Jvm.Cond.methodLink "CircuitWarden$Ways" (136 : Nat) ({ cls := "CircuitWarden$Ways", name := "all", desc := "(I)V" } : Jvm.MethodName)) ∈ lw_all := lw_g (lw_at lw_m4 170 rfl) rfl
theorem q1180 : (Jvm.Cond.privateMethod ({ cls := "CircuitWarden$Ways", name := "all", desc := "(I)V" } : Jvm.MethodName)) ∈ lw_tbl := lw_at lw_m4 171 rfl
theorem q1181 : (Jvm.Cond.instanceMethod ({ cls := "CircuitWarden$Ways", name := "all", desc := "(I)V" } : Jvm.MethodName)) ∈ lw_all := lw_g (lw_at lw_m4 172 rfl) rfl
theorem q1182 : (Jvm.Cond.code ({ cls := "CircuitWarden$Ways", name := "all", desc := "(I)V" } : Jvm.MethodName) prog_17_method_11_code (3 : Nat) (Option.none : Option Jvm.ClassFile.FieldType)) ∈ lw_all := lw_g (lw_at lw_m4 173 rfl) rfl
theorem q1183 : (Jvm.Cond.methodLink "CircuitWarden$Ways" (158 : Nat) ({ cls := "CircuitWarden$Ways", name := "way", desc := "(I)V" } : Jvm.MethodName)) ∈ lw_all := lw_g (lw_at lw_m4 174 rfl) rfl
theorem q1184 : (Jvm.Cond.privateMethod ({ cls := "CircuitWarden$Ways", name := "way", desc := "(I)V" } : Jvm.MethodName)) ∈ lw_tbl := lw_at lw_m4 175 rfl
theorem q1185 : (Jvm.Cond.instanceMethod ({ cls := "CircuitWarden$Ways", name := "way", desc := "(I)V" } : Jvm.MethodName)) ∈ lw_all := lw_g (lw_at lw_m4 176 rfl) rfl
theorem q1186 : (Jvm.Cond.code ({ cls := "CircuitWarden$Ways", name := "way", desc := "(I)V" } : Jvm.MethodName) prog_17_method_13_code (3 : Nat) (Option.none : Option Jvm.ClassFile.FieldType)) ∈ lw_all := lw_g (lw_at lw_m4 177 rfl) rfl
theorem q1187 : (Jvm.Cond.methodLink "CircuitWarden$Ways" (173 : Nat) ({ cls := "CircuitWarden$Labels", name := "mode", desc := "(II)I" } : Jvm.MethodName)) ∈ lw_all := lw_g (lw_at lw_m4 178 rfl) rfl
theorem q1188 : (Jvm.Cond.methodLink "CircuitWarden$Ways" (182 : Nat) ({ cls := "CircuitWarden$Ways", name := "close", desc := "()I" } : Jvm.MethodName)) ∈ lw_all := lw_g (lw_at lw_m4 179 rfl) rfl
theorem q1189 : (Jvm.Cond.privateMethod ({ cls := "CircuitWarden$Ways", name := "close", desc := "()I" } : Jvm.MethodName)) ∈ lw_tbl := lw_at lw_m4 180 rfl
theorem q1190 : (Jvm.Cond.instanceMethod ({ cls := "CircuitWarden$Ways", name := "close", desc := "()I" } : Jvm.MethodName)) ∈ lw_all := lw_g (lw_at lw_m4 181 rfl) rfl
theorem q1191 : (Jvm.Cond.code ({ cls := "CircuitWarden$Ways", name := "close", desc := "()I" } : Jvm.MethodName) prog_17_method_18_code (5 : Nat) (Option.some Jvm.ClassFile.FieldType.int)) ∈ lw_all := lw_g (lw_at lw_m4 182 rfl) rfl
theorem q1192 : (Jvm.Cond.methodLink "CircuitWarden$Ways" (212 : Nat) ({ cls := "CircuitWarden$Ways", name := "keep", desc := "()V" } : Jvm.MethodName)) ∈ lw_all := lw_g (lw_at lw_m4 183 rfl) rfl
theorem q1193 : (Jvm.Cond.privateMethod ({ cls := "CircuitWarden$Ways", name := "keep", desc := "()V" } : Jvm.MethodName)) ∈ lw_tbl := lw_at lw_m4 184 rfl
theorem q1194 : (Jvm.Cond.instanceMethod ({ cls := "CircuitWarden$Ways", name := "keep", desc := "()V" } : Jvm.MethodName)) ∈ lw_all := lw_g (lw_at lw_m4 185 rfl) rfl
theorem q1195 : (Jvm.Cond.code ({ cls := "CircuitWarden$Ways", name := "keep", desc := "()V" } : Jvm.MethodName) prog_17_method_17_code (1 : Nat) (Option.none : Option Jvm.ClassFile.FieldType)) ∈ lw_all := lw_g (lw_at lw_m4 186 rfl) rfl
theorem q1196 : (Jvm.Cond.methodLink "CircuitWarden$Ways" (167 : Nat) ({ cls := "java/lang/System", name := "arraycopy", desc := "(Ljava/lang/Object;ILjava/lang/Object;II)V" } : Jvm.MethodName)) ∈ lw_all := lw_g (lw_at lw_m4 187 rfl) rfl
theorem q1197 : (Jvm.Cond.methodLink "CircuitWarden$Ways" (215 : Nat) ({ cls := "CircuitWarden$Levels", name := "join", desc := "(II)I" } : Jvm.MethodName)) ∈ lw_all := lw_g (lw_at lw_m4 188 rfl) rfl
theorem q1198 : (Jvm.Cond.methodLink "CircuitWarden$Ways" (186 : Nat) ({ cls := "CircuitWarden$Ways", name := "branch", desc := "(I)I" } : Jvm.MethodName)) ∈ lw_all := lw_g (lw_at lw_m4 189 rfl) rfl
theorem q1199 : (Jvm.Cond.privateMethod ({ cls := "CircuitWarden$Ways", name := "branch", desc := "(I)I" } : Jvm.MethodName)) ∈ lw_tbl := lw_at lw_m4 190 rfl
theorem q1200 : (Jvm.Cond.instanceMethod ({ cls := "CircuitWarden$Ways", name := "branch", desc := "(I)I" } : Jvm.MethodName)) ∈ lw_all := lw_g (lw_at lw_m4 191 rfl) rfl
theorem q1201 : (Jvm.Cond.code ({ cls := "CircuitWarden$Ways", name := "branch", desc := "(I)I" } : Jvm.MethodName) prog_17_method_16_code (5 : Nat) (Option.some Jvm.ClassFile.FieldType.int)) ∈ lw_all := lw_g (lw_at lw_m4 192 rfl) rfl
theorem q1202 : (Jvm.Cond.methodLink "CircuitWarden$Ways" (203 : Nat) ({ cls := "CircuitWarden$Ways", name := "parts", desc := "()Z" } : Jvm.MethodName)) ∈ lw_all := lw_g (lw_at lw_m4 193 rfl) rfl
theorem q1203 : (Jvm.Cond.privateMethod ({ cls := "CircuitWarden$Ways", name := "parts", desc := "()Z" } : Jvm.MethodName)) ∈ lw_tbl := lw_at lw_m4 194 rfl
theorem q1204 : (Jvm.Cond.instanceMethod ({ cls := "CircuitWarden$Ways", name := "parts", desc := "()Z" } : Jvm.MethodName)) ∈ lw_all := lw_g (lw_at lw_m4 195 rfl) rfl
theorem q1205 : (Jvm.Cond.code ({ cls := "CircuitWarden$Ways", name := "parts", desc := "()Z" } : Jvm.MethodName) prog_17_method_12_code (2 : Nat) (Option.some Jvm.ClassFile.FieldType.boolean)) ∈ lw_all := lw_g (lw_at lw_m4 196 rfl) rfl
theorem q1206 : (Jvm.Cond.methodLink "CircuitWarden$Ways" (206 : Nat) ({ cls := "CircuitWarden$Ways", name := "open", desc := "(III)V" } : Jvm.MethodName)) ∈ lw_all := lw_g (lw_at lw_m4 197 rfl) rfl
theorem q1207 : (Jvm.Cond.privateMethod ({ cls := "CircuitWarden$Ways", name := "open", desc := "(III)V" } : Jvm.MethodName)) ∈ lw_tbl := lw_at lw_m4 198 rfl
theorem q1208 : (Jvm.Cond.instanceMethod ({ cls := "CircuitWarden$Ways", name := "open", desc := "(III)V" } : Jvm.MethodName)) ∈ lw_all := lw_g (lw_at lw_m4 199 rfl) rfl
theorem q1209 : (Jvm.Cond.code ({ cls := "CircuitWarden$Ways", name := "open", desc := "(III)V" } : Jvm.MethodName) prog_17_method_15_code (4 : Nat) (Option.none : Option Jvm.ClassFile.FieldType)) ∈ lw_all := lw_g (lw_at lw_m4 200 rfl) rfl
theorem q1210 : (Jvm.Cond.methodLink "CircuitWarden$Ways" (192 : Nat) ({ cls := "CircuitWarden$Ways", name := "put", desc := "(II)V" } : Jvm.MethodName)) ∈ lw_all := lw_g (lw_at lw_m4 201 rfl) rfl
theorem q1211 : (Jvm.Cond.privateMethod ({ cls := "CircuitWarden$Ways", name := "put", desc := "(II)V" } : Jvm.MethodName)) ∈ lw_tbl := lw_at lw_m4 202 rfl
theorem q1212 : (Jvm.Cond.instanceMethod ({ cls := "CircuitWarden$Ways", name := "put", desc := "(II)V" } : Jvm.MethodName)) ∈ lw_all := lw_g (lw_at lw_m4 203 rfl) rfl
theorem q1213 : (Jvm.Cond.code ({ cls := "CircuitWarden$Ways", name := "put", desc := "(II)V" } : Jvm.MethodName) prog_17_method_14_code (3 : Nat) (Option.none : Option Jvm.ClassFile.FieldType)) ∈ lw_all := lw_g (lw_at lw_m4 204 rfl) rfl
theorem q1214 : (Jvm.Cond.methodLink "CircuitWarden$Ways" (161 : Nat) ({ cls := "CircuitWarden$Ways", name := "end", desc := "(I)V" } : Jvm.MethodName)) ∈ lw_all := lw_g (lw_at lw_m4 205 rfl) rfl
theorem q1215 : (Jvm.Cond.privateMethod ({ cls := "CircuitWarden$Ways", name := "end", desc := "(I)V" } : Jvm.MethodName)) ∈ lw_tbl := lw_at lw_m4 206 rfl
theorem q1216 : (Jvm.Cond.instanceMethod ({ cls := "CircuitWarden$Ways", name := "end", desc := "(I)V" } : Jvm.MethodName)) ∈ lw_all := lw_g (lw_at lw_m4 207 rfl) rfl
theorem q1217 : (Jvm.Cond.code ({ cls := "CircuitWarden$Ways", name := "end", desc := "(I)V" } : Jvm.MethodName) prog_17_method_19_code (6 : Nat) (Option.none : Option Jvm.ClassFile.FieldType)) ∈ lw_all := lw_g (lw_at lw_m4 208 rfl) rfl
theorem q1218 : (Jvm.Cond.methodLink "CircuitWarden$Ways" (224 : Nat) ({ cls := "CircuitWarden$Ways", name := "fits", desc := "(III)Z" } : Jvm.MethodName)) ∈ lw_all := lw_g (lw_at lw_m4 209 rfl) rfl
theorem q1219 : (Jvm.Cond.privateMethod ({ cls := "CircuitWarden$Ways", name := "fits", desc := "(III)Z" } : Jvm.MethodName)) ∈ lw_tbl := lw_at lw_m4 210 rfl
theorem q1220 : (Jvm.Cond.instanceMethod ({ cls := "CircuitWarden$Ways", name := "fits", desc := "(III)Z" } : Jvm.MethodName)) ∈ lw_all := lw_g (lw_at lw_m4 211 rfl) rfl
theorem q1221 : (Jvm.Cond.code ({ cls := "CircuitWarden$Ways", name := "fits", desc := "(III)Z" } : Jvm.MethodName) prog_17_method_20_code (6 : Nat) (Option.some Jvm.ClassFile.FieldType.boolean)) ∈ lw_all := lw_g (lw_at lw_m4 212 rfl) rfl
theorem q2025 : (Jvm.Cond.instanceMethod ({ cls := "CircuitWarden$Ways", name := "leaks", desc := "()Z" } : Jvm.MethodName)) ∈ lw_all := lw_g (lw_at lw_m8 56 rfl) rfl
theorem q2026 : (Jvm.Cond.selects "CircuitWarden$Ways" ({ cls := "CircuitWarden$Ways", name := "leaks", desc := "()Z" } : Jvm.MethodName) ({ cls := "CircuitWarden$Ways", name := "leaks", desc := "()Z" } : Jvm.MethodName)) ∈ lw_all := lw_g (lw_at lw_m8 57 rfl) rfl
theorem q2027 : (Jvm.Cond.code ({ cls := "CircuitWarden$Ways", name := "leaks", desc := "()Z" } : Jvm.MethodName) prog_17_method_7_code (1 : Nat) (Option.some Jvm.ClassFile.FieldType.boolean)) ∈ lw_all := lw_g (lw_at lw_m8 58 rfl) rfl
theorem q2029 : (Jvm.Cond.instanceMethod ({ cls := "CircuitWarden$Ways", name := "leak", desc := "()I" } : Jvm.MethodName)) ∈ lw_all := lw_g (lw_at lw_m8 60 rfl) rfl
theorem q2030 : (Jvm.Cond.selects "CircuitWarden$Ways" ({ cls := "CircuitWarden$Ways", name := "leak", desc := "()I" } : Jvm.MethodName) ({ cls := "CircuitWarden$Ways", name := "leak", desc := "()I" } : Jvm.MethodName)) ∈ lw_all := lw_g (lw_at lw_m8 61 rfl) rfl
theorem q2031 : (Jvm.Cond.code ({ cls := "CircuitWarden$Ways", name := "leak", desc := "()I" } : Jvm.MethodName) prog_17_method_8_code (1 : Nat) (Option.some Jvm.ClassFile.FieldType.int)) ∈ lw_all := lw_g (lw_at lw_m8 62 rfl) rfl
theorem q2033 : (Jvm.Cond.instanceMethod ({ cls := "CircuitWarden$Ways", name := "setting", desc := "()I" } : Jvm.MethodName)) ∈ lw_all := lw_g (lw_at lw_m8 64 rfl) rfl
theorem q2034 : (Jvm.Cond.selects "CircuitWarden$Ways" ({ cls := "CircuitWarden$Ways", name := "setting", desc := "()I" } : Jvm.MethodName) ({ cls := "CircuitWarden$Ways", name := "setting", desc := "()I" } : Jvm.MethodName)) ∈ lw_all := lw_g (lw_at lw_m8 65 rfl) rfl
theorem q2035 : (Jvm.Cond.code ({ cls := "CircuitWarden$Ways", name := "setting", desc := "()I" } : Jvm.MethodName) prog_17_method_9_code (1 : Nat) (Option.some Jvm.ClassFile.FieldType.int)) ∈ lw_all := lw_g (lw_at lw_m8 66 rfl) rfl
theorem in_X10 : ∀ w ∈ wsX100, w ∈ lw_all := lw_in wsX100 [828, 830, 832, 834, 836, 838, 840, 842, 844, 846, 848, 850, 852, 854, 856, 858, 860, 862, 864, 866, 868, 870, 872, 874, 876, 878] (by decide +kernel) (by decide +kernel)
/-! CircuitWarden$Gates -/
def RX11 : String := "CircuitWarden$Gates"
def TX11 : u_T := fun k => match k with
  | 0 => ("CircuitWarden$Gates", "d", "LCircuitWarden$Design;", true)
  | 1 => ("CircuitWarden$Gates", "ways", "LCircuitWarden$Ways;", true)
  | 2 => ("CircuitWarden$Gates", "net", "LCircuitWarden$Net;", true)
  | 3 => ("CircuitWarden$Gates", "twin", "LCircuitWarden$Twin;", true)
  | 4 => ("CircuitWarden$Gates", "bits", "[I", false)
  | 5 => ("CircuitWarden$Gates", "size", "I", false)
  | 6 => ("CircuitWarden$Gates", "starts", "[I", false)
  | 7 => ("CircuitWarden$Gates", "owns", "[I", false)
  | 8 => ("CircuitWarden$Gates", "nexts", "[I", false)
  | 9 => ("CircuitWarden$Gates", "now", "[I", false)
  | 10 => ("CircuitWarden$Gates", "opens", "[I", false)
  | 11 => ("CircuitWarden$Gates", "seconds", "[Z", false)
  | 12 => ("CircuitWarden$Gates", "open", "I", false)
  | 13 => ("CircuitWarden$Gates", "kept", "[I", false)
  | 14 => ("CircuitWarden$Gates", "marks", "[I", false)
  | _ => ("CircuitWarden$Gates", "aside", "[I", false)
def tyX11 : Nat → FieldType := fun k => match k with
  | 0 => .object "CircuitWarden$Design"
  | 1 => .object "CircuitWarden$Ways"
  | 2 => .object "CircuitWarden$Net"
  | 3 => .object "CircuitWarden$Twin"
  | 4 => .array .int
  | 5 => .int
  | 6 => .array .int
  | 7 => .array .int
  | 8 => .array .int
  | 9 => .array .int
  | 10 => .array .int
  | 11 => .array .boolean
  | 12 => .int
  | 13 => .array .int
  | 14 => .array .int
  | _ => .array .int
abbrev wsX110 : List Cond := u_ws RX11 TX11 16
theorem nmX11 : ∀ a, a < 16 → ∀ b, b < 16 → a ≠ b → (TX11 a).2.1 ≠ (TX11 b).2.1 := by decide +kernel
theorem tyX11_ok : ∀ k, k < 16 → parseFieldDescriptor (TX11 k).2.2.1 = some (tyX11 k) := by decide +kernel
abbrev cX11_init : ByteArray := prog_5_method_1_code
def yX11_init : MethodName := ⟨RX11, "<init>", "(LCircuitWarden$Design;LCircuitWarden$Ways;)V"⟩
abbrev cX11_make : ByteArray := prog_5_method_2_code
def yX11_make : MethodName := ⟨RX11, "make", "()Z"⟩
abbrev cX11_row : ByteArray := prog_5_method_3_code
def yX11_row : MethodName := ⟨RX11, "row", "(I)I"⟩
abbrev cX11_next : ByteArray := prog_5_method_21_code
def yX11_next : MethodName := ⟨RX11, "next", "()V"⟩
abbrev cX11_close : ByteArray := prog_5_method_23_code
def yX11_close : MethodName := ⟨RX11, "close", "()I"⟩
abbrev cX11_keep : ByteArray := prog_5_method_22_code
def yX11_keep : MethodName := ⟨RX11, "keep", "(I)V"⟩
abbrev cX11_bit : ByteArray := prog_5_method_4_code
def yX11_bit : MethodName := ⟨RX11, "bit", "(II)I"⟩
abbrev cX11_chosen : ByteArray := prog_5_method_12_code
def yX11_chosen : MethodName := ⟨RX11, "chosen", "(IIII)I"⟩
abbrev cX11_tidy : ByteArray := prog_5_method_24_code
def yX11_tidy : MethodName := ⟨RX11, "tidy", "(II)V"⟩
abbrev cX11_looks : ByteArray := prog_5_method_5_code
def yX11_looks : MethodName := ⟨RX11, "looks", "(II)V"⟩
abbrev cX11_look : ByteArray := prog_5_method_6_code
def yX11_look : MethodName := ⟨RX11, "look", "(I)I"⟩
abbrev cX11_turned : ByteArray := prog_5_method_8_code
def yX11_turned : MethodName := ⟨RX11, "turned", "(II)I"⟩
abbrev cX11_difference : ByteArray := prog_5_method_17_code
def yX11_difference : MethodName := ⟨RX11, "difference", "(III)I"⟩
abbrev cX11_add : ByteArray := prog_5_method_18_code
def yX11_add : MethodName := ⟨RX11, "add", "(IIIII)V"⟩
abbrev cX11_joined : ByteArray := prog_5_method_9_code
def yX11_joined : MethodName := ⟨RX11, "joined", "(IIII)I"⟩
abbrev cX11_extended : ByteArray := prog_5_method_10_code
def yX11_extended : MethodName := ⟨RX11, "extended", "(IIII)I"⟩
abbrev cX11_gathered : ByteArray := prog_5_method_11_code
def yX11_gathered : MethodName := ⟨RX11, "gathered", "(III)I"⟩
abbrev cX11_one : ByteArray := prog_5_method_7_code
def yX11_one : MethodName := ⟨RX11, "one", "(I)I"⟩
abbrev cX11_operated : ByteArray := prog_5_method_13_code
def yX11_operated : MethodName := ⟨RX11, "operated", "(IIIII)I"⟩
abbrev cX11_same : ByteArray := prog_5_method_14_code
def yX11_same : MethodName := ⟨RX11, "same", "(III)I"⟩
abbrev cX11_less : ByteArray := prog_5_method_15_code
def yX11_less : MethodName := ⟨RX11, "less", "(III)I"⟩
abbrev cX11_moved : ByteArray := prog_5_method_20_code
def yX11_moved : MethodName := ⟨RX11, "moved", "(ZIIII)I"⟩
abbrev cX11_sum : ByteArray := prog_5_method_16_code
def yX11_sum : MethodName := ⟨RX11, "sum", "(III)I"⟩
abbrev cX11_product : ByteArray := prog_5_method_19_code
def yX11_product : MethodName := ⟨RX11, "product", "(III)I"⟩
abbrev cX11_literal : ByteArray := prog_5_method_25_code
def yX11_literal : MethodName := ⟨RX11, "literal", "(IIZ)I"⟩
theorem q303 : (Jvm.Cond.initialized "CircuitWarden$Gates") ∈ lw_all := lw_g (lw_at lw_m1 14 rfl) rfl
theorem q510 : (Jvm.Cond.fieldLinkNest "CircuitWarden$Gates" (140 : Nat) "CircuitWarden$Design" "op" "[I" "CircuitWarden") ∈ lw_tbl := lw_at lw_m1 221 rfl
theorem q514 : (Jvm.Cond.fieldLinkNest "CircuitWarden$Gates" (143 : Nat) "CircuitWarden$Design" "width" "[I" "CircuitWarden") ∈ lw_tbl := lw_at lw_m1 225 rfl
theorem q518 : (Jvm.Cond.fieldLinkNest "CircuitWarden$Gates" (146 : Nat) "CircuitWarden$Design" "a" "[I" "CircuitWarden") ∈ lw_tbl := lw_at lw_m1 229 rfl
theorem q522 : (Jvm.Cond.fieldLinkNest "CircuitWarden$Gates" (160 : Nat) "CircuitWarden$Design" "b" "[I" "CircuitWarden") ∈ lw_tbl := lw_at lw_m1 233 rfl
theorem q526 : (Jvm.Cond.fieldLinkNest "CircuitWarden$Gates" (149 : Nat) "CircuitWarden$Design" "c" "[I" "CircuitWarden") ∈ lw_tbl := lw_at lw_m1 237 rfl
theorem q528 : (Jvm.Cond.fieldLinkNest "CircuitWarden$Gates" (74 : Nat) "CircuitWarden$Design" "looks" "I" "CircuitWarden") ∈ lw_tbl := lw_at lw_m1 239 rfl
theorem q536 : (Jvm.Cond.fieldLinkNest "CircuitWarden$Gates" (91 : Nat) "CircuitWarden$Design" "kinds" "[I" "CircuitWarden") ∈ lw_tbl := lw_at lw_m2 7 rfl
theorem q542 : (Jvm.Cond.fieldLinkNest "CircuitWarden$Gates" (94 : Nat) "CircuitWarden$Design" "widths" "[I" "CircuitWarden") ∈ lw_tbl := lw_at lw_m2 13 rfl
theorem q556 : (Jvm.Cond.fieldLinkNest "CircuitWarden$Gates" (127 : Nat) "CircuitWarden$Design" "roots" "[I" "CircuitWarden") ∈ lw_tbl := lw_at lw_m2 27 rfl
theorem q560 : (Jvm.Cond.fieldLinkNest "CircuitWarden$Gates" (118 : Nat) "CircuitWarden$Design" "froms" "[I" "CircuitWarden") ∈ lw_tbl := lw_at lw_m2 31 rfl
theorem q563 : (Jvm.Cond.fieldLinkNest "CircuitWarden$Gates" (121 : Nat) "CircuitWarden$Design" "tos" "[I" "CircuitWarden") ∈ lw_tbl := lw_at lw_m2 34 rfl
theorem q566 : (Jvm.Cond.fieldLinkNest "CircuitWarden$Gates" (83 : Nat) "CircuitWarden$Design" "signals" "I" "CircuitWarden") ∈ lw_tbl := lw_at lw_m2 37 rfl
theorem q586 : (Jvm.Cond.fieldLinkNest "CircuitWarden$Gates" (260 : Nat) "CircuitWarden$Design" "stepSignals" "[I" "CircuitWarden") ∈ lw_tbl := lw_at lw_m2 57 rfl
theorem q590 : (Jvm.Cond.fieldLinkNest "CircuitWarden$Gates" (263 : Nat) "CircuitWarden$Design" "stepRoots" "[I" "CircuitWarden") ∈ lw_tbl := lw_at lw_m2 61 rfl
theorem q593 : (Jvm.Cond.fieldLinkNest "CircuitWarden$Gates" (244 : Nat) "CircuitWarden$Design" "stepFroms" "[I" "CircuitWarden") ∈ lw_tbl := lw_at lw_m2 64 rfl
theorem q596 : (Jvm.Cond.fieldLinkNest "CircuitWarden$Gates" (247 : Nat) "CircuitWarden$Design" "stepTos" "[I" "CircuitWarden") ∈ lw_tbl := lw_at lw_m2 67 rfl
theorem q600 : (Jvm.Cond.fieldLinkNest "CircuitWarden$Gates" (238 : Nat) "CircuitWarden$Design" "stepEnds" "[I" "CircuitWarden") ∈ lw_tbl := lw_at lw_m2 71 rfl
theorem q604 : (Jvm.Cond.fieldLinkNest "CircuitWarden$Gates" (235 : Nat) "CircuitWarden$Design" "stepSeconds" "[I" "CircuitWarden") ∈ lw_tbl := lw_at lw_m2 75 rfl
theorem q607 : (Jvm.Cond.fieldLinkNest "CircuitWarden$Gates" (232 : Nat) "CircuitWarden$Design" "stepCount" "I" "CircuitWarden") ∈ lw_tbl := lw_at lw_m2 78 rfl
theorem q626 : (Jvm.Cond.fieldLinkNest "CircuitWarden$Gates" (112 : Nat) "CircuitWarden$Design" "nextAt" "I" "CircuitWarden") ∈ lw_tbl := lw_at lw_m2 97 rfl
theorem q801 : (Jvm.Cond.fieldLinkNest "CircuitWarden$Gates" (105 : Nat) "CircuitWarden$Ways" "held" "[I" "CircuitWarden") ∈ lw_tbl := lw_at lw_m3 32 rfl
theorem q803 : (Jvm.Cond.fieldLinkNest "CircuitWarden$Gates" (257 : Nat) "CircuitWarden$Ways" "places" "[I" "CircuitWarden") ∈ lw_tbl := lw_at lw_m3 34 rfl
theorem q804 : (Jvm.Cond.fieldLinkNest "CircuitWarden$Gates" (86 : Nat) "CircuitWarden$Ways" "helds" "I" "CircuitWarden") ∈ lw_tbl := lw_at lw_m3 35 rfl
theorem q808 : (Jvm.Cond.fieldLinkNest "CircuitWarden$Gates" (266 : Nat) "CircuitWarden$Ways" "named" "[J" "CircuitWarden") ∈ lw_tbl := lw_at lw_m3 39 rfl
theorem q882 : (Jvm.Cond.instantiable "CircuitWarden$Gates" (16 : Nat)) ∈ lw_all := lw_g (lw_at lw_m3 113 rfl) rfl
theorem q884 : (Jvm.Cond.instanceMethod ({ cls := "CircuitWarden$Gates", name := "<init>", desc := "(LCircuitWarden$Design;LCircuitWarden$Ways;)V" } : Jvm.MethodName)) ∈ lw_all := lw_g (lw_at lw_m3 115 rfl) rfl
theorem q885 : (Jvm.Cond.code ({ cls := "CircuitWarden$Gates", name := "<init>", desc := "(LCircuitWarden$Design;LCircuitWarden$Ways;)V" } : Jvm.MethodName) prog_5_method_1_code (3 : Nat) (Option.none : Option Jvm.ClassFile.FieldType)) ∈ lw_all := lw_g (lw_at lw_m3 116 rfl) rfl
theorem q886 : (Jvm.Cond.methodLink "CircuitWarden$Gates" (3 : Nat) ({ cls := "java/lang/Object", name := "<init>", desc := "()V" } : Jvm.MethodName)) ∈ lw_all := lw_g (lw_at lw_m3 117 rfl) rfl
theorem q887 : (Jvm.Cond.classLink "CircuitWarden$Gates" (9 : Nat) "CircuitWarden$Net") ∈ lw_all := lw_g (lw_at lw_m3 118 rfl) rfl
theorem q889 : (Jvm.Cond.methodLink "CircuitWarden$Gates" (13 : Nat) ({ cls := "CircuitWarden$Net", name := "<init>", desc := "(I)V" } : Jvm.MethodName)) ∈ lw_all := lw_g (lw_at lw_m3 120 rfl) rfl
theorem q909 : (Jvm.Cond.fieldLinkNest "CircuitWarden$Gates" (108 : Nat) "CircuitWarden$Net" "full" "Z" "CircuitWarden") ∈ lw_tbl := lw_at lw_m3 140 rfl
theorem q926 : (Jvm.Cond.classLink "CircuitWarden$Gates" (20 : Nat) "CircuitWarden$Twin") ∈ lw_all := lw_g (lw_at lw_m3 157 rfl) rfl
theorem q928 : (Jvm.Cond.methodLink "CircuitWarden$Gates" (22 : Nat) ({ cls := "CircuitWarden$Twin", name := "<init>", desc := "(I)V" } : Jvm.MethodName)) ∈ lw_all := lw_g (lw_at lw_m3 159 rfl) rfl
theorem q935 : (Jvm.Cond.fieldLinkNest "CircuitWarden$Gates" (134 : Nat) "CircuitWarden$Twin" "made" "LCircuitWarden$Net;" "CircuitWarden") ∈ lw_tbl := lw_at lw_m3 166 rfl
theorem q947 : (Jvm.Cond.fieldLink "CircuitWarden$Gates" (59 : Nat) "CircuitWarden$Gates" "d" "LCircuitWarden$Design;") ∈ lw_all := lw_g (lw_at lw_m3 178 rfl) rfl
theorem q948 : (Jvm.Cond.fieldLink "CircuitWarden$Gates" (63 : Nat) "CircuitWarden$Gates" "ways" "LCircuitWarden$Ways;") ∈ lw_all := lw_g (lw_at lw_m3 179 rfl) rfl
theorem q949 : (Jvm.Cond.fieldLink "CircuitWarden$Gates" (16 : Nat) "CircuitWarden$Gates" "net" "LCircuitWarden$Net;") ∈ lw_all := lw_g (lw_at lw_m3 180 rfl) rfl
theorem q952 : (Jvm.Cond.fieldLink "CircuitWarden$Gates" (23 : Nat) "CircuitWarden$Gates" "twin" "LCircuitWarden$Twin;") ∈ lw_all := lw_g (lw_at lw_m3 183 rfl) rfl
theorem q955 : (Jvm.Cond.fieldLink "CircuitWarden$Gates" (27 : Nat) "CircuitWarden$Gates" "bits" "[I") ∈ lw_all := lw_g (lw_at lw_m3 186 rfl) rfl
theorem q956 : (Jvm.Cond.fieldLink "CircuitWarden$Gates" (70 : Nat) "CircuitWarden$Gates" "size" "I") ∈ lw_all := lw_g (lw_at lw_m3 187 rfl) rfl
theorem q957 : (Jvm.Cond.fieldLink "CircuitWarden$Gates" (31 : Nat) "CircuitWarden$Gates" "starts" "[I") ∈ lw_all := lw_g (lw_at lw_m3 188 rfl) rfl
theorem q958 : (Jvm.Cond.fieldLink "CircuitWarden$Gates" (34 : Nat) "CircuitWarden$Gates" "owns" "[I") ∈ lw_all := lw_g (lw_at lw_m3 189 rfl) rfl
theorem q959 : (Jvm.Cond.fieldLink "CircuitWarden$Gates" (37 : Nat) "CircuitWarden$Gates" "nexts" "[I") ∈ lw_all := lw_g (lw_at lw_m3 190 rfl) rfl
theorem q960 : (Jvm.Cond.fieldLink "CircuitWarden$Gates" (40 : Nat) "CircuitWarden$Gates" "now" "[I") ∈ lw_all := lw_g (lw_at lw_m3 191 rfl) rfl
theorem q961 : (Jvm.Cond.fieldLink "CircuitWarden$Gates" (43 : Nat) "CircuitWarden$Gates" "opens" "[I") ∈ lw_all := lw_g (lw_at lw_m3 192 rfl) rfl
theorem q962 : (Jvm.Cond.fieldLink "CircuitWarden$Gates" (46 : Nat) "CircuitWarden$Gates" "seconds" "[Z") ∈ lw_all := lw_g (lw_at lw_m3 193 rfl) rfl
theorem q963 : (Jvm.Cond.fieldLink "CircuitWarden$Gates" (229 : Nat) "CircuitWarden$Gates" "open" "I") ∈ lw_all := lw_g (lw_at lw_m3 194 rfl) rfl
theorem q964 : (Jvm.Cond.fieldLink "CircuitWarden$Gates" (50 : Nat) "CircuitWarden$Gates" "kept" "[I") ∈ lw_all := lw_g (lw_at lw_m3 195 rfl) rfl
theorem q965 : (Jvm.Cond.fieldLink "CircuitWarden$Gates" (53 : Nat) "CircuitWarden$Gates" "marks" "[I") ∈ lw_all := lw_g (lw_at lw_m3 196 rfl) rfl
theorem q966 : (Jvm.Cond.fieldLink "CircuitWarden$Gates" (56 : Nat) "CircuitWarden$Gates" "aside" "[I") ∈ lw_all := lw_g (lw_at lw_m3 197 rfl) rfl
theorem q967 : (Jvm.Cond.laysFinal "CircuitWarden$Gates" "CircuitWarden$Gates" "d" "LCircuitWarden$Design;") ∈ lw_all := lw_g (lw_at lw_m3 198 rfl) rfl
theorem q968 : (Jvm.Cond.soleField "CircuitWarden$Gates" "d") ∈ lw_all := lw_g (lw_at lw_m3 199 rfl) rfl
theorem q969 : (Jvm.Cond.laysFinal "CircuitWarden$Gates" "CircuitWarden$Gates" "ways" "LCircuitWarden$Ways;") ∈ lw_all := lw_g (lw_at lw_m3 200 rfl) rfl
theorem q970 : (Jvm.Cond.soleField "CircuitWarden$Gates" "ways") ∈ lw_all := lw_g (lw_at lw_m3 201 rfl) rfl
theorem q971 : (Jvm.Cond.laysFinal "CircuitWarden$Gates" "CircuitWarden$Gates" "net" "LCircuitWarden$Net;") ∈ lw_all := lw_g (lw_at lw_m3 202 rfl) rfl
theorem q972 : (Jvm.Cond.soleField "CircuitWarden$Gates" "net") ∈ lw_all := lw_g (lw_at lw_m3 203 rfl) rfl
theorem q973 : (Jvm.Cond.laysFinal "CircuitWarden$Gates" "CircuitWarden$Gates" "twin" "LCircuitWarden$Twin;") ∈ lw_all := lw_g (lw_at lw_m3 204 rfl) rfl
theorem q974 : (Jvm.Cond.soleField "CircuitWarden$Gates" "twin") ∈ lw_all := lw_g (lw_at lw_m3 205 rfl) rfl
theorem q975 : (Jvm.Cond.lays "CircuitWarden$Gates" "CircuitWarden$Gates" "bits" "[I") ∈ lw_all := lw_g (lw_at lw_m3 206 rfl) rfl
theorem q976 : (Jvm.Cond.soleField "CircuitWarden$Gates" "bits") ∈ lw_all := lw_g (lw_at lw_m3 207 rfl) rfl
theorem q977 : (Jvm.Cond.lays "CircuitWarden$Gates" "CircuitWarden$Gates" "size" "I") ∈ lw_all := lw_g (lw_at lw_m3 208 rfl) rfl
theorem q978 : (Jvm.Cond.soleField "CircuitWarden$Gates" "size") ∈ lw_all := lw_g (lw_at lw_m3 209 rfl) rfl
theorem q979 : (Jvm.Cond.lays "CircuitWarden$Gates" "CircuitWarden$Gates" "starts" "[I") ∈ lw_all := lw_g (lw_at lw_m3 210 rfl) rfl
theorem q980 : (Jvm.Cond.soleField "CircuitWarden$Gates" "starts") ∈ lw_all := lw_g (lw_at lw_m3 211 rfl) rfl
theorem q981 : (Jvm.Cond.lays "CircuitWarden$Gates" "CircuitWarden$Gates" "owns" "[I") ∈ lw_all := lw_g (lw_at lw_m3 212 rfl) rfl
theorem q982 : (Jvm.Cond.soleField "CircuitWarden$Gates" "owns") ∈ lw_all := lw_g (lw_at lw_m3 213 rfl) rfl
theorem q983 : (Jvm.Cond.lays "CircuitWarden$Gates" "CircuitWarden$Gates" "nexts" "[I") ∈ lw_all := lw_g (lw_at lw_m3 214 rfl) rfl
theorem q984 : (Jvm.Cond.soleField "CircuitWarden$Gates" "nexts") ∈ lw_all := lw_g (lw_at lw_m3 215 rfl) rfl
theorem q985 : (Jvm.Cond.lays "CircuitWarden$Gates" "CircuitWarden$Gates" "now" "[I") ∈ lw_all := lw_g (lw_at lw_m3 216 rfl) rfl
theorem q986 : (Jvm.Cond.soleField "CircuitWarden$Gates" "now") ∈ lw_all := lw_g (lw_at lw_m3 217 rfl) rfl
theorem q987 : (Jvm.Cond.lays "CircuitWarden$Gates" "CircuitWarden$Gates" "opens" "[I") ∈ lw_all := lw_g (lw_at lw_m3 218 rfl) rfl
theorem q988 : (Jvm.Cond.soleField "CircuitWarden$Gates" "opens") ∈ lw_all := lw_g (lw_at lw_m3 219 rfl) rfl
theorem q989 : (Jvm.Cond.lays "CircuitWarden$Gates" "CircuitWarden$Gates" "seconds" "[Z") ∈ lw_all := lw_g (lw_at lw_m3 220 rfl) rfl
theorem q990 : (Jvm.Cond.soleField "CircuitWarden$Gates" "seconds") ∈ lw_all := lw_g (lw_at lw_m3 221 rfl) rfl
theorem q991 : (Jvm.Cond.lays "CircuitWarden$Gates" "CircuitWarden$Gates" "open" "I") ∈ lw_all := lw_g (lw_at lw_m3 222 rfl) rfl
theorem q992 : (Jvm.Cond.soleField "CircuitWarden$Gates" "open") ∈ lw_all := lw_g (lw_at lw_m3 223 rfl) rfl
theorem q993 : (Jvm.Cond.lays "CircuitWarden$Gates" "CircuitWarden$Gates" "kept" "[I") ∈ lw_all := lw_g (lw_at lw_m3 224 rfl) rfl
theorem q994 : (Jvm.Cond.soleField "CircuitWarden$Gates" "kept") ∈ lw_all := lw_g (lw_at lw_m3 225 rfl) rfl
theorem q995 : (Jvm.Cond.lays "CircuitWarden$Gates" "CircuitWarden$Gates" "marks" "[I") ∈ lw_all := lw_g (lw_at lw_m3 226 rfl) rfl
theorem q996 : (Jvm.Cond.soleField "CircuitWarden$Gates" "marks") ∈ lw_all := lw_g (lw_at lw_m3 227 rfl) rfl
theorem q997 : (Jvm.Cond.lays "CircuitWarden$Gates" "CircuitWarden$Gates" "aside" "[I") ∈ lw_all := lw_g (lw_at lw_m3 228 rfl) rfl
theorem q998 : (Jvm.Cond.soleField "CircuitWarden$Gates" "aside") ∈ lw_all := lw_g (lw_at lw_m3 229 rfl) rfl
theorem q999 : (Jvm.Cond.superclass "CircuitWarden$Gates" "java/lang/Object") ∈ lw_all := lw_g (lw_at lw_m3 230 rfl) rfl
theorem q1223 : (Jvm.Cond.instanceMethod ({ cls := "CircuitWarden$Gates", name := "make", desc := "()Z" } : Jvm.MethodName)) ∈ lw_all := lw_g (lw_at lw_m4 214 rfl) rfl
theorem q1224 : (Jvm.Cond.selects "CircuitWarden$Gates" ({ cls := "CircuitWarden$Gates", name := "make", desc := "()Z" } : Jvm.MethodName) ({ cls := "CircuitWarden$Gates", name := "make", desc := "()Z" } : Jvm.MethodName)) ∈ lw_all := lw_g (lw_at lw_m4 215 rfl) rfl
theorem q1225 : (Jvm.Cond.code ({ cls := "CircuitWarden$Gates", name := "make", desc := "()Z" } : Jvm.MethodName) prog_5_method_2_code (3 : Nat) (Option.some Jvm.ClassFile.FieldType.boolean)) ∈ lw_all := lw_g (lw_at lw_m4 216 rfl) rfl
theorem q1226 : (Jvm.Cond.methodLink "CircuitWarden$Gates" (67 : Nat) ({ cls := "CircuitWarden$Net", name := "clear", desc := "()V" } : Jvm.MethodName)) ∈ lw_all := lw_g (lw_at lw_m4 217 rfl) rfl
theorem q1235 : (Jvm.Cond.methodLinkNest "CircuitWarden$Gates" (79 : Nat) ({ cls := "CircuitWarden", name := "grown", desc := "([II)[I" } : Jvm.MethodName) "CircuitWarden") ∈ lw_tbl := lw_at lw_m4 226 rfl
theorem q1236 : (Jvm.Cond.methodLink "CircuitWarden$Gates" (97 : Nat) ({ cls := "CircuitWarden$Gates", name := "row", desc := "(I)I" } : Jvm.MethodName)) ∈ lw_all := lw_g (lw_at lw_m4 227 rfl) rfl
theorem q1237 : (Jvm.Cond.privateMethod ({ cls := "CircuitWarden$Gates", name := "row", desc := "(I)I" } : Jvm.MethodName)) ∈ lw_tbl := lw_at lw_m4 228 rfl
theorem q1238 : (Jvm.Cond.instanceMethod ({ cls := "CircuitWarden$Gates", name := "row", desc := "(I)I" } : Jvm.MethodName)) ∈ lw_all := lw_g (lw_at lw_m4 229 rfl) rfl
theorem q1239 : (Jvm.Cond.code ({ cls := "CircuitWarden$Gates", name := "row", desc := "(I)I" } : Jvm.MethodName) prog_5_method_3_code (2 : Nat) (Option.some Jvm.ClassFile.FieldType.int)) ∈ lw_all := lw_g (lw_at lw_m4 230 rfl) rfl
theorem q1240 : (Jvm.Cond.methodLink "CircuitWarden$Gates" (101 : Nat) ({ cls := "CircuitWarden$Net", name := "input", desc := "()I" } : Jvm.MethodName)) ∈ lw_all := lw_g (lw_at lw_m4 231 rfl) rfl
theorem q1244 : (Jvm.Cond.methodLink "CircuitWarden$Gates" (115 : Nat) ({ cls := "CircuitWarden$Gates", name := "next", desc := "()V" } : Jvm.MethodName)) ∈ lw_all := lw_g (lw_at lw_m4 235 rfl) rfl
theorem q1245 : (Jvm.Cond.privateMethod ({ cls := "CircuitWarden$Gates", name := "next", desc := "()V" } : Jvm.MethodName)) ∈ lw_tbl := lw_at lw_m4 236 rfl
theorem q1246 : (Jvm.Cond.instanceMethod ({ cls := "CircuitWarden$Gates", name := "next", desc := "()V" } : Jvm.MethodName)) ∈ lw_all := lw_g (lw_at lw_m4 237 rfl) rfl
theorem q1247 : (Jvm.Cond.code ({ cls := "CircuitWarden$Gates", name := "next", desc := "()V" } : Jvm.MethodName) prog_5_method_21_code (3 : Nat) (Option.none : Option Jvm.ClassFile.FieldType)) ∈ lw_all := lw_g (lw_at lw_m4 238 rfl) rfl
theorem q1248 : (Jvm.Cond.methodLink "CircuitWarden$Gates" (241 : Nat) ({ cls := "CircuitWarden$Gates", name := "close", desc := "()I" } : Jvm.MethodName)) ∈ lw_all := lw_g (lw_at lw_m4 239 rfl) rfl
theorem q1249 : (Jvm.Cond.privateMethod ({ cls := "CircuitWarden$Gates", name := "close", desc := "()I" } : Jvm.MethodName)) ∈ lw_tbl := lw_at lw_m5 0 rfl
theorem q1250 : (Jvm.Cond.instanceMethod ({ cls := "CircuitWarden$Gates", name := "close", desc := "()I" } : Jvm.MethodName)) ∈ lw_all := lw_g (lw_at lw_m5 1 rfl) rfl
theorem q1251 : (Jvm.Cond.code ({ cls := "CircuitWarden$Gates", name := "close", desc := "()I" } : Jvm.MethodName) prog_5_method_23_code (6 : Nat) (Option.some Jvm.ClassFile.FieldType.int)) ∈ lw_all := lw_g (lw_at lw_m5 2 rfl) rfl
theorem q1252 : (Jvm.Cond.methodLink "CircuitWarden$Gates" (254 : Nat) ({ cls := "CircuitWarden$Gates", name := "keep", desc := "(I)V" } : Jvm.MethodName)) ∈ lw_all := lw_g (lw_at lw_m5 3 rfl) rfl
theorem q1253 : (Jvm.Cond.privateMethod ({ cls := "CircuitWarden$Gates", name := "keep", desc := "(I)V" } : Jvm.MethodName)) ∈ lw_tbl := lw_at lw_m5 4 rfl
theorem q1254 : (Jvm.Cond.instanceMethod ({ cls := "CircuitWarden$Gates", name := "keep", desc := "(I)V" } : Jvm.MethodName)) ∈ lw_all := lw_g (lw_at lw_m5 5 rfl) rfl
theorem q1255 : (Jvm.Cond.code ({ cls := "CircuitWarden$Gates", name := "keep", desc := "(I)V" } : Jvm.MethodName) prog_5_method_22_code (3 : Nat) (Option.none : Option Jvm.ClassFile.FieldType)) ∈ lw_all := lw_g (lw_at lw_m5 6 rfl) rfl
theorem q1256 : (Jvm.Cond.methodLink "CircuitWarden$Gates" (186 : Nat) ({ cls := "java/lang/System", name := "arraycopy", desc := "(Ljava/lang/Object;ILjava/lang/Object;II)V" } : Jvm.MethodName)) ∈ lw_all := lw_g (lw_at lw_m5 7 rfl) rfl
theorem q1257 : (Jvm.Cond.methodLink "CircuitWarden$Gates" (170 : Nat) ({ cls := "CircuitWarden$Gates", name := "bit", desc := "(II)I" } : Jvm.MethodName)) ∈ lw_all := lw_g (lw_at lw_m5 8 rfl) rfl
theorem q1258 : (Jvm.Cond.privateMethod ({ cls := "CircuitWarden$Gates", name := "bit", desc := "(II)I" } : Jvm.MethodName)) ∈ lw_tbl := lw_at lw_m5 9 rfl
theorem q1259 : (Jvm.Cond.instanceMethod ({ cls := "CircuitWarden$Gates", name := "bit", desc := "(II)I" } : Jvm.MethodName)) ∈ lw_all := lw_g (lw_at lw_m5 10 rfl) rfl
theorem q1260 : (Jvm.Cond.code ({ cls := "CircuitWarden$Gates", name := "bit", desc := "(II)I" } : Jvm.MethodName) prog_5_method_4_code (3 : Nat) (Option.some Jvm.ClassFile.FieldType.int)) ∈ lw_all := lw_g (lw_at lw_m5 11 rfl) rfl
theorem q1261 : (Jvm.Cond.methodLink "CircuitWarden$Gates" (179 : Nat) ({ cls := "CircuitWarden$Gates", name := "chosen", desc := "(IIII)I" } : Jvm.MethodName)) ∈ lw_all := lw_g (lw_at lw_m5 12 rfl) rfl
theorem q1262 : (Jvm.Cond.privateMethod ({ cls := "CircuitWarden$Gates", name := "chosen", desc := "(IIII)I" } : Jvm.MethodName)) ∈ lw_tbl := lw_at lw_m5 13 rfl
theorem q1263 : (Jvm.Cond.instanceMethod ({ cls := "CircuitWarden$Gates", name := "chosen", desc := "(IIII)I" } : Jvm.MethodName)) ∈ lw_all := lw_g (lw_at lw_m5 14 rfl) rfl
theorem q1264 : (Jvm.Cond.code ({ cls := "CircuitWarden$Gates", name := "chosen", desc := "(IIII)I" } : Jvm.MethodName) prog_5_method_12_code (9 : Nat) (Option.some Jvm.ClassFile.FieldType.int)) ∈ lw_all := lw_g (lw_at lw_m5 15 rfl) rfl
theorem q1265 : (Jvm.Cond.methodLink "CircuitWarden$Gates" (201 : Nat) ({ cls := "CircuitWarden$Net", name := "choose", desc := "(III)I" } : Jvm.MethodName)) ∈ lw_all := lw_g (lw_at lw_m5 16 rfl) rfl
theorem q1293 : (Jvm.Cond.methodLink "CircuitWarden$Gates" (270 : Nat) ({ cls := "CircuitWarden$Gates", name := "tidy", desc := "(II)V" } : Jvm.MethodName)) ∈ lw_all := lw_g (lw_at lw_m5 44 rfl) rfl
theorem q1294 : (Jvm.Cond.privateMethod ({ cls := "CircuitWarden$Gates", name := "tidy", desc := "(II)V" } : Jvm.MethodName)) ∈ lw_tbl := lw_at lw_m5 45 rfl
theorem q1295 : (Jvm.Cond.instanceMethod ({ cls := "CircuitWarden$Gates", name := "tidy", desc := "(II)V" } : Jvm.MethodName)) ∈ lw_all := lw_g (lw_at lw_m5 46 rfl) rfl
theorem q1296 : (Jvm.Cond.code ({ cls := "CircuitWarden$Gates", name := "tidy", desc := "(II)V" } : Jvm.MethodName) prog_5_method_24_code (6 : Nat) (Option.none : Option Jvm.ClassFile.FieldType)) ∈ lw_all := lw_g (lw_at lw_m5 47 rfl) rfl
theorem q1297 : (Jvm.Cond.methodLink "CircuitWarden$Gates" (124 : Nat) ({ cls := "CircuitWarden$Gates", name := "looks", desc := "(II)V" } : Jvm.MethodName)) ∈ lw_all := lw_g (lw_at lw_m5 48 rfl) rfl
theorem q1298 : (Jvm.Cond.privateMethod ({ cls := "CircuitWarden$Gates", name := "looks", desc := "(II)V" } : Jvm.MethodName)) ∈ lw_tbl := lw_at lw_m5 49 rfl
theorem q1299 : (Jvm.Cond.instanceMethod ({ cls := "CircuitWarden$Gates", name := "looks", desc := "(II)V" } : Jvm.MethodName)) ∈ lw_all := lw_g (lw_at lw_m5 50 rfl) rfl
theorem q1300 : (Jvm.Cond.code ({ cls := "CircuitWarden$Gates", name := "looks", desc := "(II)V" } : Jvm.MethodName) prog_5_method_5_code (4 : Nat) (Option.none : Option Jvm.ClassFile.FieldType)) ∈ lw_all := lw_g (lw_at lw_m5 51 rfl) rfl
theorem q1301 : (Jvm.Cond.methodLink "CircuitWarden$Gates" (137 : Nat) ({ cls := "CircuitWarden$Gates", name := "look", desc := "(I)I" } : Jvm.MethodName)) ∈ lw_all := lw_g (lw_at lw_m5 52 rfl) rfl
theorem q1302 : (Jvm.Cond.privateMethod ({ cls := "CircuitWarden$Gates", name := "look", desc := "(I)I" } : Jvm.MethodName)) ∈ lw_tbl := lw_at lw_m5 53 rfl
theorem q1303 : (Jvm.Cond.instanceMethod ({ cls := "CircuitWarden$Gates", name := "look", desc := "(I)I" } : Jvm.MethodName)) ∈ lw_all := lw_g (lw_at lw_m5 54 rfl) rfl
theorem q1304 : (Jvm.Cond.code ({ cls := "CircuitWarden$Gates", name := "look", desc := "(I)I" } : Jvm.MethodName) prog_5_method_6_code (6 : Nat) (Option.some Jvm.ClassFile.FieldType.int)) ∈ lw_all := lw_g (lw_at lw_m5 55 rfl) rfl
theorem q1305 : (Jvm.Cond.methodLink "CircuitWarden$Gates" (152 : Nat) ({ cls := "CircuitWarden$Gates", name := "turned", desc := "(II)I" } : Jvm.MethodName)) ∈ lw_all := lw_g (lw_at lw_m5 56 rfl) rfl
theorem q1306 : (Jvm.Cond.privateMethod ({ cls := "CircuitWarden$Gates", name := "turned", desc := "(II)I" } : Jvm.MethodName)) ∈ lw_tbl := lw_at lw_m5 57 rfl
theorem q1307 : (Jvm.Cond.instanceMethod ({ cls := "CircuitWarden$Gates", name := "turned", desc := "(II)I" } : Jvm.MethodName)) ∈ lw_all := lw_g (lw_at lw_m5 58 rfl) rfl
theorem q1308 : (Jvm.Cond.code ({ cls := "CircuitWarden$Gates", name := "turned", desc := "(II)I" } : Jvm.MethodName) prog_5_method_8_code (5 : Nat) (Option.some Jvm.ClassFile.FieldType.int)) ∈ lw_all := lw_g (lw_at lw_m5 59 rfl) rfl
theorem q1309 : (Jvm.Cond.methodLink "CircuitWarden$Gates" (156 : Nat) ({ cls := "CircuitWarden$Gates", name := "difference", desc := "(III)I" } : Jvm.MethodName)) ∈ lw_all := lw_g (lw_at lw_m5 60 rfl) rfl
theorem q1310 : (Jvm.Cond.privateMethod ({ cls := "CircuitWarden$Gates", name := "difference", desc := "(III)I" } : Jvm.MethodName)) ∈ lw_tbl := lw_at lw_m5 61 rfl
theorem q1311 : (Jvm.Cond.instanceMethod ({ cls := "CircuitWarden$Gates", name := "difference", desc := "(III)I" } : Jvm.MethodName)) ∈ lw_all := lw_g (lw_at lw_m5 62 rfl) rfl
theorem q1312 : (Jvm.Cond.code ({ cls := "CircuitWarden$Gates", name := "difference", desc := "(III)I" } : Jvm.MethodName) prog_5_method_17_code (5 : Nat) (Option.some Jvm.ClassFile.FieldType.int)) ∈ lw_all := lw_g (lw_at lw_m5 63 rfl) rfl
theorem q1313 : (Jvm.Cond.methodLink "CircuitWarden$Gates" (220 : Nat) ({ cls := "CircuitWarden$Gates", name := "add", desc := "(IIIII)V" } : Jvm.MethodName)) ∈ lw_all := lw_g (lw_at lw_m5 64 rfl) rfl
theorem q1314 : (Jvm.Cond.privateMethod ({ cls := "CircuitWarden$Gates", name := "add", desc := "(IIIII)V" } : Jvm.MethodName)) ∈ lw_tbl := lw_at lw_m5 65 rfl
theorem q1315 : (Jvm.Cond.instanceMethod ({ cls := "CircuitWarden$Gates", name := "add", desc := "(IIIII)V" } : Jvm.MethodName)) ∈ lw_all := lw_g (lw_at lw_m5 66 rfl) rfl
theorem q1316 : (Jvm.Cond.code ({ cls := "CircuitWarden$Gates", name := "add", desc := "(IIIII)V" } : Jvm.MethodName) prog_5_method_18_code (12 : Nat) (Option.none : Option Jvm.ClassFile.FieldType)) ∈ lw_all := lw_g (lw_at lw_m5 67 rfl) rfl
theorem q1317 : (Jvm.Cond.methodLink "CircuitWarden$Gates" (198 : Nat) ({ cls := "CircuitWarden$Net", name := "xor", desc := "(II)I" } : Jvm.MethodName)) ∈ lw_all := lw_g (lw_at lw_m5 68 rfl) rfl
theorem q1321 : (Jvm.Cond.methodLink "CircuitWarden$Gates" (195 : Nat) ({ cls := "CircuitWarden$Net", name := "and", desc := "(II)I" } : Jvm.MethodName)) ∈ lw_all := lw_g (lw_at lw_m5 72 rfl) rfl
theorem q1322 : (Jvm.Cond.methodLink "CircuitWarden$Gates" (192 : Nat) ({ cls := "CircuitWarden$Net", name := "or", desc := "(II)I" } : Jvm.MethodName)) ∈ lw_all := lw_g (lw_at lw_m5 73 rfl) rfl
theorem q1323 : (Jvm.Cond.methodLink "CircuitWarden$Gates" (163 : Nat) ({ cls := "CircuitWarden$Gates", name := "joined", desc := "(IIII)I" } : Jvm.MethodName)) ∈ lw_all := lw_g (lw_at lw_m5 74 rfl) rfl
theorem q1324 : (Jvm.Cond.privateMethod ({ cls := "CircuitWarden$Gates", name := "joined", desc := "(IIII)I" } : Jvm.MethodName)) ∈ lw_tbl := lw_at lw_m5 75 rfl
theorem q1325 : (Jvm.Cond.instanceMethod ({ cls := "CircuitWarden$Gates", name := "joined", desc := "(IIII)I" } : Jvm.MethodName)) ∈ lw_all := lw_g (lw_at lw_m5 76 rfl) rfl
theorem q1326 : (Jvm.Cond.code ({ cls := "CircuitWarden$Gates", name := "joined", desc := "(IIII)I" } : Jvm.MethodName) prog_5_method_9_code (6 : Nat) (Option.some Jvm.ClassFile.FieldType.int)) ∈ lw_all := lw_g (lw_at lw_m5 77 rfl) rfl
theorem q1327 : (Jvm.Cond.methodLink "CircuitWarden$Gates" (167 : Nat) ({ cls := "CircuitWarden$Gates", name := "extended", desc := "(IIII)I" } : Jvm.MethodName)) ∈ lw_all := lw_g (lw_at lw_m5 78 rfl) rfl
theorem q1328 : (Jvm.Cond.privateMethod ({ cls := "CircuitWarden$Gates", name := "extended", desc := "(IIII)I" } : Jvm.MethodName)) ∈ lw_tbl := lw_at lw_m5 79 rfl
theorem q1329 : (Jvm.Cond.instanceMethod ({ cls := "CircuitWarden$Gates", name := "extended", desc := "(IIII)I" } : Jvm.MethodName)) ∈ lw_all := lw_g (lw_at lw_m5 80 rfl) rfl
theorem q1330 : (Jvm.Cond.code ({ cls := "CircuitWarden$Gates", name := "extended", desc := "(IIII)I" } : Jvm.MethodName) prog_5_method_10_code (7 : Nat) (Option.some Jvm.ClassFile.FieldType.int)) ∈ lw_all := lw_g (lw_at lw_m5 81 rfl) rfl
theorem q1331 : (Jvm.Cond.methodLink "CircuitWarden$Gates" (173 : Nat) ({ cls := "CircuitWarden$Gates", name := "gathered", desc := "(III)I" } : Jvm.MethodName)) ∈ lw_all := lw_g (lw_at lw_m5 82 rfl) rfl
theorem q1332 : (Jvm.Cond.privateMethod ({ cls := "CircuitWarden$Gates", name := "gathered", desc := "(III)I" } : Jvm.MethodName)) ∈ lw_tbl := lw_at lw_m5 83 rfl
theorem q1333 : (Jvm.Cond.instanceMethod ({ cls := "CircuitWarden$Gates", name := "gathered", desc := "(III)I" } : Jvm.MethodName)) ∈ lw_all := lw_g (lw_at lw_m5 84 rfl) rfl
theorem q1334 : (Jvm.Cond.code ({ cls := "CircuitWarden$Gates", name := "gathered", desc := "(III)I" } : Jvm.MethodName) prog_5_method_11_code (6 : Nat) (Option.some Jvm.ClassFile.FieldType.int)) ∈ lw_all := lw_g (lw_at lw_m5 85 rfl) rfl
theorem q1335 : (Jvm.Cond.methodLink "CircuitWarden$Gates" (176 : Nat) ({ cls := "CircuitWarden$Gates", name := "one", desc := "(I)I" } : Jvm.MethodName)) ∈ lw_all := lw_g (lw_at lw_m5 86 rfl) rfl
theorem q1336 : (Jvm.Cond.privateMethod ({ cls := "CircuitWarden$Gates", name := "one", desc := "(I)I" } : Jvm.MethodName)) ∈ lw_tbl := lw_at lw_m5 87 rfl
theorem q1337 : (Jvm.Cond.instanceMethod ({ cls := "CircuitWarden$Gates", name := "one", desc := "(I)I" } : Jvm.MethodName)) ∈ lw_all := lw_g (lw_at lw_m5 88 rfl) rfl
theorem q1338 : (Jvm.Cond.code ({ cls := "CircuitWarden$Gates", name := "one", desc := "(I)I" } : Jvm.MethodName) prog_5_method_7_code (3 : Nat) (Option.some Jvm.ClassFile.FieldType.int)) ∈ lw_all := lw_g (lw_at lw_m5 89 rfl) rfl
theorem q1339 : (Jvm.Cond.methodLink "CircuitWarden$Gates" (182 : Nat) ({ cls := "CircuitWarden$Gates", name := "operated", desc := "(IIIII)I" } : Jvm.MethodName)) ∈ lw_all := lw_g (lw_at lw_m5 90 rfl) rfl
theorem q1340 : (Jvm.Cond.privateMethod ({ cls := "CircuitWarden$Gates", name := "operated", desc := "(IIIII)I" } : Jvm.MethodName)) ∈ lw_tbl := lw_at lw_m5 91 rfl
theorem q1341 : (Jvm.Cond.instanceMethod ({ cls := "CircuitWarden$Gates", name := "operated", desc := "(IIIII)I" } : Jvm.MethodName)) ∈ lw_all := lw_g (lw_at lw_m5 92 rfl) rfl
theorem q1342 : (Jvm.Cond.code ({ cls := "CircuitWarden$Gates", name := "operated", desc := "(IIIII)I" } : Jvm.MethodName) prog_5_method_13_code (8 : Nat) (Option.some Jvm.ClassFile.FieldType.int)) ∈ lw_all := lw_g (lw_at lw_m5 93 rfl) rfl
theorem q1343 : (Jvm.Cond.methodLink "CircuitWarden$Gates" (204 : Nat) ({ cls := "CircuitWarden$Gates", name := "same", desc := "(III)I" } : Jvm.MethodName)) ∈ lw_all := lw_g (lw_at lw_m5 94 rfl) rfl
theorem q1344 : (Jvm.Cond.privateMethod ({ cls := "CircuitWarden$Gates", name := "same", desc := "(III)I" } : Jvm.MethodName)) ∈ lw_tbl := lw_at lw_m5 95 rfl
theorem q1345 : (Jvm.Cond.instanceMethod ({ cls := "CircuitWarden$Gates", name := "same", desc := "(III)I" } : Jvm.MethodName)) ∈ lw_all := lw_g (lw_at lw_m5 96 rfl) rfl
theorem q1346 : (Jvm.Cond.code ({ cls := "CircuitWarden$Gates", name := "same", desc := "(III)I" } : Jvm.MethodName) prog_5_method_14_code (6 : Nat) (Option.some Jvm.ClassFile.FieldType.int)) ∈ lw_all := lw_g (lw_at lw_m5 97 rfl) rfl
theorem q1347 : (Jvm.Cond.methodLink "CircuitWarden$Gates" (207 : Nat) ({ cls := "CircuitWarden$Gates", name := "less", desc := "(III)I" } : Jvm.MethodName)) ∈ lw_all := lw_g (lw_at lw_m5 98 rfl) rfl
theorem q1348 : (Jvm.Cond.privateMethod ({ cls := "CircuitWarden$Gates", name := "less", desc := "(III)I" } : Jvm.MethodName)) ∈ lw_tbl := lw_at lw_m5 99 rfl
theorem q1349 : (Jvm.Cond.instanceMethod ({ cls := "CircuitWarden$Gates", name := "less", desc := "(III)I" } : Jvm.MethodName)) ∈ lw_all := lw_g (lw_at lw_m5 100 rfl) rfl
theorem q1350 : (Jvm.Cond.code ({ cls := "CircuitWarden$Gates", name := "less", desc := "(III)I" } : Jvm.MethodName) prog_5_method_15_code (7 : Nat) (Option.some Jvm.ClassFile.FieldType.int)) ∈ lw_all := lw_g (lw_at lw_m5 101 rfl) rfl
theorem q1351 : (Jvm.Cond.methodLink "CircuitWarden$Gates" (210 : Nat) ({ cls := "CircuitWarden$Gates", name := "moved", desc := "(ZIIII)I" } : Jvm.MethodName)) ∈ lw_all := lw_g (lw_at lw_m5 102 rfl) rfl
theorem q1352 : (Jvm.Cond.privateMethod ({ cls := "CircuitWarden$Gates", name := "moved", desc := "(ZIIII)I" } : Jvm.MethodName)) ∈ lw_tbl := lw_at lw_m5 103 rfl
theorem q1353 : (Jvm.Cond.instanceMethod ({ cls := "CircuitWarden$Gates", name := "moved", desc := "(ZIIII)I" } : Jvm.MethodName)) ∈ lw_all := lw_g (lw_at lw_m5 104 rfl) rfl
theorem q1354 : (Jvm.Cond.code ({ cls := "CircuitWarden$Gates", name := "moved", desc := "(ZIIII)I" } : Jvm.MethodName) prog_5_method_20_code (14 : Nat) (Option.some Jvm.ClassFile.FieldType.int)) ∈ lw_all := lw_g (lw_at lw_m5 105 rfl) rfl
theorem q1355 : (Jvm.Cond.methodLink "CircuitWarden$Gates" (224 : Nat) ({ cls := "java/lang/Math", name := "min", desc := "(II)I" } : Jvm.MethodName)) ∈ lw_all := lw_g (lw_at lw_m5 106 rfl) rfl
theorem q1358 : (Jvm.Cond.methodLink "CircuitWarden$Gates" (214 : Nat) ({ cls := "CircuitWarden$Gates", name := "sum", desc := "(III)I" } : Jvm.MethodName)) ∈ lw_all := lw_g (lw_at lw_m5 109 rfl) rfl
theorem q1359 : (Jvm.Cond.privateMethod ({ cls := "CircuitWarden$Gates", name := "sum", desc := "(III)I" } : Jvm.MethodName)) ∈ lw_tbl := lw_at lw_m5 110 rfl
theorem q1360 : (Jvm.Cond.instanceMethod ({ cls := "CircuitWarden$Gates", name := "sum", desc := "(III)I" } : Jvm.MethodName)) ∈ lw_all := lw_g (lw_at lw_m5 111 rfl) rfl
theorem q1361 : (Jvm.Cond.code ({ cls := "CircuitWarden$Gates", name := "sum", desc := "(III)I" } : Jvm.MethodName) prog_5_method_16_code (5 : Nat) (Option.some Jvm.ClassFile.FieldType.int)) ∈ lw_all := lw_g (lw_at lw_m5 112 rfl) rfl
theorem q1362 : (Jvm.Cond.methodLink "CircuitWarden$Gates" (217 : Nat) ({ cls := "CircuitWarden$Gates", name := "product", desc := "(III)I" } : Jvm.MethodName)) ∈ lw_all := lw_g (lw_at lw_m5 113 rfl) rfl
theorem q1363 : (Jvm.Cond.privateMethod ({ cls := "CircuitWarden$Gates", name := "product", desc := "(III)I" } : Jvm.MethodName)) ∈ lw_tbl := lw_at lw_m5 114 rfl
theorem q1364 : (Jvm.Cond.instanceMethod ({ cls := "CircuitWarden$Gates", name := "product", desc := "(III)I" } : Jvm.MethodName)) ∈ lw_all := lw_g (lw_at lw_m5 115 rfl) rfl
theorem q1365 : (Jvm.Cond.code ({ cls := "CircuitWarden$Gates", name := "product", desc := "(III)I" } : Jvm.MethodName) prog_5_method_19_code (8 : Nat) (Option.some Jvm.ClassFile.FieldType.int)) ∈ lw_all := lw_g (lw_at lw_m5 116 rfl) rfl
theorem q1366 : (Jvm.Cond.methodLink "CircuitWarden$Gates" (250 : Nat) ({ cls := "CircuitWarden$Ways", name := "isCheck", desc := "(I)Z" } : Jvm.MethodName)) ∈ lw_all := lw_g (lw_at lw_m5 117 rfl) rfl
theorem q1367 : (Jvm.Cond.methodLink "CircuitWarden$Gates" (130 : Nat) ({ cls := "CircuitWarden$Twin", name := "make", desc := "(LCircuitWarden$Net;)V" } : Jvm.MethodName)) ∈ lw_all := lw_g (lw_at lw_m5 118 rfl) rfl
theorem q2078 : (Jvm.Cond.instanceMethod ({ cls := "CircuitWarden$Gates", name := "literal", desc := "(IIZ)I" } : Jvm.MethodName)) ∈ lw_all := lw_g (lw_at lw_m8 109 rfl) rfl
theorem q2079 : (Jvm.Cond.selects "CircuitWarden$Gates" ({ cls := "CircuitWarden$Gates", name := "literal", desc := "(IIZ)I" } : Jvm.MethodName) ({ cls := "CircuitWarden$Gates", name := "literal", desc := "(IIZ)I" } : Jvm.MethodName)) ∈ lw_all := lw_g (lw_at lw_m8 110 rfl) rfl
theorem q2080 : (Jvm.Cond.code ({ cls := "CircuitWarden$Gates", name := "literal", desc := "(IIZ)I" } : Jvm.MethodName) prog_5_method_25_code (4 : Nat) (Option.some Jvm.ClassFile.FieldType.int)) ∈ lw_all := lw_g (lw_at lw_m8 111 rfl) rfl
theorem in_X11 : ∀ w ∈ wsX110, w ∈ lw_all := lw_in wsX110 [967, 969, 971, 973, 975, 977, 979, 981, 983, 985, 987, 989, 991, 993, 995, 997] (by decide +kernel) (by decide +kernel)
/-! CircuitWarden$Net -/
def RX12 : String := "CircuitWarden$Net"
def TX12 : u_T := fun k => match k with
  | 0 => ("CircuitWarden$Net", "most", "I", true)
  | 1 => ("CircuitWarden$Net", "first", "[I", false)
  | 2 => ("CircuitWarden$Net", "second", "[I", false)
  | 3 => ("CircuitWarden$Net", "table", "[I", false)
  | 4 => ("CircuitWarden$Net", "count", "I", false)
  | 5 => ("CircuitWarden$Net", "gates", "I", false)
  | _ => ("CircuitWarden$Net", "full", "Z", false)
def tyX12 : Nat → FieldType := fun k => match k with
  | 0 => .int
  | 1 => .array .int
  | 2 => .array .int
  | 3 => .array .int
  | 4 => .int
  | 5 => .int
  | _ => .boolean
abbrev wsX120 : List Cond := u_ws RX12 TX12 7
theorem nmX12 : ∀ a, a < 7 → ∀ b, b < 7 → a ≠ b → (TX12 a).2.1 ≠ (TX12 b).2.1 := by decide +kernel
theorem tyX12_ok : ∀ k, k < 7 → parseFieldDescriptor (TX12 k).2.2.1 = some (tyX12 k) := by decide +kernel
abbrev cX12_init : ByteArray := prog_9_method_1_code
def yX12_init : MethodName := ⟨RX12, "<init>", "(I)V"⟩
abbrev cX12_clear : ByteArray := prog_9_method_2_code
def yX12_clear : MethodName := ⟨RX12, "clear", "()V"⟩
abbrev cX12_node : ByteArray := prog_9_method_3_code
def yX12_node : MethodName := ⟨RX12, "node", "(II)I"⟩
abbrev cX12_input : ByteArray := prog_9_method_4_code
def yX12_input : MethodName := ⟨RX12, "input", "()I"⟩
abbrev cX12_choose : ByteArray := prog_9_method_12_code
def yX12_choose : MethodName := ⟨RX12, "choose", "(III)I"⟩
abbrev cX12_and : ByteArray := prog_9_method_9_code
def yX12_and : MethodName := ⟨RX12, "and", "(II)I"⟩
abbrev cX12_gate : ByteArray := prog_9_method_7_code
def yX12_gate : MethodName := ⟨RX12, "gate", "(II)I"⟩
abbrev cX12_place : ByteArray := prog_9_method_6_code
def yX12_place : MethodName := ⟨RX12, "place", "(II)I"⟩
abbrev cX12_spread : ByteArray := prog_9_method_8_code
def yX12_spread : MethodName := ⟨RX12, "spread", "()V"⟩
abbrev cX12_isGate : ByteArray := prog_9_method_5_code
def yX12_isGate : MethodName := ⟨RX12, "isGate", "(I)Z"⟩
abbrev cX12_or : ByteArray := prog_9_method_10_code
def yX12_or : MethodName := ⟨RX12, "or", "(II)I"⟩
abbrev cX12_xor : ByteArray := prog_9_method_11_code
def yX12_xor : MethodName := ⟨RX12, "xor", "(II)I"⟩
theorem q304 : (Jvm.Cond.initialized "CircuitWarden$Net") ∈ lw_all := lw_g (lw_at lw_m1 15 rfl) rfl
theorem q888 : (Jvm.Cond.instantiable "CircuitWarden$Net" (7 : Nat)) ∈ lw_all := lw_g (lw_at lw_m3 119 rfl) rfl
theorem q890 : (Jvm.Cond.instanceMethod ({ cls := "CircuitWarden$Net", name := "<init>", desc := "(I)V" } : Jvm.MethodName)) ∈ lw_all := lw_g (lw_at lw_m3 121 rfl) rfl
theorem q891 : (Jvm.Cond.code ({ cls := "CircuitWarden$Net", name := "<init>", desc := "(I)V" } : Jvm.MethodName) prog_9_method_1_code (2 : Nat) (Option.none : Option Jvm.ClassFile.FieldType)) ∈ lw_all := lw_g (lw_at lw_m3 122 rfl) rfl
theorem q892 : (Jvm.Cond.methodLink "CircuitWarden$Net" (3 : Nat) ({ cls := "java/lang/Object", name := "<init>", desc := "()V" } : Jvm.MethodName)) ∈ lw_all := lw_g (lw_at lw_m3 123 rfl) rfl
theorem q893 : (Jvm.Cond.fieldLink "CircuitWarden$Net" (21 : Nat) "CircuitWarden$Net" "most" "I") ∈ lw_all := lw_g (lw_at lw_m3 124 rfl) rfl
theorem q894 : (Jvm.Cond.fieldLink "CircuitWarden$Net" (9 : Nat) "CircuitWarden$Net" "first" "[I") ∈ lw_all := lw_g (lw_at lw_m3 125 rfl) rfl
theorem q898 : (Jvm.Cond.fieldLink "CircuitWarden$Net" (15 : Nat) "CircuitWarden$Net" "second" "[I") ∈ lw_all := lw_g (lw_at lw_m3 129 rfl) rfl
theorem q902 : (Jvm.Cond.fieldLink "CircuitWarden$Net" (18 : Nat) "CircuitWarden$Net" "table" "[I") ∈ lw_all := lw_g (lw_at lw_m3 133 rfl) rfl
theorem q904 : (Jvm.Cond.fieldLink "CircuitWarden$Net" (25 : Nat) "CircuitWarden$Net" "count" "I") ∈ lw_all := lw_g (lw_at lw_m3 135 rfl) rfl
theorem q907 : (Jvm.Cond.fieldLink "CircuitWarden$Net" (28 : Nat) "CircuitWarden$Net" "gates" "I") ∈ lw_all := lw_g (lw_at lw_m3 138 rfl) rfl
theorem q908 : (Jvm.Cond.fieldLink "CircuitWarden$Net" (31 : Nat) "CircuitWarden$Net" "full" "Z") ∈ lw_all := lw_g (lw_at lw_m3 139 rfl) rfl
theorem q911 : (Jvm.Cond.laysFinal "CircuitWarden$Net" "CircuitWarden$Net" "most" "I") ∈ lw_all := lw_g (lw_at lw_m3 142 rfl) rfl
theorem q912 : (Jvm.Cond.soleField "CircuitWarden$Net" "most") ∈ lw_all := lw_g (lw_at lw_m3 143 rfl) rfl
theorem q913 : (Jvm.Cond.lays "CircuitWarden$Net" "CircuitWarden$Net" "first" "[I") ∈ lw_all := lw_g (lw_at lw_m3 144 rfl) rfl
theorem q914 : (Jvm.Cond.soleField "CircuitWarden$Net" "first") ∈ lw_all := lw_g (lw_at lw_m3 145 rfl) rfl
theorem q915 : (Jvm.Cond.lays "CircuitWarden$Net" "CircuitWarden$Net" "second" "[I") ∈ lw_all := lw_g (lw_at lw_m3 146 rfl) rfl
theorem q916 : (Jvm.Cond.soleField "CircuitWarden$Net" "second") ∈ lw_all := lw_g (lw_at lw_m3 147 rfl) rfl
theorem q917 : (Jvm.Cond.lays "CircuitWarden$Net" "CircuitWarden$Net" "table" "[I") ∈ lw_all := lw_g (lw_at lw_m3 148 rfl) rfl
theorem q918 : (Jvm.Cond.soleField "CircuitWarden$Net" "table") ∈ lw_all := lw_g (lw_at lw_m3 149 rfl) rfl
theorem q919 : (Jvm.Cond.lays "CircuitWarden$Net" "CircuitWarden$Net" "count" "I") ∈ lw_all := lw_g (lw_at lw_m3 150 rfl) rfl
theorem q920 : (Jvm.Cond.soleField "CircuitWarden$Net" "count") ∈ lw_all := lw_g (lw_at lw_m3 151 rfl) rfl
theorem q921 : (Jvm.Cond.lays "CircuitWarden$Net" "CircuitWarden$Net" "gates" "I") ∈ lw_all := lw_g (lw_at lw_m3 152 rfl) rfl
theorem q922 : (Jvm.Cond.soleField "CircuitWarden$Net" "gates") ∈ lw_all := lw_g (lw_at lw_m3 153 rfl) rfl
theorem q923 : (Jvm.Cond.lays "CircuitWarden$Net" "CircuitWarden$Net" "full" "Z") ∈ lw_all := lw_g (lw_at lw_m3 154 rfl) rfl
theorem q924 : (Jvm.Cond.soleField "CircuitWarden$Net" "full") ∈ lw_all := lw_g (lw_at lw_m3 155 rfl) rfl
theorem q925 : (Jvm.Cond.superclass "CircuitWarden$Net" "java/lang/Object") ∈ lw_all := lw_g (lw_at lw_m3 156 rfl) rfl
theorem q1227 : (Jvm.Cond.instanceMethod ({ cls := "CircuitWarden$Net", name := "clear", desc := "()V" } : Jvm.MethodName)) ∈ lw_all := lw_g (lw_at lw_m4 218 rfl) rfl
theorem q1228 : (Jvm.Cond.selects "CircuitWarden$Net" ({ cls := "CircuitWarden$Net", name := "clear", desc := "()V" } : Jvm.MethodName) ({ cls := "CircuitWarden$Net", name := "clear", desc := "()V" } : Jvm.MethodName)) ∈ lw_all := lw_g (lw_at lw_m4 219 rfl) rfl
theorem q1229 : (Jvm.Cond.code ({ cls := "CircuitWarden$Net", name := "clear", desc := "()V" } : Jvm.MethodName) prog_9_method_2_code (2 : Nat) (Option.none : Option Jvm.ClassFile.FieldType)) ∈ lw_all := lw_g (lw_at lw_m4 220 rfl) rfl
theorem q1230 : (Jvm.Cond.methodLink "CircuitWarden$Net" (35 : Nat) ({ cls := "CircuitWarden$Net", name := "node", desc := "(II)I" } : Jvm.MethodName)) ∈ lw_all := lw_g (lw_at lw_m4 221 rfl) rfl
theorem q1231 : (Jvm.Cond.privateMethod ({ cls := "CircuitWarden$Net", name := "node", desc := "(II)I" } : Jvm.MethodName)) ∈ lw_tbl := lw_at lw_m4 222 rfl
theorem q1232 : (Jvm.Cond.instanceMethod ({ cls := "CircuitWarden$Net", name := "node", desc := "(II)I" } : Jvm.MethodName)) ∈ lw_all := lw_g (lw_at lw_m4 223 rfl) rfl
theorem q1233 : (Jvm.Cond.code ({ cls := "CircuitWarden$Net", name := "node", desc := "(II)I" } : Jvm.MethodName) prog_9_method_3_code (3 : Nat) (Option.some Jvm.ClassFile.FieldType.int)) ∈ lw_all := lw_g (lw_at lw_m4 224 rfl) rfl
theorem q1234 : (Jvm.Cond.methodLinkNest "CircuitWarden$Net" (39 : Nat) ({ cls := "CircuitWarden", name := "grown", desc := "([II)[I" } : Jvm.MethodName) "CircuitWarden") ∈ lw_tbl := lw_at lw_m4 225 rfl
theorem q1241 : (Jvm.Cond.instanceMethod ({ cls := "CircuitWarden$Net", name := "input", desc := "()I" } : Jvm.MethodName)) ∈ lw_all := lw_g (lw_at lw_m4 232 rfl) rfl
theorem q1242 : (Jvm.Cond.selects "CircuitWarden$Net" ({ cls := "CircuitWarden$Net", name := "input", desc := "()I" } : Jvm.MethodName) ({ cls := "CircuitWarden$Net", name := "input", desc := "()I" } : Jvm.MethodName)) ∈ lw_all := lw_g (lw_at lw_m4 233 rfl) rfl
theorem q1243 : (Jvm.Cond.code ({ cls := "CircuitWarden$Net", name := "input", desc := "()I" } : Jvm.MethodName) prog_9_method_4_code (1 : Nat) (Option.some Jvm.ClassFile.FieldType.int)) ∈ lw_all := lw_g (lw_at lw_m4 234 rfl) rfl
theorem q1266 : (Jvm.Cond.instanceMethod ({ cls := "CircuitWarden$Net", name := "choose", desc := "(III)I" } : Jvm.MethodName)) ∈ lw_all := lw_g (lw_at lw_m5 17 rfl) rfl
theorem q1267 : (Jvm.Cond.selects "CircuitWarden$Net" ({ cls := "CircuitWarden$Net", name := "choose", desc := "(III)I" } : Jvm.MethodName) ({ cls := "CircuitWarden$Net", name := "choose", desc := "(III)I" } : Jvm.MethodName)) ∈ lw_all := lw_g (lw_at lw_m5 18 rfl) rfl
theorem q1268 : (Jvm.Cond.code ({ cls := "CircuitWarden$Net", name := "choose", desc := "(III)I" } : Jvm.MethodName) prog_9_method_12_code (5 : Nat) (Option.some Jvm.ClassFile.FieldType.int)) ∈ lw_all := lw_g (lw_at lw_m5 19 rfl) rfl
theorem q1269 : (Jvm.Cond.methodLink "CircuitWarden$Net" (56 : Nat) ({ cls := "CircuitWarden$Net", name := "and", desc := "(II)I" } : Jvm.MethodName)) ∈ lw_all := lw_g (lw_at lw_m5 20 rfl) rfl
theorem q1270 : (Jvm.Cond.instanceMethod ({ cls := "CircuitWarden$Net", name := "and", desc := "(II)I" } : Jvm.MethodName)) ∈ lw_all := lw_g (lw_at lw_m5 21 rfl) rfl
theorem q1271 : (Jvm.Cond.selects "CircuitWarden$Net" ({ cls := "CircuitWarden$Net", name := "and", desc := "(II)I" } : Jvm.MethodName) ({ cls := "CircuitWarden$Net", name := "and", desc := "(II)I" } : Jvm.MethodName)) ∈ lw_all := lw_g (lw_at lw_m5 22 rfl) rfl
theorem q1272 : (Jvm.Cond.code ({ cls := "CircuitWarden$Net", name := "and", desc := "(II)I" } : Jvm.MethodName) prog_9_method_9_code (3 : Nat) (Option.some Jvm.ClassFile.FieldType.int)) ∈ lw_all := lw_g (lw_at lw_m5 23 rfl) rfl
theorem q1273 : (Jvm.Cond.methodLink "CircuitWarden$Net" (53 : Nat) ({ cls := "CircuitWarden$Net", name := "gate", desc := "(II)I" } : Jvm.MethodName)) ∈ lw_all := lw_g (lw_at lw_m5 24 rfl) rfl
theorem q1274 : (Jvm.Cond.privateMethod ({ cls := "CircuitWarden$Net", name := "gate", desc := "(II)I" } : Jvm.MethodName)) ∈ lw_tbl := lw_at lw_m5 25 rfl
theorem q1275 : (Jvm.Cond.instanceMethod ({ cls := "CircuitWarden$Net", name := "gate", desc := "(II)I" } : Jvm.MethodName)) ∈ lw_all := lw_g (lw_at lw_m5 26 rfl) rfl
theorem q1276 : (Jvm.Cond.code ({ cls := "CircuitWarden$Net", name := "gate", desc := "(II)I" } : Jvm.MethodName) prog_9_method_7_code (5 : Nat) (Option.some Jvm.ClassFile.FieldType.int)) ∈ lw_all := lw_g (lw_at lw_m5 27 rfl) rfl
theorem q1277 : (Jvm.Cond.methodLink "CircuitWarden$Net" (43 : Nat) ({ cls := "CircuitWarden$Net", name := "place", desc := "(II)I" } : Jvm.MethodName)) ∈ lw_all := lw_g (lw_at lw_m5 28 rfl) rfl
theorem q1278 : (Jvm.Cond.privateMethod ({ cls := "CircuitWarden$Net", name := "place", desc := "(II)I" } : Jvm.MethodName)) ∈ lw_tbl := lw_at lw_m5 29 rfl
theorem q1279 : (Jvm.Cond.instanceMethod ({ cls := "CircuitWarden$Net", name := "place", desc := "(II)I" } : Jvm.MethodName)) ∈ lw_all := lw_g (lw_at lw_m5 30 rfl) rfl
theorem q1280 : (Jvm.Cond.code ({ cls := "CircuitWarden$Net", name := "place", desc := "(II)I" } : Jvm.MethodName) prog_9_method_6_code (4 : Nat) (Option.some Jvm.ClassFile.FieldType.int)) ∈ lw_all := lw_g (lw_at lw_m5 31 rfl) rfl
theorem q1281 : (Jvm.Cond.methodLink "CircuitWarden$Net" (46 : Nat) ({ cls := "CircuitWarden$Net", name := "spread", desc := "()V" } : Jvm.MethodName)) ∈ lw_all := lw_g (lw_at lw_m5 32 rfl) rfl
theorem q1282 : (Jvm.Cond.privateMethod ({ cls := "CircuitWarden$Net", name := "spread", desc := "()V" } : Jvm.MethodName)) ∈ lw_tbl := lw_at lw_m5 33 rfl
theorem q1283 : (Jvm.Cond.instanceMethod ({ cls := "CircuitWarden$Net", name := "spread", desc := "()V" } : Jvm.MethodName)) ∈ lw_all := lw_g (lw_at lw_m5 34 rfl) rfl
theorem q1284 : (Jvm.Cond.code ({ cls := "CircuitWarden$Net", name := "spread", desc := "()V" } : Jvm.MethodName) prog_9_method_8_code (3 : Nat) (Option.none : Option Jvm.ClassFile.FieldType)) ∈ lw_all := lw_g (lw_at lw_m5 35 rfl) rfl
theorem q1285 : (Jvm.Cond.methodLink "CircuitWarden$Net" (49 : Nat) ({ cls := "CircuitWarden$Net", name := "isGate", desc := "(I)Z" } : Jvm.MethodName)) ∈ lw_all := lw_g (lw_at lw_m5 36 rfl) rfl
theorem q1286 : (Jvm.Cond.instanceMethod ({ cls := "CircuitWarden$Net", name := "isGate", desc := "(I)Z" } : Jvm.MethodName)) ∈ lw_all := lw_g (lw_at lw_m5 37 rfl) rfl
theorem q1287 : (Jvm.Cond.selects "CircuitWarden$Net" ({ cls := "CircuitWarden$Net", name := "isGate", desc := "(I)Z" } : Jvm.MethodName) ({ cls := "CircuitWarden$Net", name := "isGate", desc := "(I)Z" } : Jvm.MethodName)) ∈ lw_all := lw_g (lw_at lw_m5 38 rfl) rfl
theorem q1288 : (Jvm.Cond.code ({ cls := "CircuitWarden$Net", name := "isGate", desc := "(I)Z" } : Jvm.MethodName) prog_9_method_5_code (2 : Nat) (Option.some Jvm.ClassFile.FieldType.boolean)) ∈ lw_all := lw_g (lw_at lw_m5 39 rfl) rfl
theorem q1289 : (Jvm.Cond.methodLink "CircuitWarden$Net" (59 : Nat) ({ cls := "CircuitWarden$Net", name := "or", desc := "(II)I" } : Jvm.MethodName)) ∈ lw_all := lw_g (lw_at lw_m5 40 rfl) rfl
theorem q1290 : (Jvm.Cond.instanceMethod ({ cls := "CircuitWarden$Net", name := "or", desc := "(II)I" } : Jvm.MethodName)) ∈ lw_all := lw_g (lw_at lw_m5 41 rfl) rfl
theorem q1291 : (Jvm.Cond.selects "CircuitWarden$Net" ({ cls := "CircuitWarden$Net", name := "or", desc := "(II)I" } : Jvm.MethodName) ({ cls := "CircuitWarden$Net", name := "or", desc := "(II)I" } : Jvm.MethodName)) ∈ lw_all := lw_g (lw_at lw_m5 42 rfl) rfl
theorem q1292 : (Jvm.Cond.code ({ cls := "CircuitWarden$Net", name := "or", desc := "(II)I" } : Jvm.MethodName) prog_9_method_10_code (3 : Nat) (Option.some Jvm.ClassFile.FieldType.int)) ∈ lw_all := lw_g (lw_at lw_m5 43 rfl) rfl
theorem q1318 : (Jvm.Cond.instanceMethod ({ cls := "CircuitWarden$Net", name := "xor", desc := "(II)I" } : Jvm.MethodName)) ∈ lw_all := lw_g (lw_at lw_m5 69 rfl) rfl
theorem q1319 : (Jvm.Cond.selects "CircuitWarden$Net" ({ cls := "CircuitWarden$Net", name := "xor", desc := "(II)I" } : Jvm.MethodName) ({ cls := "CircuitWarden$Net", name := "xor", desc := "(II)I" } : Jvm.MethodName)) ∈ lw_all := lw_g (lw_at lw_m5 70 rfl) rfl
theorem q1320 : (Jvm.Cond.code ({ cls := "CircuitWarden$Net", name := "xor", desc := "(II)I" } : Jvm.MethodName) prog_9_method_11_code (4 : Nat) (Option.some Jvm.ClassFile.FieldType.int)) ∈ lw_all := lw_g (lw_at lw_m5 71 rfl) rfl
theorem in_X12 : ∀ w ∈ wsX120, w ∈ lw_all := lw_in wsX120 [911, 913, 915, 917, 919, 921, 923] (by decide +kernel) (by decide +kernel)
/-! CircuitWarden$Twin -/
def RX13 : String := "CircuitWarden$Twin"
def TX13 : u_T := fun k => match k with
  | 0 => ("CircuitWarden$Twin", "made", "LCircuitWarden$Net;", true)
  | 1 => ("CircuitWarden$Twin", "values", "[I", false)
  | _ => ("CircuitWarden$Twin", "taints", "[I", false)
def tyX13 : Nat → FieldType := fun k => match k with
  | 0 => .object "CircuitWarden$Net"
  | 1 => .array .int
  | _ => .array .int
abbrev wsX130 : List Cond := u_ws RX13 TX13 3
theorem nmX13 : ∀ a, a < 3 → ∀ b, b < 3 → a ≠ b → (TX13 a).2.1 ≠ (TX13 b).2.1 := by decide +kernel
theorem tyX13_ok : ∀ k, k < 3 → parseFieldDescriptor (TX13 k).2.2.1 = some (tyX13 k) := by decide +kernel
abbrev cX13_init : ByteArray := prog_16_method_1_code
def yX13_init : MethodName := ⟨RX13, "<init>", "(I)V"⟩
abbrev cX13_make : ByteArray := prog_16_method_5_code
def yX13_make : MethodName := ⟨RX13, "make", "(LCircuitWarden$Net;)V"⟩
abbrev cX13_gate : ByteArray := prog_16_method_6_code
def yX13_gate : MethodName := ⟨RX13, "gate", "(III)V"⟩
abbrev cX13_value : ByteArray := prog_16_method_3_code
def yX13_value : MethodName := ⟨RX13, "value", "(I)I"⟩
abbrev cX13_of : ByteArray := prog_16_method_2_code
def yX13_of : MethodName := ⟨RX13, "of", "(I[I)I"⟩
abbrev cX13_taint : ByteArray := prog_16_method_4_code
def yX13_taint : MethodName := ⟨RX13, "taint", "(I)I"⟩
theorem q305 : (Jvm.Cond.initialized "CircuitWarden$Twin") ∈ lw_all := lw_g (lw_at lw_m1 16 rfl) rfl
theorem q896 : (Jvm.Cond.fieldLinkNest "CircuitWarden$Twin" (54 : Nat) "CircuitWarden$Net" "first" "[I" "CircuitWarden") ∈ lw_tbl := lw_at lw_m3 127 rfl
theorem q900 : (Jvm.Cond.fieldLinkNest "CircuitWarden$Twin" (57 : Nat) "CircuitWarden$Net" "second" "[I" "CircuitWarden") ∈ lw_tbl := lw_at lw_m3 131 rfl
theorem q905 : (Jvm.Cond.fieldLinkNest "CircuitWarden$Twin" (29 : Nat) "CircuitWarden$Net" "count" "I" "CircuitWarden") ∈ lw_tbl := lw_at lw_m3 136 rfl
theorem q910 : (Jvm.Cond.fieldLinkNest "CircuitWarden$Twin" (50 : Nat) "CircuitWarden$Net" "full" "Z" "CircuitWarden") ∈ lw_tbl := lw_at lw_m3 141 rfl
theorem q927 : (Jvm.Cond.instantiable "CircuitWarden$Twin" (3 : Nat)) ∈ lw_all := lw_g (lw_at lw_m3 158 rfl) rfl
theorem q929 : (Jvm.Cond.instanceMethod ({ cls := "CircuitWarden$Twin", name := "<init>", desc := "(I)V" } : Jvm.MethodName)) ∈ lw_all := lw_g (lw_at lw_m3 160 rfl) rfl
theorem q930 : (Jvm.Cond.code ({ cls := "CircuitWarden$Twin", name := "<init>", desc := "(I)V" } : Jvm.MethodName) prog_16_method_1_code (2 : Nat) (Option.none : Option Jvm.ClassFile.FieldType)) ∈ lw_all := lw_g (lw_at lw_m3 161 rfl) rfl
theorem q931 : (Jvm.Cond.methodLink "CircuitWarden$Twin" (1 : Nat) ({ cls := "java/lang/Object", name := "<init>", desc := "()V" } : Jvm.MethodName)) ∈ lw_all := lw_g (lw_at lw_m3 162 rfl) rfl
theorem q932 : (Jvm.Cond.classLink "CircuitWarden$Twin" (16 : Nat) "CircuitWarden$Net") ∈ lw_all := lw_g (lw_at lw_m3 163 rfl) rfl
theorem q933 : (Jvm.Cond.methodLink "CircuitWarden$Twin" (18 : Nat) ({ cls := "CircuitWarden$Net", name := "<init>", desc := "(I)V" } : Jvm.MethodName)) ∈ lw_all := lw_g (lw_at lw_m3 164 rfl) rfl
theorem q934 : (Jvm.Cond.fieldLink "CircuitWarden$Twin" (21 : Nat) "CircuitWarden$Twin" "made" "LCircuitWarden$Net;") ∈ lw_all := lw_g (lw_at lw_m3 165 rfl) rfl
theorem q938 : (Jvm.Cond.fieldLink "CircuitWarden$Twin" (7 : Nat) "CircuitWarden$Twin" "values" "[I") ∈ lw_all := lw_g (lw_at lw_m3 169 rfl) rfl
theorem q939 : (Jvm.Cond.fieldLink "CircuitWarden$Twin" (13 : Nat) "CircuitWarden$Twin" "taints" "[I") ∈ lw_all := lw_g (lw_at lw_m3 170 rfl) rfl
theorem q940 : (Jvm.Cond.laysFinal "CircuitWarden$Twin" "CircuitWarden$Twin" "made" "LCircuitWarden$Net;") ∈ lw_all := lw_g (lw_at lw_m3 171 rfl) rfl
theorem q941 : (Jvm.Cond.soleField "CircuitWarden$Twin" "made") ∈ lw_all := lw_g (lw_at lw_m3 172 rfl) rfl
theorem q942 : (Jvm.Cond.lays "CircuitWarden$Twin" "CircuitWarden$Twin" "values" "[I") ∈ lw_all := lw_g (lw_at lw_m3 173 rfl) rfl
theorem q943 : (Jvm.Cond.soleField "CircuitWarden$Twin" "values") ∈ lw_all := lw_g (lw_at lw_m3 174 rfl) rfl
theorem q944 : (Jvm.Cond.lays "CircuitWarden$Twin" "CircuitWarden$Twin" "taints" "[I") ∈ lw_all := lw_g (lw_at lw_m3 175 rfl) rfl
theorem q945 : (Jvm.Cond.soleField "CircuitWarden$Twin" "taints") ∈ lw_all := lw_g (lw_at lw_m3 176 rfl) rfl
theorem q946 : (Jvm.Cond.superclass "CircuitWarden$Twin" "java/lang/Object") ∈ lw_all := lw_g (lw_at lw_m3 177 rfl) rfl
theorem q1368 : (Jvm.Cond.instanceMethod ({ cls := "CircuitWarden$Twin", name := "make", desc := "(LCircuitWarden$Net;)V" } : Jvm.MethodName)) ∈ lw_all := lw_g (lw_at lw_m5 119 rfl) rfl
theorem q1369 : (Jvm.Cond.selects "CircuitWarden$Twin" ({ cls := "CircuitWarden$Twin", name := "make", desc := "(LCircuitWarden$Net;)V" } : Jvm.MethodName) ({ cls := "CircuitWarden$Twin", name := "make", desc := "(LCircuitWarden$Net;)V" } : Jvm.MethodName)) ∈ lw_all := lw_g (lw_at lw_m5 120 rfl) rfl
theorem q1370 : (Jvm.Cond.code ({ cls := "CircuitWarden$Twin", name := "make", desc := "(LCircuitWarden$Net;)V" } : Jvm.MethodName) prog_16_method_5_code (3 : Nat) (Option.none : Option Jvm.ClassFile.FieldType)) ∈ lw_all := lw_g (lw_at lw_m5 121 rfl) rfl
theorem q1371 : (Jvm.Cond.methodLinkNest "CircuitWarden$Twin" (33 : Nat) ({ cls := "CircuitWarden", name := "grown", desc := "([II)[I" } : Jvm.MethodName) "CircuitWarden") ∈ lw_tbl := lw_at lw_m5 122 rfl
theorem q1372 : (Jvm.Cond.methodLink "CircuitWarden$Twin" (39 : Nat) ({ cls := "CircuitWarden$Net", name := "clear", desc := "()V" } : Jvm.MethodName)) ∈ lw_all := lw_g (lw_at lw_m5 123 rfl) rfl
theorem q1373 : (Jvm.Cond.methodLink "CircuitWarden$Twin" (42 : Nat) ({ cls := "CircuitWarden$Net", name := "isGate", desc := "(I)Z" } : Jvm.MethodName)) ∈ lw_all := lw_g (lw_at lw_m5 124 rfl) rfl
theorem q1374 : (Jvm.Cond.methodLink "CircuitWarden$Twin" (46 : Nat) ({ cls := "CircuitWarden$Net", name := "input", desc := "()I" } : Jvm.MethodName)) ∈ lw_all := lw_g (lw_at lw_m5 125 rfl) rfl
theorem q1375 : (Jvm.Cond.methodLink "CircuitWarden$Twin" (60 : Nat) ({ cls := "CircuitWarden$Twin", name := "gate", desc := "(III)V" } : Jvm.MethodName)) ∈ lw_all := lw_g (lw_at lw_m5 126 rfl) rfl
theorem q1376 : (Jvm.Cond.privateMethod ({ cls := "CircuitWarden$Twin", name := "gate", desc := "(III)V" } : Jvm.MethodName)) ∈ lw_tbl := lw_at lw_m5 127 rfl
theorem q1377 : (Jvm.Cond.instanceMethod ({ cls := "CircuitWarden$Twin", name := "gate", desc := "(III)V" } : Jvm.MethodName)) ∈ lw_all := lw_g (lw_at lw_m5 128 rfl) rfl
theorem q1378 : (Jvm.Cond.code ({ cls := "CircuitWarden$Twin", name := "gate", desc := "(III)V" } : Jvm.MethodName) prog_16_method_6_code (7 : Nat) (Option.none : Option Jvm.ClassFile.FieldType)) ∈ lw_all := lw_g (lw_at lw_m5 129 rfl) rfl
theorem q1379 : (Jvm.Cond.methodLink "CircuitWarden$Twin" (64 : Nat) ({ cls := "CircuitWarden$Twin", name := "value", desc := "(I)I" } : Jvm.MethodName)) ∈ lw_all := lw_g (lw_at lw_m5 130 rfl) rfl
theorem q1380 : (Jvm.Cond.instanceMethod ({ cls := "CircuitWarden$Twin", name := "value", desc := "(I)I" } : Jvm.MethodName)) ∈ lw_all := lw_g (lw_at lw_m5 131 rfl) rfl
theorem q1381 : (Jvm.Cond.selects "CircuitWarden$Twin" ({ cls := "CircuitWarden$Twin", name := "value", desc := "(I)I" } : Jvm.MethodName) ({ cls := "CircuitWarden$Twin", name := "value", desc := "(I)I" } : Jvm.MethodName)) ∈ lw_all := lw_g (lw_at lw_m5 132 rfl) rfl
theorem q1382 : (Jvm.Cond.code ({ cls := "CircuitWarden$Twin", name := "value", desc := "(I)I" } : Jvm.MethodName) prog_16_method_3_code (2 : Nat) (Option.some Jvm.ClassFile.FieldType.int)) ∈ lw_all := lw_g (lw_at lw_m5 133 rfl) rfl
theorem q1383 : (Jvm.Cond.methodLink "CircuitWarden$Twin" (25 : Nat) ({ cls := "CircuitWarden$Twin", name := "of", desc := "(I[I)I" } : Jvm.MethodName)) ∈ lw_all := lw_g (lw_at lw_m5 134 rfl) rfl
theorem q1384 : (Jvm.Cond.static ({ cls := "CircuitWarden$Twin", name := "of", desc := "(I[I)I" } : Jvm.MethodName)) ∈ lw_all := lw_g (lw_at lw_m5 135 rfl) rfl
theorem q1385 : (Jvm.Cond.code ({ cls := "CircuitWarden$Twin", name := "of", desc := "(I[I)I" } : Jvm.MethodName) prog_16_method_2_code (2 : Nat) (Option.some Jvm.ClassFile.FieldType.int)) ∈ lw_all := lw_g (lw_at lw_m5 136 rfl) rfl
theorem q1386 : (Jvm.Cond.methodLink "CircuitWarden$Twin" (68 : Nat) ({ cls := "CircuitWarden$Net", name := "and", desc := "(II)I" } : Jvm.MethodName)) ∈ lw_all := lw_g (lw_at lw_m5 137 rfl) rfl
theorem q1387 : (Jvm.Cond.methodLink "CircuitWarden$Twin" (72 : Nat) ({ cls := "CircuitWarden$Twin", name := "taint", desc := "(I)I" } : Jvm.MethodName)) ∈ lw_all := lw_g (lw_at lw_m5 138 rfl) rfl
theorem q1388 : (Jvm.Cond.instanceMethod ({ cls := "CircuitWarden$Twin", name := "taint", desc := "(I)I" } : Jvm.MethodName)) ∈ lw_all := lw_g (lw_at lw_m5 139 rfl) rfl
theorem q1389 : (Jvm.Cond.selects "CircuitWarden$Twin" ({ cls := "CircuitWarden$Twin", name := "taint", desc := "(I)I" } : Jvm.MethodName) ({ cls := "CircuitWarden$Twin", name := "taint", desc := "(I)I" } : Jvm.MethodName)) ∈ lw_all := lw_g (lw_at lw_m5 140 rfl) rfl
theorem q1390 : (Jvm.Cond.code ({ cls := "CircuitWarden$Twin", name := "taint", desc := "(I)I" } : Jvm.MethodName) prog_16_method_4_code (2 : Nat) (Option.some Jvm.ClassFile.FieldType.int)) ∈ lw_all := lw_g (lw_at lw_m5 141 rfl) rfl
theorem q1391 : (Jvm.Cond.methodLink "CircuitWarden$Twin" (75 : Nat) ({ cls := "CircuitWarden$Net", name := "or", desc := "(II)I" } : Jvm.MethodName)) ∈ lw_all := lw_g (lw_at lw_m5 142 rfl) rfl
theorem in_X13 : ∀ w ∈ wsX130, w ∈ lw_all := lw_in wsX130 [940, 942, 944] (by decide +kernel) (by decide +kernel)
/-! CircuitWarden$Source -/
def RX14 : String := "CircuitWarden$Source"
def TX14 : u_T := fun k => match k with
  | 0 => ("CircuitWarden$Source", "d", "LCircuitWarden$Design;", true)
  | 1 => ("CircuitWarden$Source", "looks", "[J", false)
  | 2 => ("CircuitWarden$Source", "now", "[J", false)
  | 3 => ("CircuitWarden$Source", "next", "[J", false)
  | _ => ("CircuitWarden$Source", "pile", "[I", false)
def tyX14 : Nat → FieldType := fun k => match k with
  | 0 => .object "CircuitWarden$Design"
  | 1 => .array .long
  | 2 => .array .long
  | 3 => .array .long
  | _ => .array .int
abbrev wsX140 : List Cond := u_ws RX14 TX14 5
theorem nmX14 : ∀ a, a < 5 → ∀ b, b < 5 → a ≠ b → (TX14 a).2.1 ≠ (TX14 b).2.1 := by decide +kernel
theorem tyX14_ok : ∀ k, k < 5 → parseFieldDescriptor (TX14 k).2.2.1 = some (tyX14 k) := by decide +kernel
abbrev cX14_init : ByteArray := prog_12_method_1_code
def yX14_init : MethodName := ⟨RX14, "<init>", "(LCircuitWarden$Design;)V"⟩
abbrev cX14_begin : ByteArray := prog_12_method_3_code
def yX14_begin : MethodName := ⟨RX14, "begin", "()V"⟩
abbrev cX14_wide : ByteArray := prog_12_method_2_code
def yX14_wide : MethodName := ⟨RX14, "wide", "([JI)[J"⟩
abbrev cX14_settle : ByteArray := prog_12_method_5_code
def yX14_settle : MethodName := ⟨RX14, "settle", "()V"⟩
abbrev cX14_look : ByteArray := prog_12_method_4_code
def yX14_look : MethodName := ⟨RX14, "look", "(II)V"⟩
abbrev cX14_step : ByteArray := prog_12_method_6_code
def yX14_step : MethodName := ⟨RX14, "step", "()V"⟩
theorem q306 : (Jvm.Cond.initialized "CircuitWarden$Source") ∈ lw_all := lw_g (lw_at lw_m1 17 rfl) rfl
theorem q508 : (Jvm.Cond.fieldLinkNest "CircuitWarden$Source" (44 : Nat) "CircuitWarden$Design" "op" "[I" "CircuitWarden") ∈ lw_tbl := lw_at lw_m1 219 rfl
theorem q517 : (Jvm.Cond.fieldLinkNest "CircuitWarden$Source" (47 : Nat) "CircuitWarden$Design" "a" "[I" "CircuitWarden") ∈ lw_tbl := lw_at lw_m1 228 rfl
theorem q529 : (Jvm.Cond.fieldLinkNest "CircuitWarden$Source" (29 : Nat) "CircuitWarden$Design" "looks" "I" "CircuitWarden") ∈ lw_tbl := lw_at lw_m2 0 rfl
theorem q538 : (Jvm.Cond.fieldLinkNest "CircuitWarden$Source" (54 : Nat) "CircuitWarden$Design" "kinds" "[I" "CircuitWarden") ∈ lw_tbl := lw_at lw_m2 9 rfl
theorem q547 : (Jvm.Cond.fieldLinkNest "CircuitWarden$Source" (41 : Nat) "CircuitWarden$Design" "inits" "[I" "CircuitWarden") ∈ lw_tbl := lw_at lw_m2 18 rfl
theorem q557 : (Jvm.Cond.fieldLinkNest "CircuitWarden$Source" (67 : Nat) "CircuitWarden$Design" "roots" "[I" "CircuitWarden") ∈ lw_tbl := lw_at lw_m2 28 rfl
theorem q561 : (Jvm.Cond.fieldLinkNest "CircuitWarden$Source" (57 : Nat) "CircuitWarden$Design" "froms" "[I" "CircuitWarden") ∈ lw_tbl := lw_at lw_m2 32 rfl
theorem q564 : (Jvm.Cond.fieldLinkNest "CircuitWarden$Source" (60 : Nat) "CircuitWarden$Design" "tos" "[I" "CircuitWarden") ∈ lw_tbl := lw_at lw_m2 35 rfl
theorem q568 : (Jvm.Cond.fieldLinkNest "CircuitWarden$Source" (38 : Nat) "CircuitWarden$Design" "signals" "I" "CircuitWarden") ∈ lw_tbl := lw_at lw_m2 39 rfl
theorem q582 : (Jvm.Cond.fieldLinkNest "CircuitWarden$Source" (88 : Nat) "CircuitWarden$Design" "steps" "[I" "CircuitWarden") ∈ lw_tbl := lw_at lw_m2 53 rfl
theorem q585 : (Jvm.Cond.fieldLinkNest "CircuitWarden$Source" (91 : Nat) "CircuitWarden$Design" "stepSignals" "[I" "CircuitWarden") ∈ lw_tbl := lw_at lw_m2 56 rfl
theorem q588 : (Jvm.Cond.fieldLinkNest "CircuitWarden$Source" (85 : Nat) "CircuitWarden$Design" "stepRoots" "[I" "CircuitWarden") ∈ lw_tbl := lw_at lw_m2 59 rfl
theorem q592 : (Jvm.Cond.fieldLinkNest "CircuitWarden$Source" (79 : Nat) "CircuitWarden$Design" "stepFroms" "[I" "CircuitWarden") ∈ lw_tbl := lw_at lw_m2 63 rfl
theorem q595 : (Jvm.Cond.fieldLinkNest "CircuitWarden$Source" (82 : Nat) "CircuitWarden$Design" "stepTos" "[I" "CircuitWarden") ∈ lw_tbl := lw_at lw_m2 66 rfl
theorem q598 : (Jvm.Cond.fieldLinkNest "CircuitWarden$Source" (98 : Nat) "CircuitWarden$Design" "stepEnds" "[I" "CircuitWarden") ∈ lw_tbl := lw_at lw_m2 69 rfl
theorem q603 : (Jvm.Cond.fieldLinkNest "CircuitWarden$Source" (101 : Nat) "CircuitWarden$Design" "stepSeconds" "[I" "CircuitWarden") ∈ lw_tbl := lw_at lw_m2 74 rfl
theorem q606 : (Jvm.Cond.fieldLinkNest "CircuitWarden$Source" (76 : Nat) "CircuitWarden$Design" "stepCount" "I" "CircuitWarden") ∈ lw_tbl := lw_at lw_m2 77 rfl
theorem q1001 : (Jvm.Cond.instantiable "CircuitWarden$Source" (5 : Nat)) ∈ lw_all := lw_g (lw_at lw_m3 232 rfl) rfl
theorem q1003 : (Jvm.Cond.instanceMethod ({ cls := "CircuitWarden$Source", name := "<init>", desc := "(LCircuitWarden$Design;)V" } : Jvm.MethodName)) ∈ lw_all := lw_g (lw_at lw_m3 234 rfl) rfl
theorem q1004 : (Jvm.Cond.code ({ cls := "CircuitWarden$Source", name := "<init>", desc := "(LCircuitWarden$Design;)V" } : Jvm.MethodName) prog_12_method_1_code (2 : Nat) (Option.none : Option Jvm.ClassFile.FieldType)) ∈ lw_all := lw_g (lw_at lw_m3 235 rfl) rfl
theorem q1005 : (Jvm.Cond.methodLink "CircuitWarden$Source" (3 : Nat) ({ cls := "java/lang/Object", name := "<init>", desc := "()V" } : Jvm.MethodName)) ∈ lw_all := lw_g (lw_at lw_m3 236 rfl) rfl
theorem q1006 : (Jvm.Cond.fieldLink "CircuitWarden$Source" (25 : Nat) "CircuitWarden$Source" "d" "LCircuitWarden$Design;") ∈ lw_all := lw_g (lw_at lw_m3 237 rfl) rfl
theorem q1007 : (Jvm.Cond.fieldLink "CircuitWarden$Source" (9 : Nat) "CircuitWarden$Source" "looks" "[J") ∈ lw_all := lw_g (lw_at lw_m3 238 rfl) rfl
theorem q1008 : (Jvm.Cond.fieldLink "CircuitWarden$Source" (15 : Nat) "CircuitWarden$Source" "now" "[J") ∈ lw_all := lw_g (lw_at lw_m3 239 rfl) rfl
theorem q1010 : (Jvm.Cond.fieldLink "CircuitWarden$Source" (18 : Nat) "CircuitWarden$Source" "next" "[J") ∈ lw_all := lw_g (lw_at lw_m4 1 rfl) rfl
theorem q1011 : (Jvm.Cond.fieldLink "CircuitWarden$Source" (21 : Nat) "CircuitWarden$Source" "pile" "[I") ∈ lw_all := lw_g (lw_at lw_m4 2 rfl) rfl
theorem q1012 : (Jvm.Cond.laysFinal "CircuitWarden$Source" "CircuitWarden$Source" "d" "LCircuitWarden$Design;") ∈ lw_all := lw_g (lw_at lw_m4 3 rfl) rfl
theorem q1013 : (Jvm.Cond.soleField "CircuitWarden$Source" "d") ∈ lw_all := lw_g (lw_at lw_m4 4 rfl) rfl
theorem q1014 : (Jvm.Cond.lays "CircuitWarden$Source" "CircuitWarden$Source" "looks" "[J") ∈ lw_all := lw_g (lw_at lw_m4 5 rfl) rfl
theorem q1015 : (Jvm.Cond.soleField "CircuitWarden$Source" "looks") ∈ lw_all := lw_g (lw_at lw_m4 6 rfl) rfl
theorem q1016 : (Jvm.Cond.lays "CircuitWarden$Source" "CircuitWarden$Source" "now" "[J") ∈ lw_all := lw_g (lw_at lw_m4 7 rfl) rfl
theorem q1017 : (Jvm.Cond.soleField "CircuitWarden$Source" "now") ∈ lw_all := lw_g (lw_at lw_m4 8 rfl) rfl
theorem q1018 : (Jvm.Cond.lays "CircuitWarden$Source" "CircuitWarden$Source" "next" "[J") ∈ lw_all := lw_g (lw_at lw_m4 9 rfl) rfl
theorem q1019 : (Jvm.Cond.soleField "CircuitWarden$Source" "next") ∈ lw_all := lw_g (lw_at lw_m4 10 rfl) rfl
theorem q1020 : (Jvm.Cond.lays "CircuitWarden$Source" "CircuitWarden$Source" "pile" "[I") ∈ lw_all := lw_g (lw_at lw_m4 11 rfl) rfl
theorem q1021 : (Jvm.Cond.soleField "CircuitWarden$Source" "pile") ∈ lw_all := lw_g (lw_at lw_m4 12 rfl) rfl
theorem q1022 : (Jvm.Cond.superclass "CircuitWarden$Source" "java/lang/Object") ∈ lw_all := lw_g (lw_at lw_m4 13 rfl) rfl
theorem q2088 : (Jvm.Cond.instanceMethod ({ cls := "CircuitWarden$Source", name := "begin", desc := "()V" } : Jvm.MethodName)) ∈ lw_all := lw_g (lw_at lw_m8 119 rfl) rfl
theorem q2089 : (Jvm.Cond.selects "CircuitWarden$Source" ({ cls := "CircuitWarden$Source", name := "begin", desc := "()V" } : Jvm.MethodName) ({ cls := "CircuitWarden$Source", name := "begin", desc := "()V" } : Jvm.MethodName)) ∈ lw_all := lw_g (lw_at lw_m8 120 rfl) rfl
theorem q2090 : (Jvm.Cond.code ({ cls := "CircuitWarden$Source", name := "begin", desc := "()V" } : Jvm.MethodName) prog_12_method_3_code (2 : Nat) (Option.none : Option Jvm.ClassFile.FieldType)) ∈ lw_all := lw_g (lw_at lw_m8 121 rfl) rfl
theorem q2091 : (Jvm.Cond.methodLink "CircuitWarden$Source" (34 : Nat) ({ cls := "CircuitWarden$Source", name := "wide", desc := "([JI)[J" } : Jvm.MethodName)) ∈ lw_all := lw_g (lw_at lw_m8 122 rfl) rfl
theorem q2092 : (Jvm.Cond.static ({ cls := "CircuitWarden$Source", name := "wide", desc := "([JI)[J" } : Jvm.MethodName)) ∈ lw_all := lw_g (lw_at lw_m8 123 rfl) rfl
theorem q2093 : (Jvm.Cond.code ({ cls := "CircuitWarden$Source", name := "wide", desc := "([JI)[J" } : Jvm.MethodName) prog_12_method_2_code (2 : Nat) (Option.some (Jvm.ClassFile.FieldType.array Jvm.ClassFile.FieldType.long))) ∈ lw_all := lw_g (lw_at lw_m8 124 rfl) rfl
theorem q2123 : (Jvm.Cond.instanceMethod ({ cls := "CircuitWarden$Source", name := "settle", desc := "()V" } : Jvm.MethodName)) ∈ lw_all := lw_g (lw_at lw_m8 154 rfl) rfl
theorem q2124 : (Jvm.Cond.selects "CircuitWarden$Source" ({ cls := "CircuitWarden$Source", name := "settle", desc := "()V" } : Jvm.MethodName) ({ cls := "CircuitWarden$Source", name := "settle", desc := "()V" } : Jvm.MethodName)) ∈ lw_all := lw_g (lw_at lw_m8 155 rfl) rfl
theorem q2125 : (Jvm.Cond.code ({ cls := "CircuitWarden$Source", name := "settle", desc := "()V" } : Jvm.MethodName) prog_12_method_5_code (2 : Nat) (Option.none : Option Jvm.ClassFile.FieldType)) ∈ lw_all := lw_g (lw_at lw_m8 156 rfl) rfl
theorem q2126 : (Jvm.Cond.methodLink "CircuitWarden$Source" (63 : Nat) ({ cls := "CircuitWarden$Source", name := "look", desc := "(II)V" } : Jvm.MethodName)) ∈ lw_all := lw_g (lw_at lw_m8 157 rfl) rfl
theorem q2127 : (Jvm.Cond.privateMethod ({ cls := "CircuitWarden$Source", name := "look", desc := "(II)V" } : Jvm.MethodName)) ∈ lw_tbl := lw_at lw_m8 158 rfl
theorem q2128 : (Jvm.Cond.instanceMethod ({ cls := "CircuitWarden$Source", name := "look", desc := "(II)V" } : Jvm.MethodName)) ∈ lw_all := lw_g (lw_at lw_m8 159 rfl) rfl
theorem q2129 : (Jvm.Cond.code ({ cls := "CircuitWarden$Source", name := "look", desc := "(II)V" } : Jvm.MethodName) prog_12_method_4_code (4 : Nat) (Option.none : Option Jvm.ClassFile.FieldType)) ∈ lw_all := lw_g (lw_at lw_m8 160 rfl) rfl
theorem q2130 : (Jvm.Cond.methodLinkNest "CircuitWarden$Source" (50 : Nat) ({ cls := "CircuitWarden", name := "valueOf", desc := "(LCircuitWarden$Design;I[J)J" } : Jvm.MethodName) "CircuitWarden") ∈ lw_tbl := lw_at lw_m8 161 rfl
theorem q2173 : (Jvm.Cond.instanceMethod ({ cls := "CircuitWarden$Source", name := "step", desc := "()V" } : Jvm.MethodName)) ∈ lw_all := lw_g (lw_at lw_m8 204 rfl) rfl
theorem q2174 : (Jvm.Cond.selects "CircuitWarden$Source" ({ cls := "CircuitWarden$Source", name := "step", desc := "()V" } : Jvm.MethodName) ({ cls := "CircuitWarden$Source", name := "step", desc := "()V" } : Jvm.MethodName)) ∈ lw_all := lw_g (lw_at lw_m8 205 rfl) rfl
theorem q2175 : (Jvm.Cond.code ({ cls := "CircuitWarden$Source", name := "step", desc := "()V" } : Jvm.MethodName) prog_12_method_6_code (5 : Nat) (Option.none : Option Jvm.ClassFile.FieldType)) ∈ lw_all := lw_g (lw_at lw_m8 206 rfl) rfl
theorem q2176 : (Jvm.Cond.methodLink "CircuitWarden$Source" (70 : Nat) ({ cls := "java/lang/System", name := "arraycopy", desc := "(Ljava/lang/Object;ILjava/lang/Object;II)V" } : Jvm.MethodName)) ∈ lw_all := lw_g (lw_at lw_m8 207 rfl) rfl
theorem q2177 : (Jvm.Cond.methodLinkNest "CircuitWarden$Source" (94 : Nat) ({ cls := "CircuitWarden", name := "grown", desc := "([II)[I" } : Jvm.MethodName) "CircuitWarden") ∈ lw_tbl := lw_at lw_m8 208 rfl
theorem in_X14 : ∀ w ∈ wsX140, w ∈ lw_all := lw_in wsX140 [1012, 1014, 1016, 1018, 1020] (by decide +kernel) (by decide +kernel)
/-! CircuitWarden$NetRun -/
def RX15 : String := "CircuitWarden$NetRun"
def TX15 : u_T := fun k => match k with
  | 0 => ("CircuitWarden$NetRun", "d", "LCircuitWarden$Design;", true)
  | 1 => ("CircuitWarden$NetRun", "gates", "LCircuitWarden$Gates;", true)
  | 2 => ("CircuitWarden$NetRun", "bits", "LCircuitWarden$Bits;", true)
  | 3 => ("CircuitWarden$NetRun", "twinBits", "LCircuitWarden$Bits;", true)
  | 4 => ("CircuitWarden$NetRun", "values", "[J", false)
  | _ => ("CircuitWarden$NetRun", "taints", "[J", false)
def tyX15 : Nat → FieldType := fun k => match k with
  | 0 => .object "CircuitWarden$Design"
  | 1 => .object "CircuitWarden$Gates"
  | 2 => .object "CircuitWarden$Bits"
  | 3 => .object "CircuitWarden$Bits"
  | 4 => .array .long
  | _ => .array .long
abbrev wsX150 : List Cond := u_ws RX15 TX15 6
theorem nmX15 : ∀ a, a < 6 → ∀ b, b < 6 → a ≠ b → (TX15 a).2.1 ≠ (TX15 b).2.1 := by decide +kernel
theorem tyX15_ok : ∀ k, k < 6 → parseFieldDescriptor (TX15 k).2.2.1 = some (tyX15 k) := by decide +kernel
abbrev cX15_init : ByteArray := prog_10_method_1_code
def yX15_init : MethodName := ⟨RX15, "<init>", "(LCircuitWarden$Design;LCircuitWarden$Gates;)V"⟩
abbrev cX15_begin : ByteArray := prog_10_method_3_code
def yX15_begin : MethodName := ⟨RX15, "begin", "()V"⟩
abbrev cX15_reckon : ByteArray := prog_10_method_4_code
def yX15_reckon : MethodName := ⟨RX15, "reckon", "()V"⟩
abbrev cX15_isInput : ByteArray := prog_10_method_2_code
def yX15_isInput : MethodName := ⟨RX15, "isInput", "(I)Z"⟩
abbrev cX15_reckonTwin : ByteArray := prog_10_method_5_code
def yX15_reckonTwin : MethodName := ⟨RX15, "reckonTwin", "()V"⟩
abbrev cX15_clock : ByteArray := prog_10_method_8_code
def yX15_clock : MethodName := ⟨RX15, "clock", "(Z)V"⟩
abbrev cX15_value : ByteArray := prog_10_method_6_code
def yX15_value : MethodName := ⟨RX15, "value", "(IZ)J"⟩
abbrev cX15_taint : ByteArray := prog_10_method_7_code
def yX15_taint : MethodName := ⟨RX15, "taint", "(IZ)J"⟩
theorem q307 : (Jvm.Cond.initialized "CircuitWarden$NetRun") ∈ lw_all := lw_g (lw_at lw_m1 18 rfl) rfl
theorem q534 : (Jvm.Cond.fieldLinkNest "CircuitWarden$NetRun" (34 : Nat) "CircuitWarden$Design" "kinds" "[I" "CircuitWarden") ∈ lw_tbl := lw_at lw_m2 5 rfl
theorem q543 : (Jvm.Cond.fieldLinkNest "CircuitWarden$NetRun" (61 : Nat) "CircuitWarden$Design" "widths" "[I" "CircuitWarden") ∈ lw_tbl := lw_at lw_m2 14 rfl
theorem q548 : (Jvm.Cond.fieldLinkNest "CircuitWarden$NetRun" (44 : Nat) "CircuitWarden$Design" "inits" "[I" "CircuitWarden") ∈ lw_tbl := lw_at lw_m2 19 rfl
theorem q567 : (Jvm.Cond.fieldLinkNest "CircuitWarden$NetRun" (40 : Nat) "CircuitWarden$Design" "signals" "I" "CircuitWarden") ∈ lw_tbl := lw_at lw_m2 38 rfl
theorem q936 : (Jvm.Cond.fieldLinkNest "CircuitWarden$NetRun" (79 : Nat) "CircuitWarden$Twin" "made" "LCircuitWarden$Net;" "CircuitWarden") ∈ lw_tbl := lw_at lw_m3 167 rfl
theorem q950 : (Jvm.Cond.fieldLinkNest "CircuitWarden$NetRun" (47 : Nat) "CircuitWarden$Gates" "net" "LCircuitWarden$Net;" "CircuitWarden") ∈ lw_tbl := lw_at lw_m3 181 rfl
theorem q953 : (Jvm.Cond.fieldLinkNest "CircuitWarden$NetRun" (75 : Nat) "CircuitWarden$Gates" "twin" "LCircuitWarden$Twin;" "CircuitWarden") ∈ lw_tbl := lw_at lw_m3 184 rfl
theorem q1024 : (Jvm.Cond.instantiable "CircuitWarden$NetRun" (6 : Nat)) ∈ lw_all := lw_g (lw_at lw_m4 15 rfl) rfl
theorem q1026 : (Jvm.Cond.instanceMethod ({ cls := "CircuitWarden$NetRun", name := "<init>", desc := "(LCircuitWarden$Design;LCircuitWarden$Gates;)V" } : Jvm.MethodName)) ∈ lw_all := lw_g (lw_at lw_m4 17 rfl) rfl
theorem q1027 : (Jvm.Cond.code ({ cls := "CircuitWarden$NetRun", name := "<init>", desc := "(LCircuitWarden$Design;LCircuitWarden$Gates;)V" } : Jvm.MethodName) prog_10_method_1_code (3 : Nat) (Option.none : Option Jvm.ClassFile.FieldType)) ∈ lw_all := lw_g (lw_at lw_m4 18 rfl) rfl
theorem q1028 : (Jvm.Cond.methodLink "CircuitWarden$NetRun" (1 : Nat) ({ cls := "java/lang/Object", name := "<init>", desc := "()V" } : Jvm.MethodName)) ∈ lw_all := lw_g (lw_at lw_m4 19 rfl) rfl
theorem q1029 : (Jvm.Cond.classLink "CircuitWarden$NetRun" (7 : Nat) "CircuitWarden$Bits") ∈ lw_all := lw_g (lw_at lw_m4 20 rfl) rfl
theorem q1031 : (Jvm.Cond.methodLinkNest "CircuitWarden$NetRun" (9 : Nat) ({ cls := "CircuitWarden$Bits", name := "<init>", desc := "()V" } : Jvm.MethodName) "CircuitWarden") ∈ lw_tbl := lw_at lw_m4 22 rfl
theorem q1039 : (Jvm.Cond.fieldLink "CircuitWarden$NetRun" (26 : Nat) "CircuitWarden$NetRun" "d" "LCircuitWarden$Design;") ∈ lw_all := lw_g (lw_at lw_m4 30 rfl) rfl
theorem q1040 : (Jvm.Cond.fieldLink "CircuitWarden$NetRun" (30 : Nat) "CircuitWarden$NetRun" "gates" "LCircuitWarden$Gates;") ∈ lw_all := lw_g (lw_at lw_m4 31 rfl) rfl
theorem q1041 : (Jvm.Cond.fieldLink "CircuitWarden$NetRun" (10 : Nat) "CircuitWarden$NetRun" "bits" "LCircuitWarden$Bits;") ∈ lw_all := lw_g (lw_at lw_m4 32 rfl) rfl
theorem q1042 : (Jvm.Cond.fieldLink "CircuitWarden$NetRun" (16 : Nat) "CircuitWarden$NetRun" "twinBits" "LCircuitWarden$Bits;") ∈ lw_all := lw_g (lw_at lw_m4 33 rfl) rfl
theorem q1043 : (Jvm.Cond.fieldLink "CircuitWarden$NetRun" (19 : Nat) "CircuitWarden$NetRun" "values" "[J") ∈ lw_all := lw_g (lw_at lw_m4 34 rfl) rfl
theorem q1045 : (Jvm.Cond.fieldLink "CircuitWarden$NetRun" (23 : Nat) "CircuitWarden$NetRun" "taints" "[J") ∈ lw_all := lw_g (lw_at lw_m4 36 rfl) rfl
theorem q1047 : (Jvm.Cond.laysFinal "CircuitWarden$NetRun" "CircuitWarden$NetRun" "d" "LCircuitWarden$Design;") ∈ lw_all := lw_g (lw_at lw_m4 38 rfl) rfl
theorem q1048 : (Jvm.Cond.soleField "CircuitWarden$NetRun" "d") ∈ lw_all := lw_g (lw_at lw_m4 39 rfl) rfl
theorem q1049 : (Jvm.Cond.laysFinal "CircuitWarden$NetRun" "CircuitWarden$NetRun" "gates" "LCircuitWarden$Gates;") ∈ lw_all := lw_g (lw_at lw_m4 40 rfl) rfl
theorem q1050 : (Jvm.Cond.soleField "CircuitWarden$NetRun" "gates") ∈ lw_all := lw_g (lw_at lw_m4 41 rfl) rfl
theorem q1051 : (Jvm.Cond.laysFinal "CircuitWarden$NetRun" "CircuitWarden$NetRun" "bits" "LCircuitWarden$Bits;") ∈ lw_all := lw_g (lw_at lw_m4 42 rfl) rfl
theorem q1052 : (Jvm.Cond.soleField "CircuitWarden$NetRun" "bits") ∈ lw_all := lw_g (lw_at lw_m4 43 rfl) rfl
theorem q1053 : (Jvm.Cond.laysFinal "CircuitWarden$NetRun" "CircuitWarden$NetRun" "twinBits" "LCircuitWarden$Bits;") ∈ lw_all := lw_g (lw_at lw_m4 44 rfl) rfl
theorem q1054 : (Jvm.Cond.soleField "CircuitWarden$NetRun" "twinBits") ∈ lw_all := lw_g (lw_at lw_m4 45 rfl) rfl
theorem q1055 : (Jvm.Cond.lays "CircuitWarden$NetRun" "CircuitWarden$NetRun" "values" "[J") ∈ lw_all := lw_g (lw_at lw_m4 46 rfl) rfl
theorem q1056 : (Jvm.Cond.soleField "CircuitWarden$NetRun" "values") ∈ lw_all := lw_g (lw_at lw_m4 47 rfl) rfl
theorem q1057 : (Jvm.Cond.lays "CircuitWarden$NetRun" "CircuitWarden$NetRun" "taints" "[J") ∈ lw_all := lw_g (lw_at lw_m4 48 rfl) rfl
theorem q1058 : (Jvm.Cond.soleField "CircuitWarden$NetRun" "taints") ∈ lw_all := lw_g (lw_at lw_m4 49 rfl) rfl
theorem q1059 : (Jvm.Cond.superclass "CircuitWarden$NetRun" "java/lang/Object") ∈ lw_all := lw_g (lw_at lw_m4 50 rfl) rfl
theorem q2095 : (Jvm.Cond.instanceMethod ({ cls := "CircuitWarden$NetRun", name := "begin", desc := "()V" } : Jvm.MethodName)) ∈ lw_all := lw_g (lw_at lw_m8 126 rfl) rfl
theorem q2096 : (Jvm.Cond.selects "CircuitWarden$NetRun" ({ cls := "CircuitWarden$NetRun", name := "begin", desc := "()V" } : Jvm.MethodName) ({ cls := "CircuitWarden$NetRun", name := "begin", desc := "()V" } : Jvm.MethodName)) ∈ lw_all := lw_g (lw_at lw_m8 127 rfl) rfl
theorem q2097 : (Jvm.Cond.code ({ cls := "CircuitWarden$NetRun", name := "begin", desc := "()V" } : Jvm.MethodName) prog_10_method_3_code (2 : Nat) (Option.none : Option Jvm.ClassFile.FieldType)) ∈ lw_all := lw_g (lw_at lw_m8 128 rfl) rfl
theorem q2132 : (Jvm.Cond.instanceMethod ({ cls := "CircuitWarden$NetRun", name := "reckon", desc := "()V" } : Jvm.MethodName)) ∈ lw_all := lw_g (lw_at lw_m8 163 rfl) rfl
theorem q2133 : (Jvm.Cond.selects "CircuitWarden$NetRun" ({ cls := "CircuitWarden$NetRun", name := "reckon", desc := "()V" } : Jvm.MethodName) ({ cls := "CircuitWarden$NetRun", name := "reckon", desc := "()V" } : Jvm.MethodName)) ∈ lw_all := lw_g (lw_at lw_m8 164 rfl) rfl
theorem q2134 : (Jvm.Cond.code ({ cls := "CircuitWarden$NetRun", name := "reckon", desc := "()V" } : Jvm.MethodName) prog_10_method_4_code (3 : Nat) (Option.none : Option Jvm.ClassFile.FieldType)) ∈ lw_all := lw_g (lw_at lw_m8 165 rfl) rfl
theorem q2135 : (Jvm.Cond.methodLink "CircuitWarden$NetRun" (53 : Nat) ({ cls := "CircuitWarden$Bits", name := "fit", desc := "(LCircuitWarden$Net;)V" } : Jvm.MethodName)) ∈ lw_all := lw_g (lw_at lw_m8 166 rfl) rfl
theorem q2139 : (Jvm.Cond.methodLink "CircuitWarden$NetRun" (57 : Nat) ({ cls := "CircuitWarden$NetRun", name := "isInput", desc := "(I)Z" } : Jvm.MethodName)) ∈ lw_all := lw_g (lw_at lw_m8 170 rfl) rfl
theorem q2140 : (Jvm.Cond.privateMethod ({ cls := "CircuitWarden$NetRun", name := "isInput", desc := "(I)Z" } : Jvm.MethodName)) ∈ lw_tbl := lw_at lw_m8 171 rfl
theorem q2141 : (Jvm.Cond.instanceMethod ({ cls := "CircuitWarden$NetRun", name := "isInput", desc := "(I)Z" } : Jvm.MethodName)) ∈ lw_all := lw_g (lw_at lw_m8 172 rfl) rfl
theorem q2142 : (Jvm.Cond.code ({ cls := "CircuitWarden$NetRun", name := "isInput", desc := "(I)Z" } : Jvm.MethodName) prog_10_method_2_code (2 : Nat) (Option.some Jvm.ClassFile.FieldType.boolean)) ∈ lw_all := lw_g (lw_at lw_m8 173 rfl) rfl
theorem q2143 : (Jvm.Cond.methodLink "CircuitWarden$NetRun" (64 : Nat) ({ cls := "CircuitWarden$Gates", name := "literal", desc := "(IIZ)I" } : Jvm.MethodName)) ∈ lw_all := lw_g (lw_at lw_m8 174 rfl) rfl
theorem q2144 : (Jvm.Cond.methodLink "CircuitWarden$NetRun" (68 : Nat) ({ cls := "CircuitWarden$Bits", name := "put", desc := "(IZ)V" } : Jvm.MethodName)) ∈ lw_all := lw_g (lw_at lw_m8 175 rfl) rfl
theorem q2148 : (Jvm.Cond.methodLink "CircuitWarden$NetRun" (72 : Nat) ({ cls := "CircuitWarden$Bits", name := "reckon", desc := "(LCircuitWarden$Net;)V" } : Jvm.MethodName)) ∈ lw_all := lw_g (lw_at lw_m8 179 rfl) rfl
theorem q2167 : (Jvm.Cond.instanceMethod ({ cls := "CircuitWarden$NetRun", name := "reckonTwin", desc := "()V" } : Jvm.MethodName)) ∈ lw_all := lw_g (lw_at lw_m8 198 rfl) rfl
theorem q2168 : (Jvm.Cond.selects "CircuitWarden$NetRun" ({ cls := "CircuitWarden$NetRun", name := "reckonTwin", desc := "()V" } : Jvm.MethodName) ({ cls := "CircuitWarden$NetRun", name := "reckonTwin", desc := "()V" } : Jvm.MethodName)) ∈ lw_all := lw_g (lw_at lw_m8 199 rfl) rfl
theorem q2169 : (Jvm.Cond.code ({ cls := "CircuitWarden$NetRun", name := "reckonTwin", desc := "()V" } : Jvm.MethodName) prog_10_method_5_code (5 : Nat) (Option.none : Option Jvm.ClassFile.FieldType)) ∈ lw_all := lw_g (lw_at lw_m8 200 rfl) rfl
theorem q2170 : (Jvm.Cond.methodLink "CircuitWarden$NetRun" (84 : Nat) ({ cls := "CircuitWarden$Twin", name := "value", desc := "(I)I" } : Jvm.MethodName)) ∈ lw_all := lw_g (lw_at lw_m8 201 rfl) rfl
theorem q2171 : (Jvm.Cond.methodLink "CircuitWarden$NetRun" (88 : Nat) ({ cls := "CircuitWarden$Twin", name := "taint", desc := "(I)I" } : Jvm.MethodName)) ∈ lw_all := lw_g (lw_at lw_m8 202 rfl) rfl
theorem q2179 : (Jvm.Cond.instanceMethod ({ cls := "CircuitWarden$NetRun", name := "clock", desc := "(Z)V" } : Jvm.MethodName)) ∈ lw_all := lw_g (lw_at lw_m8 210 rfl) rfl
theorem q2180 : (Jvm.Cond.selects "CircuitWarden$NetRun" ({ cls := "CircuitWarden$NetRun", name := "clock", desc := "(Z)V" } : Jvm.MethodName) ({ cls := "CircuitWarden$NetRun", name := "clock", desc := "(Z)V" } : Jvm.MethodName)) ∈ lw_all := lw_g (lw_at lw_m8 211 rfl) rfl
theorem q2181 : (Jvm.Cond.code ({ cls := "CircuitWarden$NetRun", name := "clock", desc := "(Z)V" } : Jvm.MethodName) prog_10_method_8_code (3 : Nat) (Option.none : Option Jvm.ClassFile.FieldType)) ∈ lw_all := lw_g (lw_at lw_m8 212 rfl) rfl
theorem q2182 : (Jvm.Cond.methodLink "CircuitWarden$NetRun" (100 : Nat) ({ cls := "CircuitWarden$NetRun", name := "value", desc := "(IZ)J" } : Jvm.MethodName)) ∈ lw_all := lw_g (lw_at lw_m8 213 rfl) rfl
theorem q2183 : (Jvm.Cond.instanceMethod ({ cls := "CircuitWarden$NetRun", name := "value", desc := "(IZ)J" } : Jvm.MethodName)) ∈ lw_all := lw_g (lw_at lw_m8 214 rfl) rfl
theorem q2184 : (Jvm.Cond.selects "CircuitWarden$NetRun" ({ cls := "CircuitWarden$NetRun", name := "value", desc := "(IZ)J" } : Jvm.MethodName) ({ cls := "CircuitWarden$NetRun", name := "value", desc := "(IZ)J" } : Jvm.MethodName)) ∈ lw_all := lw_g (lw_at lw_m8 215 rfl) rfl
theorem q2185 : (Jvm.Cond.code ({ cls := "CircuitWarden$NetRun", name := "value", desc := "(IZ)J" } : Jvm.MethodName) prog_10_method_6_code (6 : Nat) (Option.some Jvm.ClassFile.FieldType.long)) ∈ lw_all := lw_g (lw_at lw_m8 216 rfl) rfl
theorem q2186 : (Jvm.Cond.methodLink "CircuitWarden$NetRun" (91 : Nat) ({ cls := "CircuitWarden$Bits", name := "has", desc := "(I)Z" } : Jvm.MethodName)) ∈ lw_all := lw_g (lw_at lw_m8 217 rfl) rfl
theorem q2187 : (Jvm.Cond.methodLinkNest "CircuitWarden$NetRun" (94 : Nat) ({ cls := "CircuitWarden", name := "truth", desc := "(Z)I" } : Jvm.MethodName) "CircuitWarden") ∈ lw_tbl := lw_at lw_m8 218 rfl
theorem q2188 : (Jvm.Cond.methodLink "CircuitWarden$NetRun" (103 : Nat) ({ cls := "CircuitWarden$NetRun", name := "taint", desc := "(IZ)J" } : Jvm.MethodName)) ∈ lw_all := lw_g (lw_at lw_m8 219 rfl) rfl
theorem q2189 : (Jvm.Cond.instanceMethod ({ cls := "CircuitWarden$NetRun", name := "taint", desc := "(IZ)J" } : Jvm.MethodName)) ∈ lw_all := lw_g (lw_at lw_m8 220 rfl) rfl
theorem q2190 : (Jvm.Cond.selects "CircuitWarden$NetRun" ({ cls := "CircuitWarden$NetRun", name := "taint", desc := "(IZ)J" } : Jvm.MethodName) ({ cls := "CircuitWarden$NetRun", name := "taint", desc := "(IZ)J" } : Jvm.MethodName)) ∈ lw_all := lw_g (lw_at lw_m8 221 rfl) rfl
theorem q2191 : (Jvm.Cond.code ({ cls := "CircuitWarden$NetRun", name := "taint", desc := "(IZ)J" } : Jvm.MethodName) prog_10_method_7_code (6 : Nat) (Option.some Jvm.ClassFile.FieldType.long)) ∈ lw_all := lw_g (lw_at lw_m8 222 rfl) rfl
theorem in_X15 : ∀ w ∈ wsX150, w ∈ lw_all := lw_in wsX150 [1047, 1049, 1051, 1053, 1055, 1057] (by decide +kernel) (by decide +kernel)
/-! CircuitWarden$Bits -/
def RX16 : String := "CircuitWarden$Bits"
def TX16 : u_T := fun k => match k with
  | _ => ("CircuitWarden$Bits", "bits", "[Z", false)
def tyX16 : Nat → FieldType := fun k => match k with
  | _ => .array .boolean
abbrev wsX160 : List Cond := u_ws RX16 TX16 1
theorem nmX16 : ∀ a, a < 1 → ∀ b, b < 1 → a ≠ b → (TX16 a).2.1 ≠ (TX16 b).2.1 := by decide +kernel
theorem tyX16_ok : ∀ k, k < 1 → parseFieldDescriptor (TX16 k).2.2.1 = some (tyX16 k) := by decide +kernel
abbrev cX16_init : ByteArray := prog_2_method_1_code
def yX16_init : MethodName := ⟨RX16, "<init>", "()V"⟩
abbrev cX16_fit : ByteArray := prog_2_method_2_code
def yX16_fit : MethodName := ⟨RX16, "fit", "(LCircuitWarden$Net;)V"⟩
abbrev cX16_put : ByteArray := prog_2_method_4_code
def yX16_put : MethodName := ⟨RX16, "put", "(IZ)V"⟩
abbrev cX16_reckon : ByteArray := prog_2_method_5_code
def yX16_reckon : MethodName := ⟨RX16, "reckon", "(LCircuitWarden$Net;)V"⟩
abbrev cX16_has : ByteArray := prog_2_method_3_code
def yX16_has : MethodName := ⟨RX16, "has", "(I)Z"⟩
theorem q308 : (Jvm.Cond.initialized "CircuitWarden$Bits") ∈ lw_all := lw_g (lw_at lw_m1 19 rfl) rfl
theorem q895 : (Jvm.Cond.fieldLinkNest "CircuitWarden$Bits" (23 : Nat) "CircuitWarden$Net" "first" "[I" "CircuitWarden") ∈ lw_tbl := lw_at lw_m3 126 rfl
theorem q899 : (Jvm.Cond.fieldLinkNest "CircuitWarden$Bits" (30 : Nat) "CircuitWarden$Net" "second" "[I" "CircuitWarden") ∈ lw_tbl := lw_at lw_m3 130 rfl
theorem q903 : (Jvm.Cond.fieldLinkNest "CircuitWarden$Bits" (13 : Nat) "CircuitWarden$Net" "count" "I" "CircuitWarden") ∈ lw_tbl := lw_at lw_m3 134 rfl
theorem q1030 : (Jvm.Cond.instantiable "CircuitWarden$Bits" (1 : Nat)) ∈ lw_all := lw_g (lw_at lw_m4 21 rfl) rfl
theorem q1032 : (Jvm.Cond.instanceMethod ({ cls := "CircuitWarden$Bits", name := "<init>", desc := "()V" } : Jvm.MethodName)) ∈ lw_all := lw_g (lw_at lw_m4 23 rfl) rfl
theorem q1033 : (Jvm.Cond.code ({ cls := "CircuitWarden$Bits", name := "<init>", desc := "()V" } : Jvm.MethodName) prog_2_method_1_code (1 : Nat) (Option.none : Option Jvm.ClassFile.FieldType)) ∈ lw_all := lw_g (lw_at lw_m4 24 rfl) rfl
theorem q1034 : (Jvm.Cond.methodLink "CircuitWarden$Bits" (1 : Nat) ({ cls := "java/lang/Object", name := "<init>", desc := "()V" } : Jvm.MethodName)) ∈ lw_all := lw_g (lw_at lw_m4 25 rfl) rfl
theorem q1035 : (Jvm.Cond.fieldLink "CircuitWarden$Bits" (7 : Nat) "CircuitWarden$Bits" "bits" "[Z") ∈ lw_all := lw_g (lw_at lw_m4 26 rfl) rfl
theorem q1036 : (Jvm.Cond.lays "CircuitWarden$Bits" "CircuitWarden$Bits" "bits" "[Z") ∈ lw_all := lw_g (lw_at lw_m4 27 rfl) rfl
theorem q1037 : (Jvm.Cond.soleField "CircuitWarden$Bits" "bits") ∈ lw_all := lw_g (lw_at lw_m4 28 rfl) rfl
theorem q1038 : (Jvm.Cond.superclass "CircuitWarden$Bits" "java/lang/Object") ∈ lw_all := lw_g (lw_at lw_m4 29 rfl) rfl
theorem q2136 : (Jvm.Cond.instanceMethod ({ cls := "CircuitWarden$Bits", name := "fit", desc := "(LCircuitWarden$Net;)V" } : Jvm.MethodName)) ∈ lw_all := lw_g (lw_at lw_m8 167 rfl) rfl
theorem q2137 : (Jvm.Cond.selects "CircuitWarden$Bits" ({ cls := "CircuitWarden$Bits", name := "fit", desc := "(LCircuitWarden$Net;)V" } : Jvm.MethodName) ({ cls := "CircuitWarden$Bits", name := "fit", desc := "(LCircuitWarden$Net;)V" } : Jvm.MethodName)) ∈ lw_all := lw_g (lw_at lw_m8 168 rfl) rfl
theorem q2138 : (Jvm.Cond.code ({ cls := "CircuitWarden$Bits", name := "fit", desc := "(LCircuitWarden$Net;)V" } : Jvm.MethodName) prog_2_method_2_code (2 : Nat) (Option.none : Option Jvm.ClassFile.FieldType)) ∈ lw_all := lw_g (lw_at lw_m8 169 rfl) rfl
theorem q2145 : (Jvm.Cond.instanceMethod ({ cls := "CircuitWarden$Bits", name := "put", desc := "(IZ)V" } : Jvm.MethodName)) ∈ lw_all := lw_g (lw_at lw_m8 176 rfl) rfl
theorem q2146 : (Jvm.Cond.selects "CircuitWarden$Bits" ({ cls := "CircuitWarden$Bits", name := "put", desc := "(IZ)V" } : Jvm.MethodName) ({ cls := "CircuitWarden$Bits", name := "put", desc := "(IZ)V" } : Jvm.MethodName)) ∈ lw_all := lw_g (lw_at lw_m8 177 rfl) rfl
theorem q2147 : (Jvm.Cond.code ({ cls := "CircuitWarden$Bits", name := "put", desc := "(IZ)V" } : Jvm.MethodName) prog_2_method_4_code (3 : Nat) (Option.none : Option Jvm.ClassFile.FieldType)) ∈ lw_all := lw_g (lw_at lw_m8 178 rfl) rfl
theorem q2149 : (Jvm.Cond.instanceMethod ({ cls := "CircuitWarden$Bits", name := "reckon", desc := "(LCircuitWarden$Net;)V" } : Jvm.MethodName)) ∈ lw_all := lw_g (lw_at lw_m8 180 rfl) rfl
theorem q2150 : (Jvm.Cond.selects "CircuitWarden$Bits" ({ cls := "CircuitWarden$Bits", name := "reckon", desc := "(LCircuitWarden$Net;)V" } : Jvm.MethodName) ({ cls := "CircuitWarden$Bits", name := "reckon", desc := "(LCircuitWarden$Net;)V" } : Jvm.MethodName)) ∈ lw_all := lw_g (lw_at lw_m8 181 rfl) rfl
theorem q2151 : (Jvm.Cond.code ({ cls := "CircuitWarden$Bits", name := "reckon", desc := "(LCircuitWarden$Net;)V" } : Jvm.MethodName) prog_2_method_5_code (3 : Nat) (Option.none : Option Jvm.ClassFile.FieldType)) ∈ lw_all := lw_g (lw_at lw_m8 182 rfl) rfl
theorem q2152 : (Jvm.Cond.methodLink "CircuitWarden$Bits" (19 : Nat) ({ cls := "CircuitWarden$Net", name := "isGate", desc := "(I)Z" } : Jvm.MethodName)) ∈ lw_all := lw_g (lw_at lw_m8 183 rfl) rfl
theorem q2153 : (Jvm.Cond.methodLink "CircuitWarden$Bits" (27 : Nat) ({ cls := "CircuitWarden$Bits", name := "has", desc := "(I)Z" } : Jvm.MethodName)) ∈ lw_all := lw_g (lw_at lw_m8 184 rfl) rfl
theorem q2154 : (Jvm.Cond.instanceMethod ({ cls := "CircuitWarden$Bits", name := "has", desc := "(I)Z" } : Jvm.MethodName)) ∈ lw_all := lw_g (lw_at lw_m8 185 rfl) rfl
theorem q2155 : (Jvm.Cond.selects "CircuitWarden$Bits" ({ cls := "CircuitWarden$Bits", name := "has", desc := "(I)Z" } : Jvm.MethodName) ({ cls := "CircuitWarden$Bits", name := "has", desc := "(I)Z" } : Jvm.MethodName)) ∈ lw_all := lw_g (lw_at lw_m8 186 rfl) rfl
theorem q2156 : (Jvm.Cond.code ({ cls := "CircuitWarden$Bits", name := "has", desc := "(I)Z" } : Jvm.MethodName) prog_2_method_3_code (2 : Nat) (Option.some Jvm.ClassFile.FieldType.boolean)) ∈ lw_all := lw_g (lw_at lw_m8 187 rfl) rfl
theorem in_X16 : ∀ w ∈ wsX160, w ∈ lw_all := lw_in wsX160 [1036] (by decide +kernel) (by decide +kernel)
/-! CircuitWardenModel -/
def RX17 : String := "CircuitWardenModel"
def TX17 : u_T := fun k => match k with
  | 0 => ("CircuitWardenModel", "words", "[Ljava/lang/String;", true)
  | 1 => ("CircuitWardenModel", "bytes", "[I", true)
  | 2 => ("CircuitWardenModel", "size", "I", false)
  | 3 => ("CircuitWardenModel", "end", "I", false)
  | 4 => ("CircuitWardenModel", "token", "[I", true)
  | 5 => ("CircuitWardenModel", "place", "[I", true)
  | 6 => ("CircuitWardenModel", "length", "[I", true)
  | 7 => ("CircuitWardenModel", "tokens", "I", false)
  | 8 => ("CircuitWardenModel", "at", "I", false)
  | 9 => ("CircuitWardenModel", "bad", "Z", false)
  | 10 => ("CircuitWardenModel", "fault", "I", false)
  | 11 => ("CircuitWardenModel", "kindOf", "[I", true)
  | 12 => ("CircuitWardenModel", "placeOf", "[I", true)
  | 13 => ("CircuitWardenModel", "valueOf", "[I", true)
  | 14 => ("CircuitWardenModel", "firstOf", "[I", true)
  | 15 => ("CircuitWardenModel", "lastOf", "[I", true)
  | 16 => ("CircuitWardenModel", "nextOf", "[I", true)
  | 17 => ("CircuitWardenModel", "drafts", "I", false)
  | 18 => ("CircuitWardenModel", "pile", "[I", true)
  | 19 => ("CircuitWardenModel", "kind", "[B", true)
  | 20 => ("CircuitWardenModel", "where", "[I", true)
  | 21 => ("CircuitWardenModel", "value", "[I", true)
  | 22 => ("CircuitWardenModel", "whole", "[I", true)
  | 23 => ("CircuitWardenModel", "sizes", "[I", true)
  | 24 => ("CircuitWardenModel", "count", "I", false)
  | 25 => ("CircuitWardenModel", "letters", "[I", false)
  | 26 => ("CircuitWardenModel", "starts", "[I", false)
  | 27 => ("CircuitWardenModel", "names", "I", false)
  | 28 => ("CircuitWardenModel", "sort", "[I", false)
  | 29 => ("CircuitWardenModel", "meant", "[I", false)
  | 30 => ("CircuitWardenModel", "since", "[I", false)
  | 31 => ("CircuitWardenModel", "kinds", "[I", false)
  | 32 => ("CircuitWardenModel", "widths", "[I", false)
  | 33 => ("CircuitWardenModel", "inits", "[I", false)
  | 34 => ("CircuitWardenModel", "nameNodes", "[I", false)
  | 35 => ("CircuitWardenModel", "labelNodes", "[I", false)
  | 36 => ("CircuitWardenModel", "exprNodes", "[I", false)
  | 37 => ("CircuitWardenModel", "signals", "I", false)
  | 38 => ("CircuitWardenModel", "levels", "I", false)
  | 39 => ("CircuitWardenModel", "nextNode", "I", false)
  | 40 => ("CircuitWardenModel", "modeBits", "I", false)
  | 41 => ("CircuitWardenModel", "item", "I", false)
  | 42 => ("CircuitWardenModel", "looks", "I", false)
  | 43 => ("CircuitWardenModel", "reason", "I", false)
  | 44 => ("CircuitWardenModel", "reasonPlace", "I", false)
  | 45 => ("CircuitWardenModel", "told", "I", false)
  | 46 => ("CircuitWardenModel", "functions", "[I", false)
  | 47 => ("CircuitWardenModel", "constBases", "[I", false)
  | 48 => ("CircuitWardenModel", "givenBases", "[I", false)
  | 49 => ("CircuitWardenModel", "inside", "I", false)
  | 50 => ("CircuitWardenModel", "consts", "[I", false)
  | 51 => ("CircuitWardenModel", "constTop", "I", false)
  | 52 => ("CircuitWardenModel", "givenWidths", "[I", false)
  | 53 => ("CircuitWardenModel", "givenValues", "[J", false)
  | 54 => ("CircuitWardenModel", "givenTop", "I", false)
  | 55 => ("CircuitWardenModel", "sumTime", "[I", false)
  | 56 => ("CircuitWardenModel", "sumWas", "[I", false)
  | 57 => ("CircuitWardenModel", "time", "I", false)
  | 58 => ("CircuitWardenModel", "ownAsked", "I", false)
  | 59 => ("CircuitWardenModel", "wide", "I", false)
  | 60 => ("CircuitWardenModel", "run", "I", false)
  | 61 => ("CircuitWardenModel", "own", "[[J", true)
  | 62 => ("CircuitWardenModel", "coming", "[J", true)
  | 63 => ("CircuitWardenModel", "walk", "LCircuitWardenModel$Walk;", true)
  | 64 => ("CircuitWardenModel", "nets", "[LCircuitWardenModel$NetRun;", true)
  | 65 => ("CircuitWardenModel", "accepted", "Z", false)
  | 66 => ("CircuitWardenModel", "runs", "Z", false)
  | 67 => ("CircuitWardenModel", "observer", "I", false)
  | 68 => ("CircuitWardenModel", "cycles", "I", false)
  | 69 => ("CircuitWardenModel", "sameSeen", "Z", false)
  | 70 => ("CircuitWardenModel", "sameClean", "Z", false)
  | _ => ("CircuitWardenModel", "broken", "I", false)
def tyX17 : Nat → FieldType := fun k => match k with
  | 0 => .array (.object "java/lang/String")
  | 1 => .array .int
  | 2 => .int
  | 3 => .int
  | 4 => .array .int
  | 5 => .array .int
  | 6 => .array .int
  | 7 => .int
  | 8 => .int
  | 9 => .boolean
  | 10 => .int
  | 11 => .array .int
  | 12 => .array .int
  | 13 => .array .int
  | 14 => .array .int
  | 15 => .array .int
  | 16 => .array .int
  | 17 => .int
  | 18 => .array .int
  | 19 => .array .byte
  | 20 => .array .int
  | 21 => .array .int
  | 22 => .array .int
  | 23 => .array .int
  | 24 => .int
  | 25 => .array .int
  | 26 => .array .int
  | 27 => .int
  | 28 => .array .int
  | 29 => .array .int
  | 30 => .array .int
  | 31 => .array .int
  | 32 => .array .int
  | 33 => .array .int
  | 34 => .array .int
  | 35 => .array .int
  | 36 => .array .int
  | 37 => .int
  | 38 => .int
  | 39 => .int
  | 40 => .int
  | 41 => .int
  | 42 => .int
  | 43 => .int
  | 44 => .int
  | 45 => .int
  | 46 => .array .int
  | 47 => .array .int
  | 48 => .array .int
  | 49 => .int
  | 50 => .array .int
  | 51 => .int
  | 52 => .array .int
  | 53 => .array .long
  | 54 => .int
  | 55 => .array .int
  | 56 => .array .int
  | 57 => .int
  | 58 => .int
  | 59 => .int
  | 60 => .int
  | 61 => .array (.array .long)
  | 62 => .array .long
  | 63 => .object "CircuitWardenModel$Walk"
  | 64 => .array (.object "CircuitWardenModel$NetRun")
  | 65 => .boolean
  | 66 => .boolean
  | 67 => .int
  | 68 => .int
  | 69 => .boolean
  | 70 => .boolean
  | _ => .int
abbrev wsX170 : List Cond := u_ws RX17 TX17 72
theorem nmX17 : ∀ a, a < 72 → ∀ b, b < 72 → a ≠ b → (TX17 a).2.1 ≠ (TX17 b).2.1 := by decide +kernel
theorem tyX17_ok : ∀ k, k < 72 → parseFieldDescriptor (TX17 k).2.2.1 = some (tyX17 k) := by decide +kernel
abbrev cX17_init : ByteArray := prog_19_method_1_code
def yX17_init : MethodName := ⟨RX17, "<init>", "()V"⟩
abbrev cX17_clear : ByteArray := prog_19_method_3_code
def yX17_clear : MethodName := ⟨RX17, "clear", "()V"⟩
abbrev cX17_add : ByteArray := prog_19_method_4_code
def yX17_add : MethodName := ⟨RX17, "add", "(IIII)I"⟩
abbrev cX17_nothing : ByteArray := prog_19_method_81_code
def yX17_nothing : MethodName := ⟨RX17, "nothing", "()V"⟩
abbrev cX17_feed : ByteArray := prog_19_method_5_code
def yX17_feed : MethodName := ⟨RX17, "feed", "(IIIII)I"⟩
abbrev cX17_end : ByteArray := prog_19_method_90_code
def yX17_end : MethodName := ⟨RX17, "end", "(I)I"⟩
abbrev cX17_scan : ByteArray := prog_19_method_14_code
def yX17_scan : MethodName := ⟨RX17, "scan", "()V"⟩
abbrev cX17_behindBlanks : ByteArray := prog_19_method_10_code
def yX17_behindBlanks : MethodName := ⟨RX17, "behindBlanks", "(I)I"⟩
abbrev cX17_isAt : ByteArray := prog_19_method_6_code
def yX17_isAt : MethodName := ⟨RX17, "isAt", "(III)Z"⟩
abbrev cX17_isLetter : ByteArray := prog_19_method_7_code
def yX17_isLetter : MethodName := ⟨RX17, "isLetter", "(I)Z"⟩
abbrev cX17_isWord : ByteArray := prog_19_method_9_code
def yX17_isWord : MethodName := ⟨RX17, "isWord", "(I)Z"⟩
abbrev cX17_isDigit : ByteArray := prog_19_method_8_code
def yX17_isDigit : MethodName := ⟨RX17, "isDigit", "(I)Z"⟩
abbrev cX17_wordOf : ByteArray := prog_19_method_11_code
def yX17_wordOf : MethodName := ⟨RX17, "wordOf", "(II)I"⟩
abbrev cX17_isNumber : ByteArray := prog_19_method_12_code
def yX17_isNumber : MethodName := ⟨RX17, "isNumber", "(II)Z"⟩
abbrev cX17_isSign : ByteArray := prog_19_method_13_code
def yX17_isSign : MethodName := ⟨RX17, "isSign", "(I)Z"⟩
abbrev cX17_look : ByteArray := prog_19_method_15_code
def yX17_look : MethodName := ⟨RX17, "look", "()I"⟩
abbrev cX17_item : ByteArray := prog_19_method_39_code
def yX17_item : MethodName := ⟨RX17, "item", "()I"⟩
abbrev cX17_here : ByteArray := prog_19_method_16_code
def yX17_here : MethodName := ⟨RX17, "here", "()I"⟩
abbrev cX17_need : ByteArray := prog_19_method_17_code
def yX17_need : MethodName := ⟨RX17, "need", "(Z)V"⟩
abbrev cX17_draft : ByteArray := prog_19_method_19_code
def yX17_draft : MethodName := ⟨RX17, "draft", "(III)I"⟩
abbrev cX17_take : ByteArray := prog_19_method_18_code
def yX17_take : MethodName := ⟨RX17, "take", "(I)V"⟩
abbrev cX17_block : ByteArray := prog_19_method_35_code
def yX17_block : MethodName := ⟨RX17, "block", "(I)I"⟩
abbrev cX17_deep : ByteArray := prog_19_method_23_code
def yX17_deep : MethodName := ⟨RX17, "deep", "(I)V"⟩
abbrev cX17_statement : ByteArray := prog_19_method_36_code
def yX17_statement : MethodName := ⟨RX17, "statement", "(I)I"⟩
abbrev cX17_name : ByteArray := prog_19_method_21_code
def yX17_name : MethodName := ⟨RX17, "name", "()I"⟩
abbrev cX17_joinPart : ByteArray := prog_19_method_20_code
def yX17_joinPart : MethodName := ⟨RX17, "joinPart", "(II)V"⟩
abbrev cX17_expr : ByteArray := prog_19_method_28_code
def yX17_expr : MethodName := ⟨RX17, "expr", "(I)I"⟩
abbrev cX17_row : ByteArray := prog_19_method_27_code
def yX17_row : MethodName := ⟨RX17, "row", "(IIZ)I"⟩
abbrev cX17_atom : ByteArray := prog_19_method_25_code
def yX17_atom : MethodName := ⟨RX17, "atom", "(I)I"⟩
abbrev cX17_number : ByteArray := prog_19_method_22_code
def yX17_number : MethodName := ⟨RX17, "number", "()I"⟩
abbrev cX17_sum : ByteArray := prog_19_method_24_code
def yX17_sum : MethodName := ⟨RX17, "sum", "(I)I"⟩
abbrev cX17_unary : ByteArray := prog_19_method_31_code
def yX17_unary : MethodName := ⟨RX17, "unary", "(I)I"⟩
abbrev cX17_exprs : ByteArray := prog_19_method_30_code
def yX17_exprs : MethodName := ⟨RX17, "exprs", "(II)V"⟩
abbrev cX17_named : ByteArray := prog_19_method_32_code
def yX17_named : MethodName := ⟨RX17, "named", "(I)I"⟩
abbrev cX17_call : ByteArray := prog_19_method_33_code
def yX17_call : MethodName := ⟨RX17, "call", "(IIII)I"⟩
abbrev cX17_operator : ByteArray := prog_19_method_26_code
def yX17_operator : MethodName := ⟨RX17, "operator", "(IIZ)I"⟩
abbrev cX17_namesUpTo : ByteArray := prog_19_method_38_code
def yX17_namesUpTo : MethodName := ⟨RX17, "namesUpTo", "(I)V"⟩
abbrev cX17_function : ByteArray := prog_19_method_40_code
def yX17_function : MethodName := ⟨RX17, "function", "(I)V"⟩
abbrev cX17_parameter : ByteArray := prog_19_method_41_code
def yX17_parameter : MethodName := ⟨RX17, "parameter", "(I)V"⟩
abbrev cX17_width : ByteArray := prog_19_method_37_code
def yX17_width : MethodName := ⟨RX17, "width", "(I)V"⟩
abbrev cX17_label : ByteArray := prog_19_method_34_code
def yX17_label : MethodName := ⟨RX17, "label", "(I)I"⟩
abbrev cX17_keep : ByteArray := prog_19_method_43_code
def yX17_keep : MethodName := ⟨RX17, "keep", "(I)V"⟩
abbrev cX17_nameOf : ByteArray := prog_19_method_42_code
def yX17_nameOf : MethodName := ⟨RX17, "nameOf", "(I)I"⟩
abbrev cX17_room : ByteArray := prog_19_method_2_code
def yX17_room : MethodName := ⟨RX17, "room", "([II)[I"⟩
abbrev cX17_lookAll : ByteArray := prog_19_method_80_code
def yX17_lookAll : MethodName := ⟨RX17, "lookAll", "()V"⟩
abbrev cX17_isWrong : ByteArray := prog_19_method_47_code
def yX17_isWrong : MethodName := ⟨RX17, "isWrong", "()Z"⟩
abbrev cX17_lookItem : ByteArray := prog_19_method_74_code
def yX17_lookItem : MethodName := ⟨RX17, "lookItem", "(I)V"⟩
abbrev cX17_wrong : ByteArray := prog_19_method_46_code
def yX17_wrong : MethodName := ⟨RX17, "wrong", "(II)Z"⟩
abbrev cX17_lookBlock : ByteArray := prog_19_method_78_code
def yX17_lookBlock : MethodName := ⟨RX17, "lookBlock", "(I)V"⟩
abbrev cX17_behind : ByteArray := prog_19_method_44_code
def yX17_behind : MethodName := ⟨RX17, "behind", "(I)I"⟩
abbrev cX17_lookPut : ByteArray := prog_19_method_79_code
def yX17_lookPut : MethodName := ⟨RX17, "lookPut", "(I)V"⟩
abbrev cX17_means : ByteArray := prog_19_method_51_code
def yX17_means : MethodName := ⟨RX17, "means", "(II)Z"⟩
abbrev cX17_limit : ByteArray := prog_19_method_50_code
def yX17_limit : MethodName := ⟨RX17, "limit", "()I"⟩
abbrev cX17_second : ByteArray := prog_19_method_45_code
def yX17_second : MethodName := ⟨RX17, "second", "(I)I"⟩
abbrev cX17_widthOf : ByteArray := prog_19_method_57_code
def yX17_widthOf : MethodName := ⟨RX17, "widthOf", "(II)I"⟩
abbrev cX17_parameterOf : ByteArray := prog_19_method_49_code
def yX17_parameterOf : MethodName := ⟨RX17, "parameterOf", "(I)I"⟩
abbrev cX17_constantOf : ByteArray := prog_19_method_48_code
def yX17_constantOf : MethodName := ⟨RX17, "constantOf", "(I)I"⟩
abbrev cX17_rowWidth : ByteArray := prog_19_method_58_code
def yX17_rowWidth : MethodName := ⟨RX17, "rowWidth", "(II)I"⟩
abbrev cX17_looks : ByteArray := prog_19_method_56_code
def yX17_looks : MethodName := ⟨RX17, "looks", "(II)Z"⟩
abbrev cX17_choiceWidth : ByteArray := prog_19_method_59_code
def yX17_choiceWidth : MethodName := ⟨RX17, "choiceWidth", "(II)I"⟩
abbrev cX17_unaryWidth : ByteArray := prog_19_method_60_code
def yX17_unaryWidth : MethodName := ⟨RX17, "unaryWidth", "(II)I"⟩
abbrev cX17_bitsWidth : ByteArray := prog_19_method_61_code
def yX17_bitsWidth : MethodName := ⟨RX17, "bitsWidth", "(I)I"⟩
abbrev cX17_sumOf : ByteArray := prog_19_method_52_code
def yX17_sumOf : MethodName := ⟨RX17, "sumOf", "(I)I"⟩
abbrev cX17_sumAnew : ByteArray := prog_19_method_53_code
def yX17_sumAnew : MethodName := ⟨RX17, "sumAnew", "(I)I"⟩
abbrev cX17_callWidth : ByteArray := prog_19_method_69_code
def yX17_callWidth : MethodName := ⟨RX17, "callWidth", "(II)I"⟩
abbrev cX17_countOf : ByteArray := prog_19_method_62_code
def yX17_countOf : MethodName := ⟨RX17, "countOf", "(II)I"⟩
abbrev cX17_parameters : ByteArray := prog_19_method_64_code
def yX17_parameters : MethodName := ⟨RX17, "parameters", "(I)I"⟩
abbrev cX17_firstParameter : ByteArray := prog_19_method_63_code
def yX17_firstParameter : MethodName := ⟨RX17, "firstParameter", "(I)I"⟩
abbrev cX17_pushConst : ByteArray := prog_19_method_67_code
def yX17_pushConst : MethodName := ⟨RX17, "pushConst", "(I)V"⟩
abbrev cX17_pushGiven : ByteArray := prog_19_method_68_code
def yX17_pushGiven : MethodName := ⟨RX17, "pushGiven", "(IJ)V"⟩
abbrev cX17_enter : ByteArray := prog_19_method_66_code
def yX17_enter : MethodName := ⟨RX17, "enter", "(III)V"⟩
abbrev cX17_widthAt : ByteArray := prog_19_method_54_code
def yX17_widthAt : MethodName := ⟨RX17, "widthAt", "(I)I"⟩
abbrev cX17_widthNode : ByteArray := prog_19_method_65_code
def yX17_widthNode : MethodName := ⟨RX17, "widthNode", "(I)I"⟩
abbrev cX17_valueAt : ByteArray := prog_19_method_55_code
def yX17_valueAt : MethodName := ⟨RX17, "valueAt", "(II)I"⟩
abbrev cX17_isNew : ByteArray := prog_19_method_70_code
def yX17_isNew : MethodName := ⟨RX17, "isNew", "(I)Z"⟩
abbrev cX17_level : ByteArray := prog_19_method_75_code
def yX17_level : MethodName := ⟨RX17, "level", "(I)V"⟩
abbrev cX17_define : ByteArray := prog_19_method_71_code
def yX17_define : MethodName := ⟨RX17, "define", "(III)V"⟩
abbrev cX17_lookFunction : ByteArray := prog_19_method_76_code
def yX17_lookFunction : MethodName := ⟨RX17, "lookFunction", "(I)V"⟩
abbrev cX17_signal : ByteArray := prog_19_method_77_code
def yX17_signal : MethodName := ⟨RX17, "signal", "(I)V"⟩
abbrev cX17_signalsOf : ByteArray := prog_19_method_73_code
def yX17_signalsOf : MethodName := ⟨RX17, "signalsOf", "(I)I"⟩
abbrev cX17_lookLabel : ByteArray := prog_19_method_72_code
def yX17_lookLabel : MethodName := ⟨RX17, "lookLabel", "(I)V"⟩
abbrev cX17_told : ByteArray := prog_19_method_91_code
def yX17_told : MethodName := ⟨RX17, "told", "(I)I"⟩
abbrev cX17_count : ByteArray := prog_19_method_92_code
def yX17_count : MethodName := ⟨RX17, "count", "(I)I"⟩
abbrev cX17_item_2 : ByteArray := prog_19_method_94_code
def yX17_item_2 : MethodName := ⟨RX17, "item", "(II)I"⟩
abbrev cX17_has : ByteArray := prog_19_method_93_code
def yX17_has : MethodName := ⟨RX17, "has", "(I)Z"⟩
abbrev cX17_label_2 : ByteArray := prog_19_method_95_code
def yX17_label_2 : MethodName := ⟨RX17, "label", "(IIZ)I"⟩
abbrev cX17_join : ByteArray := prog_19_method_96_code
def yX17_join : MethodName := ⟨RX17, "join", "(II)I"⟩
abbrev cX17_gate : ByteArray := prog_19_method_97_code
def yX17_gate : MethodName := ⟨RX17, "gate", "(ZII)I"⟩
abbrev cX17_literal : ByteArray := prog_19_method_98_code
def yX17_literal : MethodName := ⟨RX17, "literal", "(III)I"⟩
abbrev cX17_begin : ByteArray := prog_19_method_99_code
def yX17_begin : MethodName := ⟨RX17, "begin", "(I)I"⟩
abbrev cX17_settle : ByteArray := prog_19_method_87_code
def yX17_settle : MethodName := ⟨RX17, "settle", "(I)V"⟩
abbrev cX17_reckon : ByteArray := prog_19_method_83_code
def yX17_reckon : MethodName := ⟨RX17, "reckon", "(I)J"⟩
abbrev cX17_operated : ByteArray := prog_19_method_85_code
def yX17_operated : MethodName := ⟨RX17, "operated", "(IJJ)J"⟩
abbrev cX17_lowest : ByteArray := prog_19_method_82_code
def yX17_lowest : MethodName := ⟨RX17, "lowest", "(JI)J"⟩
abbrev cX17_called : ByteArray := prog_19_method_86_code
def yX17_called : MethodName := ⟨RX17, "called", "(I)J"⟩
abbrev cX17_gathered : ByteArray := prog_19_method_84_code
def yX17_gathered : MethodName := ⟨RX17, "gathered", "(IJI)J"⟩
abbrev cX17_prepare : ByteArray := prog_19_method_102_code
def yX17_prepare : MethodName := ⟨RX17, "prepare", "()V"⟩
abbrev cX17_sees : ByteArray := prog_19_method_101_code
def yX17_sees : MethodName := ⟨RX17, "sees", "(II)Z"⟩
abbrev cX17_modes : ByteArray := prog_19_method_100_code
def yX17_modes : MethodName := ⟨RX17, "modes", "(I)I"⟩
abbrev cX17_drive : ByteArray := prog_19_method_103_code
def yX17_drive : MethodName := ⟨RX17, "drive", "(IIJ)I"⟩
abbrev cX17_step : ByteArray := prog_19_method_104_code
def yX17_step : MethodName := ⟨RX17, "step", "(I)I"⟩
abbrev cX17_compare : ByteArray := prog_19_method_105_code
def yX17_compare : MethodName := ⟨RX17, "compare", "()V"⟩
abbrev cX17_cycle : ByteArray := prog_19_method_89_code
def yX17_cycle : MethodName := ⟨RX17, "cycle", "(I)V"⟩
abbrev cX17_goThrough : ByteArray := prog_19_method_88_code
def yX17_goThrough : MethodName := ⟨RX17, "goThrough", "(I)V"⟩
abbrev cX17_value : ByteArray := prog_19_method_107_code
def yX17_value : MethodName := ⟨RX17, "value", "(IIZ)J"⟩
abbrev cX17_isRun : ByteArray := prog_19_method_106_code
def yX17_isRun : MethodName := ⟨RX17, "isRun", "(II)Z"⟩
abbrev cX17_taint : ByteArray := prog_19_method_108_code
def yX17_taint : MethodName := ⟨RX17, "taint", "(I)J"⟩
abbrev cX17_broken : ByteArray := prog_19_method_109_code
def yX17_broken : MethodName := ⟨RX17, "broken", "()I"⟩
theorem q311 : (Jvm.Cond.initialized "CircuitWardenModel") ∈ lw_all := lw_g (lw_at lw_m1 22 rfl) rfl
theorem q2207 : (Jvm.Cond.instantiable "CircuitWardenModel" (72 : Nat)) ∈ lw_all := lw_g (lw_at lw_m8 238 rfl) rfl
theorem q2209 : (Jvm.Cond.instanceMethod ({ cls := "CircuitWardenModel", name := "<init>", desc := "()V" } : Jvm.MethodName)) ∈ lw_all := lw_g (lw_at lw_m9 0 rfl) rfl
theorem q2210 : (Jvm.Cond.code ({ cls := "CircuitWardenModel", name := "<init>", desc := "()V" } : Jvm.MethodName) prog_19_method_1_code (1 : Nat) (Option.none : Option Jvm.ClassFile.FieldType)) ∈ lw_all := lw_g (lw_at lw_m9 1 rfl) rfl
theorem q2211 : (Jvm.Cond.methodLink "CircuitWardenModel" (1 : Nat) ({ cls := "java/lang/Object", name := "<init>", desc := "()V" } : Jvm.MethodName)) ∈ lw_all := lw_g (lw_at lw_m9 2 rfl) rfl
theorem q2212 : (Jvm.Cond.classLink "CircuitWardenModel" (124 : Nat) "[[J") ∈ lw_all := lw_g (lw_at lw_m9 3 rfl) rfl
theorem q2214 : (Jvm.Cond.classLink "CircuitWardenModel" (132 : Nat) "CircuitWardenModel$Walk") ∈ lw_all := lw_g (lw_at lw_m9 5 rfl) rfl
theorem q2216 : (Jvm.Cond.methodLinkNest "CircuitWardenModel" (134 : Nat) ({ cls := "CircuitWardenModel$Walk", name := "<init>", desc := "()V" } : Jvm.MethodName) "CircuitWardenModel") ∈ lw_tbl := lw_at lw_m9 7 rfl
theorem q2241 : (Jvm.Cond.fieldLink "CircuitWardenModel" (596 : Nat) "CircuitWardenModel$Nodes" "left" "[I") ∈ lw_all := lw_g (lw_at lw_m9 32 rfl) rfl
theorem q2245 : (Jvm.Cond.fieldLink "CircuitWardenModel" (599 : Nat) "CircuitWardenModel$Nodes" "right" "[I") ∈ lw_all := lw_g (lw_at lw_m9 36 rfl) rfl
theorem q2249 : (Jvm.Cond.fieldLink "CircuitWardenModel" (582 : Nat) "CircuitWardenModel$Nodes" "count" "I") ∈ lw_all := lw_g (lw_at lw_m9 40 rfl) rfl
theorem q2334 : (Jvm.Cond.fieldLink "CircuitWardenModel" (575 : Nat) "CircuitWardenModel$Walk" "ways" "I") ∈ lw_all := lw_g (lw_at lw_m9 125 rfl) rfl
theorem q2336 : (Jvm.Cond.fieldLink "CircuitWardenModel" (569 : Nat) "CircuitWardenModel$Walk" "leakSignal" "I") ∈ lw_all := lw_g (lw_at lw_m9 127 rfl) rfl
theorem q2338 : (Jvm.Cond.fieldLink "CircuitWardenModel" (572 : Nat) "CircuitWardenModel$Walk" "leakM" "I") ∈ lw_all := lw_g (lw_at lw_m9 129 rfl) rfl
theorem q2343 : (Jvm.Cond.fieldLink "CircuitWardenModel" (578 : Nat) "CircuitWardenModel$Walk" "net" "LCircuitWardenModel$Nodes;") ∈ lw_all := lw_g (lw_at lw_m9 134 rfl) rfl
theorem q2346 : (Jvm.Cond.fieldLink "CircuitWardenModel" (585 : Nat) "CircuitWardenModel$Walk" "twin" "LCircuitWardenModel$Nodes;") ∈ lw_all := lw_g (lw_at lw_m9 137 rfl) rfl
theorem q2485 : (Jvm.Cond.classLink "CircuitWardenModel" (139 : Nat) "CircuitWardenModel$NetRun") ∈ lw_all := lw_g (lw_at lw_m10 36 rfl) rfl
theorem q2487 : (Jvm.Cond.classLink "CircuitWardenModel" (145 : Nat) "java/lang/String") ∈ lw_all := lw_g (lw_at lw_m10 38 rfl) rfl
theorem q2489 : (Jvm.Cond.stringRef "CircuitWardenModel" (147 : Nat) "level") ∈ lw_tbl := lw_at lw_m10 40 rfl
theorem q2490 : (Jvm.Cond.stringRef "CircuitWardenModel" (149 : Nat) "const") ∈ lw_tbl := lw_at lw_m10 41 rfl
theorem q2491 : (Jvm.Cond.stringRef "CircuitWardenModel" (151 : Nat) "fun") ∈ lw_tbl := lw_at lw_m10 42 rfl
theorem q2492 : (Jvm.Cond.stringRef "CircuitWardenModel" (153 : Nat) "mode") ∈ lw_tbl := lw_at lw_m10 43 rfl
theorem q2493 : (Jvm.Cond.stringRef "CircuitWardenModel" (155 : Nat) "in") ∈ lw_tbl := lw_at lw_m10 44 rfl
theorem q2494 : (Jvm.Cond.stringRef "CircuitWardenModel" (157 : Nat) "reg") ∈ lw_tbl := lw_at lw_m10 45 rfl
theorem q2495 : (Jvm.Cond.stringRef "CircuitWardenModel" (159 : Nat) "wire") ∈ lw_tbl := lw_at lw_m10 46 rfl
theorem q2496 : (Jvm.Cond.stringRef "CircuitWardenModel" (161 : Nat) "out") ∈ lw_tbl := lw_at lw_m10 47 rfl
theorem q2497 : (Jvm.Cond.stringRef "CircuitWardenModel" (163 : Nat) "next") ∈ lw_tbl := lw_at lw_m10 48 rfl
theorem q2498 : (Jvm.Cond.stringRef "CircuitWardenModel" (165 : Nat) "if") ∈ lw_tbl := lw_at lw_m10 49 rfl
theorem q2499 : (Jvm.Cond.stringRef "CircuitWardenModel" (167 : Nat) "else") ∈ lw_tbl := lw_at lw_m10 50 rfl
theorem q2500 : (Jvm.Cond.stringRef "CircuitWardenModel" (169 : Nat) "case") ∈ lw_tbl := lw_at lw_m10 51 rfl
theorem q2501 : (Jvm.Cond.stringRef "CircuitWardenModel" (171 : Nat) "default") ∈ lw_tbl := lw_at lw_m10 52 rfl
theorem q2502 : (Jvm.Cond.stringRef "CircuitWardenModel" (173 : Nat) "num") ∈ lw_tbl := lw_at lw_m10 53 rfl
theorem q2503 : (Jvm.Cond.stringRef "CircuitWardenModel" (175 : Nat) "zext") ∈ lw_tbl := lw_at lw_m10 54 rfl
theorem q2504 : (Jvm.Cond.stringRef "CircuitWardenModel" (177 : Nat) "sext") ∈ lw_tbl := lw_at lw_m10 55 rfl
theorem q2505 : (Jvm.Cond.stringRef "CircuitWardenModel" (179 : Nat) "any") ∈ lw_tbl := lw_at lw_m10 56 rfl
theorem q2506 : (Jvm.Cond.stringRef "CircuitWardenModel" (181 : Nat) "all") ∈ lw_tbl := lw_at lw_m10 57 rfl
theorem q2507 : (Jvm.Cond.stringRef "CircuitWardenModel" (183 : Nat) "odd") ∈ lw_tbl := lw_at lw_m10 58 rfl
theorem q2509 : (Jvm.Cond.methodLink "CircuitWardenModel" (189 : Nat) ({ cls := "CircuitWardenModel$NetRun", name := "<init>", desc := "(LCircuitWardenModel$Walk;)V" } : Jvm.MethodName)) ∈ lw_all := lw_g (lw_at lw_m10 60 rfl) rfl
theorem q2515 : (Jvm.Cond.fieldLink "CircuitWardenModel" (620 : Nat) "CircuitWardenModel$NetRun" "held" "[J") ∈ lw_all := lw_g (lw_at lw_m10 66 rfl) rfl
theorem q2517 : (Jvm.Cond.fieldLink "CircuitWardenModel" (623 : Nat) "CircuitWardenModel$NetRun" "taints" "[J") ∈ lw_all := lw_g (lw_at lw_m10 68 rfl) rfl
theorem q2537 : (Jvm.Cond.methodLink "CircuitWardenModel" (192 : Nat) ({ cls := "CircuitWardenModel", name := "clear", desc := "()V" } : Jvm.MethodName)) ∈ lw_all := lw_g (lw_at lw_m10 88 rfl) rfl
theorem q2538 : (Jvm.Cond.privateMethod ({ cls := "CircuitWardenModel", name := "clear", desc := "()V" } : Jvm.MethodName)) ∈ lw_tbl := lw_at lw_m10 89 rfl
theorem q2539 : (Jvm.Cond.instanceMethod ({ cls := "CircuitWardenModel", name := "clear", desc := "()V" } : Jvm.MethodName)) ∈ lw_all := lw_g (lw_at lw_m10 90 rfl) rfl
theorem q2540 : (Jvm.Cond.code ({ cls := "CircuitWardenModel", name := "clear", desc := "()V" } : Jvm.MethodName) prog_19_method_3_code (1 : Nat) (Option.none : Option Jvm.ClassFile.FieldType)) ∈ lw_all := lw_g (lw_at lw_m10 91 rfl) rfl
theorem q2541 : (Jvm.Cond.methodLink "CircuitWardenModel" (219 : Nat) ({ cls := "CircuitWardenModel", name := "add", desc := "(IIII)I" } : Jvm.MethodName)) ∈ lw_all := lw_g (lw_at lw_m10 92 rfl) rfl
theorem q2542 : (Jvm.Cond.privateMethod ({ cls := "CircuitWardenModel", name := "add", desc := "(IIII)I" } : Jvm.MethodName)) ∈ lw_tbl := lw_at lw_m10 93 rfl
theorem q2543 : (Jvm.Cond.instanceMethod ({ cls := "CircuitWardenModel", name := "add", desc := "(IIII)I" } : Jvm.MethodName)) ∈ lw_all := lw_g (lw_at lw_m10 94 rfl) rfl
theorem q2544 : (Jvm.Cond.code ({ cls := "CircuitWardenModel", name := "add", desc := "(IIII)I" } : Jvm.MethodName) prog_19_method_4_code (6 : Nat) (Option.some Jvm.ClassFile.FieldType.int)) ∈ lw_all := lw_g (lw_at lw_m10 95 rfl) rfl
theorem q2545 : (Jvm.Cond.methodLink "CircuitWardenModel" (195 : Nat) ({ cls := "CircuitWardenModel", name := "nothing", desc := "()V" } : Jvm.MethodName)) ∈ lw_all := lw_g (lw_at lw_m10 96 rfl) rfl
theorem q2546 : (Jvm.Cond.privateMethod ({ cls := "CircuitWardenModel", name := "nothing", desc := "()V" } : Jvm.MethodName)) ∈ lw_tbl := lw_at lw_m10 97 rfl
theorem q2547 : (Jvm.Cond.instanceMethod ({ cls := "CircuitWardenModel", name := "nothing", desc := "()V" } : Jvm.MethodName)) ∈ lw_all := lw_g (lw_at lw_m10 98 rfl) rfl
theorem q2548 : (Jvm.Cond.code ({ cls := "CircuitWardenModel", name := "nothing", desc := "()V" } : Jvm.MethodName) prog_19_method_81_code (2 : Nat) (Option.none : Option Jvm.ClassFile.FieldType)) ∈ lw_all := lw_g (lw_at lw_m10 99 rfl) rfl
theorem q2549 : (Jvm.Cond.methodLink "CircuitWardenModel" (198 : Nat) ({ cls := "CircuitWardenModel$Walk", name := "begin", desc := "([B[I[III)V" } : Jvm.MethodName)) ∈ lw_all := lw_g (lw_at lw_m10 100 rfl) rfl
theorem q2573 : (Jvm.Cond.methodLink "CircuitWardenModel" (202 : Nat) ({ cls := "CircuitWardenModel$Walk", name := "lattice", desc := "()Z" } : Jvm.MethodName)) ∈ lw_all := lw_g (lw_at lw_m10 124 rfl) rfl
theorem q2585 : (Jvm.Cond.methodLink "CircuitWardenModel" (206 : Nat) ({ cls := "CircuitWardenModel$Walk", name := "judge", desc := "()I" } : Jvm.MethodName)) ∈ lw_all := lw_g (lw_at lw_m10 136 rfl) rfl
theorem q2900 : (Jvm.Cond.fieldLink "CircuitWardenModel" (185 : Nat) "CircuitWardenModel" "words" "[Ljava/lang/String;") ∈ lw_all := lw_g (lw_at lw_m11 211 rfl) rfl
theorem q2901 : (Jvm.Cond.fieldLink "CircuitWardenModel" (9 : Nat) "CircuitWardenModel" "bytes" "[I") ∈ lw_all := lw_g (lw_at lw_m11 212 rfl) rfl
theorem q2902 : (Jvm.Cond.fieldLink "CircuitWardenModel" (223 : Nat) "CircuitWardenModel" "size" "I") ∈ lw_all := lw_g (lw_at lw_m11 213 rfl) rfl
theorem q2903 : (Jvm.Cond.fieldLink "CircuitWardenModel" (226 : Nat) "CircuitWardenModel" "end" "I") ∈ lw_all := lw_g (lw_at lw_m11 214 rfl) rfl
theorem q2904 : (Jvm.Cond.fieldLink "CircuitWardenModel" (13 : Nat) "CircuitWardenModel" "token" "[I") ∈ lw_all := lw_g (lw_at lw_m11 215 rfl) rfl
theorem q2905 : (Jvm.Cond.fieldLink "CircuitWardenModel" (16 : Nat) "CircuitWardenModel" "place" "[I") ∈ lw_all := lw_g (lw_at lw_m11 216 rfl) rfl
theorem q2906 : (Jvm.Cond.fieldLink "CircuitWardenModel" (19 : Nat) "CircuitWardenModel" "length" "[I") ∈ lw_all := lw_g (lw_at lw_m11 217 rfl) rfl
theorem q2907 : (Jvm.Cond.fieldLink "CircuitWardenModel" (255 : Nat) "CircuitWardenModel" "tokens" "I") ∈ lw_all := lw_g (lw_at lw_m11 218 rfl) rfl
theorem q2908 : (Jvm.Cond.fieldLink "CircuitWardenModel" (277 : Nat) "CircuitWardenModel" "at" "I") ∈ lw_all := lw_g (lw_at lw_m11 219 rfl) rfl
theorem q2909 : (Jvm.Cond.fieldLink "CircuitWardenModel" (273 : Nat) "CircuitWardenModel" "bad" "Z") ∈ lw_all := lw_g (lw_at lw_m11 220 rfl) rfl
theorem q2910 : (Jvm.Cond.fieldLink "CircuitWardenModel" (22 : Nat) "CircuitWardenModel" "fault" "I") ∈ lw_all := lw_g (lw_at lw_m11 221 rfl) rfl
theorem q2911 : (Jvm.Cond.fieldLink "CircuitWardenModel" (26 : Nat) "CircuitWardenModel" "kindOf" "[I") ∈ lw_all := lw_g (lw_at lw_m11 222 rfl) rfl
theorem q2912 : (Jvm.Cond.fieldLink "CircuitWardenModel" (29 : Nat) "CircuitWardenModel" "placeOf" "[I") ∈ lw_all := lw_g (lw_at lw_m11 223 rfl) rfl
theorem q2913 : (Jvm.Cond.fieldLink "CircuitWardenModel" (32 : Nat) "CircuitWardenModel" "valueOf" "[I") ∈ lw_all := lw_g (lw_at lw_m11 224 rfl) rfl
theorem q2914 : (Jvm.Cond.fieldLink "CircuitWardenModel" (35 : Nat) "CircuitWardenModel" "firstOf" "[I") ∈ lw_all := lw_g (lw_at lw_m11 225 rfl) rfl
theorem q2915 : (Jvm.Cond.fieldLink "CircuitWardenModel" (38 : Nat) "CircuitWardenModel" "lastOf" "[I") ∈ lw_all := lw_g (lw_at lw_m11 226 rfl) rfl
theorem q2916 : (Jvm.Cond.fieldLink "CircuitWardenModel" (41 : Nat) "CircuitWardenModel" "nextOf" "[I") ∈ lw_all := lw_g (lw_at lw_m11 227 rfl) rfl
theorem q2917 : (Jvm.Cond.fieldLink "CircuitWardenModel" (287 : Nat) "CircuitWardenModel" "drafts" "I") ∈ lw_all := lw_g (lw_at lw_m11 228 rfl) rfl
theorem q2918 : (Jvm.Cond.fieldLink "CircuitWardenModel" (44 : Nat) "CircuitWardenModel" "pile" "[I") ∈ lw_all := lw_g (lw_at lw_m11 229 rfl) rfl
theorem q2919 : (Jvm.Cond.fieldLink "CircuitWardenModel" (47 : Nat) "CircuitWardenModel" "kind" "[B") ∈ lw_all := lw_g (lw_at lw_m11 230 rfl) rfl
theorem q2920 : (Jvm.Cond.fieldLink "CircuitWardenModel" (51 : Nat) "CircuitWardenModel" "where" "[I") ∈ lw_all := lw_g (lw_at lw_m11 231 rfl) rfl
theorem q2921 : (Jvm.Cond.fieldLink "CircuitWardenModel" (54 : Nat) "CircuitWardenModel" "value" "[I") ∈ lw_all := lw_g (lw_at lw_m11 232 rfl) rfl
theorem q2922 : (Jvm.Cond.fieldLink "CircuitWardenModel" (57 : Nat) "CircuitWardenModel" "whole" "[I") ∈ lw_all := lw_g (lw_at lw_m11 233 rfl) rfl
theorem q2923 : (Jvm.Cond.fieldLink "CircuitWardenModel" (60 : Nat) "CircuitWardenModel" "sizes" "[I") ∈ lw_all := lw_g (lw_at lw_m11 234 rfl) rfl
theorem q2924 : (Jvm.Cond.fieldLink "CircuitWardenModel" (216 : Nat) "CircuitWardenModel" "count" "I") ∈ lw_all := lw_g (lw_at lw_m11 235 rfl) rfl
theorem q2925 : (Jvm.Cond.fieldLink "CircuitWardenModel" (63 : Nat) "CircuitWardenModel" "letters" "[I") ∈ lw_all := lw_g (lw_at lw_m11 236 rfl) rfl
theorem q2926 : (Jvm.Cond.fieldLink "CircuitWardenModel" (66 : Nat) "CircuitWardenModel" "starts" "[I") ∈ lw_all := lw_g (lw_at lw_m11 237 rfl) rfl
theorem q2927 : (Jvm.Cond.fieldLink "CircuitWardenModel" (363 : Nat) "CircuitWardenModel" "names" "I") ∈ lw_all := lw_g (lw_at lw_m11 238 rfl) rfl
theorem q2928 : (Jvm.Cond.fieldLink "CircuitWardenModel" (69 : Nat) "CircuitWardenModel" "sort" "[I") ∈ lw_all := lw_g (lw_at lw_m11 239 rfl) rfl
theorem q2929 : (Jvm.Cond.fieldLink "CircuitWardenModel" (72 : Nat) "CircuitWardenModel" "meant" "[I") ∈ lw_all := lw_g (lw_at lw_m12 0 rfl) rfl
theorem q2930 : (Jvm.Cond.fieldLink "CircuitWardenModel" (75 : Nat) "CircuitWardenModel" "since" "[I") ∈ lw_all := lw_g (lw_at lw_m12 1 rfl) rfl
theorem q2931 : (Jvm.Cond.fieldLink "CircuitWardenModel" (78 : Nat) "CircuitWardenModel" "kinds" "[I") ∈ lw_all := lw_g (lw_at lw_m12 2 rfl) rfl
theorem q2932 : (Jvm.Cond.fieldLink "CircuitWardenModel" (81 : Nat) "CircuitWardenModel" "widths" "[I") ∈ lw_all := lw_g (lw_at lw_m12 3 rfl) rfl
theorem q2933 : (Jvm.Cond.fieldLink "CircuitWardenModel" (84 : Nat) "CircuitWardenModel" "inits" "[I") ∈ lw_all := lw_g (lw_at lw_m12 4 rfl) rfl
theorem q2934 : (Jvm.Cond.fieldLink "CircuitWardenModel" (87 : Nat) "CircuitWardenModel" "nameNodes" "[I") ∈ lw_all := lw_g (lw_at lw_m12 5 rfl) rfl
theorem q2935 : (Jvm.Cond.fieldLink "CircuitWardenModel" (90 : Nat) "CircuitWardenModel" "labelNodes" "[I") ∈ lw_all := lw_g (lw_at lw_m12 6 rfl) rfl
theorem q2936 : (Jvm.Cond.fieldLink "CircuitWardenModel" (93 : Nat) "CircuitWardenModel" "exprNodes" "[I") ∈ lw_all := lw_g (lw_at lw_m12 7 rfl) rfl
theorem q2937 : (Jvm.Cond.fieldLink "CircuitWardenModel" (484 : Nat) "CircuitWardenModel" "signals" "I") ∈ lw_all := lw_g (lw_at lw_m12 8 rfl) rfl
theorem q2938 : (Jvm.Cond.fieldLink "CircuitWardenModel" (507 : Nat) "CircuitWardenModel" "levels" "I") ∈ lw_all := lw_g (lw_at lw_m12 9 rfl) rfl
theorem q2939 : (Jvm.Cond.fieldLink "CircuitWardenModel" (487 : Nat) "CircuitWardenModel" "nextNode" "I") ∈ lw_all := lw_g (lw_at lw_m12 10 rfl) rfl
theorem q2940 : (Jvm.Cond.fieldLink "CircuitWardenModel" (513 : Nat) "CircuitWardenModel" "modeBits" "I") ∈ lw_all := lw_g (lw_at lw_m12 11 rfl) rfl
theorem q2941 : (Jvm.Cond.fieldLink "CircuitWardenModel" (385 : Nat) "CircuitWardenModel" "item" "I") ∈ lw_all := lw_g (lw_at lw_m12 12 rfl) rfl
theorem q2942 : (Jvm.Cond.fieldLink "CircuitWardenModel" (423 : Nat) "CircuitWardenModel" "looks" "I") ∈ lw_all := lw_g (lw_at lw_m12 13 rfl) rfl
theorem q2943 : (Jvm.Cond.fieldLink "CircuitWardenModel" (376 : Nat) "CircuitWardenModel" "reason" "I") ∈ lw_all := lw_g (lw_at lw_m12 14 rfl) rfl
theorem q2944 : (Jvm.Cond.fieldLink "CircuitWardenModel" (379 : Nat) "CircuitWardenModel" "reasonPlace" "I") ∈ lw_all := lw_g (lw_at lw_m12 15 rfl) rfl
theorem q2945 : (Jvm.Cond.fieldLink "CircuitWardenModel" (96 : Nat) "CircuitWardenModel" "told" "I") ∈ lw_all := lw_g (lw_at lw_m12 16 rfl) rfl
theorem q2946 : (Jvm.Cond.fieldLink "CircuitWardenModel" (99 : Nat) "CircuitWardenModel" "functions" "[I") ∈ lw_all := lw_g (lw_at lw_m12 17 rfl) rfl
theorem q2947 : (Jvm.Cond.fieldLink "CircuitWardenModel" (102 : Nat) "CircuitWardenModel" "constBases" "[I") ∈ lw_all := lw_g (lw_at lw_m12 18 rfl) rfl
theorem q2948 : (Jvm.Cond.fieldLink "CircuitWardenModel" (105 : Nat) "CircuitWardenModel" "givenBases" "[I") ∈ lw_all := lw_g (lw_at lw_m12 19 rfl) rfl
theorem q2949 : (Jvm.Cond.fieldLink "CircuitWardenModel" (382 : Nat) "CircuitWardenModel" "inside" "I") ∈ lw_all := lw_g (lw_at lw_m12 20 rfl) rfl
theorem q2950 : (Jvm.Cond.fieldLink "CircuitWardenModel" (108 : Nat) "CircuitWardenModel" "consts" "[I") ∈ lw_all := lw_g (lw_at lw_m12 21 rfl) rfl
theorem q2951 : (Jvm.Cond.fieldLink "CircuitWardenModel" (455 : Nat) "CircuitWardenModel" "constTop" "I") ∈ lw_all := lw_g (lw_at lw_m12 22 rfl) rfl
theorem q2952 : (Jvm.Cond.fieldLink "CircuitWardenModel" (111 : Nat) "CircuitWardenModel" "givenWidths" "[I") ∈ lw_all := lw_g (lw_at lw_m12 23 rfl) rfl
theorem q2953 : (Jvm.Cond.fieldLink "CircuitWardenModel" (114 : Nat) "CircuitWardenModel" "givenValues" "[J") ∈ lw_all := lw_g (lw_at lw_m12 24 rfl) rfl
theorem q2954 : (Jvm.Cond.fieldLink "CircuitWardenModel" (458 : Nat) "CircuitWardenModel" "givenTop" "I") ∈ lw_all := lw_g (lw_at lw_m12 25 rfl) rfl
theorem q2955 : (Jvm.Cond.fieldLink "CircuitWardenModel" (118 : Nat) "CircuitWardenModel" "sumTime" "[I") ∈ lw_all := lw_g (lw_at lw_m12 26 rfl) rfl
theorem q2956 : (Jvm.Cond.fieldLink "CircuitWardenModel" (121 : Nat) "CircuitWardenModel" "sumWas" "[I") ∈ lw_all := lw_g (lw_at lw_m12 27 rfl) rfl
theorem q2957 : (Jvm.Cond.fieldLink "CircuitWardenModel" (409 : Nat) "CircuitWardenModel" "time" "I") ∈ lw_all := lw_g (lw_at lw_m12 28 rfl) rfl
theorem q2958 : (Jvm.Cond.fieldLink "CircuitWardenModel" (400 : Nat) "CircuitWardenModel" "ownAsked" "I") ∈ lw_all := lw_g (lw_at lw_m12 29 rfl) rfl
theorem q2959 : (Jvm.Cond.fieldLink "CircuitWardenModel" (522 : Nat) "CircuitWardenModel" "wide" "I") ∈ lw_all := lw_g (lw_at lw_m12 30 rfl) rfl
theorem q2960 : (Jvm.Cond.fieldLink "CircuitWardenModel" (525 : Nat) "CircuitWardenModel" "run" "I") ∈ lw_all := lw_g (lw_at lw_m12 31 rfl) rfl
theorem q2961 : (Jvm.Cond.fieldLink "CircuitWardenModel" (126 : Nat) "CircuitWardenModel" "own" "[[J") ∈ lw_all := lw_g (lw_at lw_m12 32 rfl) rfl
theorem q2962 : (Jvm.Cond.fieldLink "CircuitWardenModel" (129 : Nat) "CircuitWardenModel" "coming" "[J") ∈ lw_all := lw_g (lw_at lw_m12 33 rfl) rfl
theorem q2963 : (Jvm.Cond.fieldLink "CircuitWardenModel" (135 : Nat) "CircuitWardenModel" "walk" "LCircuitWardenModel$Walk;") ∈ lw_all := lw_g (lw_at lw_m12 34 rfl) rfl
theorem q2964 : (Jvm.Cond.fieldLink "CircuitWardenModel" (141 : Nat) "CircuitWardenModel" "nets" "[LCircuitWardenModel$NetRun;") ∈ lw_all := lw_g (lw_at lw_m12 35 rfl) rfl
theorem q2965 : (Jvm.Cond.fieldLink "CircuitWardenModel" (566 : Nat) "CircuitWardenModel" "accepted" "Z") ∈ lw_all := lw_g (lw_at lw_m12 36 rfl) rfl
theorem q2966 : (Jvm.Cond.fieldLink "CircuitWardenModel" (560 : Nat) "CircuitWardenModel" "runs" "Z") ∈ lw_all := lw_g (lw_at lw_m12 37 rfl) rfl
theorem q2967 : (Jvm.Cond.fieldLink "CircuitWardenModel" (605 : Nat) "CircuitWardenModel" "observer" "I") ∈ lw_all := lw_g (lw_at lw_m12 38 rfl) rfl
theorem q2968 : (Jvm.Cond.fieldLink "CircuitWardenModel" (608 : Nat) "CircuitWardenModel" "cycles" "I") ∈ lw_all := lw_g (lw_at lw_m12 39 rfl) rfl
theorem q2969 : (Jvm.Cond.fieldLink "CircuitWardenModel" (611 : Nat) "CircuitWardenModel" "sameSeen" "Z") ∈ lw_all := lw_g (lw_at lw_m12 40 rfl) rfl
theorem q2970 : (Jvm.Cond.fieldLink "CircuitWardenModel" (614 : Nat) "CircuitWardenModel" "sameClean" "Z") ∈ lw_all := lw_g (lw_at lw_m12 41 rfl) rfl
theorem q2971 : (Jvm.Cond.fieldLink "CircuitWardenModel" (649 : Nat) "CircuitWardenModel" "broken" "I") ∈ lw_all := lw_g (lw_at lw_m12 42 rfl) rfl
theorem q2972 : (Jvm.Cond.laysFinal "CircuitWardenModel" "CircuitWardenModel" "words" "[Ljava/lang/String;") ∈ lw_all := lw_g (lw_at lw_m12 43 rfl) rfl
theorem q2973 : (Jvm.Cond.soleField "CircuitWardenModel" "words") ∈ lw_all := lw_g (lw_at lw_m12 44 rfl) rfl
theorem q2974 : (Jvm.Cond.laysFinal "CircuitWardenModel" "CircuitWardenModel" "bytes" "[I") ∈ lw_all := lw_g (lw_at lw_m12 45 rfl) rfl
theorem q2975 : (Jvm.Cond.soleField "CircuitWardenModel" "bytes") ∈ lw_all := lw_g (lw_at lw_m12 46 rfl) rfl
theorem q2976 : (Jvm.Cond.lays "CircuitWardenModel" "CircuitWardenModel" "size" "I") ∈ lw_all := lw_g (lw_at lw_m12 47 rfl) rfl
theorem q2977 : (Jvm.Cond.soleField "CircuitWardenModel" "size") ∈ lw_all := lw_g (lw_at lw_m12 48 rfl) rfl
theorem q2978 : (Jvm.Cond.lays "CircuitWardenModel" "CircuitWardenModel" "end" "I") ∈ lw_all := lw_g (lw_at lw_m12 49 rfl) rfl
theorem q2979 : (Jvm.Cond.soleField "CircuitWardenModel" "end") ∈ lw_all := lw_g (lw_at lw_m12 50 rfl) rfl
theorem q2980 : (Jvm.Cond.laysFinal "CircuitWardenModel" "CircuitWardenModel" "token" "[I") ∈ lw_all := lw_g (lw_at lw_m12 51 rfl) rfl
theorem q2981 : (Jvm.Cond.soleField "CircuitWardenModel" "token") ∈ lw_all := lw_g (lw_at lw_m12 52 rfl) rfl
theorem q2982 : (Jvm.Cond.laysFinal "CircuitWardenModel" "CircuitWardenModel" "place" "[I") ∈ lw_all := lw_g (lw_at lw_m12 53 rfl) rfl
theorem q2983 : (Jvm.Cond.soleField "CircuitWardenModel" "place") ∈ lw_all := lw_g (lw_at lw_m12 54 rfl) rfl
theorem q2984 : (Jvm.Cond.laysFinal "CircuitWardenModel" "CircuitWardenModel" "length" "[I") ∈ lw_all := lw_g (lw_at lw_m12 55 rfl) rfl
theorem q2985 : (Jvm.Cond.soleField "CircuitWardenModel" "length") ∈ lw_all := lw_g (lw_at lw_m12 56 rfl) rfl
theorem q2986 : (Jvm.Cond.lays "CircuitWardenModel" "CircuitWardenModel" "tokens" "I") ∈ lw_all := lw_g (lw_at lw_m12 57 rfl) rfl
theorem q2987 : (Jvm.Cond.soleField "CircuitWardenModel" "tokens") ∈ lw_all := lw_g (lw_at lw_m12 58 rfl) rfl
theorem q2988 : (Jvm.Cond.lays "CircuitWardenModel" "CircuitWardenModel" "at" "I") ∈ lw_all := lw_g (lw_at lw_m12 59 rfl) rfl
theorem q2989 : (Jvm.Cond.soleField "CircuitWardenModel" "at") ∈ lw_all := lw_g (lw_at lw_m12 60 rfl) rfl
theorem q2990 : (Jvm.Cond.lays "CircuitWardenModel" "CircuitWardenModel" "bad" "Z") ∈ lw_all := lw_g (lw_at lw_m12 61 rfl) rfl
theorem q2991 : (Jvm.Cond.soleField "CircuitWardenModel" "bad") ∈ lw_all := lw_g (lw_at lw_m12 62 rfl) rfl
theorem q2992 : (Jvm.Cond.lays "CircuitWardenModel" "CircuitWardenModel" "fault" "I") ∈ lw_all := lw_g (lw_at lw_m12 63 rfl) rfl
theorem q2993 : (Jvm.Cond.soleField "CircuitWardenModel" "fault") ∈ lw_all := lw_g (lw_at lw_m12 64 rfl) rfl
theorem q2994 : (Jvm.Cond.laysFinal "CircuitWardenModel" "CircuitWardenModel" "kindOf" "[I") ∈ lw_all := lw_g (lw_at lw_m12 65 rfl) rfl
theorem q2995 : (Jvm.Cond.soleField "CircuitWardenModel" "kindOf") ∈ lw_all := lw_g (lw_at lw_m12 66 rfl) rfl
theorem q2996 : (Jvm.Cond.laysFinal "CircuitWardenModel" "CircuitWardenModel" "placeOf" "[I") ∈ lw_all := lw_g (lw_at lw_m12 67 rfl) rfl
theorem q2997 : (Jvm.Cond.soleField "CircuitWardenModel" "placeOf") ∈ lw_all := lw_g (lw_at lw_m12 68 rfl) rfl
theorem q2998 : (Jvm.Cond.laysFinal "CircuitWardenModel" "CircuitWardenModel" "valueOf" "[I") ∈ lw_all := lw_g (lw_at lw_m12 69 rfl) rfl
theorem q2999 : (Jvm.Cond.soleField "CircuitWardenModel" "valueOf") ∈ lw_all := lw_g (lw_at lw_m12 70 rfl) rfl
theorem q3000 : (Jvm.Cond.laysFinal "CircuitWardenModel" "CircuitWardenModel" "firstOf" "[I") ∈ lw_all := lw_g (lw_at lw_m12 71 rfl) rfl
theorem q3001 : (Jvm.Cond.soleField "CircuitWardenModel" "firstOf") ∈ lw_all := lw_g (lw_at lw_m12 72 rfl) rfl
theorem q3002 : (Jvm.Cond.laysFinal "CircuitWardenModel" "CircuitWardenModel" "lastOf" "[I") ∈ lw_all := lw_g (lw_at lw_m12 73 rfl) rfl
theorem q3003 : (Jvm.Cond.soleField "CircuitWardenModel" "lastOf") ∈ lw_all := lw_g (lw_at lw_m12 74 rfl) rfl
theorem q3004 : (Jvm.Cond.laysFinal "CircuitWardenModel" "CircuitWardenModel" "nextOf" "[I") ∈ lw_all := lw_g (lw_at lw_m12 75 rfl) rfl
theorem q3005 : (Jvm.Cond.soleField "CircuitWardenModel" "nextOf") ∈ lw_all := lw_g (lw_at lw_m12 76 rfl) rfl
theorem q3006 : (Jvm.Cond.lays "CircuitWardenModel" "CircuitWardenModel" "drafts" "I") ∈ lw_all := lw_g (lw_at lw_m12 77 rfl) rfl
theorem q3007 : (Jvm.Cond.soleField "CircuitWardenModel" "drafts") ∈ lw_all := lw_g (lw_at lw_m12 78 rfl) rfl
theorem q3008 : (Jvm.Cond.laysFinal "CircuitWardenModel" "CircuitWardenModel" "pile" "[I") ∈ lw_all := lw_g (lw_at lw_m12 79 rfl) rfl
theorem q3009 : (Jvm.Cond.soleField "CircuitWardenModel" "pile") ∈ lw_all := lw_g (lw_at lw_m12 80 rfl) rfl
theorem q3010 : (Jvm.Cond.laysFinal "CircuitWardenModel" "CircuitWardenModel" "kind" "[B") ∈ lw_all := lw_g (lw_at lw_m12 81 rfl) rfl
theorem q3011 : (Jvm.Cond.soleField "CircuitWardenModel" "kind") ∈ lw_all := lw_g (lw_at lw_m12 82 rfl) rfl
theorem q3012 : (Jvm.Cond.laysFinal "CircuitWardenModel" "CircuitWardenModel" "where" "[I") ∈ lw_all := lw_g (lw_at lw_m12 83 rfl) rfl
theorem q3013 : (Jvm.Cond.soleField "CircuitWardenModel" "where") ∈ lw_all := lw_g (lw_at lw_m12 84 rfl) rfl
theorem q3014 : (Jvm.Cond.laysFinal "CircuitWardenModel" "CircuitWardenModel" "value" "[I") ∈ lw_all := lw_g (lw_at lw_m12 85 rfl) rfl
theorem q3015 : (Jvm.Cond.soleField "CircuitWardenModel" "value") ∈ lw_all := lw_g (lw_at lw_m12 86 rfl) rfl
theorem q3016 : (Jvm.Cond.laysFinal "CircuitWardenModel" "CircuitWardenModel" "whole" "[I") ∈ lw_all := lw_g (lw_at lw_m12 87 rfl) rfl
theorem q3017 : (Jvm.Cond.soleField "CircuitWardenModel" "whole") ∈ lw_all := lw_g (lw_at lw_m12 88 rfl) rfl
theorem q3018 : (Jvm.Cond.laysFinal "CircuitWardenModel" "CircuitWardenModel" "sizes" "[I") ∈ lw_all := lw_g (lw_at lw_m12 89 rfl) rfl
theorem q3019 : (Jvm.Cond.soleField "CircuitWardenModel" "sizes") ∈ lw_all := lw_g (lw_at lw_m12 90 rfl) rfl
theorem q3020 : (Jvm.Cond.lays "CircuitWardenModel" "CircuitWardenModel" "count" "I") ∈ lw_all := lw_g (lw_at lw_m12 91 rfl) rfl
theorem q3021 : (Jvm.Cond.soleField "CircuitWardenModel" "count") ∈ lw_all := lw_g (lw_at lw_m12 92 rfl) rfl
theorem q3022 : (Jvm.Cond.lays "CircuitWardenModel" "CircuitWardenModel" "letters" "[I") ∈ lw_all := lw_g (lw_at lw_m12 93 rfl) rfl
theorem q3023 : (Jvm.Cond.soleField "CircuitWardenModel" "letters") ∈ lw_all := lw_g (lw_at lw_m12 94 rfl) rfl
theorem q3024 : (Jvm.Cond.lays "CircuitWardenModel" "CircuitWardenModel" "starts" "[I") ∈ lw_all := lw_g (lw_at lw_m12 95 rfl) rfl
theorem q3025 : (Jvm.Cond.soleField "CircuitWardenModel" "starts") ∈ lw_all := lw_g (lw_at lw_m12 96 rfl) rfl
theorem q3026 : (Jvm.Cond.lays "CircuitWardenModel" "CircuitWardenModel" "names" "I") ∈ lw_all := lw_g (lw_at lw_m12 97 rfl) rfl
theorem q3027 : (Jvm.Cond.soleField "CircuitWardenModel" "names") ∈ lw_all := lw_g (lw_at lw_m12 98 rfl) rfl
theorem q3028 : (Jvm.Cond.lays "CircuitWardenModel" "CircuitWardenModel" "sort" "[I") ∈ lw_all := lw_g (lw_at lw_m12 99 rfl) rfl
theorem q3029 : (Jvm.Cond.soleField "CircuitWardenModel" "sort") ∈ lw_all := lw_g (lw_at lw_m12 100 rfl) rfl
theorem q3030 : (Jvm.Cond.lays "CircuitWardenModel" "CircuitWardenModel" "meant" "[I") ∈ lw_all := lw_g (lw_at lw_m12 101 rfl) rfl
theorem q3031 : (Jvm.Cond.soleField "CircuitWardenModel" "meant") ∈ lw_all := lw_g (lw_at lw_m12 102 rfl) rfl
theorem q3032 : (Jvm.Cond.lays "CircuitWardenModel" "CircuitWardenModel" "since" "[I") ∈ lw_all := lw_g (lw_at lw_m12 103 rfl) rfl
theorem q3033 : (Jvm.Cond.soleField "CircuitWardenModel" "since") ∈ lw_all := lw_g (lw_at lw_m12 104 rfl) rfl
theorem q3034 : (Jvm.Cond.lays "CircuitWardenModel" "CircuitWardenModel" "kinds" "[I") ∈ lw_all := lw_g (lw_at lw_m12 105 rfl) rfl
theorem q3035 : (Jvm.Cond.soleField "CircuitWardenModel" "kinds") ∈ lw_all := lw_g (lw_at lw_m12 106 rfl) rfl
theorem q3036 : (Jvm.Cond.lays "CircuitWardenModel" "CircuitWardenModel" "widths" "[I") ∈ lw_all := lw_g (lw_at lw_m12 107 rfl) rfl
theorem q3037 : (Jvm.Cond.soleField "CircuitWardenModel" "widths") ∈ lw_all := lw_g (lw_at lw_m12 108 rfl) rfl
theorem q3038 : (Jvm.Cond.lays "CircuitWardenModel" "CircuitWardenModel" "inits" "[I") ∈ lw_all := lw_g (lw_at lw_m12 109 rfl) rfl
theorem q3039 : (Jvm.Cond.soleField "CircuitWardenModel" "inits") ∈ lw_all := lw_g (lw_at lw_m12 110 rfl) rfl
theorem q3040 : (Jvm.Cond.lays "CircuitWardenModel" "CircuitWardenModel" "nameNodes" "[I") ∈ lw_all := lw_g (lw_at lw_m12 111 rfl) rfl
theorem q3041 : (Jvm.Cond.soleField "CircuitWardenModel" "nameNodes") ∈ lw_all := lw_g (lw_at lw_m12 112 rfl) rfl
theorem q3042 : (Jvm.Cond.lays "CircuitWardenModel" "CircuitWardenModel" "labelNodes" "[I") ∈ lw_all := lw_g (lw_at lw_m12 113 rfl) rfl
theorem q3043 : (Jvm.Cond.soleField "CircuitWardenModel" "labelNodes") ∈ lw_all := lw_g (lw_at lw_m12 114 rfl) rfl
theorem q3044 : (Jvm.Cond.lays "CircuitWardenModel" "CircuitWardenModel" "exprNodes" "[I") ∈ lw_all := lw_g (lw_at lw_m12 115 rfl) rfl
theorem q3045 : (Jvm.Cond.soleField "CircuitWardenModel" "exprNodes") ∈ lw_all := lw_g (lw_at lw_m12 116 rfl) rfl
theorem q3046 : (Jvm.Cond.lays "CircuitWardenModel" "CircuitWardenModel" "signals" "I") ∈ lw_all := lw_g (lw_at lw_m12 117 rfl) rfl
theorem q3047 : (Jvm.Cond.soleField "CircuitWardenModel" "signals") ∈ lw_all := lw_g (lw_at lw_m12 118 rfl) rfl
theorem q3048 : (Jvm.Cond.lays "CircuitWardenModel" "CircuitWardenModel" "levels" "I") ∈ lw_all := lw_g (lw_at lw_m12 119 rfl) rfl
theorem q3049 : (Jvm.Cond.soleField "CircuitWardenModel" "levels") ∈ lw_all := lw_g (lw_at lw_m12 120 rfl) rfl
theorem q3050 : (Jvm.Cond.lays "CircuitWardenModel" "CircuitWardenModel" "nextNode" "I") ∈ lw_all := lw_g (lw_at lw_m12 121 rfl) rfl
theorem q3051 : (Jvm.Cond.soleField "CircuitWardenModel" "nextNode") ∈ lw_all := lw_g (lw_at lw_m12 122 rfl) rfl
theorem q3052 : (Jvm.Cond.lays "CircuitWardenModel" "CircuitWardenModel" "modeBits" "I") ∈ lw_all := lw_g (lw_at lw_m12 123 rfl) rfl
theorem q3053 : (Jvm.Cond.soleField "CircuitWardenModel" "modeBits") ∈ lw_all := lw_g (lw_at lw_m12 124 rfl) rfl
theorem q3054 : (Jvm.Cond.lays "CircuitWardenModel" "CircuitWardenModel" "item" "I") ∈ lw_all := lw_g (lw_at lw_m12 125 rfl) rfl
theorem q3055 : (Jvm.Cond.soleField "CircuitWardenModel" "item") ∈ lw_all := lw_g (lw_at lw_m12 126 rfl) rfl
theorem q3056 : (Jvm.Cond.lays "CircuitWardenModel" "CircuitWardenModel" "looks" "I") ∈ lw_all := lw_g (lw_at lw_m12 127 rfl) rfl
theorem q3057 : (Jvm.Cond.soleField "CircuitWardenModel" "looks") ∈ lw_all := lw_g (lw_at lw_m12 128 rfl) rfl
theorem q3058 : (Jvm.Cond.lays "CircuitWardenModel" "CircuitWardenModel" "reason" "I") ∈ lw_all := lw_g (lw_at lw_m12 129 rfl) rfl
theorem q3059 : (Jvm.Cond.soleField "CircuitWardenModel" "reason") ∈ lw_all := lw_g (lw_at lw_m12 130 rfl) rfl
theorem q3060 : (Jvm.Cond.lays "CircuitWardenModel" "CircuitWardenModel" "reasonPlace" "I") ∈ lw_all := lw_g (lw_at lw_m12 131 rfl) rfl
theorem q3061 : (Jvm.Cond.soleField "CircuitWardenModel" "reasonPlace") ∈ lw_all := lw_g (lw_at lw_m12 132 rfl) rfl
theorem q3062 : (Jvm.Cond.lays "CircuitWardenModel" "CircuitWardenModel" "told" "I") ∈ lw_all := lw_g (lw_at lw_m12 133 rfl) rfl
theorem q3063 : (Jvm.Cond.soleField "CircuitWardenModel" "told") ∈ lw_all := lw_g (lw_at lw_m12 134 rfl) rfl
theorem q3064 : (Jvm.Cond.lays "CircuitWardenModel" "CircuitWardenModel" "functions" "[I") ∈ lw_all := lw_g (lw_at lw_m12 135 rfl) rfl
theorem q3065 : (Jvm.Cond.soleField "CircuitWardenModel" "functions") ∈ lw_all := lw_g (lw_at lw_m12 136 rfl) rfl
theorem q3066 : (Jvm.Cond.lays "CircuitWardenModel" "CircuitWardenModel" "constBases" "[I") ∈ lw_all := lw_g (lw_at lw_m12 137 rfl) rfl
theorem q3067 : (Jvm.Cond.soleField "CircuitWardenModel" "constBases") ∈ lw_all := lw_g (lw_at lw_m12 138 rfl) rfl
theorem q3068 : (Jvm.Cond.lays "CircuitWardenModel" "CircuitWardenModel" "givenBases" "[I") ∈ lw_all := lw_g (lw_at lw_m12 139 rfl) rfl
theorem q3069 : (Jvm.Cond.soleField "CircuitWardenModel" "givenBases") ∈ lw_all := lw_g (lw_at lw_m12 140 rfl) rfl
theorem q3070 : (Jvm.Cond.lays "CircuitWardenModel" "CircuitWardenModel" "inside" "I") ∈ lw_all := lw_g (lw_at lw_m12 141 rfl) rfl
theorem q3071 : (Jvm.Cond.soleField "CircuitWardenModel" "inside") ∈ lw_all := lw_g (lw_at lw_m12 142 rfl) rfl
theorem q3072 : (Jvm.Cond.lays "CircuitWardenModel" "CircuitWardenModel" "consts" "[I") ∈ lw_all := lw_g (lw_at lw_m12 143 rfl) rfl
theorem q3073 : (Jvm.Cond.soleField "CircuitWardenModel" "consts") ∈ lw_all := lw_g (lw_at lw_m12 144 rfl) rfl
theorem q3074 : (Jvm.Cond.lays "CircuitWardenModel" "CircuitWardenModel" "constTop" "I") ∈ lw_all := lw_g (lw_at lw_m12 145 rfl) rfl
theorem q3075 : (Jvm.Cond.soleField "CircuitWardenModel" "constTop") ∈ lw_all := lw_g (lw_at lw_m12 146 rfl) rfl
theorem q3076 : (Jvm.Cond.lays "CircuitWardenModel" "CircuitWardenModel" "givenWidths" "[I") ∈ lw_all := lw_g (lw_at lw_m12 147 rfl) rfl
theorem q3077 : (Jvm.Cond.soleField "CircuitWardenModel" "givenWidths") ∈ lw_all := lw_g (lw_at lw_m12 148 rfl) rfl
theorem q3078 : (Jvm.Cond.lays "CircuitWardenModel" "CircuitWardenModel" "givenValues" "[J") ∈ lw_all := lw_g (lw_at lw_m12 149 rfl) rfl
theorem q3079 : (Jvm.Cond.soleField "CircuitWardenModel" "givenValues") ∈ lw_all := lw_g (lw_at lw_m12 150 rfl) rfl
theorem q3080 : (Jvm.Cond.lays "CircuitWardenModel" "CircuitWardenModel" "givenTop" "I") ∈ lw_all := lw_g (lw_at lw_m12 151 rfl) rfl
theorem q3081 : (Jvm.Cond.soleField "CircuitWardenModel" "givenTop") ∈ lw_all := lw_g (lw_at lw_m12 152 rfl) rfl
theorem q3082 : (Jvm.Cond.lays "CircuitWardenModel" "CircuitWardenModel" "sumTime" "[I") ∈ lw_all := lw_g (lw_at lw_m12 153 rfl) rfl
theorem q3083 : (Jvm.Cond.soleField "CircuitWardenModel" "sumTime") ∈ lw_all := lw_g (lw_at lw_m12 154 rfl) rfl
theorem q3084 : (Jvm.Cond.lays "CircuitWardenModel" "CircuitWardenModel" "sumWas" "[I") ∈ lw_all := lw_g (lw_at lw_m12 155 rfl) rfl
theorem q3085 : (Jvm.Cond.soleField "CircuitWardenModel" "sumWas") ∈ lw_all := lw_g (lw_at lw_m12 156 rfl) rfl
theorem q3086 : (Jvm.Cond.lays "CircuitWardenModel" "CircuitWardenModel" "time" "I") ∈ lw_all := lw_g (lw_at lw_m12 157 rfl) rfl
theorem q3087 : (Jvm.Cond.soleField "CircuitWardenModel" "time") ∈ lw_all := lw_g (lw_at lw_m12 158 rfl) rfl
theorem q3088 : (Jvm.Cond.lays "CircuitWardenModel" "CircuitWardenModel" "ownAsked" "I") ∈ lw_all := lw_g (lw_at lw_m12 159 rfl) rfl
theorem q3089 : (Jvm.Cond.soleField "CircuitWardenModel" "ownAsked") ∈ lw_all := lw_g (lw_at lw_m12 160 rfl) rfl
theorem q3090 : (Jvm.Cond.lays "CircuitWardenModel" "CircuitWardenModel" "wide" "I") ∈ lw_all := lw_g (lw_at lw_m12 161 rfl) rfl
theorem q3091 : (Jvm.Cond.soleField "CircuitWardenModel" "wide") ∈ lw_all := lw_g (lw_at lw_m12 162 rfl) rfl
theorem q3092 : (Jvm.Cond.lays "CircuitWardenModel" "CircuitWardenModel" "run" "I") ∈ lw_all := lw_g (lw_at lw_m12 163 rfl) rfl
theorem q3093 : (Jvm.Cond.soleField "CircuitWardenModel" "run") ∈ lw_all := lw_g (lw_at lw_m12 164 rfl) rfl
theorem q3094 : (Jvm.Cond.laysFinal "CircuitWardenModel" "CircuitWardenModel" "own" "[[J") ∈ lw_all := lw_g (lw_at lw_m12 165 rfl) rfl
theorem q3095 : (Jvm.Cond.soleField "CircuitWardenModel" "own") ∈ lw_all := lw_g (lw_at lw_m12 166 rfl) rfl
theorem q3096 : (Jvm.Cond.laysFinal "CircuitWardenModel" "CircuitWardenModel" "coming" "[J") ∈ lw_all := lw_g (lw_at lw_m12 167 rfl) rfl
theorem q3097 : (Jvm.Cond.soleField "CircuitWardenModel" "coming") ∈ lw_all := lw_g (lw_at lw_m12 168 rfl) rfl
theorem q3098 : (Jvm.Cond.laysFinal "CircuitWardenModel" "CircuitWardenModel" "walk" "LCircuitWardenModel$Walk;") ∈ lw_all := lw_g (lw_at lw_m12 169 rfl) rfl
theorem q3099 : (Jvm.Cond.soleField "CircuitWardenModel" "walk") ∈ lw_all := lw_g (lw_at lw_m12 170 rfl) rfl
theorem q3100 : (Jvm.Cond.laysFinal "CircuitWardenModel" "CircuitWardenModel" "nets" "[LCircuitWardenModel$NetRun;") ∈ lw_all := lw_g (lw_at lw_m12 171 rfl) rfl
theorem q3101 : (Jvm.Cond.soleField "CircuitWardenModel" "nets") ∈ lw_all := lw_g (lw_at lw_m12 172 rfl) rfl
theorem q3102 : (Jvm.Cond.lays "CircuitWardenModel" "CircuitWardenModel" "accepted" "Z") ∈ lw_all := lw_g (lw_at lw_m12 173 rfl) rfl
theorem q3103 : (Jvm.Cond.soleField "CircuitWardenModel" "accepted") ∈ lw_all := lw_g (lw_at lw_m12 174 rfl) rfl
theorem q3104 : (Jvm.Cond.lays "CircuitWardenModel" "CircuitWardenModel" "runs" "Z") ∈ lw_all := lw_g (lw_at lw_m12 175 rfl) rfl
theorem q3105 : (Jvm.Cond.soleField "CircuitWardenModel" "runs") ∈ lw_all := lw_g (lw_at lw_m12 176 rfl) rfl
theorem q3106 : (Jvm.Cond.lays "CircuitWardenModel" "CircuitWardenModel" "observer" "I") ∈ lw_all := lw_g (lw_at lw_m12 177 rfl) rfl
theorem q3107 : (Jvm.Cond.soleField "CircuitWardenModel" "observer") ∈ lw_all := lw_g (lw_at lw_m12 178 rfl) rfl
theorem q3108 : (Jvm.Cond.lays "CircuitWardenModel" "CircuitWardenModel" "cycles" "I") ∈ lw_all := lw_g (lw_at lw_m12 179 rfl) rfl
theorem q3109 : (Jvm.Cond.soleField "CircuitWardenModel" "cycles") ∈ lw_all := lw_g (lw_at lw_m12 180 rfl) rfl
theorem q3110 : (Jvm.Cond.lays "CircuitWardenModel" "CircuitWardenModel" "sameSeen" "Z") ∈ lw_all := lw_g (lw_at lw_m12 181 rfl) rfl
theorem q3111 : (Jvm.Cond.soleField "CircuitWardenModel" "sameSeen") ∈ lw_all := lw_g (lw_at lw_m12 182 rfl) rfl
theorem q3112 : (Jvm.Cond.lays "CircuitWardenModel" "CircuitWardenModel" "sameClean" "Z") ∈ lw_all := lw_g (lw_at lw_m12 183 rfl) rfl
theorem q3113 : (Jvm.Cond.soleField "CircuitWardenModel" "sameClean") ∈ lw_all := lw_g (lw_at lw_m12 184 rfl) rfl
theorem q3114 : (Jvm.Cond.lays "CircuitWardenModel" "CircuitWardenModel" "broken" "I") ∈ lw_all := lw_g (lw_at lw_m12 185 rfl) rfl
theorem q3115 : (Jvm.Cond.soleField "CircuitWardenModel" "broken") ∈ lw_all := lw_g (lw_at lw_m12 186 rfl) rfl
theorem q3116 : (Jvm.Cond.superclass "CircuitWardenModel" "java/lang/Object") ∈ lw_all := lw_g (lw_at lw_m12 187 rfl) rfl
theorem q3118 : (Jvm.Cond.instanceMethod ({ cls := "CircuitWardenModel", name := "feed", desc := "(IIIII)I" } : Jvm.MethodName)) ∈ lw_all := lw_g (lw_at lw_m12 189 rfl) rfl
theorem q3119 : (Jvm.Cond.selects "CircuitWardenModel" ({ cls := "CircuitWardenModel", name := "feed", desc := "(IIIII)I" } : Jvm.MethodName) ({ cls := "CircuitWardenModel", name := "feed", desc := "(IIIII)I" } : Jvm.MethodName)) ∈ lw_all := lw_g (lw_at lw_m12 190 rfl) rfl
theorem q3120 : (Jvm.Cond.code ({ cls := "CircuitWardenModel", name := "feed", desc := "(IIIII)I" } : Jvm.MethodName) prog_19_method_5_code (8 : Nat) (Option.some Jvm.ClassFile.FieldType.int)) ∈ lw_all := lw_g (lw_at lw_m12 191 rfl) rfl
theorem q3122 : (Jvm.Cond.instanceMethod ({ cls := "CircuitWardenModel", name := "end", desc := "(I)I" } : Jvm.MethodName)) ∈ lw_all := lw_g (lw_at lw_m12 193 rfl) rfl
theorem q3123 : (Jvm.Cond.selects "CircuitWardenModel" ({ cls := "CircuitWardenModel", name := "end", desc := "(I)I" } : Jvm.MethodName) ({ cls := "CircuitWardenModel", name := "end", desc := "(I)I" } : Jvm.MethodName)) ∈ lw_all := lw_g (lw_at lw_m12 194 rfl) rfl
theorem q3124 : (Jvm.Cond.code ({ cls := "CircuitWardenModel", name := "end", desc := "(I)I" } : Jvm.MethodName) prog_19_method_90_code (3 : Nat) (Option.some Jvm.ClassFile.FieldType.int)) ∈ lw_all := lw_g (lw_at lw_m12 195 rfl) rfl
theorem q3125 : (Jvm.Cond.methodLink "CircuitWardenModel" (552 : Nat) ({ cls := "CircuitWardenModel", name := "scan", desc := "()V" } : Jvm.MethodName)) ∈ lw_all := lw_g (lw_at lw_m12 196 rfl) rfl
theorem q3126 : (Jvm.Cond.privateMethod ({ cls := "CircuitWardenModel", name := "scan", desc := "()V" } : Jvm.MethodName)) ∈ lw_tbl := lw_at lw_m12 197 rfl
theorem q3127 : (Jvm.Cond.instanceMethod ({ cls := "CircuitWardenModel", name := "scan", desc := "()V" } : Jvm.MethodName)) ∈ lw_all := lw_g (lw_at lw_m12 198 rfl) rfl
theorem q3128 : (Jvm.Cond.code ({ cls := "CircuitWardenModel", name := "scan", desc := "()V" } : Jvm.MethodName) prog_19_method_14_code (7 : Nat) (Option.none : Option Jvm.ClassFile.FieldType)) ∈ lw_all := lw_g (lw_at lw_m12 199 rfl) rfl
theorem q3129 : (Jvm.Cond.methodLink "CircuitWardenModel" (258 : Nat) ({ cls := "CircuitWardenModel", name := "behindBlanks", desc := "(I)I" } : Jvm.MethodName)) ∈ lw_all := lw_g (lw_at lw_m12 200 rfl) rfl
theorem q3130 : (Jvm.Cond.privateMethod ({ cls := "CircuitWardenModel", name := "behindBlanks", desc := "(I)I" } : Jvm.MethodName)) ∈ lw_tbl := lw_at lw_m12 201 rfl
theorem q3131 : (Jvm.Cond.instanceMethod ({ cls := "CircuitWardenModel", name := "behindBlanks", desc := "(I)I" } : Jvm.MethodName)) ∈ lw_all := lw_g (lw_at lw_m12 202 rfl) rfl
theorem q3132 : (Jvm.Cond.code ({ cls := "CircuitWardenModel", name := "behindBlanks", desc := "(I)I" } : Jvm.MethodName) prog_19_method_10_code (5 : Nat) (Option.some Jvm.ClassFile.FieldType.int)) ∈ lw_all := lw_g (lw_at lw_m12 203 rfl) rfl
theorem q3133 : (Jvm.Cond.methodLink "CircuitWardenModel" (236 : Nat) ({ cls := "CircuitWardenModel", name := "isAt", desc := "(III)Z" } : Jvm.MethodName)) ∈ lw_all := lw_g (lw_at lw_m12 204 rfl) rfl
theorem q3134 : (Jvm.Cond.privateMethod ({ cls := "CircuitWardenModel", name := "isAt", desc := "(III)Z" } : Jvm.MethodName)) ∈ lw_tbl := lw_at lw_m12 205 rfl
theorem q3135 : (Jvm.Cond.instanceMethod ({ cls := "CircuitWardenModel", name := "isAt", desc := "(III)Z" } : Jvm.MethodName)) ∈ lw_all := lw_g (lw_at lw_m12 206 rfl) rfl
theorem q3136 : (Jvm.Cond.code ({ cls := "CircuitWardenModel", name := "isAt", desc := "(III)Z" } : Jvm.MethodName) prog_19_method_6_code (4 : Nat) (Option.some Jvm.ClassFile.FieldType.boolean)) ∈ lw_all := lw_g (lw_at lw_m12 207 rfl) rfl
theorem q3137 : (Jvm.Cond.methodLink "CircuitWardenModel" (229 : Nat) ({ cls := "CircuitWardenModel", name := "isLetter", desc := "(I)Z" } : Jvm.MethodName)) ∈ lw_all := lw_g (lw_at lw_m12 208 rfl) rfl
theorem q3138 : (Jvm.Cond.static ({ cls := "CircuitWardenModel", name := "isLetter", desc := "(I)Z" } : Jvm.MethodName)) ∈ lw_all := lw_g (lw_at lw_m12 209 rfl) rfl
theorem q3139 : (Jvm.Cond.code ({ cls := "CircuitWardenModel", name := "isLetter", desc := "(I)Z" } : Jvm.MethodName) prog_19_method_7_code (1 : Nat) (Option.some Jvm.ClassFile.FieldType.boolean)) ∈ lw_all := lw_g (lw_at lw_m12 210 rfl) rfl
theorem q3140 : (Jvm.Cond.methodLink "CircuitWardenModel" (252 : Nat) ({ cls := "CircuitWardenModel", name := "isWord", desc := "(I)Z" } : Jvm.MethodName)) ∈ lw_all := lw_g (lw_at lw_m12 211 rfl) rfl
theorem q3141 : (Jvm.Cond.privateMethod ({ cls := "CircuitWardenModel", name := "isWord", desc := "(I)Z" } : Jvm.MethodName)) ∈ lw_tbl := lw_at lw_m12 212 rfl
theorem q3142 : (Jvm.Cond.instanceMethod ({ cls := "CircuitWardenModel", name := "isWord", desc := "(I)Z" } : Jvm.MethodName)) ∈ lw_all := lw_g (lw_at lw_m12 213 rfl) rfl
theorem q3143 : (Jvm.Cond.code ({ cls := "CircuitWardenModel", name := "isWord", desc := "(I)Z" } : Jvm.MethodName) prog_19_method_9_code (2 : Nat) (Option.some Jvm.ClassFile.FieldType.boolean)) ∈ lw_all := lw_g (lw_at lw_m12 214 rfl) rfl
theorem q3144 : (Jvm.Cond.methodLink "CircuitWardenModel" (233 : Nat) ({ cls := "CircuitWardenModel", name := "isDigit", desc := "(I)Z" } : Jvm.MethodName)) ∈ lw_all := lw_g (lw_at lw_m12 215 rfl) rfl
theorem q3145 : (Jvm.Cond.static ({ cls := "CircuitWardenModel", name := "isDigit", desc := "(I)Z" } : Jvm.MethodName)) ∈ lw_all := lw_g (lw_at lw_m12 216 rfl) rfl
theorem q3146 : (Jvm.Cond.code ({ cls := "CircuitWardenModel", name := "isDigit", desc := "(I)Z" } : Jvm.MethodName) prog_19_method_8_code (1 : Nat) (Option.some Jvm.ClassFile.FieldType.boolean)) ∈ lw_all := lw_g (lw_at lw_m12 217 rfl) rfl
theorem q3147 : (Jvm.Cond.methodLink "CircuitWardenModel" (262 : Nat) ({ cls := "CircuitWardenModel", name := "wordOf", desc := "(II)I" } : Jvm.MethodName)) ∈ lw_all := lw_g (lw_at lw_m12 218 rfl) rfl
theorem q3148 : (Jvm.Cond.privateMethod ({ cls := "CircuitWardenModel", name := "wordOf", desc := "(II)I" } : Jvm.MethodName)) ∈ lw_tbl := lw_at lw_m12 219 rfl
theorem q3149 : (Jvm.Cond.instanceMethod ({ cls := "CircuitWardenModel", name := "wordOf", desc := "(II)I" } : Jvm.MethodName)) ∈ lw_all := lw_g (lw_at lw_m12 220 rfl) rfl
theorem q3150 : (Jvm.Cond.code ({ cls := "CircuitWardenModel", name := "wordOf", desc := "(II)I" } : Jvm.MethodName) prog_19_method_11_code (6 : Nat) (Option.some Jvm.ClassFile.FieldType.int)) ∈ lw_all := lw_g (lw_at lw_m12 221 rfl) rfl
theorem q3151 : (Jvm.Cond.methodLink "CircuitWardenModel" (240 : Nat) ({ cls := "java/lang/String", name := "length", desc := "()I" } : Jvm.MethodName)) ∈ lw_all := lw_g (lw_at lw_m12 222 rfl) rfl
theorem q3152 : (Jvm.Cond.methodLink "CircuitWardenModel" (242 : Nat) ({ cls := "java/lang/String", name := "charAt", desc := "(I)C" } : Jvm.MethodName)) ∈ lw_all := lw_g (lw_at lw_m12 223 rfl) rfl
theorem q3153 : (Jvm.Cond.methodLink "CircuitWardenModel" (266 : Nat) ({ cls := "CircuitWardenModel", name := "isNumber", desc := "(II)Z" } : Jvm.MethodName)) ∈ lw_all := lw_g (lw_at lw_m12 224 rfl) rfl
theorem q3154 : (Jvm.Cond.privateMethod ({ cls := "CircuitWardenModel", name := "isNumber", desc := "(II)Z" } : Jvm.MethodName)) ∈ lw_tbl := lw_at lw_m12 225 rfl
theorem q3155 : (Jvm.Cond.instanceMethod ({ cls := "CircuitWardenModel", name := "isNumber", desc := "(II)Z" } : Jvm.MethodName)) ∈ lw_all := lw_g (lw_at lw_m12 226 rfl) rfl
theorem q3156 : (Jvm.Cond.code ({ cls := "CircuitWardenModel", name := "isNumber", desc := "(II)Z" } : Jvm.MethodName) prog_19_method_12_code (6 : Nat) (Option.some Jvm.ClassFile.FieldType.boolean)) ∈ lw_all := lw_g (lw_at lw_m12 227 rfl) rfl
theorem q3157 : (Jvm.Cond.constantLong "CircuitWardenModel" (246 : Nat) (2147483647 : Int64)) ∈ lw_all := lw_g (lw_at lw_m12 228 rfl) rfl
theorem q3158 : (Jvm.Cond.constantLong "CircuitWardenModel" (248 : Nat) (10 : Int64)) ∈ lw_all := lw_g (lw_at lw_m12 229 rfl) rfl
theorem q3159 : (Jvm.Cond.constantLong "CircuitWardenModel" (250 : Nat) (48 : Int64)) ∈ lw_all := lw_g (lw_at lw_m12 230 rfl) rfl
theorem q3160 : (Jvm.Cond.methodLink "CircuitWardenModel" (270 : Nat) ({ cls := "CircuitWardenModel", name := "isSign", desc := "(I)Z" } : Jvm.MethodName)) ∈ lw_all := lw_g (lw_at lw_m12 231 rfl) rfl
theorem q3161 : (Jvm.Cond.static ({ cls := "CircuitWardenModel", name := "isSign", desc := "(I)Z" } : Jvm.MethodName)) ∈ lw_all := lw_g (lw_at lw_m12 232 rfl) rfl
theorem q3162 : (Jvm.Cond.code ({ cls := "CircuitWardenModel", name := "isSign", desc := "(I)Z" } : Jvm.MethodName) prog_19_method_13_code (1 : Nat) (Option.some Jvm.ClassFile.FieldType.boolean)) ∈ lw_all := lw_g (lw_at lw_m12 233 rfl) rfl
theorem q3163 : (Jvm.Cond.methodLink "CircuitWardenModel" (280 : Nat) ({ cls := "CircuitWardenModel", name := "look", desc := "()I" } : Jvm.MethodName)) ∈ lw_all := lw_g (lw_at lw_m12 234 rfl) rfl
theorem q3164 : (Jvm.Cond.privateMethod ({ cls := "CircuitWardenModel", name := "look", desc := "()I" } : Jvm.MethodName)) ∈ lw_tbl := lw_at lw_m12 235 rfl
theorem q3165 : (Jvm.Cond.instanceMethod ({ cls := "CircuitWardenModel", name := "look", desc := "()I" } : Jvm.MethodName)) ∈ lw_all := lw_g (lw_at lw_m12 236 rfl) rfl
theorem q3166 : (Jvm.Cond.code ({ cls := "CircuitWardenModel", name := "look", desc := "()I" } : Jvm.MethodName) prog_19_method_15_code (1 : Nat) (Option.some Jvm.ClassFile.FieldType.int)) ∈ lw_all := lw_g (lw_at lw_m12 237 rfl) rfl
theorem q3167 : (Jvm.Cond.methodLink "CircuitWardenModel" (555 : Nat) ({ cls := "CircuitWardenModel", name := "item", desc := "()I" } : Jvm.MethodName)) ∈ lw_all := lw_g (lw_at lw_m12 238 rfl) rfl
theorem q3168 : (Jvm.Cond.privateMethod ({ cls := "CircuitWardenModel", name := "item", desc := "()I" } : Jvm.MethodName)) ∈ lw_tbl := lw_at lw_m12 239 rfl
theorem q3169 : (Jvm.Cond.instanceMethod ({ cls := "CircuitWardenModel", name := "item", desc := "()I" } : Jvm.MethodName)) ∈ lw_all := lw_g (lw_at lw_m13 0 rfl) rfl
theorem q3170 : (Jvm.Cond.code ({ cls := "CircuitWardenModel", name := "item", desc := "()I" } : Jvm.MethodName) prog_19_method_39_code (4 : Nat) (Option.some Jvm.ClassFile.FieldType.int)) ∈ lw_all := lw_g (lw_at lw_m13 1 rfl) rfl
theorem q3171 : (Jvm.Cond.methodLink "CircuitWardenModel" (290 : Nat) ({ cls := "CircuitWardenModel", name := "here", desc := "()I" } : Jvm.MethodName)) ∈ lw_all := lw_g (lw_at lw_m13 2 rfl) rfl
theorem q3172 : (Jvm.Cond.privateMethod ({ cls := "CircuitWardenModel", name := "here", desc := "()I" } : Jvm.MethodName)) ∈ lw_tbl := lw_at lw_m13 3 rfl
theorem q3173 : (Jvm.Cond.instanceMethod ({ cls := "CircuitWardenModel", name := "here", desc := "()I" } : Jvm.MethodName)) ∈ lw_all := lw_g (lw_at lw_m13 4 rfl) rfl
theorem q3174 : (Jvm.Cond.code ({ cls := "CircuitWardenModel", name := "here", desc := "()I" } : Jvm.MethodName) prog_19_method_16_code (1 : Nat) (Option.some Jvm.ClassFile.FieldType.int)) ∈ lw_all := lw_g (lw_at lw_m13 5 rfl) rfl
theorem q3175 : (Jvm.Cond.methodLink "CircuitWardenModel" (283 : Nat) ({ cls := "CircuitWardenModel", name := "need", desc := "(Z)V" } : Jvm.MethodName)) ∈ lw_all := lw_g (lw_at lw_m13 6 rfl) rfl
theorem q3176 : (Jvm.Cond.privateMethod ({ cls := "CircuitWardenModel", name := "need", desc := "(Z)V" } : Jvm.MethodName)) ∈ lw_tbl := lw_at lw_m13 7 rfl
theorem q3177 : (Jvm.Cond.instanceMethod ({ cls := "CircuitWardenModel", name := "need", desc := "(Z)V" } : Jvm.MethodName)) ∈ lw_all := lw_g (lw_at lw_m13 8 rfl) rfl
theorem q3178 : (Jvm.Cond.code ({ cls := "CircuitWardenModel", name := "need", desc := "(Z)V" } : Jvm.MethodName) prog_19_method_17_code (2 : Nat) (Option.none : Option Jvm.ClassFile.FieldType)) ∈ lw_all := lw_g (lw_at lw_m13 9 rfl) rfl
theorem q3179 : (Jvm.Cond.methodLink "CircuitWardenModel" (293 : Nat) ({ cls := "CircuitWardenModel", name := "draft", desc := "(III)I" } : Jvm.MethodName)) ∈ lw_all := lw_g (lw_at lw_m13 10 rfl) rfl
theorem q3180 : (Jvm.Cond.privateMethod ({ cls := "CircuitWardenModel", name := "draft", desc := "(III)I" } : Jvm.MethodName)) ∈ lw_tbl := lw_at lw_m13 11 rfl
theorem q3181 : (Jvm.Cond.instanceMethod ({ cls := "CircuitWardenModel", name := "draft", desc := "(III)I" } : Jvm.MethodName)) ∈ lw_all := lw_g (lw_at lw_m13 12 rfl) rfl
theorem q3182 : (Jvm.Cond.code ({ cls := "CircuitWardenModel", name := "draft", desc := "(III)I" } : Jvm.MethodName) prog_19_method_19_code (4 : Nat) (Option.some Jvm.ClassFile.FieldType.int)) ∈ lw_all := lw_g (lw_at lw_m13 13 rfl) rfl
theorem q3183 : (Jvm.Cond.methodLink "CircuitWardenModel" (297 : Nat) ({ cls := "CircuitWardenModel", name := "take", desc := "(I)V" } : Jvm.MethodName)) ∈ lw_all := lw_g (lw_at lw_m13 14 rfl) rfl
theorem q3184 : (Jvm.Cond.privateMethod ({ cls := "CircuitWardenModel", name := "take", desc := "(I)V" } : Jvm.MethodName)) ∈ lw_tbl := lw_at lw_m13 15 rfl
theorem q3185 : (Jvm.Cond.instanceMethod ({ cls := "CircuitWardenModel", name := "take", desc := "(I)V" } : Jvm.MethodName)) ∈ lw_all := lw_g (lw_at lw_m13 16 rfl) rfl
theorem q3186 : (Jvm.Cond.code ({ cls := "CircuitWardenModel", name := "take", desc := "(I)V" } : Jvm.MethodName) prog_19_method_18_code (2 : Nat) (Option.none : Option Jvm.ClassFile.FieldType)) ∈ lw_all := lw_g (lw_at lw_m13 17 rfl) rfl
theorem q3187 : (Jvm.Cond.methodLink "CircuitWardenModel" (348 : Nat) ({ cls := "CircuitWardenModel", name := "block", desc := "(I)I" } : Jvm.MethodName)) ∈ lw_all := lw_g (lw_at lw_m13 18 rfl) rfl
theorem q3188 : (Jvm.Cond.privateMethod ({ cls := "CircuitWardenModel", name := "block", desc := "(I)I" } : Jvm.MethodName)) ∈ lw_tbl := lw_at lw_m13 19 rfl
theorem q3189 : (Jvm.Cond.instanceMethod ({ cls := "CircuitWardenModel", name := "block", desc := "(I)I" } : Jvm.MethodName)) ∈ lw_all := lw_g (lw_at lw_m13 20 rfl) rfl
theorem q3190 : (Jvm.Cond.code ({ cls := "CircuitWardenModel", name := "block", desc := "(I)I" } : Jvm.MethodName) prog_19_method_35_code (3 : Nat) (Option.some Jvm.ClassFile.FieldType.int)) ∈ lw_all := lw_g (lw_at lw_m13 21 rfl) rfl
theorem q3191 : (Jvm.Cond.methodLink "CircuitWardenModel" (301 : Nat) ({ cls := "CircuitWardenModel", name := "deep", desc := "(I)V" } : Jvm.MethodName)) ∈ lw_all := lw_g (lw_at lw_m13 22 rfl) rfl
theorem q3192 : (Jvm.Cond.privateMethod ({ cls := "CircuitWardenModel", name := "deep", desc := "(I)V" } : Jvm.MethodName)) ∈ lw_tbl := lw_at lw_m13 23 rfl
theorem q3193 : (Jvm.Cond.instanceMethod ({ cls := "CircuitWardenModel", name := "deep", desc := "(I)V" } : Jvm.MethodName)) ∈ lw_all := lw_g (lw_at lw_m13 24 rfl) rfl
theorem q3194 : (Jvm.Cond.code ({ cls := "CircuitWardenModel", name := "deep", desc := "(I)V" } : Jvm.MethodName) prog_19_method_23_code (2 : Nat) (Option.none : Option Jvm.ClassFile.FieldType)) ∈ lw_all := lw_g (lw_at lw_m13 25 rfl) rfl
theorem q3195 : (Jvm.Cond.methodLink "CircuitWardenModel" (345 : Nat) ({ cls := "CircuitWardenModel", name := "statement", desc := "(I)I" } : Jvm.MethodName)) ∈ lw_all := lw_g (lw_at lw_m13 26 rfl) rfl
theorem q3196 : (Jvm.Cond.privateMethod ({ cls := "CircuitWardenModel", name := "statement", desc := "(I)I" } : Jvm.MethodName)) ∈ lw_tbl := lw_at lw_m13 27 rfl
theorem q3197 : (Jvm.Cond.instanceMethod ({ cls := "CircuitWardenModel", name := "statement", desc := "(I)I" } : Jvm.MethodName)) ∈ lw_all := lw_g (lw_at lw_m13 28 rfl) rfl
theorem q3198 : (Jvm.Cond.code ({ cls := "CircuitWardenModel", name := "statement", desc := "(I)I" } : Jvm.MethodName) prog_19_method_36_code (6 : Nat) (Option.some Jvm.ClassFile.FieldType.int)) ∈ lw_all := lw_g (lw_at lw_m13 29 rfl) rfl
theorem q3199 : (Jvm.Cond.methodLink "CircuitWardenModel" (311 : Nat) ({ cls := "CircuitWardenModel", name := "name", desc := "()I" } : Jvm.MethodName)) ∈ lw_all := lw_g (lw_at lw_m13 30 rfl) rfl
theorem q3200 : (Jvm.Cond.privateMethod ({ cls := "CircuitWardenModel", name := "name", desc := "()I" } : Jvm.MethodName)) ∈ lw_tbl := lw_at lw_m13 31 rfl
theorem q3201 : (Jvm.Cond.instanceMethod ({ cls := "CircuitWardenModel", name := "name", desc := "()I" } : Jvm.MethodName)) ∈ lw_all := lw_g (lw_at lw_m13 32 rfl) rfl
theorem q3202 : (Jvm.Cond.code ({ cls := "CircuitWardenModel", name := "name", desc := "()I" } : Jvm.MethodName) prog_19_method_21_code (2 : Nat) (Option.some Jvm.ClassFile.FieldType.int)) ∈ lw_all := lw_g (lw_at lw_m13 33 rfl) rfl
theorem q3203 : (Jvm.Cond.methodLink "CircuitWardenModel" (326 : Nat) ({ cls := "CircuitWardenModel", name := "joinPart", desc := "(II)V" } : Jvm.MethodName)) ∈ lw_all := lw_g (lw_at lw_m13 34 rfl) rfl
theorem q3204 : (Jvm.Cond.privateMethod ({ cls := "CircuitWardenModel", name := "joinPart", desc := "(II)V" } : Jvm.MethodName)) ∈ lw_tbl := lw_at lw_m13 35 rfl
theorem q3205 : (Jvm.Cond.instanceMethod ({ cls := "CircuitWardenModel", name := "joinPart", desc := "(II)V" } : Jvm.MethodName)) ∈ lw_all := lw_g (lw_at lw_m13 36 rfl) rfl
theorem q3206 : (Jvm.Cond.code ({ cls := "CircuitWardenModel", name := "joinPart", desc := "(II)V" } : Jvm.MethodName) prog_19_method_20_code (3 : Nat) (Option.none : Option Jvm.ClassFile.FieldType)) ∈ lw_all := lw_g (lw_at lw_m13 37 rfl) rfl
theorem q3207 : (Jvm.Cond.methodLink "CircuitWardenModel" (330 : Nat) ({ cls := "CircuitWardenModel", name := "expr", desc := "(I)I" } : Jvm.MethodName)) ∈ lw_all := lw_g (lw_at lw_m13 38 rfl) rfl
theorem q3208 : (Jvm.Cond.privateMethod ({ cls := "CircuitWardenModel", name := "expr", desc := "(I)I" } : Jvm.MethodName)) ∈ lw_tbl := lw_at lw_m13 39 rfl
theorem q3209 : (Jvm.Cond.instanceMethod ({ cls := "CircuitWardenModel", name := "expr", desc := "(I)I" } : Jvm.MethodName)) ∈ lw_all := lw_g (lw_at lw_m13 40 rfl) rfl
theorem q3210 : (Jvm.Cond.code ({ cls := "CircuitWardenModel", name := "expr", desc := "(I)I" } : Jvm.MethodName) prog_19_method_28_code (4 : Nat) (Option.some Jvm.ClassFile.FieldType.int)) ∈ lw_all := lw_g (lw_at lw_m13 41 rfl) rfl
theorem q3211 : (Jvm.Cond.methodLink "CircuitWardenModel" (304 : Nat) ({ cls := "CircuitWardenModel", name := "row", desc := "(IIZ)I" } : Jvm.MethodName)) ∈ lw_all := lw_g (lw_at lw_m13 42 rfl) rfl
theorem q3212 : (Jvm.Cond.privateMethod ({ cls := "CircuitWardenModel", name := "row", desc := "(IIZ)I" } : Jvm.MethodName)) ∈ lw_tbl := lw_at lw_m13 43 rfl
theorem q3213 : (Jvm.Cond.instanceMethod ({ cls := "CircuitWardenModel", name := "row", desc := "(IIZ)I" } : Jvm.MethodName)) ∈ lw_all := lw_g (lw_at lw_m13 44 rfl) rfl
theorem q3214 : (Jvm.Cond.code ({ cls := "CircuitWardenModel", name := "row", desc := "(IIZ)I" } : Jvm.MethodName) prog_19_method_27_code (8 : Nat) (Option.some Jvm.ClassFile.FieldType.int)) ∈ lw_all := lw_g (lw_at lw_m13 45 rfl) rfl
theorem q3215 : (Jvm.Cond.methodLink "CircuitWardenModel" (317 : Nat) ({ cls := "CircuitWardenModel", name := "atom", desc := "(I)I" } : Jvm.MethodName)) ∈ lw_all := lw_g (lw_at lw_m13 46 rfl) rfl
theorem q3216 : (Jvm.Cond.privateMethod ({ cls := "CircuitWardenModel", name := "atom", desc := "(I)I" } : Jvm.MethodName)) ∈ lw_tbl := lw_at lw_m13 47 rfl
theorem q3217 : (Jvm.Cond.instanceMethod ({ cls := "CircuitWardenModel", name := "atom", desc := "(I)I" } : Jvm.MethodName)) ∈ lw_all := lw_g (lw_at lw_m13 48 rfl) rfl
theorem q3218 : (Jvm.Cond.code ({ cls := "CircuitWardenModel", name := "atom", desc := "(I)I" } : Jvm.MethodName) prog_19_method_25_code (3 : Nat) (Option.some Jvm.ClassFile.FieldType.int)) ∈ lw_all := lw_g (lw_at lw_m13 49 rfl) rfl
theorem q3219 : (Jvm.Cond.methodLink "CircuitWardenModel" (308 : Nat) ({ cls := "CircuitWardenModel", name := "number", desc := "()I" } : Jvm.MethodName)) ∈ lw_all := lw_g (lw_at lw_m13 50 rfl) rfl
theorem q3220 : (Jvm.Cond.privateMethod ({ cls := "CircuitWardenModel", name := "number", desc := "()I" } : Jvm.MethodName)) ∈ lw_tbl := lw_at lw_m13 51 rfl
theorem q3221 : (Jvm.Cond.instanceMethod ({ cls := "CircuitWardenModel", name := "number", desc := "()I" } : Jvm.MethodName)) ∈ lw_all := lw_g (lw_at lw_m13 52 rfl) rfl
theorem q3222 : (Jvm.Cond.code ({ cls := "CircuitWardenModel", name := "number", desc := "()I" } : Jvm.MethodName) prog_19_method_22_code (3 : Nat) (Option.some Jvm.ClassFile.FieldType.int)) ∈ lw_all := lw_g (lw_at lw_m13 53 rfl) rfl
theorem q3223 : (Jvm.Cond.methodLink "CircuitWardenModel" (314 : Nat) ({ cls := "CircuitWardenModel", name := "sum", desc := "(I)I" } : Jvm.MethodName)) ∈ lw_all := lw_g (lw_at lw_m13 54 rfl) rfl
theorem q3224 : (Jvm.Cond.privateMethod ({ cls := "CircuitWardenModel", name := "sum", desc := "(I)I" } : Jvm.MethodName)) ∈ lw_tbl := lw_at lw_m13 55 rfl
theorem q3225 : (Jvm.Cond.instanceMethod ({ cls := "CircuitWardenModel", name := "sum", desc := "(I)I" } : Jvm.MethodName)) ∈ lw_all := lw_g (lw_at lw_m13 56 rfl) rfl
theorem q3226 : (Jvm.Cond.code ({ cls := "CircuitWardenModel", name := "sum", desc := "(I)I" } : Jvm.MethodName) prog_19_method_24_code (2 : Nat) (Option.some Jvm.ClassFile.FieldType.int)) ∈ lw_all := lw_g (lw_at lw_m13 57 rfl) rfl
theorem q3227 : (Jvm.Cond.methodLink "CircuitWardenModel" (320 : Nat) ({ cls := "CircuitWardenModel", name := "unary", desc := "(I)I" } : Jvm.MethodName)) ∈ lw_all := lw_g (lw_at lw_m13 58 rfl) rfl
theorem q3228 : (Jvm.Cond.privateMethod ({ cls := "CircuitWardenModel", name := "unary", desc := "(I)I" } : Jvm.MethodName)) ∈ lw_tbl := lw_at lw_m13 59 rfl
theorem q3229 : (Jvm.Cond.instanceMethod ({ cls := "CircuitWardenModel", name := "unary", desc := "(I)I" } : Jvm.MethodName)) ∈ lw_all := lw_g (lw_at lw_m13 60 rfl) rfl
theorem q3230 : (Jvm.Cond.code ({ cls := "CircuitWardenModel", name := "unary", desc := "(I)I" } : Jvm.MethodName) prog_19_method_31_code (5 : Nat) (Option.some Jvm.ClassFile.FieldType.int)) ∈ lw_all := lw_g (lw_at lw_m13 61 rfl) rfl
theorem q3231 : (Jvm.Cond.methodLink "CircuitWardenModel" (333 : Nat) ({ cls := "CircuitWardenModel", name := "exprs", desc := "(II)V" } : Jvm.MethodName)) ∈ lw_all := lw_g (lw_at lw_m13 62 rfl) rfl
theorem q3232 : (Jvm.Cond.privateMethod ({ cls := "CircuitWardenModel", name := "exprs", desc := "(II)V" } : Jvm.MethodName)) ∈ lw_tbl := lw_at lw_m13 63 rfl
theorem q3233 : (Jvm.Cond.instanceMethod ({ cls := "CircuitWardenModel", name := "exprs", desc := "(II)V" } : Jvm.MethodName)) ∈ lw_all := lw_g (lw_at lw_m13 64 rfl) rfl
theorem q3234 : (Jvm.Cond.code ({ cls := "CircuitWardenModel", name := "exprs", desc := "(II)V" } : Jvm.MethodName) prog_19_method_30_code (3 : Nat) (Option.none : Option Jvm.ClassFile.FieldType)) ∈ lw_all := lw_g (lw_at lw_m13 65 rfl) rfl
theorem q3235 : (Jvm.Cond.methodLink "CircuitWardenModel" (336 : Nat) ({ cls := "CircuitWardenModel", name := "named", desc := "(I)I" } : Jvm.MethodName)) ∈ lw_all := lw_g (lw_at lw_m13 66 rfl) rfl
theorem q3236 : (Jvm.Cond.privateMethod ({ cls := "CircuitWardenModel", name := "named", desc := "(I)I" } : Jvm.MethodName)) ∈ lw_tbl := lw_at lw_m13 67 rfl
theorem q3237 : (Jvm.Cond.instanceMethod ({ cls := "CircuitWardenModel", name := "named", desc := "(I)I" } : Jvm.MethodName)) ∈ lw_all := lw_g (lw_at lw_m13 68 rfl) rfl
theorem q3238 : (Jvm.Cond.code ({ cls := "CircuitWardenModel", name := "named", desc := "(I)I" } : Jvm.MethodName) prog_19_method_32_code (9 : Nat) (Option.some Jvm.ClassFile.FieldType.int)) ∈ lw_all := lw_g (lw_at lw_m13 69 rfl) rfl
theorem q3239 : (Jvm.Cond.methodLink "CircuitWardenModel" (339 : Nat) ({ cls := "CircuitWardenModel", name := "call", desc := "(IIII)I" } : Jvm.MethodName)) ∈ lw_all := lw_g (lw_at lw_m13 70 rfl) rfl
theorem q3240 : (Jvm.Cond.privateMethod ({ cls := "CircuitWardenModel", name := "call", desc := "(IIII)I" } : Jvm.MethodName)) ∈ lw_tbl := lw_at lw_m13 71 rfl
theorem q3241 : (Jvm.Cond.instanceMethod ({ cls := "CircuitWardenModel", name := "call", desc := "(IIII)I" } : Jvm.MethodName)) ∈ lw_all := lw_g (lw_at lw_m13 72 rfl) rfl
theorem q3242 : (Jvm.Cond.code ({ cls := "CircuitWardenModel", name := "call", desc := "(IIII)I" } : Jvm.MethodName) prog_19_method_33_code (6 : Nat) (Option.some Jvm.ClassFile.FieldType.int)) ∈ lw_all := lw_g (lw_at lw_m13 73 rfl) rfl
theorem q3243 : (Jvm.Cond.methodLink "CircuitWardenModel" (323 : Nat) ({ cls := "CircuitWardenModel", name := "operator", desc := "(IIZ)I" } : Jvm.MethodName)) ∈ lw_all := lw_g (lw_at lw_m13 74 rfl) rfl
theorem q3244 : (Jvm.Cond.static ({ cls := "CircuitWardenModel", name := "operator", desc := "(IIZ)I" } : Jvm.MethodName)) ∈ lw_all := lw_g (lw_at lw_m13 75 rfl) rfl
theorem q3245 : (Jvm.Cond.code ({ cls := "CircuitWardenModel", name := "operator", desc := "(IIZ)I" } : Jvm.MethodName) prog_19_method_26_code (3 : Nat) (Option.some Jvm.ClassFile.FieldType.int)) ∈ lw_all := lw_g (lw_at lw_m13 76 rfl) rfl
theorem q3246 : (Jvm.Cond.methodLink "CircuitWardenModel" (351 : Nat) ({ cls := "CircuitWardenModel", name := "namesUpTo", desc := "(I)V" } : Jvm.MethodName)) ∈ lw_all := lw_g (lw_at lw_m13 77 rfl) rfl
theorem q3247 : (Jvm.Cond.privateMethod ({ cls := "CircuitWardenModel", name := "namesUpTo", desc := "(I)V" } : Jvm.MethodName)) ∈ lw_tbl := lw_at lw_m13 78 rfl
theorem q3248 : (Jvm.Cond.instanceMethod ({ cls := "CircuitWardenModel", name := "namesUpTo", desc := "(I)V" } : Jvm.MethodName)) ∈ lw_all := lw_g (lw_at lw_m13 79 rfl) rfl
theorem q3249 : (Jvm.Cond.code ({ cls := "CircuitWardenModel", name := "namesUpTo", desc := "(I)V" } : Jvm.MethodName) prog_19_method_38_code (2 : Nat) (Option.none : Option Jvm.ClassFile.FieldType)) ∈ lw_all := lw_g (lw_at lw_m13 80 rfl) rfl
theorem q3250 : (Jvm.Cond.methodLink "CircuitWardenModel" (354 : Nat) ({ cls := "CircuitWardenModel", name := "function", desc := "(I)V" } : Jvm.MethodName)) ∈ lw_all := lw_g (lw_at lw_m13 81 rfl) rfl
theorem q3251 : (Jvm.Cond.privateMethod ({ cls := "CircuitWardenModel", name := "function", desc := "(I)V" } : Jvm.MethodName)) ∈ lw_tbl := lw_at lw_m13 82 rfl
theorem q3252 : (Jvm.Cond.instanceMethod ({ cls := "CircuitWardenModel", name := "function", desc := "(I)V" } : Jvm.MethodName)) ∈ lw_all := lw_g (lw_at lw_m13 83 rfl) rfl
theorem q3253 : (Jvm.Cond.code ({ cls := "CircuitWardenModel", name := "function", desc := "(I)V" } : Jvm.MethodName) prog_19_method_40_code (3 : Nat) (Option.none : Option Jvm.ClassFile.FieldType)) ∈ lw_all := lw_g (lw_at lw_m13 84 rfl) rfl
theorem q3254 : (Jvm.Cond.methodLink "CircuitWardenModel" (360 : Nat) ({ cls := "CircuitWardenModel", name := "parameter", desc := "(I)V" } : Jvm.MethodName)) ∈ lw_all := lw_g (lw_at lw_m13 85 rfl) rfl
theorem q3255 : (Jvm.Cond.privateMethod ({ cls := "CircuitWardenModel", name := "parameter", desc := "(I)V" } : Jvm.MethodName)) ∈ lw_tbl := lw_at lw_m13 86 rfl
theorem q3256 : (Jvm.Cond.instanceMethod ({ cls := "CircuitWardenModel", name := "parameter", desc := "(I)V" } : Jvm.MethodName)) ∈ lw_all := lw_g (lw_at lw_m13 87 rfl) rfl
theorem q3257 : (Jvm.Cond.code ({ cls := "CircuitWardenModel", name := "parameter", desc := "(I)V" } : Jvm.MethodName) prog_19_method_41_code (3 : Nat) (Option.none : Option Jvm.ClassFile.FieldType)) ∈ lw_all := lw_g (lw_at lw_m13 88 rfl) rfl
theorem q3258 : (Jvm.Cond.methodLink "CircuitWardenModel" (357 : Nat) ({ cls := "CircuitWardenModel", name := "width", desc := "(I)V" } : Jvm.MethodName)) ∈ lw_all := lw_g (lw_at lw_m13 89 rfl) rfl
theorem q3259 : (Jvm.Cond.privateMethod ({ cls := "CircuitWardenModel", name := "width", desc := "(I)V" } : Jvm.MethodName)) ∈ lw_tbl := lw_at lw_m13 90 rfl
theorem q3260 : (Jvm.Cond.instanceMethod ({ cls := "CircuitWardenModel", name := "width", desc := "(I)V" } : Jvm.MethodName)) ∈ lw_all := lw_g (lw_at lw_m13 91 rfl) rfl
theorem q3261 : (Jvm.Cond.code ({ cls := "CircuitWardenModel", name := "width", desc := "(I)V" } : Jvm.MethodName) prog_19_method_37_code (2 : Nat) (Option.none : Option Jvm.ClassFile.FieldType)) ∈ lw_all := lw_g (lw_at lw_m13 92 rfl) rfl
theorem q3262 : (Jvm.Cond.methodLink "CircuitWardenModel" (342 : Nat) ({ cls := "CircuitWardenModel", name := "label", desc := "(I)I" } : Jvm.MethodName)) ∈ lw_all := lw_g (lw_at lw_m13 93 rfl) rfl
theorem q3263 : (Jvm.Cond.privateMethod ({ cls := "CircuitWardenModel", name := "label", desc := "(I)I" } : Jvm.MethodName)) ∈ lw_tbl := lw_at lw_m13 94 rfl
theorem q3264 : (Jvm.Cond.instanceMethod ({ cls := "CircuitWardenModel", name := "label", desc := "(I)I" } : Jvm.MethodName)) ∈ lw_all := lw_g (lw_at lw_m13 95 rfl) rfl
theorem q3265 : (Jvm.Cond.code ({ cls := "CircuitWardenModel", name := "label", desc := "(I)I" } : Jvm.MethodName) prog_19_method_34_code (4 : Nat) (Option.some Jvm.ClassFile.FieldType.int)) ∈ lw_all := lw_g (lw_at lw_m13 96 rfl) rfl
theorem q3266 : (Jvm.Cond.methodLink "CircuitWardenModel" (557 : Nat) ({ cls := "CircuitWardenModel", name := "keep", desc := "(I)V" } : Jvm.MethodName)) ∈ lw_all := lw_g (lw_at lw_m13 97 rfl) rfl
theorem q3267 : (Jvm.Cond.privateMethod ({ cls := "CircuitWardenModel", name := "keep", desc := "(I)V" } : Jvm.MethodName)) ∈ lw_tbl := lw_at lw_m13 98 rfl
theorem q3268 : (Jvm.Cond.instanceMethod ({ cls := "CircuitWardenModel", name := "keep", desc := "(I)V" } : Jvm.MethodName)) ∈ lw_all := lw_g (lw_at lw_m13 99 rfl) rfl
theorem q3269 : (Jvm.Cond.code ({ cls := "CircuitWardenModel", name := "keep", desc := "(I)V" } : Jvm.MethodName) prog_19_method_43_code (6 : Nat) (Option.none : Option Jvm.ClassFile.FieldType)) ∈ lw_all := lw_g (lw_at lw_m13 100 rfl) rfl
theorem q3270 : (Jvm.Cond.methodLink "CircuitWardenModel" (370 : Nat) ({ cls := "CircuitWardenModel", name := "nameOf", desc := "(I)I" } : Jvm.MethodName)) ∈ lw_all := lw_g (lw_at lw_m13 101 rfl) rfl
theorem q3271 : (Jvm.Cond.privateMethod ({ cls := "CircuitWardenModel", name := "nameOf", desc := "(I)I" } : Jvm.MethodName)) ∈ lw_tbl := lw_at lw_m13 102 rfl
theorem q3272 : (Jvm.Cond.instanceMethod ({ cls := "CircuitWardenModel", name := "nameOf", desc := "(I)I" } : Jvm.MethodName)) ∈ lw_all := lw_g (lw_at lw_m13 103 rfl) rfl
theorem q3273 : (Jvm.Cond.code ({ cls := "CircuitWardenModel", name := "nameOf", desc := "(I)I" } : Jvm.MethodName) prog_19_method_42_code (5 : Nat) (Option.some Jvm.ClassFile.FieldType.int)) ∈ lw_all := lw_g (lw_at lw_m13 104 rfl) rfl
theorem q3274 : (Jvm.Cond.methodLink "CircuitWardenModel" (366 : Nat) ({ cls := "CircuitWardenModel", name := "room", desc := "([II)[I" } : Jvm.MethodName)) ∈ lw_all := lw_g (lw_at lw_m13 105 rfl) rfl
theorem q3275 : (Jvm.Cond.static ({ cls := "CircuitWardenModel", name := "room", desc := "([II)[I" } : Jvm.MethodName)) ∈ lw_all := lw_g (lw_at lw_m13 106 rfl) rfl
theorem q3276 : (Jvm.Cond.code ({ cls := "CircuitWardenModel", name := "room", desc := "([II)[I" } : Jvm.MethodName) prog_19_method_2_code (3 : Nat) (Option.some (Jvm.ClassFile.FieldType.array Jvm.ClassFile.FieldType.int))) ∈ lw_all := lw_g (lw_at lw_m13 107 rfl) rfl
theorem q3277 : (Jvm.Cond.methodLink "CircuitWardenModel" (210 : Nat) ({ cls := "java/lang/System", name := "arraycopy", desc := "(Ljava/lang/Object;ILjava/lang/Object;II)V" } : Jvm.MethodName)) ∈ lw_all := lw_g (lw_at lw_m13 108 rfl) rfl
theorem q3278 : (Jvm.Cond.methodLink "CircuitWardenModel" (563 : Nat) ({ cls := "CircuitWardenModel", name := "lookAll", desc := "()V" } : Jvm.MethodName)) ∈ lw_all := lw_g (lw_at lw_m13 109 rfl) rfl
theorem q3279 : (Jvm.Cond.privateMethod ({ cls := "CircuitWardenModel", name := "lookAll", desc := "()V" } : Jvm.MethodName)) ∈ lw_tbl := lw_at lw_m13 110 rfl
theorem q3280 : (Jvm.Cond.instanceMethod ({ cls := "CircuitWardenModel", name := "lookAll", desc := "()V" } : Jvm.MethodName)) ∈ lw_all := lw_g (lw_at lw_m13 111 rfl) rfl
theorem q3281 : (Jvm.Cond.code ({ cls := "CircuitWardenModel", name := "lookAll", desc := "()V" } : Jvm.MethodName) prog_19_method_80_code (2 : Nat) (Option.none : Option Jvm.ClassFile.FieldType)) ∈ lw_all := lw_g (lw_at lw_m13 112 rfl) rfl
theorem q3282 : (Jvm.Cond.methodLink "CircuitWardenModel" (394 : Nat) ({ cls := "CircuitWardenModel", name := "isWrong", desc := "()Z" } : Jvm.MethodName)) ∈ lw_all := lw_g (lw_at lw_m13 113 rfl) rfl
theorem q3283 : (Jvm.Cond.privateMethod ({ cls := "CircuitWardenModel", name := "isWrong", desc := "()Z" } : Jvm.MethodName)) ∈ lw_tbl := lw_at lw_m13 114 rfl
theorem q3284 : (Jvm.Cond.instanceMethod ({ cls := "CircuitWardenModel", name := "isWrong", desc := "()Z" } : Jvm.MethodName)) ∈ lw_all := lw_g (lw_at lw_m13 115 rfl) rfl
theorem q3285 : (Jvm.Cond.code ({ cls := "CircuitWardenModel", name := "isWrong", desc := "()Z" } : Jvm.MethodName) prog_19_method_47_code (1 : Nat) (Option.some Jvm.ClassFile.FieldType.boolean)) ∈ lw_all := lw_g (lw_at lw_m13 116 rfl) rfl
theorem q3286 : (Jvm.Cond.methodLink "CircuitWardenModel" (519 : Nat) ({ cls := "CircuitWardenModel", name := "lookItem", desc := "(I)V" } : Jvm.MethodName)) ∈ lw_all := lw_g (lw_at lw_m13 117 rfl) rfl
theorem q3287 : (Jvm.Cond.privateMethod ({ cls := "CircuitWardenModel", name := "lookItem", desc := "(I)V" } : Jvm.MethodName)) ∈ lw_tbl := lw_at lw_m13 118 rfl
theorem q3288 : (Jvm.Cond.instanceMethod ({ cls := "CircuitWardenModel", name := "lookItem", desc := "(I)V" } : Jvm.MethodName)) ∈ lw_all := lw_g (lw_at lw_m13 119 rfl) rfl
theorem q3289 : (Jvm.Cond.code ({ cls := "CircuitWardenModel", name := "lookItem", desc := "(I)V" } : Jvm.MethodName) prog_19_method_74_code (3 : Nat) (Option.none : Option Jvm.ClassFile.FieldType)) ∈ lw_all := lw_g (lw_at lw_m13 120 rfl) rfl
theorem q3290 : (Jvm.Cond.methodLink "CircuitWardenModel" (391 : Nat) ({ cls := "CircuitWardenModel", name := "wrong", desc := "(II)Z" } : Jvm.MethodName)) ∈ lw_all := lw_g (lw_at lw_m13 121 rfl) rfl
theorem q3291 : (Jvm.Cond.privateMethod ({ cls := "CircuitWardenModel", name := "wrong", desc := "(II)Z" } : Jvm.MethodName)) ∈ lw_tbl := lw_at lw_m13 122 rfl
theorem q3292 : (Jvm.Cond.instanceMethod ({ cls := "CircuitWardenModel", name := "wrong", desc := "(II)Z" } : Jvm.MethodName)) ∈ lw_all := lw_g (lw_at lw_m13 123 rfl) rfl
theorem q3293 : (Jvm.Cond.code ({ cls := "CircuitWardenModel", name := "wrong", desc := "(II)Z" } : Jvm.MethodName) prog_19_method_46_code (3 : Nat) (Option.some Jvm.ClassFile.FieldType.boolean)) ∈ lw_all := lw_g (lw_at lw_m13 124 rfl) rfl
theorem q3294 : (Jvm.Cond.methodLink "CircuitWardenModel" (490 : Nat) ({ cls := "CircuitWardenModel", name := "lookBlock", desc := "(I)V" } : Jvm.MethodName)) ∈ lw_all := lw_g (lw_at lw_m13 125 rfl) rfl
theorem q3295 : (Jvm.Cond.privateMethod ({ cls := "CircuitWardenModel", name := "lookBlock", desc := "(I)V" } : Jvm.MethodName)) ∈ lw_tbl := lw_at lw_m13 126 rfl
theorem q3296 : (Jvm.Cond.instanceMethod ({ cls := "CircuitWardenModel", name := "lookBlock", desc := "(I)V" } : Jvm.MethodName)) ∈ lw_all := lw_g (lw_at lw_m13 127 rfl) rfl
theorem q3297 : (Jvm.Cond.code ({ cls := "CircuitWardenModel", name := "lookBlock", desc := "(I)V" } : Jvm.MethodName) prog_19_method_78_code (5 : Nat) (Option.none : Option Jvm.ClassFile.FieldType)) ∈ lw_all := lw_g (lw_at lw_m13 128 rfl) rfl
theorem q3298 : (Jvm.Cond.methodLink "CircuitWardenModel" (373 : Nat) ({ cls := "CircuitWardenModel", name := "behind", desc := "(I)I" } : Jvm.MethodName)) ∈ lw_all := lw_g (lw_at lw_m13 129 rfl) rfl
theorem q3299 : (Jvm.Cond.privateMethod ({ cls := "CircuitWardenModel", name := "behind", desc := "(I)I" } : Jvm.MethodName)) ∈ lw_tbl := lw_at lw_m13 130 rfl
theorem q3300 : (Jvm.Cond.instanceMethod ({ cls := "CircuitWardenModel", name := "behind", desc := "(I)I" } : Jvm.MethodName)) ∈ lw_all := lw_g (lw_at lw_m13 131 rfl) rfl
theorem q3301 : (Jvm.Cond.code ({ cls := "CircuitWardenModel", name := "behind", desc := "(I)I" } : Jvm.MethodName) prog_19_method_44_code (2 : Nat) (Option.some Jvm.ClassFile.FieldType.int)) ∈ lw_all := lw_g (lw_at lw_m13 132 rfl) rfl
theorem q3302 : (Jvm.Cond.methodLink "CircuitWardenModel" (516 : Nat) ({ cls := "CircuitWardenModel", name := "lookPut", desc := "(I)V" } : Jvm.MethodName)) ∈ lw_all := lw_g (lw_at lw_m13 133 rfl) rfl
theorem q3303 : (Jvm.Cond.privateMethod ({ cls := "CircuitWardenModel", name := "lookPut", desc := "(I)V" } : Jvm.MethodName)) ∈ lw_tbl := lw_at lw_m13 134 rfl
theorem q3304 : (Jvm.Cond.instanceMethod ({ cls := "CircuitWardenModel", name := "lookPut", desc := "(I)V" } : Jvm.MethodName)) ∈ lw_all := lw_g (lw_at lw_m13 135 rfl) rfl
theorem q3305 : (Jvm.Cond.code ({ cls := "CircuitWardenModel", name := "lookPut", desc := "(I)V" } : Jvm.MethodName) prog_19_method_79_code (3 : Nat) (Option.none : Option Jvm.ClassFile.FieldType)) ∈ lw_all := lw_g (lw_at lw_m13 136 rfl) rfl
theorem q3306 : (Jvm.Cond.methodLink "CircuitWardenModel" (406 : Nat) ({ cls := "CircuitWardenModel", name := "means", desc := "(II)Z" } : Jvm.MethodName)) ∈ lw_all := lw_g (lw_at lw_m13 137 rfl) rfl
theorem q3307 : (Jvm.Cond.privateMethod ({ cls := "CircuitWardenModel", name := "means", desc := "(II)Z" } : Jvm.MethodName)) ∈ lw_tbl := lw_at lw_m13 138 rfl
theorem q3308 : (Jvm.Cond.instanceMethod ({ cls := "CircuitWardenModel", name := "means", desc := "(II)Z" } : Jvm.MethodName)) ∈ lw_all := lw_g (lw_at lw_m13 139 rfl) rfl
theorem q3309 : (Jvm.Cond.code ({ cls := "CircuitWardenModel", name := "means", desc := "(II)Z" } : Jvm.MethodName) prog_19_method_51_code (4 : Nat) (Option.some Jvm.ClassFile.FieldType.boolean)) ∈ lw_all := lw_g (lw_at lw_m13 140 rfl) rfl
theorem q3310 : (Jvm.Cond.methodLink "CircuitWardenModel" (388 : Nat) ({ cls := "CircuitWardenModel", name := "limit", desc := "()I" } : Jvm.MethodName)) ∈ lw_all := lw_g (lw_at lw_m13 141 rfl) rfl
theorem q3311 : (Jvm.Cond.privateMethod ({ cls := "CircuitWardenModel", name := "limit", desc := "()I" } : Jvm.MethodName)) ∈ lw_tbl := lw_at lw_m13 142 rfl
theorem q3312 : (Jvm.Cond.instanceMethod ({ cls := "CircuitWardenModel", name := "limit", desc := "()I" } : Jvm.MethodName)) ∈ lw_all := lw_g (lw_at lw_m13 143 rfl) rfl
theorem q3313 : (Jvm.Cond.code ({ cls := "CircuitWardenModel", name := "limit", desc := "()I" } : Jvm.MethodName) prog_19_method_50_code (1 : Nat) (Option.some Jvm.ClassFile.FieldType.int)) ∈ lw_all := lw_g (lw_at lw_m13 144 rfl) rfl
theorem q3314 : (Jvm.Cond.methodLink "CircuitWardenModel" (418 : Nat) ({ cls := "CircuitWardenModel", name := "second", desc := "(I)I" } : Jvm.MethodName)) ∈ lw_all := lw_g (lw_at lw_m13 145 rfl) rfl
theorem q3315 : (Jvm.Cond.privateMethod ({ cls := "CircuitWardenModel", name := "second", desc := "(I)I" } : Jvm.MethodName)) ∈ lw_tbl := lw_at lw_m13 146 rfl
theorem q3316 : (Jvm.Cond.instanceMethod ({ cls := "CircuitWardenModel", name := "second", desc := "(I)I" } : Jvm.MethodName)) ∈ lw_all := lw_g (lw_at lw_m13 147 rfl) rfl
theorem q3317 : (Jvm.Cond.code ({ cls := "CircuitWardenModel", name := "second", desc := "(I)I" } : Jvm.MethodName) prog_19_method_45_code (2 : Nat) (Option.some Jvm.ClassFile.FieldType.int)) ∈ lw_all := lw_g (lw_at lw_m13 148 rfl) rfl
theorem q3318 : (Jvm.Cond.methodLink "CircuitWardenModel" (437 : Nat) ({ cls := "CircuitWardenModel", name := "widthOf", desc := "(II)I" } : Jvm.MethodName)) ∈ lw_all := lw_g (lw_at lw_m13 149 rfl) rfl
theorem q3319 : (Jvm.Cond.privateMethod ({ cls := "CircuitWardenModel", name := "widthOf", desc := "(II)I" } : Jvm.MethodName)) ∈ lw_tbl := lw_at lw_m13 150 rfl
theorem q3320 : (Jvm.Cond.instanceMethod ({ cls := "CircuitWardenModel", name := "widthOf", desc := "(II)I" } : Jvm.MethodName)) ∈ lw_all := lw_g (lw_at lw_m13 151 rfl) rfl
theorem q3321 : (Jvm.Cond.code ({ cls := "CircuitWardenModel", name := "widthOf", desc := "(II)I" } : Jvm.MethodName) prog_19_method_57_code (4 : Nat) (Option.some Jvm.ClassFile.FieldType.int)) ∈ lw_all := lw_g (lw_at lw_m13 152 rfl) rfl
theorem q3322 : (Jvm.Cond.methodLink "CircuitWardenModel" (403 : Nat) ({ cls := "CircuitWardenModel", name := "parameterOf", desc := "(I)I" } : Jvm.MethodName)) ∈ lw_all := lw_g (lw_at lw_m13 153 rfl) rfl
theorem q3323 : (Jvm.Cond.privateMethod ({ cls := "CircuitWardenModel", name := "parameterOf", desc := "(I)I" } : Jvm.MethodName)) ∈ lw_tbl := lw_at lw_m13 154 rfl
theorem q3324 : (Jvm.Cond.instanceMethod ({ cls := "CircuitWardenModel", name := "parameterOf", desc := "(I)I" } : Jvm.MethodName)) ∈ lw_all := lw_g (lw_at lw_m13 155 rfl) rfl
theorem q3325 : (Jvm.Cond.code ({ cls := "CircuitWardenModel", name := "parameterOf", desc := "(I)I" } : Jvm.MethodName) prog_19_method_49_code (4 : Nat) (Option.some Jvm.ClassFile.FieldType.int)) ∈ lw_all := lw_g (lw_at lw_m13 156 rfl) rfl
theorem q3326 : (Jvm.Cond.methodLink "CircuitWardenModel" (397 : Nat) ({ cls := "CircuitWardenModel", name := "constantOf", desc := "(I)I" } : Jvm.MethodName)) ∈ lw_all := lw_g (lw_at lw_m13 157 rfl) rfl
theorem q3327 : (Jvm.Cond.privateMethod ({ cls := "CircuitWardenModel", name := "constantOf", desc := "(I)I" } : Jvm.MethodName)) ∈ lw_tbl := lw_at lw_m13 158 rfl
theorem q3328 : (Jvm.Cond.instanceMethod ({ cls := "CircuitWardenModel", name := "constantOf", desc := "(I)I" } : Jvm.MethodName)) ∈ lw_all := lw_g (lw_at lw_m13 159 rfl) rfl
theorem q3329 : (Jvm.Cond.code ({ cls := "CircuitWardenModel", name := "constantOf", desc := "(I)I" } : Jvm.MethodName) prog_19_method_48_code (5 : Nat) (Option.some Jvm.ClassFile.FieldType.int)) ∈ lw_all := lw_g (lw_at lw_m13 160 rfl) rfl
theorem q3330 : (Jvm.Cond.methodLink "CircuitWardenModel" (426 : Nat) ({ cls := "CircuitWardenModel", name := "rowWidth", desc := "(II)I" } : Jvm.MethodName)) ∈ lw_all := lw_g (lw_at lw_m13 161 rfl) rfl
theorem q3331 : (Jvm.Cond.privateMethod ({ cls := "CircuitWardenModel", name := "rowWidth", desc := "(II)I" } : Jvm.MethodName)) ∈ lw_tbl := lw_at lw_m13 162 rfl
theorem q3332 : (Jvm.Cond.instanceMethod ({ cls := "CircuitWardenModel", name := "rowWidth", desc := "(II)I" } : Jvm.MethodName)) ∈ lw_all := lw_g (lw_at lw_m13 163 rfl) rfl
theorem q3333 : (Jvm.Cond.code ({ cls := "CircuitWardenModel", name := "rowWidth", desc := "(II)I" } : Jvm.MethodName) prog_19_method_58_code (8 : Nat) (Option.some Jvm.ClassFile.FieldType.int)) ∈ lw_all := lw_g (lw_at lw_m13 164 rfl) rfl
theorem q3334 : (Jvm.Cond.methodLink "CircuitWardenModel" (432 : Nat) ({ cls := "CircuitWardenModel", name := "looks", desc := "(II)Z" } : Jvm.MethodName)) ∈ lw_all := lw_g (lw_at lw_m13 165 rfl) rfl
theorem q3335 : (Jvm.Cond.privateMethod ({ cls := "CircuitWardenModel", name := "looks", desc := "(II)Z" } : Jvm.MethodName)) ∈ lw_tbl := lw_at lw_m13 166 rfl
theorem q3336 : (Jvm.Cond.instanceMethod ({ cls := "CircuitWardenModel", name := "looks", desc := "(II)Z" } : Jvm.MethodName)) ∈ lw_all := lw_g (lw_at lw_m13 167 rfl) rfl
theorem q3337 : (Jvm.Cond.code ({ cls := "CircuitWardenModel", name := "looks", desc := "(II)Z" } : Jvm.MethodName) prog_19_method_56_code (3 : Nat) (Option.some Jvm.ClassFile.FieldType.boolean)) ∈ lw_all := lw_g (lw_at lw_m13 168 rfl) rfl
theorem q3338 : (Jvm.Cond.methodLink "CircuitWardenModel" (429 : Nat) ({ cls := "CircuitWardenModel", name := "choiceWidth", desc := "(II)I" } : Jvm.MethodName)) ∈ lw_all := lw_g (lw_at lw_m13 169 rfl) rfl
theorem q3339 : (Jvm.Cond.privateMethod ({ cls := "CircuitWardenModel", name := "choiceWidth", desc := "(II)I" } : Jvm.MethodName)) ∈ lw_tbl := lw_at lw_m13 170 rfl
theorem q3340 : (Jvm.Cond.instanceMethod ({ cls := "CircuitWardenModel", name := "choiceWidth", desc := "(II)I" } : Jvm.MethodName)) ∈ lw_all := lw_g (lw_at lw_m13 171 rfl) rfl
theorem q3341 : (Jvm.Cond.code ({ cls := "CircuitWardenModel", name := "choiceWidth", desc := "(II)I" } : Jvm.MethodName) prog_19_method_59_code (6 : Nat) (Option.some Jvm.ClassFile.FieldType.int)) ∈ lw_all := lw_g (lw_at lw_m13 172 rfl) rfl
theorem q3342 : (Jvm.Cond.methodLink "CircuitWardenModel" (434 : Nat) ({ cls := "CircuitWardenModel", name := "unaryWidth", desc := "(II)I" } : Jvm.MethodName)) ∈ lw_all := lw_g (lw_at lw_m13 173 rfl) rfl
theorem q3343 : (Jvm.Cond.privateMethod ({ cls := "CircuitWardenModel", name := "unaryWidth", desc := "(II)I" } : Jvm.MethodName)) ∈ lw_tbl := lw_at lw_m13 174 rfl
theorem q3344 : (Jvm.Cond.instanceMethod ({ cls := "CircuitWardenModel", name := "unaryWidth", desc := "(II)I" } : Jvm.MethodName)) ∈ lw_all := lw_g (lw_at lw_m13 175 rfl) rfl
theorem q3345 : (Jvm.Cond.code ({ cls := "CircuitWardenModel", name := "unaryWidth", desc := "(II)I" } : Jvm.MethodName) prog_19_method_60_code (6 : Nat) (Option.some Jvm.ClassFile.FieldType.int)) ∈ lw_all := lw_g (lw_at lw_m13 176 rfl) rfl
theorem q3346 : (Jvm.Cond.methodLink "CircuitWardenModel" (440 : Nat) ({ cls := "CircuitWardenModel", name := "bitsWidth", desc := "(I)I" } : Jvm.MethodName)) ∈ lw_all := lw_g (lw_at lw_m13 177 rfl) rfl
theorem q3347 : (Jvm.Cond.privateMethod ({ cls := "CircuitWardenModel", name := "bitsWidth", desc := "(I)I" } : Jvm.MethodName)) ∈ lw_tbl := lw_at lw_m13 178 rfl
theorem q3348 : (Jvm.Cond.instanceMethod ({ cls := "CircuitWardenModel", name := "bitsWidth", desc := "(I)I" } : Jvm.MethodName)) ∈ lw_all := lw_g (lw_at lw_m13 179 rfl) rfl
theorem q3349 : (Jvm.Cond.code ({ cls := "CircuitWardenModel", name := "bitsWidth", desc := "(I)I" } : Jvm.MethodName) prog_19_method_61_code (6 : Nat) (Option.some Jvm.ClassFile.FieldType.int)) ∈ lw_all := lw_g (lw_at lw_m13 180 rfl) rfl
theorem q3350 : (Jvm.Cond.methodLink "CircuitWardenModel" (415 : Nat) ({ cls := "CircuitWardenModel", name := "sumOf", desc := "(I)I" } : Jvm.MethodName)) ∈ lw_all := lw_g (lw_at lw_m13 181 rfl) rfl
theorem q3351 : (Jvm.Cond.privateMethod ({ cls := "CircuitWardenModel", name := "sumOf", desc := "(I)I" } : Jvm.MethodName)) ∈ lw_tbl := lw_at lw_m13 182 rfl
theorem q3352 : (Jvm.Cond.instanceMethod ({ cls := "CircuitWardenModel", name := "sumOf", desc := "(I)I" } : Jvm.MethodName)) ∈ lw_all := lw_g (lw_at lw_m13 183 rfl) rfl
theorem q3353 : (Jvm.Cond.code ({ cls := "CircuitWardenModel", name := "sumOf", desc := "(I)I" } : Jvm.MethodName) prog_19_method_52_code (3 : Nat) (Option.some Jvm.ClassFile.FieldType.int)) ∈ lw_all := lw_g (lw_at lw_m13 184 rfl) rfl
theorem q3354 : (Jvm.Cond.methodLink "CircuitWardenModel" (412 : Nat) ({ cls := "CircuitWardenModel", name := "sumAnew", desc := "(I)I" } : Jvm.MethodName)) ∈ lw_all := lw_g (lw_at lw_m13 185 rfl) rfl
theorem q3355 : (Jvm.Cond.privateMethod ({ cls := "CircuitWardenModel", name := "sumAnew", desc := "(I)I" } : Jvm.MethodName)) ∈ lw_tbl := lw_at lw_m13 186 rfl
theorem q3356 : (Jvm.Cond.instanceMethod ({ cls := "CircuitWardenModel", name := "sumAnew", desc := "(I)I" } : Jvm.MethodName)) ∈ lw_all := lw_g (lw_at lw_m13 187 rfl) rfl
theorem q3357 : (Jvm.Cond.code ({ cls := "CircuitWardenModel", name := "sumAnew", desc := "(I)I" } : Jvm.MethodName) prog_19_method_53_code (9 : Nat) (Option.some Jvm.ClassFile.FieldType.int)) ∈ lw_all := lw_g (lw_at lw_m13 188 rfl) rfl
theorem q3358 : (Jvm.Cond.constantLong "CircuitWardenModel" (421 : Nat) (-2147483648 : Int64)) ∈ lw_all := lw_g (lw_at lw_m13 189 rfl) rfl
theorem q3359 : (Jvm.Cond.methodLink "CircuitWardenModel" (443 : Nat) ({ cls := "CircuitWardenModel", name := "callWidth", desc := "(II)I" } : Jvm.MethodName)) ∈ lw_all := lw_g (lw_at lw_m13 190 rfl) rfl
theorem q3360 : (Jvm.Cond.privateMethod ({ cls := "CircuitWardenModel", name := "callWidth", desc := "(II)I" } : Jvm.MethodName)) ∈ lw_tbl := lw_at lw_m13 191 rfl
theorem q3361 : (Jvm.Cond.instanceMethod ({ cls := "CircuitWardenModel", name := "callWidth", desc := "(II)I" } : Jvm.MethodName)) ∈ lw_all := lw_g (lw_at lw_m13 192 rfl) rfl
theorem q3362 : (Jvm.Cond.code ({ cls := "CircuitWardenModel", name := "callWidth", desc := "(II)I" } : Jvm.MethodName) prog_19_method_69_code (12 : Nat) (Option.some Jvm.ClassFile.FieldType.int)) ∈ lw_all := lw_g (lw_at lw_m13 193 rfl) rfl
theorem q3363 : (Jvm.Cond.methodLink "CircuitWardenModel" (461 : Nat) ({ cls := "CircuitWardenModel", name := "countOf", desc := "(II)I" } : Jvm.MethodName)) ∈ lw_all := lw_g (lw_at lw_m13 194 rfl) rfl
theorem q3364 : (Jvm.Cond.privateMethod ({ cls := "CircuitWardenModel", name := "countOf", desc := "(II)I" } : Jvm.MethodName)) ∈ lw_tbl := lw_at lw_m13 195 rfl
theorem q3365 : (Jvm.Cond.instanceMethod ({ cls := "CircuitWardenModel", name := "countOf", desc := "(II)I" } : Jvm.MethodName)) ∈ lw_all := lw_g (lw_at lw_m13 196 rfl) rfl
theorem q3366 : (Jvm.Cond.code ({ cls := "CircuitWardenModel", name := "countOf", desc := "(II)I" } : Jvm.MethodName) prog_19_method_62_code (5 : Nat) (Option.some Jvm.ClassFile.FieldType.int)) ∈ lw_all := lw_g (lw_at lw_m13 197 rfl) rfl
theorem q3367 : (Jvm.Cond.methodLink "CircuitWardenModel" (464 : Nat) ({ cls := "CircuitWardenModel", name := "parameters", desc := "(I)I" } : Jvm.MethodName)) ∈ lw_all := lw_g (lw_at lw_m13 198 rfl) rfl
theorem q3368 : (Jvm.Cond.privateMethod ({ cls := "CircuitWardenModel", name := "parameters", desc := "(I)I" } : Jvm.MethodName)) ∈ lw_tbl := lw_at lw_m13 199 rfl
theorem q3369 : (Jvm.Cond.instanceMethod ({ cls := "CircuitWardenModel", name := "parameters", desc := "(I)I" } : Jvm.MethodName)) ∈ lw_all := lw_g (lw_at lw_m13 200 rfl) rfl
theorem q3370 : (Jvm.Cond.code ({ cls := "CircuitWardenModel", name := "parameters", desc := "(I)I" } : Jvm.MethodName) prog_19_method_64_code (4 : Nat) (Option.some Jvm.ClassFile.FieldType.int)) ∈ lw_all := lw_g (lw_at lw_m13 201 rfl) rfl
theorem q3371 : (Jvm.Cond.methodLink "CircuitWardenModel" (452 : Nat) ({ cls := "CircuitWardenModel", name := "firstParameter", desc := "(I)I" } : Jvm.MethodName)) ∈ lw_all := lw_g (lw_at lw_m13 202 rfl) rfl
theorem q3372 : (Jvm.Cond.privateMethod ({ cls := "CircuitWardenModel", name := "firstParameter", desc := "(I)I" } : Jvm.MethodName)) ∈ lw_tbl := lw_at lw_m13 203 rfl
theorem q3373 : (Jvm.Cond.instanceMethod ({ cls := "CircuitWardenModel", name := "firstParameter", desc := "(I)I" } : Jvm.MethodName)) ∈ lw_all := lw_g (lw_at lw_m13 204 rfl) rfl
theorem q3374 : (Jvm.Cond.code ({ cls := "CircuitWardenModel", name := "firstParameter", desc := "(I)I" } : Jvm.MethodName) prog_19_method_63_code (2 : Nat) (Option.some Jvm.ClassFile.FieldType.int)) ∈ lw_all := lw_g (lw_at lw_m13 205 rfl) rfl
theorem q3375 : (Jvm.Cond.methodLink "CircuitWardenModel" (467 : Nat) ({ cls := "CircuitWardenModel", name := "pushConst", desc := "(I)V" } : Jvm.MethodName)) ∈ lw_all := lw_g (lw_at lw_m13 206 rfl) rfl
theorem q3376 : (Jvm.Cond.privateMethod ({ cls := "CircuitWardenModel", name := "pushConst", desc := "(I)V" } : Jvm.MethodName)) ∈ lw_tbl := lw_at lw_m13 207 rfl
theorem q3377 : (Jvm.Cond.instanceMethod ({ cls := "CircuitWardenModel", name := "pushConst", desc := "(I)V" } : Jvm.MethodName)) ∈ lw_all := lw_g (lw_at lw_m13 208 rfl) rfl
theorem q3378 : (Jvm.Cond.code ({ cls := "CircuitWardenModel", name := "pushConst", desc := "(I)V" } : Jvm.MethodName) prog_19_method_67_code (2 : Nat) (Option.none : Option Jvm.ClassFile.FieldType)) ∈ lw_all := lw_g (lw_at lw_m13 209 rfl) rfl
theorem q3379 : (Jvm.Cond.methodLink "CircuitWardenModel" (470 : Nat) ({ cls := "CircuitWardenModel", name := "pushGiven", desc := "(IJ)V" } : Jvm.MethodName)) ∈ lw_all := lw_g (lw_at lw_m13 210 rfl) rfl
theorem q3380 : (Jvm.Cond.privateMethod ({ cls := "CircuitWardenModel", name := "pushGiven", desc := "(IJ)V" } : Jvm.MethodName)) ∈ lw_tbl := lw_at lw_m13 211 rfl
theorem q3381 : (Jvm.Cond.instanceMethod ({ cls := "CircuitWardenModel", name := "pushGiven", desc := "(IJ)V" } : Jvm.MethodName)) ∈ lw_all := lw_g (lw_at lw_m13 212 rfl) rfl
theorem q3382 : (Jvm.Cond.code ({ cls := "CircuitWardenModel", name := "pushGiven", desc := "(IJ)V" } : Jvm.MethodName) prog_19_method_68_code (5 : Nat) (Option.none : Option Jvm.ClassFile.FieldType)) ∈ lw_all := lw_g (lw_at lw_m13 213 rfl) rfl
theorem q3383 : (Jvm.Cond.methodLink "CircuitWardenModel" (474 : Nat) ({ cls := "CircuitWardenModel", name := "enter", desc := "(III)V" } : Jvm.MethodName)) ∈ lw_all := lw_g (lw_at lw_m13 214 rfl) rfl
theorem q3384 : (Jvm.Cond.privateMethod ({ cls := "CircuitWardenModel", name := "enter", desc := "(III)V" } : Jvm.MethodName)) ∈ lw_tbl := lw_at lw_m13 215 rfl
theorem q3385 : (Jvm.Cond.instanceMethod ({ cls := "CircuitWardenModel", name := "enter", desc := "(III)V" } : Jvm.MethodName)) ∈ lw_all := lw_g (lw_at lw_m13 216 rfl) rfl
theorem q3386 : (Jvm.Cond.code ({ cls := "CircuitWardenModel", name := "enter", desc := "(III)V" } : Jvm.MethodName) prog_19_method_66_code (4 : Nat) (Option.none : Option Jvm.ClassFile.FieldType)) ∈ lw_all := lw_g (lw_at lw_m13 217 rfl) rfl
theorem q3387 : (Jvm.Cond.methodLink "CircuitWardenModel" (446 : Nat) ({ cls := "CircuitWardenModel", name := "widthAt", desc := "(I)I" } : Jvm.MethodName)) ∈ lw_all := lw_g (lw_at lw_m13 218 rfl) rfl
theorem q3388 : (Jvm.Cond.privateMethod ({ cls := "CircuitWardenModel", name := "widthAt", desc := "(I)I" } : Jvm.MethodName)) ∈ lw_tbl := lw_at lw_m13 219 rfl
theorem q3389 : (Jvm.Cond.instanceMethod ({ cls := "CircuitWardenModel", name := "widthAt", desc := "(I)I" } : Jvm.MethodName)) ∈ lw_all := lw_g (lw_at lw_m13 220 rfl) rfl
theorem q3390 : (Jvm.Cond.code ({ cls := "CircuitWardenModel", name := "widthAt", desc := "(I)I" } : Jvm.MethodName) prog_19_method_54_code (3 : Nat) (Option.some Jvm.ClassFile.FieldType.int)) ∈ lw_all := lw_g (lw_at lw_m13 221 rfl) rfl
theorem q3391 : (Jvm.Cond.methodLink "CircuitWardenModel" (478 : Nat) ({ cls := "CircuitWardenModel", name := "widthNode", desc := "(I)I" } : Jvm.MethodName)) ∈ lw_all := lw_g (lw_at lw_m13 222 rfl) rfl
theorem q3392 : (Jvm.Cond.privateMethod ({ cls := "CircuitWardenModel", name := "widthNode", desc := "(I)I" } : Jvm.MethodName)) ∈ lw_tbl := lw_at lw_m13 223 rfl
theorem q3393 : (Jvm.Cond.instanceMethod ({ cls := "CircuitWardenModel", name := "widthNode", desc := "(I)I" } : Jvm.MethodName)) ∈ lw_all := lw_g (lw_at lw_m13 224 rfl) rfl
theorem q3394 : (Jvm.Cond.code ({ cls := "CircuitWardenModel", name := "widthNode", desc := "(I)I" } : Jvm.MethodName) prog_19_method_65_code (3 : Nat) (Option.some Jvm.ClassFile.FieldType.int)) ∈ lw_all := lw_g (lw_at lw_m13 225 rfl) rfl
theorem q3395 : (Jvm.Cond.methodLink "CircuitWardenModel" (449 : Nat) ({ cls := "CircuitWardenModel", name := "valueAt", desc := "(II)I" } : Jvm.MethodName)) ∈ lw_all := lw_g (lw_at lw_m13 226 rfl) rfl
theorem q3396 : (Jvm.Cond.privateMethod ({ cls := "CircuitWardenModel", name := "valueAt", desc := "(II)I" } : Jvm.MethodName)) ∈ lw_tbl := lw_at lw_m13 227 rfl
theorem q3397 : (Jvm.Cond.instanceMethod ({ cls := "CircuitWardenModel", name := "valueAt", desc := "(II)I" } : Jvm.MethodName)) ∈ lw_all := lw_g (lw_at lw_m13 228 rfl) rfl
theorem q3398 : (Jvm.Cond.code ({ cls := "CircuitWardenModel", name := "valueAt", desc := "(II)I" } : Jvm.MethodName) prog_19_method_55_code (4 : Nat) (Option.some Jvm.ClassFile.FieldType.int)) ∈ lw_all := lw_g (lw_at lw_m13 229 rfl) rfl
theorem q3399 : (Jvm.Cond.methodLink "CircuitWardenModel" (493 : Nat) ({ cls := "CircuitWardenModel", name := "isNew", desc := "(I)Z" } : Jvm.MethodName)) ∈ lw_all := lw_g (lw_at lw_m13 230 rfl) rfl
theorem q3400 : (Jvm.Cond.privateMethod ({ cls := "CircuitWardenModel", name := "isNew", desc := "(I)Z" } : Jvm.MethodName)) ∈ lw_tbl := lw_at lw_m13 231 rfl
theorem q3401 : (Jvm.Cond.instanceMethod ({ cls := "CircuitWardenModel", name := "isNew", desc := "(I)Z" } : Jvm.MethodName)) ∈ lw_all := lw_g (lw_at lw_m13 232 rfl) rfl
theorem q3402 : (Jvm.Cond.code ({ cls := "CircuitWardenModel", name := "isNew", desc := "(I)Z" } : Jvm.MethodName) prog_19_method_70_code (2 : Nat) (Option.some Jvm.ClassFile.FieldType.boolean)) ∈ lw_all := lw_g (lw_at lw_m13 233 rfl) rfl
theorem q3403 : (Jvm.Cond.methodLink "CircuitWardenModel" (496 : Nat) ({ cls := "CircuitWardenModel", name := "level", desc := "(I)V" } : Jvm.MethodName)) ∈ lw_all := lw_g (lw_at lw_m13 234 rfl) rfl
theorem q3404 : (Jvm.Cond.privateMethod ({ cls := "CircuitWardenModel", name := "level", desc := "(I)V" } : Jvm.MethodName)) ∈ lw_tbl := lw_at lw_m13 235 rfl
theorem q3405 : (Jvm.Cond.instanceMethod ({ cls := "CircuitWardenModel", name := "level", desc := "(I)V" } : Jvm.MethodName)) ∈ lw_all := lw_g (lw_at lw_m13 236 rfl) rfl
theorem q3406 : (Jvm.Cond.code ({ cls := "CircuitWardenModel", name := "level", desc := "(I)V" } : Jvm.MethodName) prog_19_method_75_code (4 : Nat) (Option.none : Option Jvm.ClassFile.FieldType)) ∈ lw_all := lw_g (lw_at lw_m13 237 rfl) rfl
theorem q3407 : (Jvm.Cond.methodLink "CircuitWardenModel" (498 : Nat) ({ cls := "CircuitWardenModel", name := "define", desc := "(III)V" } : Jvm.MethodName)) ∈ lw_all := lw_g (lw_at lw_m13 238 rfl) rfl
theorem q3408 : (Jvm.Cond.privateMethod ({ cls := "CircuitWardenModel", name := "define", desc := "(III)V" } : Jvm.MethodName)) ∈ lw_tbl := lw_at lw_m13 239 rfl
theorem q3409 : (Jvm.Cond.instanceMethod ({ cls := "CircuitWardenModel", name := "define", desc := "(III)V" } : Jvm.MethodName)) ∈ lw_all := lw_g (lw_at lw_m14 0 rfl) rfl
theorem q3410 : (Jvm.Cond.code ({ cls := "CircuitWardenModel", name := "define", desc := "(III)V" } : Jvm.MethodName) prog_19_method_71_code (4 : Nat) (Option.none : Option Jvm.ClassFile.FieldType)) ∈ lw_all := lw_g (lw_at lw_m14 1 rfl) rfl
theorem q3411 : (Jvm.Cond.methodLink "CircuitWardenModel" (501 : Nat) ({ cls := "CircuitWardenModel", name := "lookFunction", desc := "(I)V" } : Jvm.MethodName)) ∈ lw_all := lw_g (lw_at lw_m14 2 rfl) rfl
theorem q3412 : (Jvm.Cond.privateMethod ({ cls := "CircuitWardenModel", name := "lookFunction", desc := "(I)V" } : Jvm.MethodName)) ∈ lw_tbl := lw_at lw_m14 3 rfl
theorem q3413 : (Jvm.Cond.instanceMethod ({ cls := "CircuitWardenModel", name := "lookFunction", desc := "(I)V" } : Jvm.MethodName)) ∈ lw_all := lw_g (lw_at lw_m14 4 rfl) rfl
theorem q3414 : (Jvm.Cond.code ({ cls := "CircuitWardenModel", name := "lookFunction", desc := "(I)V" } : Jvm.MethodName) prog_19_method_76_code (5 : Nat) (Option.none : Option Jvm.ClassFile.FieldType)) ∈ lw_all := lw_g (lw_at lw_m14 5 rfl) rfl
theorem q3415 : (Jvm.Cond.methodLink "CircuitWardenModel" (504 : Nat) ({ cls := "CircuitWardenModel", name := "signal", desc := "(I)V" } : Jvm.MethodName)) ∈ lw_all := lw_g (lw_at lw_m14 6 rfl) rfl
theorem q3416 : (Jvm.Cond.privateMethod ({ cls := "CircuitWardenModel", name := "signal", desc := "(I)V" } : Jvm.MethodName)) ∈ lw_tbl := lw_at lw_m14 7 rfl
theorem q3417 : (Jvm.Cond.instanceMethod ({ cls := "CircuitWardenModel", name := "signal", desc := "(I)V" } : Jvm.MethodName)) ∈ lw_all := lw_g (lw_at lw_m14 8 rfl) rfl
theorem q3418 : (Jvm.Cond.code ({ cls := "CircuitWardenModel", name := "signal", desc := "(I)V" } : Jvm.MethodName) prog_19_method_77_code (5 : Nat) (Option.none : Option Jvm.ClassFile.FieldType)) ∈ lw_all := lw_g (lw_at lw_m14 9 rfl) rfl
theorem q3419 : (Jvm.Cond.methodLink "CircuitWardenModel" (510 : Nat) ({ cls := "CircuitWardenModel", name := "signalsOf", desc := "(I)I" } : Jvm.MethodName)) ∈ lw_all := lw_g (lw_at lw_m14 10 rfl) rfl
theorem q3420 : (Jvm.Cond.privateMethod ({ cls := "CircuitWardenModel", name := "signalsOf", desc := "(I)I" } : Jvm.MethodName)) ∈ lw_tbl := lw_at lw_m14 11 rfl
theorem q3421 : (Jvm.Cond.instanceMethod ({ cls := "CircuitWardenModel", name := "signalsOf", desc := "(I)I" } : Jvm.MethodName)) ∈ lw_all := lw_g (lw_at lw_m14 12 rfl) rfl
theorem q3422 : (Jvm.Cond.code ({ cls := "CircuitWardenModel", name := "signalsOf", desc := "(I)I" } : Jvm.MethodName) prog_19_method_73_code (4 : Nat) (Option.some Jvm.ClassFile.FieldType.int)) ∈ lw_all := lw_g (lw_at lw_m14 13 rfl) rfl
theorem q3423 : (Jvm.Cond.methodLink "CircuitWardenModel" (481 : Nat) ({ cls := "CircuitWardenModel", name := "lookLabel", desc := "(I)V" } : Jvm.MethodName)) ∈ lw_all := lw_g (lw_at lw_m14 14 rfl) rfl
theorem q3424 : (Jvm.Cond.privateMethod ({ cls := "CircuitWardenModel", name := "lookLabel", desc := "(I)V" } : Jvm.MethodName)) ∈ lw_tbl := lw_at lw_m14 15 rfl
theorem q3425 : (Jvm.Cond.instanceMethod ({ cls := "CircuitWardenModel", name := "lookLabel", desc := "(I)V" } : Jvm.MethodName)) ∈ lw_all := lw_g (lw_at lw_m14 16 rfl) rfl
theorem q3426 : (Jvm.Cond.code ({ cls := "CircuitWardenModel", name := "lookLabel", desc := "(I)V" } : Jvm.MethodName) prog_19_method_72_code (3 : Nat) (Option.none : Option Jvm.ClassFile.FieldType)) ∈ lw_all := lw_g (lw_at lw_m14 17 rfl) rfl
theorem q3428 : (Jvm.Cond.instanceMethod ({ cls := "CircuitWardenModel", name := "told", desc := "(I)I" } : Jvm.MethodName)) ∈ lw_all := lw_g (lw_at lw_m14 19 rfl) rfl
theorem q3429 : (Jvm.Cond.selects "CircuitWardenModel" ({ cls := "CircuitWardenModel", name := "told", desc := "(I)I" } : Jvm.MethodName) ({ cls := "CircuitWardenModel", name := "told", desc := "(I)I" } : Jvm.MethodName)) ∈ lw_all := lw_g (lw_at lw_m14 20 rfl) rfl
theorem q3430 : (Jvm.Cond.code ({ cls := "CircuitWardenModel", name := "told", desc := "(I)I" } : Jvm.MethodName) prog_19_method_91_code (2 : Nat) (Option.some Jvm.ClassFile.FieldType.int)) ∈ lw_all := lw_g (lw_at lw_m14 21 rfl) rfl
theorem q3432 : (Jvm.Cond.instanceMethod ({ cls := "CircuitWardenModel", name := "count", desc := "(I)I" } : Jvm.MethodName)) ∈ lw_all := lw_g (lw_at lw_m14 23 rfl) rfl
theorem q3433 : (Jvm.Cond.selects "CircuitWardenModel" ({ cls := "CircuitWardenModel", name := "count", desc := "(I)I" } : Jvm.MethodName) ({ cls := "CircuitWardenModel", name := "count", desc := "(I)I" } : Jvm.MethodName)) ∈ lw_all := lw_g (lw_at lw_m14 24 rfl) rfl
theorem q3434 : (Jvm.Cond.code ({ cls := "CircuitWardenModel", name := "count", desc := "(I)I" } : Jvm.MethodName) prog_19_method_92_code (2 : Nat) (Option.some Jvm.ClassFile.FieldType.int)) ∈ lw_all := lw_g (lw_at lw_m14 25 rfl) rfl
theorem q3436 : (Jvm.Cond.instanceMethod ({ cls := "CircuitWardenModel", name := "item", desc := "(II)I" } : Jvm.MethodName)) ∈ lw_all := lw_g (lw_at lw_m14 27 rfl) rfl
theorem q3437 : (Jvm.Cond.selects "CircuitWardenModel" ({ cls := "CircuitWardenModel", name := "item", desc := "(II)I" } : Jvm.MethodName) ({ cls := "CircuitWardenModel", name := "item", desc := "(II)I" } : Jvm.MethodName)) ∈ lw_all := lw_g (lw_at lw_m14 28 rfl) rfl
theorem q3438 : (Jvm.Cond.code ({ cls := "CircuitWardenModel", name := "item", desc := "(II)I" } : Jvm.MethodName) prog_19_method_94_code (3 : Nat) (Option.some Jvm.ClassFile.FieldType.int)) ∈ lw_all := lw_g (lw_at lw_m14 29 rfl) rfl
theorem q3439 : (Jvm.Cond.methodLink "CircuitWardenModel" (588 : Nat) ({ cls := "CircuitWardenModel", name := "has", desc := "(I)Z" } : Jvm.MethodName)) ∈ lw_all := lw_g (lw_at lw_m14 30 rfl) rfl
theorem q3440 : (Jvm.Cond.privateMethod ({ cls := "CircuitWardenModel", name := "has", desc := "(I)Z" } : Jvm.MethodName)) ∈ lw_tbl := lw_at lw_m14 31 rfl
theorem q3441 : (Jvm.Cond.instanceMethod ({ cls := "CircuitWardenModel", name := "has", desc := "(I)Z" } : Jvm.MethodName)) ∈ lw_all := lw_g (lw_at lw_m14 32 rfl) rfl
theorem q3442 : (Jvm.Cond.code ({ cls := "CircuitWardenModel", name := "has", desc := "(I)Z" } : Jvm.MethodName) prog_19_method_93_code (2 : Nat) (Option.some Jvm.ClassFile.FieldType.boolean)) ∈ lw_all := lw_g (lw_at lw_m14 33 rfl) rfl
theorem q3444 : (Jvm.Cond.instanceMethod ({ cls := "CircuitWardenModel", name := "label", desc := "(IIZ)I" } : Jvm.MethodName)) ∈ lw_all := lw_g (lw_at lw_m14 35 rfl) rfl
theorem q3445 : (Jvm.Cond.selects "CircuitWardenModel" ({ cls := "CircuitWardenModel", name := "label", desc := "(IIZ)I" } : Jvm.MethodName) ({ cls := "CircuitWardenModel", name := "label", desc := "(IIZ)I" } : Jvm.MethodName)) ∈ lw_all := lw_g (lw_at lw_m14 36 rfl) rfl
theorem q3446 : (Jvm.Cond.code ({ cls := "CircuitWardenModel", name := "label", desc := "(IIZ)I" } : Jvm.MethodName) prog_19_method_95_code (4 : Nat) (Option.some Jvm.ClassFile.FieldType.int)) ∈ lw_all := lw_g (lw_at lw_m14 37 rfl) rfl
theorem q3447 : (Jvm.Cond.methodLink "CircuitWardenModel" (591 : Nat) ({ cls := "CircuitWardenModel$Walk", name := "label", desc := "(IIZ)I" } : Jvm.MethodName)) ∈ lw_all := lw_g (lw_at lw_m14 38 rfl) rfl
theorem q3452 : (Jvm.Cond.instanceMethod ({ cls := "CircuitWardenModel", name := "join", desc := "(II)I" } : Jvm.MethodName)) ∈ lw_all := lw_g (lw_at lw_m14 43 rfl) rfl
theorem q3453 : (Jvm.Cond.selects "CircuitWardenModel" ({ cls := "CircuitWardenModel", name := "join", desc := "(II)I" } : Jvm.MethodName) ({ cls := "CircuitWardenModel", name := "join", desc := "(II)I" } : Jvm.MethodName)) ∈ lw_all := lw_g (lw_at lw_m14 44 rfl) rfl
theorem q3454 : (Jvm.Cond.code ({ cls := "CircuitWardenModel", name := "join", desc := "(II)I" } : Jvm.MethodName) prog_19_method_96_code (3 : Nat) (Option.some Jvm.ClassFile.FieldType.int)) ∈ lw_all := lw_g (lw_at lw_m14 45 rfl) rfl
theorem q3455 : (Jvm.Cond.methodLink "CircuitWardenModel" (593 : Nat) ({ cls := "CircuitWardenModel$Walk", name := "joined", desc := "(II)I" } : Jvm.MethodName)) ∈ lw_all := lw_g (lw_at lw_m14 46 rfl) rfl
theorem q3457 : (Jvm.Cond.instanceMethod ({ cls := "CircuitWardenModel", name := "gate", desc := "(ZII)I" } : Jvm.MethodName)) ∈ lw_all := lw_g (lw_at lw_m14 48 rfl) rfl
theorem q3458 : (Jvm.Cond.selects "CircuitWardenModel" ({ cls := "CircuitWardenModel", name := "gate", desc := "(ZII)I" } : Jvm.MethodName) ({ cls := "CircuitWardenModel", name := "gate", desc := "(ZII)I" } : Jvm.MethodName)) ∈ lw_all := lw_g (lw_at lw_m14 49 rfl) rfl
theorem q3459 : (Jvm.Cond.code ({ cls := "CircuitWardenModel", name := "gate", desc := "(ZII)I" } : Jvm.MethodName) prog_19_method_97_code (5 : Nat) (Option.some Jvm.ClassFile.FieldType.int)) ∈ lw_all := lw_g (lw_at lw_m14 50 rfl) rfl
theorem q3461 : (Jvm.Cond.instanceMethod ({ cls := "CircuitWardenModel", name := "literal", desc := "(III)I" } : Jvm.MethodName)) ∈ lw_all := lw_g (lw_at lw_m14 52 rfl) rfl
theorem q3462 : (Jvm.Cond.selects "CircuitWardenModel" ({ cls := "CircuitWardenModel", name := "literal", desc := "(III)I" } : Jvm.MethodName) ({ cls := "CircuitWardenModel", name := "literal", desc := "(III)I" } : Jvm.MethodName)) ∈ lw_all := lw_g (lw_at lw_m14 53 rfl) rfl
theorem q3463 : (Jvm.Cond.code ({ cls := "CircuitWardenModel", name := "literal", desc := "(III)I" } : Jvm.MethodName) prog_19_method_98_code (5 : Nat) (Option.some Jvm.ClassFile.FieldType.int)) ∈ lw_all := lw_g (lw_at lw_m14 54 rfl) rfl
theorem q3464 : (Jvm.Cond.methodLink "CircuitWardenModel" (602 : Nat) ({ cls := "CircuitWardenModel$Walk", name := "literalOf", desc := "(III)I" } : Jvm.MethodName)) ∈ lw_all := lw_g (lw_at lw_m14 55 rfl) rfl
theorem q3469 : (Jvm.Cond.instanceMethod ({ cls := "CircuitWardenModel", name := "begin", desc := "(I)I" } : Jvm.MethodName)) ∈ lw_all := lw_g (lw_at lw_m14 60 rfl) rfl
theorem q3470 : (Jvm.Cond.selects "CircuitWardenModel" ({ cls := "CircuitWardenModel", name := "begin", desc := "(I)I" } : Jvm.MethodName) ({ cls := "CircuitWardenModel", name := "begin", desc := "(I)I" } : Jvm.MethodName)) ∈ lw_all := lw_g (lw_at lw_m14 61 rfl) rfl
theorem q3471 : (Jvm.Cond.code ({ cls := "CircuitWardenModel", name := "begin", desc := "(I)I" } : Jvm.MethodName) prog_19_method_99_code (4 : Nat) (Option.some Jvm.ClassFile.FieldType.int)) ∈ lw_all := lw_g (lw_at lw_m14 62 rfl) rfl
theorem q3472 : (Jvm.Cond.methodLink "CircuitWardenModel" (617 : Nat) ({ cls := "CircuitWardenModel", name := "settle", desc := "(I)V" } : Jvm.MethodName)) ∈ lw_all := lw_g (lw_at lw_m14 63 rfl) rfl
theorem q3473 : (Jvm.Cond.privateMethod ({ cls := "CircuitWardenModel", name := "settle", desc := "(I)V" } : Jvm.MethodName)) ∈ lw_tbl := lw_at lw_m14 64 rfl
theorem q3474 : (Jvm.Cond.instanceMethod ({ cls := "CircuitWardenModel", name := "settle", desc := "(I)V" } : Jvm.MethodName)) ∈ lw_all := lw_g (lw_at lw_m14 65 rfl) rfl
theorem q3475 : (Jvm.Cond.code ({ cls := "CircuitWardenModel", name := "settle", desc := "(I)V" } : Jvm.MethodName) prog_19_method_87_code (3 : Nat) (Option.none : Option Jvm.ClassFile.FieldType)) ∈ lw_all := lw_g (lw_at lw_m14 66 rfl) rfl
theorem q3476 : (Jvm.Cond.methodLink "CircuitWardenModel" (528 : Nat) ({ cls := "CircuitWardenModel", name := "reckon", desc := "(I)J" } : Jvm.MethodName)) ∈ lw_all := lw_g (lw_at lw_m14 67 rfl) rfl
theorem q3477 : (Jvm.Cond.privateMethod ({ cls := "CircuitWardenModel", name := "reckon", desc := "(I)J" } : Jvm.MethodName)) ∈ lw_tbl := lw_at lw_m14 68 rfl
theorem q3478 : (Jvm.Cond.instanceMethod ({ cls := "CircuitWardenModel", name := "reckon", desc := "(I)J" } : Jvm.MethodName)) ∈ lw_all := lw_g (lw_at lw_m14 69 rfl) rfl
theorem q3479 : (Jvm.Cond.code ({ cls := "CircuitWardenModel", name := "reckon", desc := "(I)J" } : Jvm.MethodName) prog_19_method_83_code (12 : Nat) (Option.some Jvm.ClassFile.FieldType.long)) ∈ lw_all := lw_g (lw_at lw_m14 70 rfl) rfl
theorem q3480 : (Jvm.Cond.methodLink "CircuitWardenModel" (532 : Nat) ({ cls := "CircuitWardenModel", name := "operated", desc := "(IJJ)J" } : Jvm.MethodName)) ∈ lw_all := lw_g (lw_at lw_m14 71 rfl) rfl
theorem q3481 : (Jvm.Cond.privateMethod ({ cls := "CircuitWardenModel", name := "operated", desc := "(IJJ)J" } : Jvm.MethodName)) ∈ lw_tbl := lw_at lw_m14 72 rfl
theorem q3482 : (Jvm.Cond.instanceMethod ({ cls := "CircuitWardenModel", name := "operated", desc := "(IJJ)J" } : Jvm.MethodName)) ∈ lw_all := lw_g (lw_at lw_m14 73 rfl) rfl
theorem q3483 : (Jvm.Cond.code ({ cls := "CircuitWardenModel", name := "operated", desc := "(IJJ)J" } : Jvm.MethodName) prog_19_method_85_code (8 : Nat) (Option.some Jvm.ClassFile.FieldType.long)) ∈ lw_all := lw_g (lw_at lw_m14 74 rfl) rfl
theorem q3484 : (Jvm.Cond.methodLink "CircuitWardenModel" (538 : Nat) ({ cls := "CircuitWardenModel", name := "lowest", desc := "(JI)J" } : Jvm.MethodName)) ∈ lw_all := lw_g (lw_at lw_m14 75 rfl) rfl
theorem q3485 : (Jvm.Cond.static ({ cls := "CircuitWardenModel", name := "lowest", desc := "(JI)J" } : Jvm.MethodName)) ∈ lw_all := lw_g (lw_at lw_m14 76 rfl) rfl
theorem q3486 : (Jvm.Cond.code ({ cls := "CircuitWardenModel", name := "lowest", desc := "(JI)J" } : Jvm.MethodName) prog_19_method_82_code (3 : Nat) (Option.some Jvm.ClassFile.FieldType.long)) ∈ lw_all := lw_g (lw_at lw_m14 77 rfl) rfl
theorem q3487 : (Jvm.Cond.constantLong "CircuitWardenModel" (536 : Nat) (-1 : Int64)) ∈ lw_all := lw_g (lw_at lw_m14 78 rfl) rfl
theorem q3488 : (Jvm.Cond.methodLink "CircuitWardenModel" (542 : Nat) ({ cls := "CircuitWardenModel", name := "called", desc := "(I)J" } : Jvm.MethodName)) ∈ lw_all := lw_g (lw_at lw_m14 79 rfl) rfl
theorem q3489 : (Jvm.Cond.privateMethod ({ cls := "CircuitWardenModel", name := "called", desc := "(I)J" } : Jvm.MethodName)) ∈ lw_tbl := lw_at lw_m14 80 rfl
theorem q3490 : (Jvm.Cond.instanceMethod ({ cls := "CircuitWardenModel", name := "called", desc := "(I)J" } : Jvm.MethodName)) ∈ lw_all := lw_g (lw_at lw_m14 81 rfl) rfl
theorem q3491 : (Jvm.Cond.code ({ cls := "CircuitWardenModel", name := "called", desc := "(I)J" } : Jvm.MethodName) prog_19_method_86_code (10 : Nat) (Option.some Jvm.ClassFile.FieldType.long)) ∈ lw_all := lw_g (lw_at lw_m14 82 rfl) rfl
theorem q3492 : (Jvm.Cond.methodLink "CircuitWardenModel" (545 : Nat) ({ cls := "CircuitWardenModel", name := "gathered", desc := "(IJI)J" } : Jvm.MethodName)) ∈ lw_all := lw_g (lw_at lw_m14 83 rfl) rfl
theorem q3493 : (Jvm.Cond.static ({ cls := "CircuitWardenModel", name := "gathered", desc := "(IJI)J" } : Jvm.MethodName)) ∈ lw_all := lw_g (lw_at lw_m14 84 rfl) rfl
theorem q3494 : (Jvm.Cond.code ({ cls := "CircuitWardenModel", name := "gathered", desc := "(IJI)J" } : Jvm.MethodName) prog_19_method_84_code (6 : Nat) (Option.some Jvm.ClassFile.FieldType.long)) ∈ lw_all := lw_g (lw_at lw_m14 85 rfl) rfl
theorem q3495 : (Jvm.Cond.methodLink "CircuitWardenModel" (626 : Nat) ({ cls := "CircuitWardenModel", name := "prepare", desc := "()V" } : Jvm.MethodName)) ∈ lw_all := lw_g (lw_at lw_m14 86 rfl) rfl
theorem q3496 : (Jvm.Cond.privateMethod ({ cls := "CircuitWardenModel", name := "prepare", desc := "()V" } : Jvm.MethodName)) ∈ lw_tbl := lw_at lw_m14 87 rfl
theorem q3497 : (Jvm.Cond.instanceMethod ({ cls := "CircuitWardenModel", name := "prepare", desc := "()V" } : Jvm.MethodName)) ∈ lw_all := lw_g (lw_at lw_m14 88 rfl) rfl
theorem q3498 : (Jvm.Cond.code ({ cls := "CircuitWardenModel", name := "prepare", desc := "()V" } : Jvm.MethodName) prog_19_method_102_code (3 : Nat) (Option.none : Option Jvm.ClassFile.FieldType)) ∈ lw_all := lw_g (lw_at lw_m14 89 rfl) rfl
theorem q3499 : (Jvm.Cond.methodLink "CircuitWardenModel" (635 : Nat) ({ cls := "CircuitWardenModel", name := "sees", desc := "(II)Z" } : Jvm.MethodName)) ∈ lw_all := lw_g (lw_at lw_m14 90 rfl) rfl
theorem q3500 : (Jvm.Cond.privateMethod ({ cls := "CircuitWardenModel", name := "sees", desc := "(II)Z" } : Jvm.MethodName)) ∈ lw_tbl := lw_at lw_m14 91 rfl
theorem q3501 : (Jvm.Cond.instanceMethod ({ cls := "CircuitWardenModel", name := "sees", desc := "(II)Z" } : Jvm.MethodName)) ∈ lw_all := lw_g (lw_at lw_m14 92 rfl) rfl
theorem q3502 : (Jvm.Cond.code ({ cls := "CircuitWardenModel", name := "sees", desc := "(II)Z" } : Jvm.MethodName) prog_19_method_101_code (3 : Nat) (Option.some Jvm.ClassFile.FieldType.boolean)) ∈ lw_all := lw_g (lw_at lw_m14 93 rfl) rfl
theorem q3503 : (Jvm.Cond.methodLink "CircuitWardenModel" (629 : Nat) ({ cls := "CircuitWardenModel", name := "modes", desc := "(I)I" } : Jvm.MethodName)) ∈ lw_all := lw_g (lw_at lw_m14 94 rfl) rfl
theorem q3504 : (Jvm.Cond.privateMethod ({ cls := "CircuitWardenModel", name := "modes", desc := "(I)I" } : Jvm.MethodName)) ∈ lw_tbl := lw_at lw_m14 95 rfl
theorem q3505 : (Jvm.Cond.instanceMethod ({ cls := "CircuitWardenModel", name := "modes", desc := "(I)I" } : Jvm.MethodName)) ∈ lw_all := lw_g (lw_at lw_m14 96 rfl) rfl
theorem q3506 : (Jvm.Cond.code ({ cls := "CircuitWardenModel", name := "modes", desc := "(I)I" } : Jvm.MethodName) prog_19_method_100_code (4 : Nat) (Option.some Jvm.ClassFile.FieldType.int)) ∈ lw_all := lw_g (lw_at lw_m14 97 rfl) rfl
theorem q3507 : (Jvm.Cond.methodLink "CircuitWardenModel" (632 : Nat) ({ cls := "CircuitWardenModel$Walk", name := "isBelow", desc := "(II)Z" } : Jvm.MethodName)) ∈ lw_all := lw_g (lw_at lw_m14 98 rfl) rfl
theorem q3508 : (Jvm.Cond.methodLink "CircuitWardenModel" (638 : Nat) ({ cls := "CircuitWardenModel$NetRun", name := "reckon", desc := "(Z)V" } : Jvm.MethodName)) ∈ lw_all := lw_g (lw_at lw_m14 99 rfl) rfl
theorem q3522 : (Jvm.Cond.instanceMethod ({ cls := "CircuitWardenModel", name := "drive", desc := "(IIJ)I" } : Jvm.MethodName)) ∈ lw_all := lw_g (lw_at lw_m14 113 rfl) rfl
theorem q3523 : (Jvm.Cond.selects "CircuitWardenModel" ({ cls := "CircuitWardenModel", name := "drive", desc := "(IIJ)I" } : Jvm.MethodName) ({ cls := "CircuitWardenModel", name := "drive", desc := "(IIJ)I" } : Jvm.MethodName)) ∈ lw_all := lw_g (lw_at lw_m14 114 rfl) rfl
theorem q3524 : (Jvm.Cond.code ({ cls := "CircuitWardenModel", name := "drive", desc := "(IIJ)I" } : Jvm.MethodName) prog_19_method_103_code (5 : Nat) (Option.some Jvm.ClassFile.FieldType.int)) ∈ lw_all := lw_g (lw_at lw_m14 115 rfl) rfl
theorem q3526 : (Jvm.Cond.instanceMethod ({ cls := "CircuitWardenModel", name := "step", desc := "(I)I" } : Jvm.MethodName)) ∈ lw_all := lw_g (lw_at lw_m14 117 rfl) rfl
theorem q3527 : (Jvm.Cond.selects "CircuitWardenModel" ({ cls := "CircuitWardenModel", name := "step", desc := "(I)I" } : Jvm.MethodName) ({ cls := "CircuitWardenModel", name := "step", desc := "(I)I" } : Jvm.MethodName)) ∈ lw_all := lw_g (lw_at lw_m14 118 rfl) rfl
theorem q3528 : (Jvm.Cond.code ({ cls := "CircuitWardenModel", name := "step", desc := "(I)I" } : Jvm.MethodName) prog_19_method_104_code (4 : Nat) (Option.some Jvm.ClassFile.FieldType.int)) ∈ lw_all := lw_g (lw_at lw_m14 119 rfl) rfl
theorem q3529 : (Jvm.Cond.methodLink "CircuitWardenModel" (640 : Nat) ({ cls := "CircuitWardenModel", name := "compare", desc := "()V" } : Jvm.MethodName)) ∈ lw_all := lw_g (lw_at lw_m14 120 rfl) rfl
theorem q3530 : (Jvm.Cond.privateMethod ({ cls := "CircuitWardenModel", name := "compare", desc := "()V" } : Jvm.MethodName)) ∈ lw_tbl := lw_at lw_m14 121 rfl
theorem q3531 : (Jvm.Cond.instanceMethod ({ cls := "CircuitWardenModel", name := "compare", desc := "()V" } : Jvm.MethodName)) ∈ lw_all := lw_g (lw_at lw_m14 122 rfl) rfl
theorem q3532 : (Jvm.Cond.code ({ cls := "CircuitWardenModel", name := "compare", desc := "()V" } : Jvm.MethodName) prog_19_method_105_code (6 : Nat) (Option.none : Option Jvm.ClassFile.FieldType)) ∈ lw_all := lw_g (lw_at lw_m14 123 rfl) rfl
theorem q3533 : (Jvm.Cond.methodLink "CircuitWardenModel" (652 : Nat) ({ cls := "CircuitWardenModel$NetRun", name := "value", desc := "(IZ)J" } : Jvm.MethodName)) ∈ lw_all := lw_g (lw_at lw_m14 124 rfl) rfl
theorem q3539 : (Jvm.Cond.methodLink "CircuitWardenModel" (655 : Nat) ({ cls := "CircuitWardenModel$NetRun", name := "taint", desc := "(IZ)J" } : Jvm.MethodName)) ∈ lw_all := lw_g (lw_at lw_m14 130 rfl) rfl
theorem q3543 : (Jvm.Cond.methodLink "CircuitWardenModel" (643 : Nat) ({ cls := "CircuitWardenModel", name := "cycle", desc := "(I)V" } : Jvm.MethodName)) ∈ lw_all := lw_g (lw_at lw_m14 134 rfl) rfl
theorem q3544 : (Jvm.Cond.privateMethod ({ cls := "CircuitWardenModel", name := "cycle", desc := "(I)V" } : Jvm.MethodName)) ∈ lw_tbl := lw_at lw_m14 135 rfl
theorem q3545 : (Jvm.Cond.instanceMethod ({ cls := "CircuitWardenModel", name := "cycle", desc := "(I)V" } : Jvm.MethodName)) ∈ lw_all := lw_g (lw_at lw_m14 136 rfl) rfl
theorem q3546 : (Jvm.Cond.code ({ cls := "CircuitWardenModel", name := "cycle", desc := "(I)V" } : Jvm.MethodName) prog_19_method_89_code (3 : Nat) (Option.none : Option Jvm.ClassFile.FieldType)) ∈ lw_all := lw_g (lw_at lw_m14 137 rfl) rfl
theorem q3547 : (Jvm.Cond.methodLink "CircuitWardenModel" (549 : Nat) ({ cls := "CircuitWardenModel", name := "goThrough", desc := "(I)V" } : Jvm.MethodName)) ∈ lw_all := lw_g (lw_at lw_m14 138 rfl) rfl
theorem q3548 : (Jvm.Cond.privateMethod ({ cls := "CircuitWardenModel", name := "goThrough", desc := "(I)V" } : Jvm.MethodName)) ∈ lw_tbl := lw_at lw_m14 139 rfl
theorem q3549 : (Jvm.Cond.instanceMethod ({ cls := "CircuitWardenModel", name := "goThrough", desc := "(I)V" } : Jvm.MethodName)) ∈ lw_all := lw_g (lw_at lw_m14 140 rfl) rfl
theorem q3550 : (Jvm.Cond.code ({ cls := "CircuitWardenModel", name := "goThrough", desc := "(I)V" } : Jvm.MethodName) prog_19_method_88_code (6 : Nat) (Option.none : Option Jvm.ClassFile.FieldType)) ∈ lw_all := lw_g (lw_at lw_m14 141 rfl) rfl
theorem q3551 : (Jvm.Cond.methodLink "CircuitWardenModel" (646 : Nat) ({ cls := "CircuitWardenModel$NetRun", name := "clock", desc := "(Z)V" } : Jvm.MethodName)) ∈ lw_all := lw_g (lw_at lw_m14 142 rfl) rfl
theorem q3558 : (Jvm.Cond.instanceMethod ({ cls := "CircuitWardenModel", name := "value", desc := "(IIZ)J" } : Jvm.MethodName)) ∈ lw_all := lw_g (lw_at lw_m14 149 rfl) rfl
theorem q3559 : (Jvm.Cond.selects "CircuitWardenModel" ({ cls := "CircuitWardenModel", name := "value", desc := "(IIZ)J" } : Jvm.MethodName) ({ cls := "CircuitWardenModel", name := "value", desc := "(IIZ)J" } : Jvm.MethodName)) ∈ lw_all := lw_g (lw_at lw_m14 150 rfl) rfl
theorem q3560 : (Jvm.Cond.code ({ cls := "CircuitWardenModel", name := "value", desc := "(IIZ)J" } : Jvm.MethodName) prog_19_method_107_code (4 : Nat) (Option.some Jvm.ClassFile.FieldType.long)) ∈ lw_all := lw_g (lw_at lw_m14 151 rfl) rfl
theorem q3561 : (Jvm.Cond.methodLink "CircuitWardenModel" (658 : Nat) ({ cls := "CircuitWardenModel", name := "isRun", desc := "(II)Z" } : Jvm.MethodName)) ∈ lw_all := lw_g (lw_at lw_m14 152 rfl) rfl
theorem q3562 : (Jvm.Cond.privateMethod ({ cls := "CircuitWardenModel", name := "isRun", desc := "(II)Z" } : Jvm.MethodName)) ∈ lw_tbl := lw_at lw_m14 153 rfl
theorem q3563 : (Jvm.Cond.instanceMethod ({ cls := "CircuitWardenModel", name := "isRun", desc := "(II)Z" } : Jvm.MethodName)) ∈ lw_all := lw_g (lw_at lw_m14 154 rfl) rfl
theorem q3564 : (Jvm.Cond.code ({ cls := "CircuitWardenModel", name := "isRun", desc := "(II)Z" } : Jvm.MethodName) prog_19_method_106_code (3 : Nat) (Option.some Jvm.ClassFile.FieldType.boolean)) ∈ lw_all := lw_g (lw_at lw_m14 155 rfl) rfl
theorem q3566 : (Jvm.Cond.instanceMethod ({ cls := "CircuitWardenModel", name := "taint", desc := "(I)J" } : Jvm.MethodName)) ∈ lw_all := lw_g (lw_at lw_m14 157 rfl) rfl
theorem q3567 : (Jvm.Cond.selects "CircuitWardenModel" ({ cls := "CircuitWardenModel", name := "taint", desc := "(I)J" } : Jvm.MethodName) ({ cls := "CircuitWardenModel", name := "taint", desc := "(I)J" } : Jvm.MethodName)) ∈ lw_all := lw_g (lw_at lw_m14 158 rfl) rfl
theorem q3568 : (Jvm.Cond.code ({ cls := "CircuitWardenModel", name := "taint", desc := "(I)J" } : Jvm.MethodName) prog_19_method_108_code (2 : Nat) (Option.some Jvm.ClassFile.FieldType.long)) ∈ lw_all := lw_g (lw_at lw_m14 159 rfl) rfl
theorem q3570 : (Jvm.Cond.instanceMethod ({ cls := "CircuitWardenModel", name := "broken", desc := "()I" } : Jvm.MethodName)) ∈ lw_all := lw_g (lw_at lw_m14 161 rfl) rfl
theorem q3571 : (Jvm.Cond.selects "CircuitWardenModel" ({ cls := "CircuitWardenModel", name := "broken", desc := "()I" } : Jvm.MethodName) ({ cls := "CircuitWardenModel", name := "broken", desc := "()I" } : Jvm.MethodName)) ∈ lw_all := lw_g (lw_at lw_m14 162 rfl) rfl
theorem q3572 : (Jvm.Cond.code ({ cls := "CircuitWardenModel", name := "broken", desc := "()I" } : Jvm.MethodName) prog_19_method_109_code (1 : Nat) (Option.some Jvm.ClassFile.FieldType.int)) ∈ lw_all := lw_g (lw_at lw_m14 163 rfl) rfl
theorem in_X17 : ∀ w ∈ wsX170, w ∈ lw_all := lw_in wsX170 [2972, 2974, 2976, 2978, 2980, 2982, 2984, 2986, 2988, 2990, 2992, 2994, 2996, 2998, 3000, 3002, 3004, 3006, 3008, 3010, 3012, 3014, 3016, 3018, 3020, 3022, 3024, 3026, 3028, 3030, 3032, 3034, 3036, 3038, 3040, 3042, 3044, 3046, 3048, 3050, 3052, 3054, 3056, 3058, 3060, 3062, 3064, 3066, 3068, 3070, 3072, 3074, 3076, 3078, 3080, 3082, 3084, 3086, 3088, 3090, 3092, 3094, 3096, 3098, 3100, 3102, 3104, 3106, 3108, 3110, 3112, 3114] (by decide +kernel) (by decide +kernel)
/-! CircuitWardenModel$Walk -/
def RX18 : String := "CircuitWardenModel$Walk"
def TX18 : u_T := fun k => match k with
  | 0 => ("CircuitWardenModel$Walk", "kinds", "[B", false)
  | 1 => ("CircuitWardenModel$Walk", "values", "[I", false)
  | 2 => ("CircuitWardenModel$Walk", "sizes", "[I", false)
  | 3 => ("CircuitWardenModel$Walk", "count", "I", false)
  | 4 => ("CircuitWardenModel$Walk", "items", "[I", false)
  | 5 => ("CircuitWardenModel$Walk", "numbers", "[I", false)
  | 6 => ("CircuitWardenModel$Walk", "sumTime", "[I", false)
  | 7 => ("CircuitWardenModel$Walk", "sumWas", "[I", false)
  | 8 => ("CircuitWardenModel$Walk", "time", "I", false)
  | 9 => ("CircuitWardenModel$Walk", "ownAsked", "I", false)
  | 10 => ("CircuitWardenModel$Walk", "signals", "[I", true)
  | 11 => ("CircuitWardenModel$Walk", "signalCount", "I", false)
  | 12 => ("CircuitWardenModel$Walk", "widths", "[I", true)
  | 13 => ("CircuitWardenModel$Walk", "modes", "I", false)
  | 14 => ("CircuitWardenModel$Walk", "bits", "I", false)
  | 15 => ("CircuitWardenModel$Walk", "levels", "I", false)
  | 16 => ("CircuitWardenModel$Walk", "below", "[Z", true)
  | 17 => ("CircuitWardenModel$Walk", "next", "I", false)
  | 18 => ("CircuitWardenModel$Walk", "funs", "[I", false)
  | 19 => ("CircuitWardenModel$Walk", "constAt", "[I", false)
  | 20 => ("CircuitWardenModel$Walk", "partAt", "[I", false)
  | 21 => ("CircuitWardenModel$Walk", "open", "I", false)
  | 22 => ("CircuitWardenModel$Walk", "consts", "[I", false)
  | 23 => ("CircuitWardenModel$Walk", "constTop", "I", false)
  | 24 => ("CircuitWardenModel$Walk", "partLabels", "[I", false)
  | 25 => ("CircuitWardenModel$Walk", "partKnown", "[Z", false)
  | 26 => ("CircuitWardenModel$Walk", "partValues", "[J", false)
  | 27 => ("CircuitWardenModel$Walk", "partWidths", "[I", false)
  | 28 => ("CircuitWardenModel$Walk", "partBits", "[I", false)
  | 29 => ("CircuitWardenModel$Walk", "partTop", "I", false)
  | 30 => ("CircuitWardenModel$Walk", "m", "I", false)
  | 31 => ("CircuitWardenModel$Walk", "labels", "[I", true)
  | 32 => ("CircuitWardenModel$Walk", "known", "[Z", true)
  | 33 => ("CircuitWardenModel$Walk", "held", "[J", true)
  | 34 => ("CircuitWardenModel$Walk", "label", "I", false)
  | 35 => ("CircuitWardenModel$Walk", "isKnown", "Z", false)
  | 36 => ("CircuitWardenModel$Walk", "value", "J", false)
  | 37 => ("CircuitWardenModel$Walk", "width", "I", false)
  | 38 => ("CircuitWardenModel$Walk", "ways", "I", false)
  | 39 => ("CircuitWardenModel$Walk", "leakSignal", "I", false)
  | 40 => ("CircuitWardenModel$Walk", "leakM", "I", false)
  | 41 => ("CircuitWardenModel$Walk", "leaks", "[Z", true)
  | 42 => ("CircuitWardenModel$Walk", "leakAt", "[I", true)
  | 43 => ("CircuitWardenModel$Walk", "net", "LCircuitWardenModel$Nodes;", true)
  | 44 => ("CircuitWardenModel$Walk", "twin", "LCircuitWardenModel$Nodes;", true)
  | 45 => ("CircuitWardenModel$Walk", "own", "[I", true)
  | 46 => ("CircuitWardenModel$Walk", "nexts", "[I", true)
  | 47 => ("CircuitWardenModel$Walk", "twinValue", "[I", false)
  | 48 => ("CircuitWardenModel$Walk", "twinTaint", "[I", false)
  | 49 => ("CircuitWardenModel$Walk", "inputs", "[I", false)
  | 50 => ("CircuitWardenModel$Walk", "inputCount", "I", false)
  | 51 => ("CircuitWardenModel$Walk", "states", "[I", false)
  | 52 => ("CircuitWardenModel$Walk", "stateTop", "I", false)
  | 53 => ("CircuitWardenModel$Walk", "now", "LCircuitWardenModel$Walk$Way;", true)
  | 54 => ("CircuitWardenModel$Walk", "waiting", "[LCircuitWardenModel$Walk$Way;", false)
  | 55 => ("CircuitWardenModel$Walk", "waits", "I", false)
  | 56 => ("CircuitWardenModel$Walk", "toldBy", "[I", false)
  | 57 => ("CircuitWardenModel$Walk", "heap", "[I", false)
  | 58 => ("CircuitWardenModel$Walk", "heapTop", "I", false)
  | _ => ("CircuitWardenModel$Walk", "aside", "[I", false)
def tyX18 : Nat → FieldType := fun k => match k with
  | 0 => .array .byte
  | 1 => .array .int
  | 2 => .array .int
  | 3 => .int
  | 4 => .array .int
  | 5 => .array .int
  | 6 => .array .int
  | 7 => .array .int
  | 8 => .int
  | 9 => .int
  | 10 => .array .int
  | 11 => .int
  | 12 => .array .int
  | 13 => .int
  | 14 => .int
  | 15 => .int
  | 16 => .array .boolean
  | 17 => .int
  | 18 => .array .int
  | 19 => .array .int
  | 20 => .array .int
  | 21 => .int
  | 22 => .array .int
  | 23 => .int
  | 24 => .array .int
  | 25 => .array .boolean
  | 26 => .array .long
  | 27 => .array .int
  | 28 => .array .int
  | 29 => .int
  | 30 => .int
  | 31 => .array .int
  | 32 => .array .boolean
  | 33 => .array .long
  | 34 => .int
  | 35 => .boolean
  | 36 => .long
  | 37 => .int
  | 38 => .int
  | 39 => .int
  | 40 => .int
  | 41 => .array .boolean
  | 42 => .array .int
  | 43 => .object "CircuitWardenModel$Nodes"
  | 44 => .object "CircuitWardenModel$Nodes"
  | 45 => .array .int
  | 46 => .array .int
  | 47 => .array .int
  | 48 => .array .int
  | 49 => .array .int
  | 50 => .int
  | 51 => .array .int
  | 52 => .int
  | 53 => .object "CircuitWardenModel$Walk$Way"
  | 54 => .array (.object "CircuitWardenModel$Walk$Way")
  | 55 => .int
  | 56 => .array .int
  | 57 => .array .int
  | 58 => .int
  | _ => .array .int
abbrev wsX180 : List Cond := u_ws RX18 TX18 60
theorem nmX18 : ∀ a, a < 60 → ∀ b, b < 60 → a ≠ b → (TX18 a).2.1 ≠ (TX18 b).2.1 := by decide +kernel
theorem tyX18_ok : ∀ k, k < 60 → parseFieldDescriptor (TX18 k).2.2.1 = some (tyX18 k) := by decide +kernel
abbrev cX18_init : ByteArray := prog_22_method_1_code
def yX18_init : MethodName := ⟨RX18, "<init>", "()V"⟩
abbrev cX18_begin : ByteArray := prog_22_method_4_code
def yX18_begin : MethodName := ⟨RX18, "begin", "([B[I[III)V"⟩
abbrev cX18_wide : ByteArray := prog_22_method_3_code
def yX18_wide : MethodName := ⟨RX18, "wide", "([II)[I"⟩
abbrev cX18_item : ByteArray := prog_22_method_5_code
def yX18_item : MethodName := ⟨RX18, "item", "(I)V"⟩
abbrev cX18_after : ByteArray := prog_22_method_2_code
def yX18_after : MethodName := ⟨RX18, "after", "(I)I"⟩
abbrev cX18_sum : ByteArray := prog_22_method_12_code
def yX18_sum : MethodName := ⟨RX18, "sum", "(I)I"⟩
abbrev cX18_ownConst : ByteArray := prog_22_method_10_code
def yX18_ownConst : MethodName := ⟨RX18, "ownConst", "(I)I"⟩
abbrev cX18_lattice : ByteArray := prog_22_method_9_code
def yX18_lattice : MethodName := ⟨RX18, "lattice", "()Z"⟩
abbrev cX18_joined : ByteArray := prog_22_method_8_code
def yX18_joined : MethodName := ⟨RX18, "joined", "(II)I"⟩
abbrev cX18_isBelow : ByteArray := prog_22_method_7_code
def yX18_isBelow : MethodName := ⟨RX18, "isBelow", "(II)Z"⟩
abbrev cX18_judge : ByteArray := prog_22_method_51_code
def yX18_judge : MethodName := ⟨RX18, "judge", "()I"⟩
abbrev cX18_tellAll : ByteArray := prog_22_method_48_code
def yX18_tellAll : MethodName := ⟨RX18, "tellAll", "()V"⟩
abbrev cX18_kindOf : ByteArray := prog_22_method_6_code
def yX18_kindOf : MethodName := ⟨RX18, "kindOf", "(I)I"⟩
abbrev cX18_told : ByteArray := prog_22_method_19_code
def yX18_told : MethodName := ⟨RX18, "told", "(I)I"⟩
abbrev cX18_labelOf : ByteArray := prog_22_method_17_code
def yX18_labelOf : MethodName := ⟨RX18, "labelOf", "(I)I"⟩
abbrev cX18_modeValue : ByteArray := prog_22_method_18_code
def yX18_modeValue : MethodName := ⟨RX18, "modeValue", "(I)I"⟩
abbrev cX18_under : ByteArray := prog_22_method_20_code
def yX18_under : MethodName := ⟨RX18, "under", "(I)V"⟩
abbrev cX18_look : ByteArray := prog_22_method_23_code
def yX18_look : MethodName := ⟨RX18, "look", "(I)V"⟩
abbrev cX18_name : ByteArray := prog_22_method_24_code
def yX18_name : MethodName := ⟨RX18, "name", "(I)V"⟩
abbrev cX18_ownPart : ByteArray := prog_22_method_11_code
def yX18_ownPart : MethodName := ⟨RX18, "ownPart", "(I)I"⟩
abbrev cX18_is : ByteArray := prog_22_method_22_code
def yX18_is : MethodName := ⟨RX18, "is", "(IZJI)V"⟩
abbrev cX18_lookChain : ByteArray := prog_22_method_27_code
def yX18_lookChain : MethodName := ⟨RX18, "lookChain", "(I)V"⟩
abbrev cX18_reckoned : ByteArray := prog_22_method_26_code
def yX18_reckoned : MethodName := ⟨RX18, "reckoned", "(IJJ)J"⟩
abbrev cX18_lookChoose : ByteArray := prog_22_method_28_code
def yX18_lookChoose : MethodName := ⟨RX18, "lookChoose", "(I)V"⟩
abbrev cX18_lookCall : ByteArray := prog_22_method_29_code
def yX18_lookCall : MethodName := ⟨RX18, "lookCall", "(II)V"⟩
abbrev cX18_pushConsts : ByteArray := prog_22_method_14_code
def yX18_pushConsts : MethodName := ⟨RX18, "pushConsts", "(I)V"⟩
abbrev cX18_room : ByteArray := prog_22_method_15_code
def yX18_room : MethodName := ⟨RX18, "room", "()V"⟩
abbrev cX18_enter : ByteArray := prog_22_method_13_code
def yX18_enter : MethodName := ⟨RX18, "enter", "(III)V"⟩
abbrev cX18_bodyOf : ByteArray := prog_22_method_16_code
def yX18_bodyOf : MethodName := ⟨RX18, "bodyOf", "(I)I"⟩
abbrev cX18_lookOne : ByteArray := prog_22_method_25_code
def yX18_lookOne : MethodName := ⟨RX18, "lookOne", "(I)V"⟩
abbrev cX18_leak : ByteArray := prog_22_method_50_code
def yX18_leak : MethodName := ⟨RX18, "leak", "(II)V"⟩
abbrev cX18_way : ByteArray := prog_22_method_42_code
def yX18_way : MethodName := ⟨RX18, "way", "()V"⟩
abbrev cX18_taintNow : ByteArray := prog_22_method_41_code
def yX18_taintNow : MethodName := ⟨RX18, "taintNow", "(III)V"⟩
abbrev cX18_statement : ByteArray := prog_22_method_43_code
def yX18_statement : MethodName := ⟨RX18, "statement", "(I)V"⟩
abbrev cX18_names : ByteArray := prog_22_method_30_code
def yX18_names : MethodName := ⟨RX18, "names", "(II)Z"⟩
abbrev cX18_plainNow : ByteArray := prog_22_method_40_code
def yX18_plainNow : MethodName := ⟨RX18, "plainNow", "(IIZ)V"⟩
abbrev cX18_state : ByteArray := prog_22_method_31_code
def yX18_state : MethodName := ⟨RX18, "state", "()I"⟩
abbrev cX18_plainCase : ByteArray := prog_22_method_37_code
def yX18_plainCase : MethodName := ⟨RX18, "plainCase", "(III)V"⟩
abbrev cX18_plain : ByteArray := prog_22_method_35_code
def yX18_plain : MethodName := ⟨RX18, "plain", "(III)V"⟩
abbrev cX18_both : ByteArray := prog_22_method_36_code
def yX18_both : MethodName := ⟨RX18, "both", "(IIIII)V"⟩
abbrev cX18_copyOf : ByteArray := prog_22_method_32_code
def yX18_copyOf : MethodName := ⟨RX18, "copyOf", "(I)I"⟩
abbrev cX18_join : ByteArray := prog_22_method_34_code
def yX18_join : MethodName := ⟨RX18, "join", "(II)V"⟩
abbrev cX18_taint : ByteArray := prog_22_method_33_code
def yX18_taint : MethodName := ⟨RX18, "taint", "(IIII)V"⟩
abbrev cX18_choice : ByteArray := prog_22_method_38_code
def yX18_choice : MethodName := ⟨RX18, "choice", "(II)I"⟩
abbrev cX18_known : ByteArray := prog_22_method_44_code
def yX18_known : MethodName := ⟨RX18, "known", "(II)V"⟩
abbrev cX18_part : ByteArray := prog_22_method_46_code
def yX18_part : MethodName := ⟨RX18, "part", "(IIIIIIZZ)V"⟩
abbrev cX18_another : ByteArray := prog_22_method_39_code
def yX18_another : MethodName := ⟨RX18, "another", "()LCircuitWardenModel$Walk$Way;"⟩
abbrev cX18_choices : ByteArray := prog_22_method_45_code
def yX18_choices : MethodName := ⟨RX18, "choices", "(III)V"⟩
abbrev cX18_namesFrom : ByteArray := prog_22_method_47_code
def yX18_namesFrom : MethodName := ⟨RX18, "namesFrom", "(II)Z"⟩
abbrev cX18_ended : ByteArray := prog_22_method_49_code
def yX18_ended : MethodName := ⟨RX18, "ended", "()V"⟩
abbrev cX18_makeNet : ByteArray := prog_22_method_78_code
def yX18_makeNet : MethodName := ⟨RX18, "makeNet", "()Z"⟩
abbrev cX18_row : ByteArray := prog_22_method_52_code
def yX18_row : MethodName := ⟨RX18, "row", "(I)I"⟩
abbrev cX18_put : ByteArray := prog_22_method_55_code
def yX18_put : MethodName := ⟨RX18, "put", "(III)V"⟩
abbrev cX18_literals : ByteArray := prog_22_method_61_code
def yX18_literals : MethodName := ⟨RX18, "literals", "(I)I"⟩
abbrev cX18_laid : ByteArray := prog_22_method_62_code
def yX18_laid : MethodName := ⟨RX18, "laid", "(I)I"⟩
abbrev cX18_literalsOfChain : ByteArray := prog_22_method_70_code
def yX18_literalsOfChain : MethodName := ⟨RX18, "literalsOfChain", "(I)I"⟩
abbrev cX18_literalsOfTwo : ByteArray := prog_22_method_71_code
def yX18_literalsOfTwo : MethodName := ⟨RX18, "literalsOfTwo", "(III)I"⟩
abbrev cX18_length : ByteArray := prog_22_method_53_code
def yX18_length : MethodName := ⟨RX18, "length", "(I)I"⟩
abbrev cX18_at : ByteArray := prog_22_method_54_code
def yX18_at : MethodName := ⟨RX18, "at", "(II)I"⟩
abbrev cX18_copied : ByteArray := prog_22_method_65_code
def yX18_copied : MethodName := ⟨RX18, "copied", "(I)I"⟩
abbrev cX18_add : ByteArray := prog_22_method_66_code
def yX18_add : MethodName := ⟨RX18, "add", "(IIII)V"⟩
abbrev cX18_turned : ByteArray := prog_22_method_64_code
def yX18_turned : MethodName := ⟨RX18, "turned", "(I)I"⟩
abbrev cX18_product : ByteArray := prog_22_method_72_code
def yX18_product : MethodName := ⟨RX18, "product", "(II)I"⟩
abbrev cX18_moved : ByteArray := prog_22_method_73_code
def yX18_moved : MethodName := ⟨RX18, "moved", "(IIZ)I"⟩
abbrev cX18_isSame : ByteArray := prog_22_method_69_code
def yX18_isSame : MethodName := ⟨RX18, "isSame", "(II)I"⟩
abbrev cX18_single : ByteArray := prog_22_method_56_code
def yX18_single : MethodName := ⟨RX18, "single", "(I)I"⟩
abbrev cX18_isLess : ByteArray := prog_22_method_68_code
def yX18_isLess : MethodName := ⟨RX18, "isLess", "(II)I"⟩
abbrev cX18_settled : ByteArray := prog_22_method_59_code
def yX18_settled : MethodName := ⟨RX18, "settled", "(II)I"⟩
abbrev cX18_chosen : ByteArray := prog_22_method_63_code
def yX18_chosen : MethodName := ⟨RX18, "chosen", "(III)I"⟩
abbrev cX18_literalsOfCall : ByteArray := prog_22_method_74_code
def yX18_literalsOfCall : MethodName := ⟨RX18, "literalsOfCall", "(II)I"⟩
abbrev cX18_number : ByteArray := prog_22_method_58_code
def yX18_number : MethodName := ⟨RX18, "number", "(II)I"⟩
abbrev cX18_bitOf : ByteArray := prog_22_method_57_code
def yX18_bitOf : MethodName := ⟨RX18, "bitOf", "(JI)I"⟩
abbrev cX18_literalsOfOne : ByteArray := prog_22_method_67_code
def yX18_literalsOfOne : MethodName := ⟨RX18, "literalsOfOne", "(II)I"⟩
abbrev cX18_step : ByteArray := prog_22_method_76_code
def yX18_step : MethodName := ⟨RX18, "step", "(III)V"⟩
abbrev cX18_merge : ByteArray := prog_22_method_75_code
def yX18_merge : MethodName := ⟨RX18, "merge", "(IIIII)V"⟩
abbrev cX18_tidy : ByteArray := prog_22_method_60_code
def yX18_tidy : MethodName := ⟨RX18, "tidy", "(II)V"⟩
abbrev cX18_stepCase : ByteArray := prog_22_method_77_code
def yX18_stepCase : MethodName := ⟨RX18, "stepCase", "(IIII)V"⟩
abbrev cX18_makeTwin : ByteArray := prog_22_method_80_code
def yX18_makeTwin : MethodName := ⟨RX18, "makeTwin", "()Z"⟩
abbrev cX18_with : ByteArray := prog_22_method_79_code
def yX18_with : MethodName := ⟨RX18, "with", "([II)I"⟩
abbrev cX18_label : ByteArray := prog_22_method_21_code
def yX18_label : MethodName := ⟨RX18, "label", "(IIZ)I"⟩
abbrev cX18_literalOf : ByteArray := prog_22_method_81_code
def yX18_literalOf : MethodName := ⟨RX18, "literalOf", "(III)I"⟩
theorem q312 : (Jvm.Cond.initialized "CircuitWardenModel$Walk") ∈ lw_all := lw_g (lw_at lw_m1 23 rfl) rfl
theorem q2215 : (Jvm.Cond.instantiable "CircuitWardenModel$Walk" (60 : Nat)) ∈ lw_all := lw_g (lw_at lw_m9 6 rfl) rfl
theorem q2217 : (Jvm.Cond.instanceMethod ({ cls := "CircuitWardenModel$Walk", name := "<init>", desc := "()V" } : Jvm.MethodName)) ∈ lw_all := lw_g (lw_at lw_m9 8 rfl) rfl
theorem q2218 : (Jvm.Cond.code ({ cls := "CircuitWardenModel$Walk", name := "<init>", desc := "()V" } : Jvm.MethodName) prog_22_method_1_code (1 : Nat) (Option.none : Option Jvm.ClassFile.FieldType)) ∈ lw_all := lw_g (lw_at lw_m9 9 rfl) rfl
theorem q2219 : (Jvm.Cond.methodLink "CircuitWardenModel$Walk" (1 : Nat) ({ cls := "java/lang/Object", name := "<init>", desc := "()V" } : Jvm.MethodName)) ∈ lw_all := lw_g (lw_at lw_m9 10 rfl) rfl
theorem q2220 : (Jvm.Cond.classLink "CircuitWardenModel$Walk" (75 : Nat) "CircuitWardenModel$Nodes") ∈ lw_all := lw_g (lw_at lw_m9 11 rfl) rfl
theorem q2222 : (Jvm.Cond.methodLink "CircuitWardenModel$Walk" (77 : Nat) ({ cls := "CircuitWardenModel$Nodes", name := "<init>", desc := "(I)V" } : Jvm.MethodName)) ∈ lw_all := lw_g (lw_at lw_m9 13 rfl) rfl
theorem q2240 : (Jvm.Cond.fieldLink "CircuitWardenModel$Walk" (502 : Nat) "CircuitWardenModel$Nodes" "left" "[I") ∈ lw_all := lw_g (lw_at lw_m9 31 rfl) rfl
theorem q2244 : (Jvm.Cond.fieldLink "CircuitWardenModel$Walk" (509 : Nat) "CircuitWardenModel$Nodes" "right" "[I") ∈ lw_all := lw_g (lw_at lw_m9 35 rfl) rfl
theorem q2248 : (Jvm.Cond.fieldLink "CircuitWardenModel$Walk" (501 : Nat) "CircuitWardenModel$Nodes" "count" "I") ∈ lw_all := lw_g (lw_at lw_m9 39 rfl) rfl
theorem q2269 : (Jvm.Cond.classLink "CircuitWardenModel$Walk" (105 : Nat) "CircuitWardenModel$Walk$Way") ∈ lw_all := lw_g (lw_at lw_m9 60 rfl) rfl
theorem q2271 : (Jvm.Cond.methodLinkNest "CircuitWardenModel$Walk" (107 : Nat) ({ cls := "CircuitWardenModel$Walk$Way", name := "<init>", desc := "()V" } : Jvm.MethodName) "CircuitWardenModel") ∈ lw_tbl := lw_at lw_m9 62 rfl
theorem q2276 : (Jvm.Cond.fieldLink "CircuitWardenModel$Walk" (328 : Nat) "CircuitWardenModel$Walk$Way" "pile" "[I") ∈ lw_all := lw_g (lw_at lw_m9 67 rfl) rfl
theorem q2278 : (Jvm.Cond.fieldLink "CircuitWardenModel$Walk" (322 : Nat) "CircuitWardenModel$Walk$Way" "top" "I") ∈ lw_all := lw_g (lw_at lw_m9 69 rfl) rfl
theorem q2280 : (Jvm.Cond.fieldLink "CircuitWardenModel$Walk" (320 : Nat) "CircuitWardenModel$Walk$Way" "state" "[I") ∈ lw_all := lw_g (lw_at lw_m9 71 rfl) rfl
theorem q2282 : (Jvm.Cond.fieldLink "CircuitWardenModel$Walk" (346 : Nat) "CircuitWardenModel$Walk$Way" "modesNow" "[I") ∈ lw_all := lw_g (lw_at lw_m9 73 rfl) rfl
theorem q2293 : (Jvm.Cond.fieldLink "CircuitWardenModel$Walk" (132 : Nat) "CircuitWardenModel$Walk" "kinds" "[B") ∈ lw_all := lw_g (lw_at lw_m9 84 rfl) rfl
theorem q2294 : (Jvm.Cond.fieldLink "CircuitWardenModel$Walk" (136 : Nat) "CircuitWardenModel$Walk" "values" "[I") ∈ lw_all := lw_g (lw_at lw_m9 85 rfl) rfl
theorem q2295 : (Jvm.Cond.fieldLink "CircuitWardenModel$Walk" (125 : Nat) "CircuitWardenModel$Walk" "sizes" "[I") ∈ lw_all := lw_g (lw_at lw_m9 86 rfl) rfl
theorem q2296 : (Jvm.Cond.fieldLink "CircuitWardenModel$Walk" (139 : Nat) "CircuitWardenModel$Walk" "count" "I") ∈ lw_all := lw_g (lw_at lw_m9 87 rfl) rfl
theorem q2297 : (Jvm.Cond.fieldLink "CircuitWardenModel$Walk" (7 : Nat) "CircuitWardenModel$Walk" "items" "[I") ∈ lw_all := lw_g (lw_at lw_m9 88 rfl) rfl
theorem q2298 : (Jvm.Cond.fieldLink "CircuitWardenModel$Walk" (13 : Nat) "CircuitWardenModel$Walk" "numbers" "[I") ∈ lw_all := lw_g (lw_at lw_m9 89 rfl) rfl
theorem q2299 : (Jvm.Cond.fieldLink "CircuitWardenModel$Walk" (16 : Nat) "CircuitWardenModel$Walk" "sumTime" "[I") ∈ lw_all := lw_g (lw_at lw_m9 90 rfl) rfl
theorem q2300 : (Jvm.Cond.fieldLink "CircuitWardenModel$Walk" (19 : Nat) "CircuitWardenModel$Walk" "sumWas" "[I") ∈ lw_all := lw_g (lw_at lw_m9 91 rfl) rfl
theorem q2301 : (Jvm.Cond.fieldLink "CircuitWardenModel$Walk" (147 : Nat) "CircuitWardenModel$Walk" "time" "I") ∈ lw_all := lw_g (lw_at lw_m9 92 rfl) rfl
theorem q2302 : (Jvm.Cond.fieldLink "CircuitWardenModel$Walk" (195 : Nat) "CircuitWardenModel$Walk" "ownAsked" "I") ∈ lw_all := lw_g (lw_at lw_m9 93 rfl) rfl
theorem q2303 : (Jvm.Cond.fieldLink "CircuitWardenModel$Walk" (22 : Nat) "CircuitWardenModel$Walk" "signals" "[I") ∈ lw_all := lw_g (lw_at lw_m9 94 rfl) rfl
theorem q2305 : (Jvm.Cond.fieldLink "CircuitWardenModel$Walk" (150 : Nat) "CircuitWardenModel$Walk" "signalCount" "I") ∈ lw_all := lw_g (lw_at lw_m9 96 rfl) rfl
theorem q2306 : (Jvm.Cond.fieldLink "CircuitWardenModel$Walk" (25 : Nat) "CircuitWardenModel$Walk" "widths" "[I") ∈ lw_all := lw_g (lw_at lw_m9 97 rfl) rfl
theorem q2308 : (Jvm.Cond.fieldLink "CircuitWardenModel$Walk" (156 : Nat) "CircuitWardenModel$Walk" "modes" "I") ∈ lw_all := lw_g (lw_at lw_m9 99 rfl) rfl
theorem q2309 : (Jvm.Cond.fieldLink "CircuitWardenModel$Walk" (159 : Nat) "CircuitWardenModel$Walk" "bits" "I") ∈ lw_all := lw_g (lw_at lw_m9 100 rfl) rfl
theorem q2310 : (Jvm.Cond.fieldLink "CircuitWardenModel$Walk" (153 : Nat) "CircuitWardenModel$Walk" "levels" "I") ∈ lw_all := lw_g (lw_at lw_m9 101 rfl) rfl
theorem q2311 : (Jvm.Cond.fieldLink "CircuitWardenModel$Walk" (28 : Nat) "CircuitWardenModel$Walk" "below" "[Z") ∈ lw_all := lw_g (lw_at lw_m9 102 rfl) rfl
theorem q2312 : (Jvm.Cond.fieldLink "CircuitWardenModel$Walk" (162 : Nat) "CircuitWardenModel$Walk" "next" "I") ∈ lw_all := lw_g (lw_at lw_m9 103 rfl) rfl
theorem q2313 : (Jvm.Cond.fieldLink "CircuitWardenModel$Walk" (32 : Nat) "CircuitWardenModel$Walk" "funs" "[I") ∈ lw_all := lw_g (lw_at lw_m9 104 rfl) rfl
theorem q2314 : (Jvm.Cond.fieldLink "CircuitWardenModel$Walk" (35 : Nat) "CircuitWardenModel$Walk" "constAt" "[I") ∈ lw_all := lw_g (lw_at lw_m9 105 rfl) rfl
theorem q2315 : (Jvm.Cond.fieldLink "CircuitWardenModel$Walk" (38 : Nat) "CircuitWardenModel$Walk" "partAt" "[I") ∈ lw_all := lw_g (lw_at lw_m9 106 rfl) rfl
theorem q2316 : (Jvm.Cond.fieldLink "CircuitWardenModel$Walk" (165 : Nat) "CircuitWardenModel$Walk" "open" "I") ∈ lw_all := lw_g (lw_at lw_m9 107 rfl) rfl
theorem q2317 : (Jvm.Cond.fieldLink "CircuitWardenModel$Walk" (41 : Nat) "CircuitWardenModel$Walk" "consts" "[I") ∈ lw_all := lw_g (lw_at lw_m9 108 rfl) rfl
theorem q2318 : (Jvm.Cond.fieldLink "CircuitWardenModel$Walk" (168 : Nat) "CircuitWardenModel$Walk" "constTop" "I") ∈ lw_all := lw_g (lw_at lw_m9 109 rfl) rfl
theorem q2319 : (Jvm.Cond.fieldLink "CircuitWardenModel$Walk" (44 : Nat) "CircuitWardenModel$Walk" "partLabels" "[I") ∈ lw_all := lw_g (lw_at lw_m9 110 rfl) rfl
theorem q2320 : (Jvm.Cond.fieldLink "CircuitWardenModel$Walk" (47 : Nat) "CircuitWardenModel$Walk" "partKnown" "[Z") ∈ lw_all := lw_g (lw_at lw_m9 111 rfl) rfl
theorem q2321 : (Jvm.Cond.fieldLink "CircuitWardenModel$Walk" (50 : Nat) "CircuitWardenModel$Walk" "partValues" "[J") ∈ lw_all := lw_g (lw_at lw_m9 112 rfl) rfl
theorem q2322 : (Jvm.Cond.fieldLink "CircuitWardenModel$Walk" (54 : Nat) "CircuitWardenModel$Walk" "partWidths" "[I") ∈ lw_all := lw_g (lw_at lw_m9 113 rfl) rfl
theorem q2323 : (Jvm.Cond.fieldLink "CircuitWardenModel$Walk" (57 : Nat) "CircuitWardenModel$Walk" "partBits" "[I") ∈ lw_all := lw_g (lw_at lw_m9 114 rfl) rfl
theorem q2324 : (Jvm.Cond.fieldLink "CircuitWardenModel$Walk" (171 : Nat) "CircuitWardenModel$Walk" "partTop" "I") ∈ lw_all := lw_g (lw_at lw_m9 115 rfl) rfl
theorem q2325 : (Jvm.Cond.fieldLink "CircuitWardenModel$Walk" (207 : Nat) "CircuitWardenModel$Walk" "m" "I") ∈ lw_all := lw_g (lw_at lw_m9 116 rfl) rfl
theorem q2326 : (Jvm.Cond.fieldLink "CircuitWardenModel$Walk" (60 : Nat) "CircuitWardenModel$Walk" "labels" "[I") ∈ lw_all := lw_g (lw_at lw_m9 117 rfl) rfl
theorem q2327 : (Jvm.Cond.fieldLink "CircuitWardenModel$Walk" (63 : Nat) "CircuitWardenModel$Walk" "known" "[Z") ∈ lw_all := lw_g (lw_at lw_m9 118 rfl) rfl
theorem q2328 : (Jvm.Cond.fieldLink "CircuitWardenModel$Walk" (66 : Nat) "CircuitWardenModel$Walk" "held" "[J") ∈ lw_all := lw_g (lw_at lw_m9 119 rfl) rfl
theorem q2329 : (Jvm.Cond.fieldLink "CircuitWardenModel$Walk" (216 : Nat) "CircuitWardenModel$Walk" "label" "I") ∈ lw_all := lw_g (lw_at lw_m9 120 rfl) rfl
theorem q2330 : (Jvm.Cond.fieldLink "CircuitWardenModel$Walk" (219 : Nat) "CircuitWardenModel$Walk" "isKnown" "Z") ∈ lw_all := lw_g (lw_at lw_m9 121 rfl) rfl
theorem q2331 : (Jvm.Cond.fieldLink "CircuitWardenModel$Walk" (223 : Nat) "CircuitWardenModel$Walk" "value" "J") ∈ lw_all := lw_g (lw_at lw_m9 122 rfl) rfl
theorem q2332 : (Jvm.Cond.fieldLink "CircuitWardenModel$Walk" (227 : Nat) "CircuitWardenModel$Walk" "width" "I") ∈ lw_all := lw_g (lw_at lw_m9 123 rfl) rfl
theorem q2333 : (Jvm.Cond.fieldLink "CircuitWardenModel$Walk" (325 : Nat) "CircuitWardenModel$Walk" "ways" "I") ∈ lw_all := lw_g (lw_at lw_m9 124 rfl) rfl
theorem q2335 : (Jvm.Cond.fieldLink "CircuitWardenModel$Walk" (385 : Nat) "CircuitWardenModel$Walk" "leakSignal" "I") ∈ lw_all := lw_g (lw_at lw_m9 126 rfl) rfl
theorem q2337 : (Jvm.Cond.fieldLink "CircuitWardenModel$Walk" (388 : Nat) "CircuitWardenModel$Walk" "leakM" "I") ∈ lw_all := lw_g (lw_at lw_m9 128 rfl) rfl
theorem q2339 : (Jvm.Cond.fieldLink "CircuitWardenModel$Walk" (69 : Nat) "CircuitWardenModel$Walk" "leaks" "[Z") ∈ lw_all := lw_g (lw_at lw_m9 130 rfl) rfl
theorem q2340 : (Jvm.Cond.fieldLink "CircuitWardenModel$Walk" (72 : Nat) "CircuitWardenModel$Walk" "leakAt" "[I") ∈ lw_all := lw_g (lw_at lw_m9 131 rfl) rfl
theorem q2341 : (Jvm.Cond.fieldLink "CircuitWardenModel$Walk" (80 : Nat) "CircuitWardenModel$Walk" "net" "LCircuitWardenModel$Nodes;") ∈ lw_all := lw_g (lw_at lw_m9 132 rfl) rfl
theorem q2344 : (Jvm.Cond.fieldLink "CircuitWardenModel$Walk" (84 : Nat) "CircuitWardenModel$Walk" "twin" "LCircuitWardenModel$Nodes;") ∈ lw_all := lw_g (lw_at lw_m9 135 rfl) rfl
theorem q2347 : (Jvm.Cond.fieldLink "CircuitWardenModel$Walk" (87 : Nat) "CircuitWardenModel$Walk" "own" "[I") ∈ lw_all := lw_g (lw_at lw_m9 138 rfl) rfl
theorem q2348 : (Jvm.Cond.fieldLink "CircuitWardenModel$Walk" (90 : Nat) "CircuitWardenModel$Walk" "nexts" "[I") ∈ lw_all := lw_g (lw_at lw_m9 139 rfl) rfl
theorem q2349 : (Jvm.Cond.fieldLink "CircuitWardenModel$Walk" (93 : Nat) "CircuitWardenModel$Walk" "twinValue" "[I") ∈ lw_all := lw_g (lw_at lw_m9 140 rfl) rfl
theorem q2350 : (Jvm.Cond.fieldLink "CircuitWardenModel$Walk" (96 : Nat) "CircuitWardenModel$Walk" "twinTaint" "[I") ∈ lw_all := lw_g (lw_at lw_m9 141 rfl) rfl
theorem q2351 : (Jvm.Cond.fieldLink "CircuitWardenModel$Walk" (99 : Nat) "CircuitWardenModel$Walk" "inputs" "[I") ∈ lw_all := lw_g (lw_at lw_m9 142 rfl) rfl
theorem q2354 : (Jvm.Cond.fieldLink "CircuitWardenModel$Walk" (493 : Nat) "CircuitWardenModel$Walk" "inputCount" "I") ∈ lw_all := lw_g (lw_at lw_m9 145 rfl) rfl
theorem q2355 : (Jvm.Cond.fieldLink "CircuitWardenModel$Walk" (102 : Nat) "CircuitWardenModel$Walk" "states" "[I") ∈ lw_all := lw_g (lw_at lw_m9 146 rfl) rfl
theorem q2356 : (Jvm.Cond.fieldLink "CircuitWardenModel$Walk" (277 : Nat) "CircuitWardenModel$Walk" "stateTop" "I") ∈ lw_all := lw_g (lw_at lw_m9 147 rfl) rfl
theorem q2357 : (Jvm.Cond.fieldLink "CircuitWardenModel$Walk" (108 : Nat) "CircuitWardenModel$Walk" "now" "LCircuitWardenModel$Walk$Way;") ∈ lw_all := lw_g (lw_at lw_m9 148 rfl) rfl
theorem q2358 : (Jvm.Cond.fieldLink "CircuitWardenModel$Walk" (112 : Nat) "CircuitWardenModel$Walk" "waiting" "[LCircuitWardenModel$Walk$Way;") ∈ lw_all := lw_g (lw_at lw_m9 149 rfl) rfl
theorem q2359 : (Jvm.Cond.fieldLink "CircuitWardenModel$Walk" (313 : Nat) "CircuitWardenModel$Walk" "waits" "I") ∈ lw_all := lw_g (lw_at lw_m9 150 rfl) rfl
theorem q2360 : (Jvm.Cond.fieldLink "CircuitWardenModel$Walk" (116 : Nat) "CircuitWardenModel$Walk" "toldBy" "[I") ∈ lw_all := lw_g (lw_at lw_m9 151 rfl) rfl
theorem q2361 : (Jvm.Cond.fieldLink "CircuitWardenModel$Walk" (119 : Nat) "CircuitWardenModel$Walk" "heap" "[I") ∈ lw_all := lw_g (lw_at lw_m9 152 rfl) rfl
theorem q2362 : (Jvm.Cond.fieldLink "CircuitWardenModel$Walk" (391 : Nat) "CircuitWardenModel$Walk" "heapTop" "I") ∈ lw_all := lw_g (lw_at lw_m9 153 rfl) rfl
theorem q2363 : (Jvm.Cond.fieldLink "CircuitWardenModel$Walk" (122 : Nat) "CircuitWardenModel$Walk" "aside" "[I") ∈ lw_all := lw_g (lw_at lw_m9 154 rfl) rfl
theorem q2364 : (Jvm.Cond.lays "CircuitWardenModel$Walk" "CircuitWardenModel$Walk" "kinds" "[B") ∈ lw_all := lw_g (lw_at lw_m9 155 rfl) rfl
theorem q2365 : (Jvm.Cond.soleField "CircuitWardenModel$Walk" "kinds") ∈ lw_all := lw_g (lw_at lw_m9 156 rfl) rfl
theorem q2366 : (Jvm.Cond.lays "CircuitWardenModel$Walk" "CircuitWardenModel$Walk" "values" "[I") ∈ lw_all := lw_g (lw_at lw_m9 157 rfl) rfl
theorem q2367 : (Jvm.Cond.soleField "CircuitWardenModel$Walk" "values") ∈ lw_all := lw_g (lw_at lw_m9 158 rfl) rfl
theorem q2368 : (Jvm.Cond.lays "CircuitWardenModel$Walk" "CircuitWardenModel$Walk" "sizes" "[I") ∈ lw_all := lw_g (lw_at lw_m9 159 rfl) rfl
theorem q2369 : (Jvm.Cond.soleField "CircuitWardenModel$Walk" "sizes") ∈ lw_all := lw_g (lw_at lw_m9 160 rfl) rfl
theorem q2370 : (Jvm.Cond.lays "CircuitWardenModel$Walk" "CircuitWardenModel$Walk" "count" "I") ∈ lw_all := lw_g (lw_at lw_m9 161 rfl) rfl
theorem q2371 : (Jvm.Cond.soleField "CircuitWardenModel$Walk" "count") ∈ lw_all := lw_g (lw_at lw_m9 162 rfl) rfl
theorem q2372 : (Jvm.Cond.lays "CircuitWardenModel$Walk" "CircuitWardenModel$Walk" "items" "[I") ∈ lw_all := lw_g (lw_at lw_m9 163 rfl) rfl
theorem q2373 : (Jvm.Cond.soleField "CircuitWardenModel$Walk" "items") ∈ lw_all := lw_g (lw_at lw_m9 164 rfl) rfl
theorem q2374 : (Jvm.Cond.lays "CircuitWardenModel$Walk" "CircuitWardenModel$Walk" "numbers" "[I") ∈ lw_all := lw_g (lw_at lw_m9 165 rfl) rfl
theorem q2375 : (Jvm.Cond.soleField "CircuitWardenModel$Walk" "numbers") ∈ lw_all := lw_g (lw_at lw_m9 166 rfl) rfl
theorem q2376 : (Jvm.Cond.lays "CircuitWardenModel$Walk" "CircuitWardenModel$Walk" "sumTime" "[I") ∈ lw_all := lw_g (lw_at lw_m9 167 rfl) rfl
theorem q2377 : (Jvm.Cond.soleField "CircuitWardenModel$Walk" "sumTime") ∈ lw_all := lw_g (lw_at lw_m9 168 rfl) rfl
theorem q2378 : (Jvm.Cond.lays "CircuitWardenModel$Walk" "CircuitWardenModel$Walk" "sumWas" "[I") ∈ lw_all := lw_g (lw_at lw_m9 169 rfl) rfl
theorem q2379 : (Jvm.Cond.soleField "CircuitWardenModel$Walk" "sumWas") ∈ lw_all := lw_g (lw_at lw_m9 170 rfl) rfl
theorem q2380 : (Jvm.Cond.lays "CircuitWardenModel$Walk" "CircuitWardenModel$Walk" "time" "I") ∈ lw_all := lw_g (lw_at lw_m9 171 rfl) rfl
theorem q2381 : (Jvm.Cond.soleField "CircuitWardenModel$Walk" "time") ∈ lw_all := lw_g (lw_at lw_m9 172 rfl) rfl
theorem q2382 : (Jvm.Cond.lays "CircuitWardenModel$Walk" "CircuitWardenModel$Walk" "ownAsked" "I") ∈ lw_all := lw_g (lw_at lw_m9 173 rfl) rfl
theorem q2383 : (Jvm.Cond.soleField "CircuitWardenModel$Walk" "ownAsked") ∈ lw_all := lw_g (lw_at lw_m9 174 rfl) rfl
theorem q2384 : (Jvm.Cond.laysFinal "CircuitWardenModel$Walk" "CircuitWardenModel$Walk" "signals" "[I") ∈ lw_all := lw_g (lw_at lw_m9 175 rfl) rfl
theorem q2385 : (Jvm.Cond.soleField "CircuitWardenModel$Walk" "signals") ∈ lw_all := lw_g (lw_at lw_m9 176 rfl) rfl
theorem q2386 : (Jvm.Cond.lays "CircuitWardenModel$Walk" "CircuitWardenModel$Walk" "signalCount" "I") ∈ lw_all := lw_g (lw_at lw_m9 177 rfl) rfl
theorem q2387 : (Jvm.Cond.soleField "CircuitWardenModel$Walk" "signalCount") ∈ lw_all := lw_g (lw_at lw_m9 178 rfl) rfl
theorem q2388 : (Jvm.Cond.laysFinal "CircuitWardenModel$Walk" "CircuitWardenModel$Walk" "widths" "[I") ∈ lw_all := lw_g (lw_at lw_m9 179 rfl) rfl
theorem q2389 : (Jvm.Cond.soleField "CircuitWardenModel$Walk" "widths") ∈ lw_all := lw_g (lw_at lw_m9 180 rfl) rfl
theorem q2390 : (Jvm.Cond.lays "CircuitWardenModel$Walk" "CircuitWardenModel$Walk" "modes" "I") ∈ lw_all := lw_g (lw_at lw_m9 181 rfl) rfl
theorem q2391 : (Jvm.Cond.soleField "CircuitWardenModel$Walk" "modes") ∈ lw_all := lw_g (lw_at lw_m9 182 rfl) rfl
theorem q2392 : (Jvm.Cond.lays "CircuitWardenModel$Walk" "CircuitWardenModel$Walk" "bits" "I") ∈ lw_all := lw_g (lw_at lw_m9 183 rfl) rfl
theorem q2393 : (Jvm.Cond.soleField "CircuitWardenModel$Walk" "bits") ∈ lw_all := lw_g (lw_at lw_m9 184 rfl) rfl
theorem q2394 : (Jvm.Cond.lays "CircuitWardenModel$Walk" "CircuitWardenModel$Walk" "levels" "I") ∈ lw_all := lw_g (lw_at lw_m9 185 rfl) rfl
theorem q2395 : (Jvm.Cond.soleField "CircuitWardenModel$Walk" "levels") ∈ lw_all := lw_g (lw_at lw_m9 186 rfl) rfl
theorem q2396 : (Jvm.Cond.laysFinal "CircuitWardenModel$Walk" "CircuitWardenModel$Walk" "below" "[Z") ∈ lw_all := lw_g (lw_at lw_m9 187 rfl) rfl
theorem q2397 : (Jvm.Cond.soleField "CircuitWardenModel$Walk" "below") ∈ lw_all := lw_g (lw_at lw_m9 188 rfl) rfl
theorem q2398 : (Jvm.Cond.lays "CircuitWardenModel$Walk" "CircuitWardenModel$Walk" "next" "I") ∈ lw_all := lw_g (lw_at lw_m9 189 rfl) rfl
theorem q2399 : (Jvm.Cond.soleField "CircuitWardenModel$Walk" "next") ∈ lw_all := lw_g (lw_at lw_m9 190 rfl) rfl
theorem q2400 : (Jvm.Cond.lays "CircuitWardenModel$Walk" "CircuitWardenModel$Walk" "funs" "[I") ∈ lw_all := lw_g (lw_at lw_m9 191 rfl) rfl
theorem q2401 : (Jvm.Cond.soleField "CircuitWardenModel$Walk" "funs") ∈ lw_all := lw_g (lw_at lw_m9 192 rfl) rfl
theorem q2402 : (Jvm.Cond.lays "CircuitWardenModel$Walk" "CircuitWardenModel$Walk" "constAt" "[I") ∈ lw_all := lw_g (lw_at lw_m9 193 rfl) rfl
theorem q2403 : (Jvm.Cond.soleField "CircuitWardenModel$Walk" "constAt") ∈ lw_all := lw_g (lw_at lw_m9 194 rfl) rfl
theorem q2404 : (Jvm.Cond.lays "CircuitWardenModel$Walk" "CircuitWardenModel$Walk" "partAt" "[I") ∈ lw_all := lw_g (lw_at lw_m9 195 rfl) rfl
theorem q2405 : (Jvm.Cond.soleField "CircuitWardenModel$Walk" "partAt") ∈ lw_all := lw_g (lw_at lw_m9 196 rfl) rfl
theorem q2406 : (Jvm.Cond.lays "CircuitWardenModel$Walk" "CircuitWardenModel$Walk" "open" "I") ∈ lw_all := lw_g (lw_at lw_m9 197 rfl) rfl
theorem q2407 : (Jvm.Cond.soleField "CircuitWardenModel$Walk" "open") ∈ lw_all := lw_g (lw_at lw_m9 198 rfl) rfl
theorem q2408 : (Jvm.Cond.lays "CircuitWardenModel$Walk" "CircuitWardenModel$Walk" "consts" "[I") ∈ lw_all := lw_g (lw_at lw_m9 199 rfl) rfl
theorem q2409 : (Jvm.Cond.soleField "CircuitWardenModel$Walk" "consts") ∈ lw_all := lw_g (lw_at lw_m9 200 rfl) rfl
theorem q2410 : (Jvm.Cond.lays "CircuitWardenModel$Walk" "CircuitWardenModel$Walk" "constTop" "I") ∈ lw_all := lw_g (lw_at lw_m9 201 rfl) rfl
theorem q2411 : (Jvm.Cond.soleField "CircuitWardenModel$Walk" "constTop") ∈ lw_all := lw_g (lw_at lw_m9 202 rfl) rfl
theorem q2412 : (Jvm.Cond.lays "CircuitWardenModel$Walk" "CircuitWardenModel$Walk" "partLabels" "[I") ∈ lw_all := lw_g (lw_at lw_m9 203 rfl) rfl
theorem q2413 : (Jvm.Cond.soleField "CircuitWardenModel$Walk" "partLabels") ∈ lw_all := lw_g (lw_at lw_m9 204 rfl) rfl
theorem q2414 : (Jvm.Cond.lays "CircuitWardenModel$Walk" "CircuitWardenModel$Walk" "partKnown" "[Z") ∈ lw_all := lw_g (lw_at lw_m9 205 rfl) rfl
theorem q2415 : (Jvm.Cond.soleField "CircuitWardenModel$Walk" "partKnown") ∈ lw_all := lw_g (lw_at lw_m9 206 rfl) rfl
theorem q2416 : (Jvm.Cond.lays "CircuitWardenModel$Walk" "CircuitWardenModel$Walk" "partValues" "[J") ∈ lw_all := lw_g (lw_at lw_m9 207 rfl) rfl
theorem q2417 : (Jvm.Cond.soleField "CircuitWardenModel$Walk" "partValues") ∈ lw_all := lw_g (lw_at lw_m9 208 rfl) rfl
theorem q2418 : (Jvm.Cond.lays "CircuitWardenModel$Walk" "CircuitWardenModel$Walk" "partWidths" "[I") ∈ lw_all := lw_g (lw_at lw_m9 209 rfl) rfl
theorem q2419 : (Jvm.Cond.soleField "CircuitWardenModel$Walk" "partWidths") ∈ lw_all := lw_g (lw_at lw_m9 210 rfl) rfl
theorem q2420 : (Jvm.Cond.lays "CircuitWardenModel$Walk" "CircuitWardenModel$Walk" "partBits" "[I") ∈ lw_all := lw_g (lw_at lw_m9 211 rfl) rfl
theorem q2421 : (Jvm.Cond.soleField "CircuitWardenModel$Walk" "partBits") ∈ lw_all := lw_g (lw_at lw_m9 212 rfl) rfl
theorem q2422 : (Jvm.Cond.lays "CircuitWardenModel$Walk" "CircuitWardenModel$Walk" "partTop" "I") ∈ lw_all := lw_g (lw_at lw_m9 213 rfl) rfl
theorem q2423 : (Jvm.Cond.soleField "CircuitWardenModel$Walk" "partTop") ∈ lw_all := lw_g (lw_at lw_m9 214 rfl) rfl
theorem q2424 : (Jvm.Cond.lays "CircuitWardenModel$Walk" "CircuitWardenModel$Walk" "m" "I") ∈ lw_all := lw_g (lw_at lw_m9 215 rfl) rfl
theorem q2425 : (Jvm.Cond.soleField "CircuitWardenModel$Walk" "m") ∈ lw_all := lw_g (lw_at lw_m9 216 rfl) rfl
theorem q2426 : (Jvm.Cond.laysFinal "CircuitWardenModel$Walk" "CircuitWardenModel$Walk" "labels" "[I") ∈ lw_all := lw_g (lw_at lw_m9 217 rfl) rfl
theorem q2427 : (Jvm.Cond.soleField "CircuitWardenModel$Walk" "labels") ∈ lw_all := lw_g (lw_at lw_m9 218 rfl) rfl
theorem q2428 : (Jvm.Cond.laysFinal "CircuitWardenModel$Walk" "CircuitWardenModel$Walk" "known" "[Z") ∈ lw_all := lw_g (lw_at lw_m9 219 rfl) rfl
theorem q2429 : (Jvm.Cond.soleField "CircuitWardenModel$Walk" "known") ∈ lw_all := lw_g (lw_at lw_m9 220 rfl) rfl
theorem q2430 : (Jvm.Cond.laysFinal "CircuitWardenModel$Walk" "CircuitWardenModel$Walk" "held" "[J") ∈ lw_all := lw_g (lw_at lw_m9 221 rfl) rfl
theorem q2431 : (Jvm.Cond.soleField "CircuitWardenModel$Walk" "held") ∈ lw_all := lw_g (lw_at lw_m9 222 rfl) rfl
theorem q2432 : (Jvm.Cond.lays "CircuitWardenModel$Walk" "CircuitWardenModel$Walk" "label" "I") ∈ lw_all := lw_g (lw_at lw_m9 223 rfl) rfl
theorem q2433 : (Jvm.Cond.soleField "CircuitWardenModel$Walk" "label") ∈ lw_all := lw_g (lw_at lw_m9 224 rfl) rfl
theorem q2434 : (Jvm.Cond.lays "CircuitWardenModel$Walk" "CircuitWardenModel$Walk" "isKnown" "Z") ∈ lw_all := lw_g (lw_at lw_m9 225 rfl) rfl
theorem q2435 : (Jvm.Cond.soleField "CircuitWardenModel$Walk" "isKnown") ∈ lw_all := lw_g (lw_at lw_m9 226 rfl) rfl
theorem q2436 : (Jvm.Cond.lays "CircuitWardenModel$Walk" "CircuitWardenModel$Walk" "value" "J") ∈ lw_all := lw_g (lw_at lw_m9 227 rfl) rfl
theorem q2437 : (Jvm.Cond.soleField "CircuitWardenModel$Walk" "value") ∈ lw_all := lw_g (lw_at lw_m9 228 rfl) rfl
theorem q2438 : (Jvm.Cond.lays "CircuitWardenModel$Walk" "CircuitWardenModel$Walk" "width" "I") ∈ lw_all := lw_g (lw_at lw_m9 229 rfl) rfl
theorem q2439 : (Jvm.Cond.soleField "CircuitWardenModel$Walk" "width") ∈ lw_all := lw_g (lw_at lw_m9 230 rfl) rfl
theorem q2440 : (Jvm.Cond.lays "CircuitWardenModel$Walk" "CircuitWardenModel$Walk" "ways" "I") ∈ lw_all := lw_g (lw_at lw_m9 231 rfl) rfl
theorem q2441 : (Jvm.Cond.soleField "CircuitWardenModel$Walk" "ways") ∈ lw_all := lw_g (lw_at lw_m9 232 rfl) rfl
theorem q2442 : (Jvm.Cond.lays "CircuitWardenModel$Walk" "CircuitWardenModel$Walk" "leakSignal" "I") ∈ lw_all := lw_g (lw_at lw_m9 233 rfl) rfl
theorem q2443 : (Jvm.Cond.soleField "CircuitWardenModel$Walk" "leakSignal") ∈ lw_all := lw_g (lw_at lw_m9 234 rfl) rfl
theorem q2444 : (Jvm.Cond.lays "CircuitWardenModel$Walk" "CircuitWardenModel$Walk" "leakM" "I") ∈ lw_all := lw_g (lw_at lw_m9 235 rfl) rfl
theorem q2445 : (Jvm.Cond.soleField "CircuitWardenModel$Walk" "leakM") ∈ lw_all := lw_g (lw_at lw_m9 236 rfl) rfl
theorem q2446 : (Jvm.Cond.laysFinal "CircuitWardenModel$Walk" "CircuitWardenModel$Walk" "leaks" "[Z") ∈ lw_all := lw_g (lw_at lw_m9 237 rfl) rfl
theorem q2447 : (Jvm.Cond.soleField "CircuitWardenModel$Walk" "leaks") ∈ lw_all := lw_g (lw_at lw_m9 238 rfl) rfl
theorem q2448 : (Jvm.Cond.laysFinal "CircuitWardenModel$Walk" "CircuitWardenModel$Walk" "leakAt" "[I") ∈ lw_all := lw_g (lw_at lw_m9 239 rfl) rfl
theorem q2449 : (Jvm.Cond.soleField "CircuitWardenModel$Walk" "leakAt") ∈ lw_all := lw_g (lw_at lw_m10 0 rfl) rfl
theorem q2450 : (Jvm.Cond.laysFinal "CircuitWardenModel$Walk" "CircuitWardenModel$Walk" "net" "LCircuitWardenModel$Nodes;") ∈ lw_all := lw_g (lw_at lw_m10 1 rfl) rfl
theorem q2451 : (Jvm.Cond.soleField "CircuitWardenModel$Walk" "net") ∈ lw_all := lw_g (lw_at lw_m10 2 rfl) rfl
theorem q2452 : (Jvm.Cond.laysFinal "CircuitWardenModel$Walk" "CircuitWardenModel$Walk" "twin" "LCircuitWardenModel$Nodes;") ∈ lw_all := lw_g (lw_at lw_m10 3 rfl) rfl
theorem q2453 : (Jvm.Cond.soleField "CircuitWardenModel$Walk" "twin") ∈ lw_all := lw_g (lw_at lw_m10 4 rfl) rfl
theorem q2454 : (Jvm.Cond.laysFinal "CircuitWardenModel$Walk" "CircuitWardenModel$Walk" "own" "[I") ∈ lw_all := lw_g (lw_at lw_m10 5 rfl) rfl
theorem q2455 : (Jvm.Cond.soleField "CircuitWardenModel$Walk" "own") ∈ lw_all := lw_g (lw_at lw_m10 6 rfl) rfl
theorem q2456 : (Jvm.Cond.laysFinal "CircuitWardenModel$Walk" "CircuitWardenModel$Walk" "nexts" "[I") ∈ lw_all := lw_g (lw_at lw_m10 7 rfl) rfl
theorem q2457 : (Jvm.Cond.soleField "CircuitWardenModel$Walk" "nexts") ∈ lw_all := lw_g (lw_at lw_m10 8 rfl) rfl
theorem q2458 : (Jvm.Cond.lays "CircuitWardenModel$Walk" "CircuitWardenModel$Walk" "twinValue" "[I") ∈ lw_all := lw_g (lw_at lw_m10 9 rfl) rfl
theorem q2459 : (Jvm.Cond.soleField "CircuitWardenModel$Walk" "twinValue") ∈ lw_all := lw_g (lw_at lw_m10 10 rfl) rfl
theorem q2460 : (Jvm.Cond.lays "CircuitWardenModel$Walk" "CircuitWardenModel$Walk" "twinTaint" "[I") ∈ lw_all := lw_g (lw_at lw_m10 11 rfl) rfl
theorem q2461 : (Jvm.Cond.soleField "CircuitWardenModel$Walk" "twinTaint") ∈ lw_all := lw_g (lw_at lw_m10 12 rfl) rfl
theorem q2462 : (Jvm.Cond.lays "CircuitWardenModel$Walk" "CircuitWardenModel$Walk" "inputs" "[I") ∈ lw_all := lw_g (lw_at lw_m10 13 rfl) rfl
theorem q2463 : (Jvm.Cond.soleField "CircuitWardenModel$Walk" "inputs") ∈ lw_all := lw_g (lw_at lw_m10 14 rfl) rfl
theorem q2464 : (Jvm.Cond.lays "CircuitWardenModel$Walk" "CircuitWardenModel$Walk" "inputCount" "I") ∈ lw_all := lw_g (lw_at lw_m10 15 rfl) rfl
theorem q2465 : (Jvm.Cond.soleField "CircuitWardenModel$Walk" "inputCount") ∈ lw_all := lw_g (lw_at lw_m10 16 rfl) rfl
theorem q2466 : (Jvm.Cond.lays "CircuitWardenModel$Walk" "CircuitWardenModel$Walk" "states" "[I") ∈ lw_all := lw_g (lw_at lw_m10 17 rfl) rfl
theorem q2467 : (Jvm.Cond.soleField "CircuitWardenModel$Walk" "states") ∈ lw_all := lw_g (lw_at lw_m10 18 rfl) rfl
theorem q2468 : (Jvm.Cond.lays "CircuitWardenModel$Walk" "CircuitWardenModel$Walk" "stateTop" "I") ∈ lw_all := lw_g (lw_at lw_m10 19 rfl) rfl
theorem q2469 : (Jvm.Cond.soleField "CircuitWardenModel$Walk" "stateTop") ∈ lw_all := lw_g (lw_at lw_m10 20 rfl) rfl
theorem q2470 : (Jvm.Cond.laysFinal "CircuitWardenModel$Walk" "CircuitWardenModel$Walk" "now" "LCircuitWardenModel$Walk$Way;") ∈ lw_all := lw_g (lw_at lw_m10 21 rfl) rfl
theorem q2471 : (Jvm.Cond.soleField "CircuitWardenModel$Walk" "now") ∈ lw_all := lw_g (lw_at lw_m10 22 rfl) rfl
theorem q2472 : (Jvm.Cond.lays "CircuitWardenModel$Walk" "CircuitWardenModel$Walk" "waiting" "[LCircuitWardenModel$Walk$Way;") ∈ lw_all := lw_g (lw_at lw_m10 23 rfl) rfl
theorem q2473 : (Jvm.Cond.soleField "CircuitWardenModel$Walk" "waiting") ∈ lw_all := lw_g (lw_at lw_m10 24 rfl) rfl
theorem q2474 : (Jvm.Cond.lays "CircuitWardenModel$Walk" "CircuitWardenModel$Walk" "waits" "I") ∈ lw_all := lw_g (lw_at lw_m10 25 rfl) rfl
theorem q2475 : (Jvm.Cond.soleField "CircuitWardenModel$Walk" "waits") ∈ lw_all := lw_g (lw_at lw_m10 26 rfl) rfl
theorem q2476 : (Jvm.Cond.lays "CircuitWardenModel$Walk" "CircuitWardenModel$Walk" "toldBy" "[I") ∈ lw_all := lw_g (lw_at lw_m10 27 rfl) rfl
theorem q2477 : (Jvm.Cond.soleField "CircuitWardenModel$Walk" "toldBy") ∈ lw_all := lw_g (lw_at lw_m10 28 rfl) rfl
theorem q2478 : (Jvm.Cond.lays "CircuitWardenModel$Walk" "CircuitWardenModel$Walk" "heap" "[I") ∈ lw_all := lw_g (lw_at lw_m10 29 rfl) rfl
theorem q2479 : (Jvm.Cond.soleField "CircuitWardenModel$Walk" "heap") ∈ lw_all := lw_g (lw_at lw_m10 30 rfl) rfl
theorem q2480 : (Jvm.Cond.lays "CircuitWardenModel$Walk" "CircuitWardenModel$Walk" "heapTop" "I") ∈ lw_all := lw_g (lw_at lw_m10 31 rfl) rfl
theorem q2481 : (Jvm.Cond.soleField "CircuitWardenModel$Walk" "heapTop") ∈ lw_all := lw_g (lw_at lw_m10 32 rfl) rfl
theorem q2482 : (Jvm.Cond.lays "CircuitWardenModel$Walk" "CircuitWardenModel$Walk" "aside" "[I") ∈ lw_all := lw_g (lw_at lw_m10 33 rfl) rfl
theorem q2483 : (Jvm.Cond.soleField "CircuitWardenModel$Walk" "aside") ∈ lw_all := lw_g (lw_at lw_m10 34 rfl) rfl
theorem q2484 : (Jvm.Cond.superclass "CircuitWardenModel$Walk" "java/lang/Object") ∈ lw_all := lw_g (lw_at lw_m10 35 rfl) rfl
theorem q2550 : (Jvm.Cond.instanceMethod ({ cls := "CircuitWardenModel$Walk", name := "begin", desc := "([B[I[III)V" } : Jvm.MethodName)) ∈ lw_all := lw_g (lw_at lw_m10 101 rfl) rfl
theorem q2551 : (Jvm.Cond.selects "CircuitWardenModel$Walk" ({ cls := "CircuitWardenModel$Walk", name := "begin", desc := "([B[I[III)V" } : Jvm.MethodName) ({ cls := "CircuitWardenModel$Walk", name := "begin", desc := "([B[I[III)V" } : Jvm.MethodName)) ∈ lw_all := lw_g (lw_at lw_m10 102 rfl) rfl
theorem q2552 : (Jvm.Cond.code ({ cls := "CircuitWardenModel$Walk", name := "begin", desc := "([B[I[III)V" } : Jvm.MethodName) prog_22_method_4_code (7 : Nat) (Option.none : Option Jvm.ClassFile.FieldType)) ∈ lw_all := lw_g (lw_at lw_m10 103 rfl) rfl
theorem q2553 : (Jvm.Cond.methodLink "CircuitWardenModel$Walk" (143 : Nat) ({ cls := "CircuitWardenModel$Walk", name := "wide", desc := "([II)[I" } : Jvm.MethodName)) ∈ lw_all := lw_g (lw_at lw_m10 104 rfl) rfl
theorem q2554 : (Jvm.Cond.static ({ cls := "CircuitWardenModel$Walk", name := "wide", desc := "([II)[I" } : Jvm.MethodName)) ∈ lw_all := lw_g (lw_at lw_m10 105 rfl) rfl
theorem q2555 : (Jvm.Cond.code ({ cls := "CircuitWardenModel$Walk", name := "wide", desc := "([II)[I" } : Jvm.MethodName) prog_22_method_3_code (3 : Nat) (Option.some (Jvm.ClassFile.FieldType.array Jvm.ClassFile.FieldType.int))) ∈ lw_all := lw_g (lw_at lw_m10 106 rfl) rfl
theorem q2556 : (Jvm.Cond.methodLinkNest "CircuitWardenModel$Walk" (128 : Nat) ({ cls := "CircuitWardenModel$Nodes", name := "more", desc := "([I)[I" } : Jvm.MethodName) "CircuitWardenModel") ∈ lw_tbl := lw_at lw_m10 107 rfl
theorem q2557 : (Jvm.Cond.methodLink "CircuitWardenModel$Walk" (174 : Nat) ({ cls := "CircuitWardenModel$Walk", name := "item", desc := "(I)V" } : Jvm.MethodName)) ∈ lw_all := lw_g (lw_at lw_m10 108 rfl) rfl
theorem q2558 : (Jvm.Cond.privateMethod ({ cls := "CircuitWardenModel$Walk", name := "item", desc := "(I)V" } : Jvm.MethodName)) ∈ lw_tbl := lw_at lw_m10 109 rfl
theorem q2559 : (Jvm.Cond.instanceMethod ({ cls := "CircuitWardenModel$Walk", name := "item", desc := "(I)V" } : Jvm.MethodName)) ∈ lw_all := lw_g (lw_at lw_m10 110 rfl) rfl
theorem q2560 : (Jvm.Cond.code ({ cls := "CircuitWardenModel$Walk", name := "item", desc := "(I)V" } : Jvm.MethodName) prog_22_method_5_code (5 : Nat) (Option.none : Option Jvm.ClassFile.FieldType)) ∈ lw_all := lw_g (lw_at lw_m10 111 rfl) rfl
theorem q2561 : (Jvm.Cond.methodLink "CircuitWardenModel$Walk" (177 : Nat) ({ cls := "CircuitWardenModel$Walk", name := "after", desc := "(I)I" } : Jvm.MethodName)) ∈ lw_all := lw_g (lw_at lw_m10 112 rfl) rfl
theorem q2562 : (Jvm.Cond.privateMethod ({ cls := "CircuitWardenModel$Walk", name := "after", desc := "(I)I" } : Jvm.MethodName)) ∈ lw_tbl := lw_at lw_m10 113 rfl
theorem q2563 : (Jvm.Cond.instanceMethod ({ cls := "CircuitWardenModel$Walk", name := "after", desc := "(I)I" } : Jvm.MethodName)) ∈ lw_all := lw_g (lw_at lw_m10 114 rfl) rfl
theorem q2564 : (Jvm.Cond.code ({ cls := "CircuitWardenModel$Walk", name := "after", desc := "(I)I" } : Jvm.MethodName) prog_22_method_2_code (2 : Nat) (Option.some Jvm.ClassFile.FieldType.int)) ∈ lw_all := lw_g (lw_at lw_m10 115 rfl) rfl
theorem q2565 : (Jvm.Cond.methodLink "CircuitWardenModel$Walk" (181 : Nat) ({ cls := "CircuitWardenModel$Walk", name := "sum", desc := "(I)I" } : Jvm.MethodName)) ∈ lw_all := lw_g (lw_at lw_m10 116 rfl) rfl
theorem q2566 : (Jvm.Cond.privateMethod ({ cls := "CircuitWardenModel$Walk", name := "sum", desc := "(I)I" } : Jvm.MethodName)) ∈ lw_tbl := lw_at lw_m10 117 rfl
theorem q2567 : (Jvm.Cond.instanceMethod ({ cls := "CircuitWardenModel$Walk", name := "sum", desc := "(I)I" } : Jvm.MethodName)) ∈ lw_all := lw_g (lw_at lw_m10 118 rfl) rfl
theorem q2568 : (Jvm.Cond.code ({ cls := "CircuitWardenModel$Walk", name := "sum", desc := "(I)I" } : Jvm.MethodName) prog_22_method_12_code (6 : Nat) (Option.some Jvm.ClassFile.FieldType.int)) ∈ lw_all := lw_g (lw_at lw_m10 119 rfl) rfl
theorem q2569 : (Jvm.Cond.methodLink "CircuitWardenModel$Walk" (192 : Nat) ({ cls := "CircuitWardenModel$Walk", name := "ownConst", desc := "(I)I" } : Jvm.MethodName)) ∈ lw_all := lw_g (lw_at lw_m10 120 rfl) rfl
theorem q2570 : (Jvm.Cond.privateMethod ({ cls := "CircuitWardenModel$Walk", name := "ownConst", desc := "(I)I" } : Jvm.MethodName)) ∈ lw_tbl := lw_at lw_m10 121 rfl
theorem q2571 : (Jvm.Cond.instanceMethod ({ cls := "CircuitWardenModel$Walk", name := "ownConst", desc := "(I)I" } : Jvm.MethodName)) ∈ lw_all := lw_g (lw_at lw_m10 122 rfl) rfl
theorem q2572 : (Jvm.Cond.code ({ cls := "CircuitWardenModel$Walk", name := "ownConst", desc := "(I)I" } : Jvm.MethodName) prog_22_method_10_code (4 : Nat) (Option.some Jvm.ClassFile.FieldType.int)) ∈ lw_all := lw_g (lw_at lw_m10 123 rfl) rfl
theorem q2574 : (Jvm.Cond.instanceMethod ({ cls := "CircuitWardenModel$Walk", name := "lattice", desc := "()Z" } : Jvm.MethodName)) ∈ lw_all := lw_g (lw_at lw_m10 125 rfl) rfl
theorem q2575 : (Jvm.Cond.selects "CircuitWardenModel$Walk" ({ cls := "CircuitWardenModel$Walk", name := "lattice", desc := "()Z" } : Jvm.MethodName) ({ cls := "CircuitWardenModel$Walk", name := "lattice", desc := "()Z" } : Jvm.MethodName)) ∈ lw_all := lw_g (lw_at lw_m10 126 rfl) rfl
theorem q2576 : (Jvm.Cond.code ({ cls := "CircuitWardenModel$Walk", name := "lattice", desc := "()Z" } : Jvm.MethodName) prog_22_method_9_code (3 : Nat) (Option.some Jvm.ClassFile.FieldType.boolean)) ∈ lw_all := lw_g (lw_at lw_m10 127 rfl) rfl
theorem q2577 : (Jvm.Cond.methodLink "CircuitWardenModel$Walk" (188 : Nat) ({ cls := "CircuitWardenModel$Walk", name := "joined", desc := "(II)I" } : Jvm.MethodName)) ∈ lw_all := lw_g (lw_at lw_m10 128 rfl) rfl
theorem q2578 : (Jvm.Cond.instanceMethod ({ cls := "CircuitWardenModel$Walk", name := "joined", desc := "(II)I" } : Jvm.MethodName)) ∈ lw_all := lw_g (lw_at lw_m10 129 rfl) rfl
theorem q2579 : (Jvm.Cond.selects "CircuitWardenModel$Walk" ({ cls := "CircuitWardenModel$Walk", name := "joined", desc := "(II)I" } : Jvm.MethodName) ({ cls := "CircuitWardenModel$Walk", name := "joined", desc := "(II)I" } : Jvm.MethodName)) ∈ lw_all := lw_g (lw_at lw_m10 130 rfl) rfl
theorem q2580 : (Jvm.Cond.code ({ cls := "CircuitWardenModel$Walk", name := "joined", desc := "(II)I" } : Jvm.MethodName) prog_22_method_8_code (6 : Nat) (Option.some Jvm.ClassFile.FieldType.int)) ∈ lw_all := lw_g (lw_at lw_m10 131 rfl) rfl
theorem q2581 : (Jvm.Cond.methodLink "CircuitWardenModel$Walk" (184 : Nat) ({ cls := "CircuitWardenModel$Walk", name := "isBelow", desc := "(II)Z" } : Jvm.MethodName)) ∈ lw_all := lw_g (lw_at lw_m10 132 rfl) rfl
theorem q2582 : (Jvm.Cond.instanceMethod ({ cls := "CircuitWardenModel$Walk", name := "isBelow", desc := "(II)Z" } : Jvm.MethodName)) ∈ lw_all := lw_g (lw_at lw_m10 133 rfl) rfl
theorem q2583 : (Jvm.Cond.selects "CircuitWardenModel$Walk" ({ cls := "CircuitWardenModel$Walk", name := "isBelow", desc := "(II)Z" } : Jvm.MethodName) ({ cls := "CircuitWardenModel$Walk", name := "isBelow", desc := "(II)Z" } : Jvm.MethodName)) ∈ lw_all := lw_g (lw_at lw_m10 134 rfl) rfl
theorem q2584 : (Jvm.Cond.code ({ cls := "CircuitWardenModel$Walk", name := "isBelow", desc := "(II)Z" } : Jvm.MethodName) prog_22_method_7_code (3 : Nat) (Option.some Jvm.ClassFile.FieldType.boolean)) ∈ lw_all := lw_g (lw_at lw_m10 135 rfl) rfl
theorem q2586 : (Jvm.Cond.instanceMethod ({ cls := "CircuitWardenModel$Walk", name := "judge", desc := "()I" } : Jvm.MethodName)) ∈ lw_all := lw_g (lw_at lw_m10 137 rfl) rfl
theorem q2587 : (Jvm.Cond.selects "CircuitWardenModel$Walk" ({ cls := "CircuitWardenModel$Walk", name := "judge", desc := "()I" } : Jvm.MethodName) ({ cls := "CircuitWardenModel$Walk", name := "judge", desc := "()I" } : Jvm.MethodName)) ∈ lw_all := lw_g (lw_at lw_m10 138 rfl) rfl
theorem q2588 : (Jvm.Cond.code ({ cls := "CircuitWardenModel$Walk", name := "judge", desc := "()I" } : Jvm.MethodName) prog_22_method_51_code (3 : Nat) (Option.some Jvm.ClassFile.FieldType.int)) ∈ lw_all := lw_g (lw_at lw_m10 139 rfl) rfl
theorem q2589 : (Jvm.Cond.methodLink "CircuitWardenModel$Walk" (372 : Nat) ({ cls := "CircuitWardenModel$Walk", name := "tellAll", desc := "()V" } : Jvm.MethodName)) ∈ lw_all := lw_g (lw_at lw_m10 140 rfl) rfl
theorem q2590 : (Jvm.Cond.privateMethod ({ cls := "CircuitWardenModel$Walk", name := "tellAll", desc := "()V" } : Jvm.MethodName)) ∈ lw_tbl := lw_at lw_m10 141 rfl
theorem q2591 : (Jvm.Cond.instanceMethod ({ cls := "CircuitWardenModel$Walk", name := "tellAll", desc := "()V" } : Jvm.MethodName)) ∈ lw_all := lw_g (lw_at lw_m10 142 rfl) rfl
theorem q2592 : (Jvm.Cond.code ({ cls := "CircuitWardenModel$Walk", name := "tellAll", desc := "()V" } : Jvm.MethodName) prog_22_method_48_code (3 : Nat) (Option.none : Option Jvm.ClassFile.FieldType)) ∈ lw_all := lw_g (lw_at lw_m10 143 rfl) rfl
theorem q2593 : (Jvm.Cond.methodLink "CircuitWardenModel$Walk" (204 : Nat) ({ cls := "CircuitWardenModel$Walk", name := "kindOf", desc := "(I)I" } : Jvm.MethodName)) ∈ lw_all := lw_g (lw_at lw_m10 144 rfl) rfl
theorem q2594 : (Jvm.Cond.instanceMethod ({ cls := "CircuitWardenModel$Walk", name := "kindOf", desc := "(I)I" } : Jvm.MethodName)) ∈ lw_all := lw_g (lw_at lw_m10 145 rfl) rfl
theorem q2595 : (Jvm.Cond.selects "CircuitWardenModel$Walk" ({ cls := "CircuitWardenModel$Walk", name := "kindOf", desc := "(I)I" } : Jvm.MethodName) ({ cls := "CircuitWardenModel$Walk", name := "kindOf", desc := "(I)I" } : Jvm.MethodName)) ∈ lw_all := lw_g (lw_at lw_m10 146 rfl) rfl
theorem q2596 : (Jvm.Cond.code ({ cls := "CircuitWardenModel$Walk", name := "kindOf", desc := "(I)I" } : Jvm.MethodName) prog_22_method_6_code (2 : Nat) (Option.some Jvm.ClassFile.FieldType.int)) ∈ lw_all := lw_g (lw_at lw_m10 147 rfl) rfl
theorem q2597 : (Jvm.Cond.methodLink "CircuitWardenModel$Walk" (210 : Nat) ({ cls := "CircuitWardenModel$Walk", name := "told", desc := "(I)I" } : Jvm.MethodName)) ∈ lw_all := lw_g (lw_at lw_m10 148 rfl) rfl
theorem q2598 : (Jvm.Cond.privateMethod ({ cls := "CircuitWardenModel$Walk", name := "told", desc := "(I)I" } : Jvm.MethodName)) ∈ lw_tbl := lw_at lw_m10 149 rfl
theorem q2599 : (Jvm.Cond.instanceMethod ({ cls := "CircuitWardenModel$Walk", name := "told", desc := "(I)I" } : Jvm.MethodName)) ∈ lw_all := lw_g (lw_at lw_m10 150 rfl) rfl
theorem q2600 : (Jvm.Cond.code ({ cls := "CircuitWardenModel$Walk", name := "told", desc := "(I)I" } : Jvm.MethodName) prog_22_method_19_code (4 : Nat) (Option.some Jvm.ClassFile.FieldType.int)) ∈ lw_all := lw_g (lw_at lw_m10 151 rfl) rfl
theorem q2601 : (Jvm.Cond.methodLink "CircuitWardenModel$Walk" (201 : Nat) ({ cls := "CircuitWardenModel$Walk", name := "labelOf", desc := "(I)I" } : Jvm.MethodName)) ∈ lw_all := lw_g (lw_at lw_m10 152 rfl) rfl
theorem q2602 : (Jvm.Cond.privateMethod ({ cls := "CircuitWardenModel$Walk", name := "labelOf", desc := "(I)I" } : Jvm.MethodName)) ∈ lw_tbl := lw_at lw_m10 153 rfl
theorem q2603 : (Jvm.Cond.instanceMethod ({ cls := "CircuitWardenModel$Walk", name := "labelOf", desc := "(I)I" } : Jvm.MethodName)) ∈ lw_all := lw_g (lw_at lw_m10 154 rfl) rfl
theorem q2604 : (Jvm.Cond.code ({ cls := "CircuitWardenModel$Walk", name := "labelOf", desc := "(I)I" } : Jvm.MethodName) prog_22_method_17_code (5 : Nat) (Option.some Jvm.ClassFile.FieldType.int)) ∈ lw_all := lw_g (lw_at lw_m10 155 rfl) rfl
theorem q2605 : (Jvm.Cond.methodLink "CircuitWardenModel$Walk" (198 : Nat) ({ cls := "CircuitWardenModel$Walk", name := "modeValue", desc := "(I)I" } : Jvm.MethodName)) ∈ lw_all := lw_g (lw_at lw_m10 156 rfl) rfl
theorem q2606 : (Jvm.Cond.privateMethod ({ cls := "CircuitWardenModel$Walk", name := "modeValue", desc := "(I)I" } : Jvm.MethodName)) ∈ lw_tbl := lw_at lw_m10 157 rfl
theorem q2607 : (Jvm.Cond.instanceMethod ({ cls := "CircuitWardenModel$Walk", name := "modeValue", desc := "(I)I" } : Jvm.MethodName)) ∈ lw_all := lw_g (lw_at lw_m10 158 rfl) rfl
theorem q2608 : (Jvm.Cond.code ({ cls := "CircuitWardenModel$Walk", name := "modeValue", desc := "(I)I" } : Jvm.MethodName) prog_22_method_18_code (4 : Nat) (Option.some Jvm.ClassFile.FieldType.int)) ∈ lw_all := lw_g (lw_at lw_m10 159 rfl) rfl
theorem q2609 : (Jvm.Cond.methodLink "CircuitWardenModel$Walk" (230 : Nat) ({ cls := "CircuitWardenModel$Walk", name := "under", desc := "(I)V" } : Jvm.MethodName)) ∈ lw_all := lw_g (lw_at lw_m10 160 rfl) rfl
theorem q2610 : (Jvm.Cond.privateMethod ({ cls := "CircuitWardenModel$Walk", name := "under", desc := "(I)V" } : Jvm.MethodName)) ∈ lw_tbl := lw_at lw_m10 161 rfl
theorem q2611 : (Jvm.Cond.instanceMethod ({ cls := "CircuitWardenModel$Walk", name := "under", desc := "(I)V" } : Jvm.MethodName)) ∈ lw_all := lw_g (lw_at lw_m10 162 rfl) rfl
theorem q2612 : (Jvm.Cond.code ({ cls := "CircuitWardenModel$Walk", name := "under", desc := "(I)V" } : Jvm.MethodName) prog_22_method_20_code (5 : Nat) (Option.none : Option Jvm.ClassFile.FieldType)) ∈ lw_all := lw_g (lw_at lw_m10 163 rfl) rfl
theorem q2613 : (Jvm.Cond.methodLink "CircuitWardenModel$Walk" (213 : Nat) ({ cls := "CircuitWardenModel$Walk", name := "look", desc := "(I)V" } : Jvm.MethodName)) ∈ lw_all := lw_g (lw_at lw_m10 164 rfl) rfl
theorem q2614 : (Jvm.Cond.privateMethod ({ cls := "CircuitWardenModel$Walk", name := "look", desc := "(I)V" } : Jvm.MethodName)) ∈ lw_tbl := lw_at lw_m10 165 rfl
theorem q2615 : (Jvm.Cond.instanceMethod ({ cls := "CircuitWardenModel$Walk", name := "look", desc := "(I)V" } : Jvm.MethodName)) ∈ lw_all := lw_g (lw_at lw_m10 166 rfl) rfl
theorem q2616 : (Jvm.Cond.code ({ cls := "CircuitWardenModel$Walk", name := "look", desc := "(I)V" } : Jvm.MethodName) prog_22_method_23_code (13 : Nat) (Option.none : Option Jvm.ClassFile.FieldType)) ∈ lw_all := lw_g (lw_at lw_m10 167 rfl) rfl
theorem q2617 : (Jvm.Cond.methodLink "CircuitWardenModel$Walk" (233 : Nat) ({ cls := "CircuitWardenModel$Walk", name := "name", desc := "(I)V" } : Jvm.MethodName)) ∈ lw_all := lw_g (lw_at lw_m10 168 rfl) rfl
theorem q2618 : (Jvm.Cond.privateMethod ({ cls := "CircuitWardenModel$Walk", name := "name", desc := "(I)V" } : Jvm.MethodName)) ∈ lw_tbl := lw_at lw_m10 169 rfl
theorem q2619 : (Jvm.Cond.instanceMethod ({ cls := "CircuitWardenModel$Walk", name := "name", desc := "(I)V" } : Jvm.MethodName)) ∈ lw_all := lw_g (lw_at lw_m10 170 rfl) rfl
theorem q2620 : (Jvm.Cond.code ({ cls := "CircuitWardenModel$Walk", name := "name", desc := "(I)V" } : Jvm.MethodName) prog_22_method_24_code (4 : Nat) (Option.none : Option Jvm.ClassFile.FieldType)) ∈ lw_all := lw_g (lw_at lw_m10 171 rfl) rfl
theorem q2621 : (Jvm.Cond.methodLink "CircuitWardenModel$Walk" (253 : Nat) ({ cls := "CircuitWardenModel$Walk", name := "ownPart", desc := "(I)I" } : Jvm.MethodName)) ∈ lw_all := lw_g (lw_at lw_m10 172 rfl) rfl
theorem q2622 : (Jvm.Cond.privateMethod ({ cls := "CircuitWardenModel$Walk", name := "ownPart", desc := "(I)I" } : Jvm.MethodName)) ∈ lw_tbl := lw_at lw_m10 173 rfl
theorem q2623 : (Jvm.Cond.instanceMethod ({ cls := "CircuitWardenModel$Walk", name := "ownPart", desc := "(I)I" } : Jvm.MethodName)) ∈ lw_all := lw_g (lw_at lw_m10 174 rfl) rfl
theorem q2624 : (Jvm.Cond.code ({ cls := "CircuitWardenModel$Walk", name := "ownPart", desc := "(I)I" } : Jvm.MethodName) prog_22_method_11_code (4 : Nat) (Option.some Jvm.ClassFile.FieldType.int)) ∈ lw_all := lw_g (lw_at lw_m10 175 rfl) rfl
theorem q2625 : (Jvm.Cond.methodLink "CircuitWardenModel$Walk" (242 : Nat) ({ cls := "CircuitWardenModel$Walk", name := "is", desc := "(IZJI)V" } : Jvm.MethodName)) ∈ lw_all := lw_g (lw_at lw_m10 176 rfl) rfl
theorem q2626 : (Jvm.Cond.privateMethod ({ cls := "CircuitWardenModel$Walk", name := "is", desc := "(IZJI)V" } : Jvm.MethodName)) ∈ lw_tbl := lw_at lw_m10 177 rfl
theorem q2627 : (Jvm.Cond.instanceMethod ({ cls := "CircuitWardenModel$Walk", name := "is", desc := "(IZJI)V" } : Jvm.MethodName)) ∈ lw_all := lw_g (lw_at lw_m10 178 rfl) rfl
theorem q2628 : (Jvm.Cond.code ({ cls := "CircuitWardenModel$Walk", name := "is", desc := "(IZJI)V" } : Jvm.MethodName) prog_22_method_22_code (6 : Nat) (Option.none : Option Jvm.ClassFile.FieldType)) ∈ lw_all := lw_g (lw_at lw_m10 179 rfl) rfl
theorem q2629 : (Jvm.Cond.methodLink "CircuitWardenModel$Walk" (236 : Nat) ({ cls := "CircuitWardenModel$Walk", name := "lookChain", desc := "(I)V" } : Jvm.MethodName)) ∈ lw_all := lw_g (lw_at lw_m10 180 rfl) rfl
theorem q2630 : (Jvm.Cond.privateMethod ({ cls := "CircuitWardenModel$Walk", name := "lookChain", desc := "(I)V" } : Jvm.MethodName)) ∈ lw_tbl := lw_at lw_m10 181 rfl
theorem q2631 : (Jvm.Cond.instanceMethod ({ cls := "CircuitWardenModel$Walk", name := "lookChain", desc := "(I)V" } : Jvm.MethodName)) ∈ lw_all := lw_g (lw_at lw_m10 182 rfl) rfl
theorem q2632 : (Jvm.Cond.code ({ cls := "CircuitWardenModel$Walk", name := "lookChain", desc := "(I)V" } : Jvm.MethodName) prog_22_method_27_code (9 : Nat) (Option.none : Option Jvm.ClassFile.FieldType)) ∈ lw_all := lw_g (lw_at lw_m10 183 rfl) rfl
theorem q2633 : (Jvm.Cond.methodLink "CircuitWardenModel$Walk" (260 : Nat) ({ cls := "CircuitWardenModel$Walk", name := "reckoned", desc := "(IJJ)J" } : Jvm.MethodName)) ∈ lw_all := lw_g (lw_at lw_m10 184 rfl) rfl
theorem q2634 : (Jvm.Cond.static ({ cls := "CircuitWardenModel$Walk", name := "reckoned", desc := "(IJJ)J" } : Jvm.MethodName)) ∈ lw_all := lw_g (lw_at lw_m10 185 rfl) rfl
theorem q2635 : (Jvm.Cond.code ({ cls := "CircuitWardenModel$Walk", name := "reckoned", desc := "(IJJ)J" } : Jvm.MethodName) prog_22_method_26_code (5 : Nat) (Option.some Jvm.ClassFile.FieldType.long)) ∈ lw_all := lw_g (lw_at lw_m10 186 rfl) rfl
theorem q2636 : (Jvm.Cond.constantLong "CircuitWardenModel$Walk" (258 : Nat) (32 : Int64)) ∈ lw_all := lw_g (lw_at lw_m10 187 rfl) rfl
theorem q2637 : (Jvm.Cond.methodLink "CircuitWardenModel$Walk" (239 : Nat) ({ cls := "CircuitWardenModel$Walk", name := "lookChoose", desc := "(I)V" } : Jvm.MethodName)) ∈ lw_all := lw_g (lw_at lw_m10 188 rfl) rfl
theorem q2638 : (Jvm.Cond.privateMethod ({ cls := "CircuitWardenModel$Walk", name := "lookChoose", desc := "(I)V" } : Jvm.MethodName)) ∈ lw_tbl := lw_at lw_m10 189 rfl
theorem q2639 : (Jvm.Cond.instanceMethod ({ cls := "CircuitWardenModel$Walk", name := "lookChoose", desc := "(I)V" } : Jvm.MethodName)) ∈ lw_all := lw_g (lw_at lw_m10 190 rfl) rfl
theorem q2640 : (Jvm.Cond.code ({ cls := "CircuitWardenModel$Walk", name := "lookChoose", desc := "(I)V" } : Jvm.MethodName) prog_22_method_28_code (8 : Nat) (Option.none : Option Jvm.ClassFile.FieldType)) ∈ lw_all := lw_g (lw_at lw_m10 191 rfl) rfl
theorem q2641 : (Jvm.Cond.methodLink "CircuitWardenModel$Walk" (246 : Nat) ({ cls := "CircuitWardenModel$Walk", name := "lookCall", desc := "(II)V" } : Jvm.MethodName)) ∈ lw_all := lw_g (lw_at lw_m10 192 rfl) rfl
theorem q2642 : (Jvm.Cond.privateMethod ({ cls := "CircuitWardenModel$Walk", name := "lookCall", desc := "(II)V" } : Jvm.MethodName)) ∈ lw_tbl := lw_at lw_m10 193 rfl
theorem q2643 : (Jvm.Cond.instanceMethod ({ cls := "CircuitWardenModel$Walk", name := "lookCall", desc := "(II)V" } : Jvm.MethodName)) ∈ lw_all := lw_g (lw_at lw_m10 194 rfl) rfl
theorem q2644 : (Jvm.Cond.code ({ cls := "CircuitWardenModel$Walk", name := "lookCall", desc := "(II)V" } : Jvm.MethodName) prog_22_method_29_code (7 : Nat) (Option.none : Option Jvm.ClassFile.FieldType)) ∈ lw_all := lw_g (lw_at lw_m10 195 rfl) rfl
theorem q2645 : (Jvm.Cond.methodLink "CircuitWardenModel$Walk" (264 : Nat) ({ cls := "CircuitWardenModel$Walk", name := "pushConsts", desc := "(I)V" } : Jvm.MethodName)) ∈ lw_all := lw_g (lw_at lw_m10 196 rfl) rfl
theorem q2646 : (Jvm.Cond.privateMethod ({ cls := "CircuitWardenModel$Walk", name := "pushConsts", desc := "(I)V" } : Jvm.MethodName)) ∈ lw_tbl := lw_at lw_m10 197 rfl
theorem q2647 : (Jvm.Cond.instanceMethod ({ cls := "CircuitWardenModel$Walk", name := "pushConsts", desc := "(I)V" } : Jvm.MethodName)) ∈ lw_all := lw_g (lw_at lw_m10 198 rfl) rfl
theorem q2648 : (Jvm.Cond.code ({ cls := "CircuitWardenModel$Walk", name := "pushConsts", desc := "(I)V" } : Jvm.MethodName) prog_22_method_14_code (4 : Nat) (Option.none : Option Jvm.ClassFile.FieldType)) ∈ lw_all := lw_g (lw_at lw_m10 199 rfl) rfl
theorem q2649 : (Jvm.Cond.methodLink "CircuitWardenModel$Walk" (267 : Nat) ({ cls := "CircuitWardenModel$Walk", name := "room", desc := "()V" } : Jvm.MethodName)) ∈ lw_all := lw_g (lw_at lw_m10 200 rfl) rfl
theorem q2650 : (Jvm.Cond.privateMethod ({ cls := "CircuitWardenModel$Walk", name := "room", desc := "()V" } : Jvm.MethodName)) ∈ lw_tbl := lw_at lw_m10 201 rfl
theorem q2651 : (Jvm.Cond.instanceMethod ({ cls := "CircuitWardenModel$Walk", name := "room", desc := "()V" } : Jvm.MethodName)) ∈ lw_all := lw_g (lw_at lw_m10 202 rfl) rfl
theorem q2652 : (Jvm.Cond.code ({ cls := "CircuitWardenModel$Walk", name := "room", desc := "()V" } : Jvm.MethodName) prog_22_method_15_code (5 : Nat) (Option.none : Option Jvm.ClassFile.FieldType)) ∈ lw_all := lw_g (lw_at lw_m10 203 rfl) rfl
theorem q2653 : (Jvm.Cond.methodLink "CircuitWardenModel$Walk" (270 : Nat) ({ cls := "CircuitWardenModel$Walk", name := "enter", desc := "(III)V" } : Jvm.MethodName)) ∈ lw_all := lw_g (lw_at lw_m10 204 rfl) rfl
theorem q2654 : (Jvm.Cond.privateMethod ({ cls := "CircuitWardenModel$Walk", name := "enter", desc := "(III)V" } : Jvm.MethodName)) ∈ lw_tbl := lw_at lw_m10 205 rfl
theorem q2655 : (Jvm.Cond.instanceMethod ({ cls := "CircuitWardenModel$Walk", name := "enter", desc := "(III)V" } : Jvm.MethodName)) ∈ lw_all := lw_g (lw_at lw_m10 206 rfl) rfl
theorem q2656 : (Jvm.Cond.code ({ cls := "CircuitWardenModel$Walk", name := "enter", desc := "(III)V" } : Jvm.MethodName) prog_22_method_13_code (4 : Nat) (Option.none : Option Jvm.ClassFile.FieldType)) ∈ lw_all := lw_g (lw_at lw_m10 207 rfl) rfl
theorem q2657 : (Jvm.Cond.methodLink "CircuitWardenModel$Walk" (274 : Nat) ({ cls := "CircuitWardenModel$Walk", name := "bodyOf", desc := "(I)I" } : Jvm.MethodName)) ∈ lw_all := lw_g (lw_at lw_m10 208 rfl) rfl
theorem q2658 : (Jvm.Cond.privateMethod ({ cls := "CircuitWardenModel$Walk", name := "bodyOf", desc := "(I)I" } : Jvm.MethodName)) ∈ lw_tbl := lw_at lw_m10 209 rfl
theorem q2659 : (Jvm.Cond.instanceMethod ({ cls := "CircuitWardenModel$Walk", name := "bodyOf", desc := "(I)I" } : Jvm.MethodName)) ∈ lw_all := lw_g (lw_at lw_m10 210 rfl) rfl
theorem q2660 : (Jvm.Cond.code ({ cls := "CircuitWardenModel$Walk", name := "bodyOf", desc := "(I)I" } : Jvm.MethodName) prog_22_method_16_code (3 : Nat) (Option.some Jvm.ClassFile.FieldType.int)) ∈ lw_all := lw_g (lw_at lw_m10 211 rfl) rfl
theorem q2661 : (Jvm.Cond.methodLink "CircuitWardenModel$Walk" (250 : Nat) ({ cls := "CircuitWardenModel$Walk", name := "lookOne", desc := "(I)V" } : Jvm.MethodName)) ∈ lw_all := lw_g (lw_at lw_m10 212 rfl) rfl
theorem q2662 : (Jvm.Cond.privateMethod ({ cls := "CircuitWardenModel$Walk", name := "lookOne", desc := "(I)V" } : Jvm.MethodName)) ∈ lw_tbl := lw_at lw_m10 213 rfl
theorem q2663 : (Jvm.Cond.instanceMethod ({ cls := "CircuitWardenModel$Walk", name := "lookOne", desc := "(I)V" } : Jvm.MethodName)) ∈ lw_all := lw_g (lw_at lw_m10 214 rfl) rfl
theorem q2664 : (Jvm.Cond.code ({ cls := "CircuitWardenModel$Walk", name := "lookOne", desc := "(I)V" } : Jvm.MethodName) prog_22_method_25_code (5 : Nat) (Option.none : Option Jvm.ClassFile.FieldType)) ∈ lw_all := lw_g (lw_at lw_m10 215 rfl) rfl
theorem q2665 : (Jvm.Cond.constantLong "CircuitWardenModel$Walk" (256 : Nat) (-1 : Int64)) ∈ lw_all := lw_g (lw_at lw_m10 216 rfl) rfl
theorem q2666 : (Jvm.Cond.methodLink "CircuitWardenModel$Walk" (369 : Nat) ({ cls := "CircuitWardenModel$Walk", name := "leak", desc := "(II)V" } : Jvm.MethodName)) ∈ lw_all := lw_g (lw_at lw_m10 217 rfl) rfl
theorem q2667 : (Jvm.Cond.privateMethod ({ cls := "CircuitWardenModel$Walk", name := "leak", desc := "(II)V" } : Jvm.MethodName)) ∈ lw_tbl := lw_at lw_m10 218 rfl
theorem q2668 : (Jvm.Cond.instanceMethod ({ cls := "CircuitWardenModel$Walk", name := "leak", desc := "(II)V" } : Jvm.MethodName)) ∈ lw_all := lw_g (lw_at lw_m10 219 rfl) rfl
theorem q2669 : (Jvm.Cond.code ({ cls := "CircuitWardenModel$Walk", name := "leak", desc := "(II)V" } : Jvm.MethodName) prog_22_method_50_code (3 : Nat) (Option.none : Option Jvm.ClassFile.FieldType)) ∈ lw_all := lw_g (lw_at lw_m10 220 rfl) rfl
theorem q2670 : (Jvm.Cond.methodLink "CircuitWardenModel$Walk" (334 : Nat) ({ cls := "CircuitWardenModel$Walk$Way", name := "push", desc := "(IIIII)V" } : Jvm.MethodName)) ∈ lw_all := lw_g (lw_at lw_m10 221 rfl) rfl
theorem q2675 : (Jvm.Cond.methodLink "CircuitWardenModel$Walk" (375 : Nat) ({ cls := "CircuitWardenModel$Walk", name := "way", desc := "()V" } : Jvm.MethodName)) ∈ lw_all := lw_g (lw_at lw_m10 226 rfl) rfl
theorem q2676 : (Jvm.Cond.privateMethod ({ cls := "CircuitWardenModel$Walk", name := "way", desc := "()V" } : Jvm.MethodName)) ∈ lw_tbl := lw_at lw_m10 227 rfl
theorem q2677 : (Jvm.Cond.instanceMethod ({ cls := "CircuitWardenModel$Walk", name := "way", desc := "()V" } : Jvm.MethodName)) ∈ lw_all := lw_g (lw_at lw_m10 228 rfl) rfl
theorem q2678 : (Jvm.Cond.code ({ cls := "CircuitWardenModel$Walk", name := "way", desc := "()V" } : Jvm.MethodName) prog_22_method_42_code (5 : Nat) (Option.none : Option Jvm.ClassFile.FieldType)) ∈ lw_all := lw_g (lw_at lw_m10 229 rfl) rfl
theorem q2679 : (Jvm.Cond.methodLink "CircuitWardenModel$Walk" (331 : Nat) ({ cls := "CircuitWardenModel$Walk", name := "taintNow", desc := "(III)V" } : Jvm.MethodName)) ∈ lw_all := lw_g (lw_at lw_m10 230 rfl) rfl
theorem q2680 : (Jvm.Cond.privateMethod ({ cls := "CircuitWardenModel$Walk", name := "taintNow", desc := "(III)V" } : Jvm.MethodName)) ∈ lw_tbl := lw_at lw_m10 231 rfl
theorem q2681 : (Jvm.Cond.instanceMethod ({ cls := "CircuitWardenModel$Walk", name := "taintNow", desc := "(III)V" } : Jvm.MethodName)) ∈ lw_all := lw_g (lw_at lw_m10 232 rfl) rfl
theorem q2682 : (Jvm.Cond.code ({ cls := "CircuitWardenModel$Walk", name := "taintNow", desc := "(III)V" } : Jvm.MethodName) prog_22_method_41_code (6 : Nat) (Option.none : Option Jvm.ClassFile.FieldType)) ∈ lw_all := lw_g (lw_at lw_m10 233 rfl) rfl
theorem q2683 : (Jvm.Cond.methodLink "CircuitWardenModel$Walk" (337 : Nat) ({ cls := "CircuitWardenModel$Walk", name := "statement", desc := "(I)V" } : Jvm.MethodName)) ∈ lw_all := lw_g (lw_at lw_m10 234 rfl) rfl
theorem q2684 : (Jvm.Cond.privateMethod ({ cls := "CircuitWardenModel$Walk", name := "statement", desc := "(I)V" } : Jvm.MethodName)) ∈ lw_tbl := lw_at lw_m10 235 rfl
theorem q2685 : (Jvm.Cond.instanceMethod ({ cls := "CircuitWardenModel$Walk", name := "statement", desc := "(I)V" } : Jvm.MethodName)) ∈ lw_all := lw_g (lw_at lw_m10 236 rfl) rfl
theorem q2686 : (Jvm.Cond.code ({ cls := "CircuitWardenModel$Walk", name := "statement", desc := "(I)V" } : Jvm.MethodName) prog_22_method_43_code (4 : Nat) (Option.none : Option Jvm.ClassFile.FieldType)) ∈ lw_all := lw_g (lw_at lw_m10 237 rfl) rfl
theorem q2687 : (Jvm.Cond.methodLink "CircuitWardenModel$Walk" (349 : Nat) ({ cls := "CircuitWardenModel$Walk", name := "names", desc := "(II)Z" } : Jvm.MethodName)) ∈ lw_all := lw_g (lw_at lw_m10 238 rfl) rfl
theorem q2688 : (Jvm.Cond.privateMethod ({ cls := "CircuitWardenModel$Walk", name := "names", desc := "(II)Z" } : Jvm.MethodName)) ∈ lw_tbl := lw_at lw_m10 239 rfl
theorem q2689 : (Jvm.Cond.instanceMethod ({ cls := "CircuitWardenModel$Walk", name := "names", desc := "(II)Z" } : Jvm.MethodName)) ∈ lw_all := lw_g (lw_at lw_m11 0 rfl) rfl
theorem q2690 : (Jvm.Cond.code ({ cls := "CircuitWardenModel$Walk", name := "names", desc := "(II)Z" } : Jvm.MethodName) prog_22_method_30_code (4 : Nat) (Option.some Jvm.ClassFile.FieldType.boolean)) ∈ lw_all := lw_g (lw_at lw_m11 1 rfl) rfl
theorem q2691 : (Jvm.Cond.methodLink "CircuitWardenModel$Walk" (352 : Nat) ({ cls := "CircuitWardenModel$Walk", name := "plainNow", desc := "(IIZ)V" } : Jvm.MethodName)) ∈ lw_all := lw_g (lw_at lw_m11 2 rfl) rfl
theorem q2692 : (Jvm.Cond.privateMethod ({ cls := "CircuitWardenModel$Walk", name := "plainNow", desc := "(IIZ)V" } : Jvm.MethodName)) ∈ lw_tbl := lw_at lw_m11 3 rfl
theorem q2693 : (Jvm.Cond.instanceMethod ({ cls := "CircuitWardenModel$Walk", name := "plainNow", desc := "(IIZ)V" } : Jvm.MethodName)) ∈ lw_all := lw_g (lw_at lw_m11 4 rfl) rfl
theorem q2694 : (Jvm.Cond.code ({ cls := "CircuitWardenModel$Walk", name := "plainNow", desc := "(IIZ)V" } : Jvm.MethodName) prog_22_method_40_code (5 : Nat) (Option.none : Option Jvm.ClassFile.FieldType)) ∈ lw_all := lw_g (lw_at lw_m11 5 rfl) rfl
theorem q2695 : (Jvm.Cond.methodLink "CircuitWardenModel$Walk" (280 : Nat) ({ cls := "CircuitWardenModel$Walk", name := "state", desc := "()I" } : Jvm.MethodName)) ∈ lw_all := lw_g (lw_at lw_m11 6 rfl) rfl
theorem q2696 : (Jvm.Cond.privateMethod ({ cls := "CircuitWardenModel$Walk", name := "state", desc := "()I" } : Jvm.MethodName)) ∈ lw_tbl := lw_at lw_m11 7 rfl
theorem q2697 : (Jvm.Cond.instanceMethod ({ cls := "CircuitWardenModel$Walk", name := "state", desc := "()I" } : Jvm.MethodName)) ∈ lw_all := lw_g (lw_at lw_m11 8 rfl) rfl
theorem q2698 : (Jvm.Cond.code ({ cls := "CircuitWardenModel$Walk", name := "state", desc := "()I" } : Jvm.MethodName) prog_22_method_31_code (1 : Nat) (Option.some Jvm.ClassFile.FieldType.int)) ∈ lw_all := lw_g (lw_at lw_m11 9 rfl) rfl
theorem q2699 : (Jvm.Cond.methodLink "CircuitWardenModel$Walk" (284 : Nat) ({ cls := "java/lang/System", name := "arraycopy", desc := "(Ljava/lang/Object;ILjava/lang/Object;II)V" } : Jvm.MethodName)) ∈ lw_all := lw_g (lw_at lw_m11 10 rfl) rfl
theorem q2700 : (Jvm.Cond.methodLink "CircuitWardenModel$Walk" (294 : Nat) ({ cls := "CircuitWardenModel$Walk", name := "plainCase", desc := "(III)V" } : Jvm.MethodName)) ∈ lw_all := lw_g (lw_at lw_m11 11 rfl) rfl
theorem q2701 : (Jvm.Cond.privateMethod ({ cls := "CircuitWardenModel$Walk", name := "plainCase", desc := "(III)V" } : Jvm.MethodName)) ∈ lw_tbl := lw_at lw_m11 12 rfl
theorem q2702 : (Jvm.Cond.instanceMethod ({ cls := "CircuitWardenModel$Walk", name := "plainCase", desc := "(III)V" } : Jvm.MethodName)) ∈ lw_all := lw_g (lw_at lw_m11 13 rfl) rfl
theorem q2703 : (Jvm.Cond.code ({ cls := "CircuitWardenModel$Walk", name := "plainCase", desc := "(III)V" } : Jvm.MethodName) prog_22_method_37_code (15 : Nat) (Option.none : Option Jvm.ClassFile.FieldType)) ∈ lw_all := lw_g (lw_at lw_m11 14 rfl) rfl
theorem q2704 : (Jvm.Cond.methodLink "CircuitWardenModel$Walk" (297 : Nat) ({ cls := "CircuitWardenModel$Walk", name := "plain", desc := "(III)V" } : Jvm.MethodName)) ∈ lw_all := lw_g (lw_at lw_m11 15 rfl) rfl
theorem q2705 : (Jvm.Cond.privateMethod ({ cls := "CircuitWardenModel$Walk", name := "plain", desc := "(III)V" } : Jvm.MethodName)) ∈ lw_tbl := lw_at lw_m11 16 rfl
theorem q2706 : (Jvm.Cond.instanceMethod ({ cls := "CircuitWardenModel$Walk", name := "plain", desc := "(III)V" } : Jvm.MethodName)) ∈ lw_all := lw_g (lw_at lw_m11 17 rfl) rfl
theorem q2707 : (Jvm.Cond.code ({ cls := "CircuitWardenModel$Walk", name := "plain", desc := "(III)V" } : Jvm.MethodName) prog_22_method_35_code (6 : Nat) (Option.none : Option Jvm.ClassFile.FieldType)) ∈ lw_all := lw_g (lw_at lw_m11 18 rfl) rfl
theorem q2708 : (Jvm.Cond.methodLink "CircuitWardenModel$Walk" (290 : Nat) ({ cls := "CircuitWardenModel$Walk", name := "both", desc := "(IIIII)V" } : Jvm.MethodName)) ∈ lw_all := lw_g (lw_at lw_m11 19 rfl) rfl
theorem q2709 : (Jvm.Cond.privateMethod ({ cls := "CircuitWardenModel$Walk", name := "both", desc := "(IIIII)V" } : Jvm.MethodName)) ∈ lw_tbl := lw_at lw_m11 20 rfl
theorem q2710 : (Jvm.Cond.instanceMethod ({ cls := "CircuitWardenModel$Walk", name := "both", desc := "(IIIII)V" } : Jvm.MethodName)) ∈ lw_all := lw_g (lw_at lw_m11 21 rfl) rfl
theorem q2711 : (Jvm.Cond.code ({ cls := "CircuitWardenModel$Walk", name := "both", desc := "(IIIII)V" } : Jvm.MethodName) prog_22_method_36_code (11 : Nat) (Option.none : Option Jvm.ClassFile.FieldType)) ∈ lw_all := lw_g (lw_at lw_m11 22 rfl) rfl
theorem q2712 : (Jvm.Cond.methodLink "CircuitWardenModel$Walk" (300 : Nat) ({ cls := "CircuitWardenModel$Walk", name := "copyOf", desc := "(I)I" } : Jvm.MethodName)) ∈ lw_all := lw_g (lw_at lw_m11 23 rfl) rfl
theorem q2713 : (Jvm.Cond.privateMethod ({ cls := "CircuitWardenModel$Walk", name := "copyOf", desc := "(I)I" } : Jvm.MethodName)) ∈ lw_tbl := lw_at lw_m11 24 rfl
theorem q2714 : (Jvm.Cond.instanceMethod ({ cls := "CircuitWardenModel$Walk", name := "copyOf", desc := "(I)I" } : Jvm.MethodName)) ∈ lw_all := lw_g (lw_at lw_m11 25 rfl) rfl
theorem q2715 : (Jvm.Cond.code ({ cls := "CircuitWardenModel$Walk", name := "copyOf", desc := "(I)I" } : Jvm.MethodName) prog_22_method_32_code (3 : Nat) (Option.some Jvm.ClassFile.FieldType.int)) ∈ lw_all := lw_g (lw_at lw_m11 26 rfl) rfl
theorem q2716 : (Jvm.Cond.methodLink "CircuitWardenModel$Walk" (303 : Nat) ({ cls := "CircuitWardenModel$Walk", name := "join", desc := "(II)V" } : Jvm.MethodName)) ∈ lw_all := lw_g (lw_at lw_m11 27 rfl) rfl
theorem q2717 : (Jvm.Cond.privateMethod ({ cls := "CircuitWardenModel$Walk", name := "join", desc := "(II)V" } : Jvm.MethodName)) ∈ lw_tbl := lw_at lw_m11 28 rfl
theorem q2718 : (Jvm.Cond.instanceMethod ({ cls := "CircuitWardenModel$Walk", name := "join", desc := "(II)V" } : Jvm.MethodName)) ∈ lw_all := lw_g (lw_at lw_m11 29 rfl) rfl
theorem q2719 : (Jvm.Cond.code ({ cls := "CircuitWardenModel$Walk", name := "join", desc := "(II)V" } : Jvm.MethodName) prog_22_method_34_code (4 : Nat) (Option.none : Option Jvm.ClassFile.FieldType)) ∈ lw_all := lw_g (lw_at lw_m11 30 rfl) rfl
theorem q2720 : (Jvm.Cond.methodLink "CircuitWardenModel$Walk" (306 : Nat) ({ cls := "CircuitWardenModel$Walk", name := "taint", desc := "(IIII)V" } : Jvm.MethodName)) ∈ lw_all := lw_g (lw_at lw_m11 31 rfl) rfl
theorem q2721 : (Jvm.Cond.privateMethod ({ cls := "CircuitWardenModel$Walk", name := "taint", desc := "(IIII)V" } : Jvm.MethodName)) ∈ lw_tbl := lw_at lw_m11 32 rfl
theorem q2722 : (Jvm.Cond.instanceMethod ({ cls := "CircuitWardenModel$Walk", name := "taint", desc := "(IIII)V" } : Jvm.MethodName)) ∈ lw_all := lw_g (lw_at lw_m11 33 rfl) rfl
theorem q2723 : (Jvm.Cond.code ({ cls := "CircuitWardenModel$Walk", name := "taint", desc := "(IIII)V" } : Jvm.MethodName) prog_22_method_33_code (7 : Nat) (Option.none : Option Jvm.ClassFile.FieldType)) ∈ lw_all := lw_g (lw_at lw_m11 34 rfl) rfl
theorem q2724 : (Jvm.Cond.methodLink "CircuitWardenModel$Walk" (310 : Nat) ({ cls := "CircuitWardenModel$Walk", name := "choice", desc := "(II)I" } : Jvm.MethodName)) ∈ lw_all := lw_g (lw_at lw_m11 35 rfl) rfl
theorem q2725 : (Jvm.Cond.privateMethod ({ cls := "CircuitWardenModel$Walk", name := "choice", desc := "(II)I" } : Jvm.MethodName)) ∈ lw_tbl := lw_at lw_m11 36 rfl
theorem q2726 : (Jvm.Cond.instanceMethod ({ cls := "CircuitWardenModel$Walk", name := "choice", desc := "(II)I" } : Jvm.MethodName)) ∈ lw_all := lw_g (lw_at lw_m11 37 rfl) rfl
theorem q2727 : (Jvm.Cond.code ({ cls := "CircuitWardenModel$Walk", name := "choice", desc := "(II)I" } : Jvm.MethodName) prog_22_method_38_code (5 : Nat) (Option.some Jvm.ClassFile.FieldType.int)) ∈ lw_all := lw_g (lw_at lw_m11 38 rfl) rfl
theorem q2728 : (Jvm.Cond.methodLink "CircuitWardenModel$Walk" (356 : Nat) ({ cls := "CircuitWardenModel$Walk", name := "known", desc := "(II)V" } : Jvm.MethodName)) ∈ lw_all := lw_g (lw_at lw_m11 39 rfl) rfl
theorem q2729 : (Jvm.Cond.privateMethod ({ cls := "CircuitWardenModel$Walk", name := "known", desc := "(II)V" } : Jvm.MethodName)) ∈ lw_tbl := lw_at lw_m11 40 rfl
theorem q2730 : (Jvm.Cond.instanceMethod ({ cls := "CircuitWardenModel$Walk", name := "known", desc := "(II)V" } : Jvm.MethodName)) ∈ lw_all := lw_g (lw_at lw_m11 41 rfl) rfl
theorem q2731 : (Jvm.Cond.code ({ cls := "CircuitWardenModel$Walk", name := "known", desc := "(II)V" } : Jvm.MethodName) prog_22_method_44_code (5 : Nat) (Option.none : Option Jvm.ClassFile.FieldType)) ∈ lw_all := lw_g (lw_at lw_m11 42 rfl) rfl
theorem q2732 : (Jvm.Cond.methodLink "CircuitWardenModel$Walk" (358 : Nat) ({ cls := "CircuitWardenModel$Walk", name := "part", desc := "(IIIIIIZZ)V" } : Jvm.MethodName)) ∈ lw_all := lw_g (lw_at lw_m11 43 rfl) rfl
theorem q2733 : (Jvm.Cond.privateMethod ({ cls := "CircuitWardenModel$Walk", name := "part", desc := "(IIIIIIZZ)V" } : Jvm.MethodName)) ∈ lw_tbl := lw_at lw_m11 44 rfl
theorem q2734 : (Jvm.Cond.instanceMethod ({ cls := "CircuitWardenModel$Walk", name := "part", desc := "(IIIIIIZZ)V" } : Jvm.MethodName)) ∈ lw_all := lw_g (lw_at lw_m11 45 rfl) rfl
theorem q2735 : (Jvm.Cond.code ({ cls := "CircuitWardenModel$Walk", name := "part", desc := "(IIIIIIZZ)V" } : Jvm.MethodName) prog_22_method_46_code (9 : Nat) (Option.none : Option Jvm.ClassFile.FieldType)) ∈ lw_all := lw_g (lw_at lw_m11 46 rfl) rfl
theorem q2736 : (Jvm.Cond.methodLink "CircuitWardenModel$Walk" (365 : Nat) ({ cls := "CircuitWardenModel$Walk", name := "another", desc := "()LCircuitWardenModel$Walk$Way;" } : Jvm.MethodName)) ∈ lw_all := lw_g (lw_at lw_m11 47 rfl) rfl
theorem q2737 : (Jvm.Cond.privateMethod ({ cls := "CircuitWardenModel$Walk", name := "another", desc := "()LCircuitWardenModel$Walk$Way;" } : Jvm.MethodName)) ∈ lw_tbl := lw_at lw_m11 48 rfl
theorem q2738 : (Jvm.Cond.instanceMethod ({ cls := "CircuitWardenModel$Walk", name := "another", desc := "()LCircuitWardenModel$Walk$Way;" } : Jvm.MethodName)) ∈ lw_all := lw_g (lw_at lw_m11 49 rfl) rfl
theorem q2739 : (Jvm.Cond.code ({ cls := "CircuitWardenModel$Walk", name := "another", desc := "()LCircuitWardenModel$Walk$Way;" } : Jvm.MethodName) prog_22_method_39_code (3 : Nat) (Option.some (Jvm.ClassFile.FieldType.object "CircuitWardenModel$Walk$Way"))) ∈ lw_all := lw_g (lw_at lw_m11 50 rfl) rfl
theorem q2740 : (Jvm.Cond.methodLink "CircuitWardenModel$Walk" (316 : Nat) ({ cls := "CircuitWardenModel$Walk$Way", name := "become", desc := "(LCircuitWardenModel$Walk$Way;)V" } : Jvm.MethodName)) ∈ lw_all := lw_g (lw_at lw_m11 51 rfl) rfl
theorem q2745 : (Jvm.Cond.methodLink "CircuitWardenModel$Walk" (340 : Nat) ({ cls := "CircuitWardenModel$Walk", name := "choices", desc := "(III)V" } : Jvm.MethodName)) ∈ lw_all := lw_g (lw_at lw_m11 56 rfl) rfl
theorem q2746 : (Jvm.Cond.privateMethod ({ cls := "CircuitWardenModel$Walk", name := "choices", desc := "(III)V" } : Jvm.MethodName)) ∈ lw_tbl := lw_at lw_m11 57 rfl
theorem q2747 : (Jvm.Cond.instanceMethod ({ cls := "CircuitWardenModel$Walk", name := "choices", desc := "(III)V" } : Jvm.MethodName)) ∈ lw_all := lw_g (lw_at lw_m11 58 rfl) rfl
theorem q2748 : (Jvm.Cond.code ({ cls := "CircuitWardenModel$Walk", name := "choices", desc := "(III)V" } : Jvm.MethodName) prog_22_method_45_code (5 : Nat) (Option.none : Option Jvm.ClassFile.FieldType)) ∈ lw_all := lw_g (lw_at lw_m11 59 rfl) rfl
theorem q2749 : (Jvm.Cond.methodLink "CircuitWardenModel$Walk" (362 : Nat) ({ cls := "CircuitWardenModel$Walk", name := "namesFrom", desc := "(II)Z" } : Jvm.MethodName)) ∈ lw_all := lw_g (lw_at lw_m11 60 rfl) rfl
theorem q2750 : (Jvm.Cond.privateMethod ({ cls := "CircuitWardenModel$Walk", name := "namesFrom", desc := "(II)Z" } : Jvm.MethodName)) ∈ lw_tbl := lw_at lw_m11 61 rfl
theorem q2751 : (Jvm.Cond.instanceMethod ({ cls := "CircuitWardenModel$Walk", name := "namesFrom", desc := "(II)Z" } : Jvm.MethodName)) ∈ lw_all := lw_g (lw_at lw_m11 62 rfl) rfl
theorem q2752 : (Jvm.Cond.code ({ cls := "CircuitWardenModel$Walk", name := "namesFrom", desc := "(II)Z" } : Jvm.MethodName) prog_22_method_47_code (5 : Nat) (Option.some Jvm.ClassFile.FieldType.boolean)) ∈ lw_all := lw_g (lw_at lw_m11 63 rfl) rfl
theorem q2753 : (Jvm.Cond.methodLink "CircuitWardenModel$Walk" (343 : Nat) ({ cls := "CircuitWardenModel$Walk", name := "ended", desc := "()V" } : Jvm.MethodName)) ∈ lw_all := lw_g (lw_at lw_m11 64 rfl) rfl
theorem q2754 : (Jvm.Cond.privateMethod ({ cls := "CircuitWardenModel$Walk", name := "ended", desc := "()V" } : Jvm.MethodName)) ∈ lw_tbl := lw_at lw_m11 65 rfl
theorem q2755 : (Jvm.Cond.instanceMethod ({ cls := "CircuitWardenModel$Walk", name := "ended", desc := "()V" } : Jvm.MethodName)) ∈ lw_all := lw_g (lw_at lw_m11 66 rfl) rfl
theorem q2756 : (Jvm.Cond.code ({ cls := "CircuitWardenModel$Walk", name := "ended", desc := "()V" } : Jvm.MethodName) prog_22_method_49_code (5 : Nat) (Option.none : Option Jvm.ClassFile.FieldType)) ∈ lw_all := lw_g (lw_at lw_m11 67 rfl) rfl
theorem q2757 : (Jvm.Cond.methodLink "CircuitWardenModel$Walk" (378 : Nat) ({ cls := "CircuitWardenModel$Walk", name := "makeNet", desc := "()Z" } : Jvm.MethodName)) ∈ lw_all := lw_g (lw_at lw_m11 68 rfl) rfl
theorem q2758 : (Jvm.Cond.privateMethod ({ cls := "CircuitWardenModel$Walk", name := "makeNet", desc := "()Z" } : Jvm.MethodName)) ∈ lw_tbl := lw_at lw_m11 69 rfl
theorem q2759 : (Jvm.Cond.instanceMethod ({ cls := "CircuitWardenModel$Walk", name := "makeNet", desc := "()Z" } : Jvm.MethodName)) ∈ lw_all := lw_g (lw_at lw_m11 70 rfl) rfl
theorem q2760 : (Jvm.Cond.code ({ cls := "CircuitWardenModel$Walk", name := "makeNet", desc := "()Z" } : Jvm.MethodName) prog_22_method_78_code (4 : Nat) (Option.some Jvm.ClassFile.FieldType.boolean)) ∈ lw_all := lw_g (lw_at lw_m11 71 rfl) rfl
theorem q2761 : (Jvm.Cond.methodLink "CircuitWardenModel$Walk" (490 : Nat) ({ cls := "CircuitWardenModel$Nodes", name := "begin", desc := "()V" } : Jvm.MethodName)) ∈ lw_all := lw_g (lw_at lw_m11 72 rfl) rfl
theorem q2762 : (Jvm.Cond.methodLink "CircuitWardenModel$Walk" (394 : Nat) ({ cls := "CircuitWardenModel$Walk", name := "row", desc := "(I)I" } : Jvm.MethodName)) ∈ lw_all := lw_g (lw_at lw_m11 73 rfl) rfl
theorem q2763 : (Jvm.Cond.privateMethod ({ cls := "CircuitWardenModel$Walk", name := "row", desc := "(I)I" } : Jvm.MethodName)) ∈ lw_tbl := lw_at lw_m11 74 rfl
theorem q2764 : (Jvm.Cond.instanceMethod ({ cls := "CircuitWardenModel$Walk", name := "row", desc := "(I)I" } : Jvm.MethodName)) ∈ lw_all := lw_g (lw_at lw_m11 75 rfl) rfl
theorem q2765 : (Jvm.Cond.code ({ cls := "CircuitWardenModel$Walk", name := "row", desc := "(I)I" } : Jvm.MethodName) prog_22_method_52_code (2 : Nat) (Option.some Jvm.ClassFile.FieldType.int)) ∈ lw_all := lw_g (lw_at lw_m11 76 rfl) rfl
theorem q2766 : (Jvm.Cond.methodLink "CircuitWardenModel$Walk" (496 : Nat) ({ cls := "CircuitWardenModel$Nodes", name := "add", desc := "(II)I" } : Jvm.MethodName)) ∈ lw_all := lw_g (lw_at lw_m11 77 rfl) rfl
theorem q2767 : (Jvm.Cond.methodLink "CircuitWardenModel$Walk" (397 : Nat) ({ cls := "CircuitWardenModel$Walk", name := "put", desc := "(III)V" } : Jvm.MethodName)) ∈ lw_all := lw_g (lw_at lw_m11 78 rfl) rfl
theorem q2768 : (Jvm.Cond.privateMethod ({ cls := "CircuitWardenModel$Walk", name := "put", desc := "(III)V" } : Jvm.MethodName)) ∈ lw_tbl := lw_at lw_m11 79 rfl
theorem q2769 : (Jvm.Cond.instanceMethod ({ cls := "CircuitWardenModel$Walk", name := "put", desc := "(III)V" } : Jvm.MethodName)) ∈ lw_all := lw_g (lw_at lw_m11 80 rfl) rfl
theorem q2770 : (Jvm.Cond.code ({ cls := "CircuitWardenModel$Walk", name := "put", desc := "(III)V" } : Jvm.MethodName) prog_22_method_55_code (4 : Nat) (Option.none : Option Jvm.ClassFile.FieldType)) ∈ lw_all := lw_g (lw_at lw_m11 81 rfl) rfl
theorem q2771 : (Jvm.Cond.methodLink "CircuitWardenModel$Walk" (498 : Nat) ({ cls := "CircuitWardenModel$Nodes", name := "isFull", desc := "()Z" } : Jvm.MethodName)) ∈ lw_all := lw_g (lw_at lw_m11 82 rfl) rfl
theorem q2775 : (Jvm.Cond.methodLink "CircuitWardenModel$Walk" (419 : Nat) ({ cls := "CircuitWardenModel$Walk", name := "literals", desc := "(I)I" } : Jvm.MethodName)) ∈ lw_all := lw_g (lw_at lw_m11 86 rfl) rfl
theorem q2776 : (Jvm.Cond.privateMethod ({ cls := "CircuitWardenModel$Walk", name := "literals", desc := "(I)I" } : Jvm.MethodName)) ∈ lw_tbl := lw_at lw_m11 87 rfl
theorem q2777 : (Jvm.Cond.instanceMethod ({ cls := "CircuitWardenModel$Walk", name := "literals", desc := "(I)I" } : Jvm.MethodName)) ∈ lw_all := lw_g (lw_at lw_m11 88 rfl) rfl
theorem q2778 : (Jvm.Cond.code ({ cls := "CircuitWardenModel$Walk", name := "literals", desc := "(I)I" } : Jvm.MethodName) prog_22_method_61_code (3 : Nat) (Option.some Jvm.ClassFile.FieldType.int)) ∈ lw_all := lw_g (lw_at lw_m11 89 rfl) rfl
theorem q2779 : (Jvm.Cond.methodLink "CircuitWardenModel$Walk" (410 : Nat) ({ cls := "CircuitWardenModel$Walk", name := "laid", desc := "(I)I" } : Jvm.MethodName)) ∈ lw_all := lw_g (lw_at lw_m11 90 rfl) rfl
theorem q2780 : (Jvm.Cond.privateMethod ({ cls := "CircuitWardenModel$Walk", name := "laid", desc := "(I)I" } : Jvm.MethodName)) ∈ lw_tbl := lw_at lw_m11 91 rfl
theorem q2781 : (Jvm.Cond.instanceMethod ({ cls := "CircuitWardenModel$Walk", name := "laid", desc := "(I)I" } : Jvm.MethodName)) ∈ lw_all := lw_g (lw_at lw_m11 92 rfl) rfl
theorem q2782 : (Jvm.Cond.code ({ cls := "CircuitWardenModel$Walk", name := "laid", desc := "(I)I" } : Jvm.MethodName) prog_22_method_62_code (16 : Nat) (Option.some Jvm.ClassFile.FieldType.int)) ∈ lw_all := lw_g (lw_at lw_m11 93 rfl) rfl
theorem q2783 : (Jvm.Cond.methodLink "CircuitWardenModel$Walk" (416 : Nat) ({ cls := "CircuitWardenModel$Walk", name := "literalsOfChain", desc := "(I)I" } : Jvm.MethodName)) ∈ lw_all := lw_g (lw_at lw_m11 94 rfl) rfl
theorem q2784 : (Jvm.Cond.privateMethod ({ cls := "CircuitWardenModel$Walk", name := "literalsOfChain", desc := "(I)I" } : Jvm.MethodName)) ∈ lw_tbl := lw_at lw_m11 95 rfl
theorem q2785 : (Jvm.Cond.instanceMethod ({ cls := "CircuitWardenModel$Walk", name := "literalsOfChain", desc := "(I)I" } : Jvm.MethodName)) ∈ lw_all := lw_g (lw_at lw_m11 96 rfl) rfl
theorem q2786 : (Jvm.Cond.code ({ cls := "CircuitWardenModel$Walk", name := "literalsOfChain", desc := "(I)I" } : Jvm.MethodName) prog_22_method_70_code (5 : Nat) (Option.some Jvm.ClassFile.FieldType.int)) ∈ lw_all := lw_g (lw_at lw_m11 97 rfl) rfl
theorem q2787 : (Jvm.Cond.methodLink "CircuitWardenModel$Walk" (459 : Nat) ({ cls := "CircuitWardenModel$Walk", name := "literalsOfTwo", desc := "(III)I" } : Jvm.MethodName)) ∈ lw_all := lw_g (lw_at lw_m11 98 rfl) rfl
theorem q2788 : (Jvm.Cond.privateMethod ({ cls := "CircuitWardenModel$Walk", name := "literalsOfTwo", desc := "(III)I" } : Jvm.MethodName)) ∈ lw_tbl := lw_at lw_m11 99 rfl
theorem q2789 : (Jvm.Cond.instanceMethod ({ cls := "CircuitWardenModel$Walk", name := "literalsOfTwo", desc := "(III)I" } : Jvm.MethodName)) ∈ lw_all := lw_g (lw_at lw_m11 100 rfl) rfl
theorem q2790 : (Jvm.Cond.code ({ cls := "CircuitWardenModel$Walk", name := "literalsOfTwo", desc := "(III)I" } : Jvm.MethodName) prog_22_method_71_code (6 : Nat) (Option.some Jvm.ClassFile.FieldType.int)) ∈ lw_all := lw_g (lw_at lw_m11 101 rfl) rfl
theorem q2791 : (Jvm.Cond.methodLink "CircuitWardenModel$Walk" (404 : Nat) ({ cls := "CircuitWardenModel$Walk", name := "length", desc := "(I)I" } : Jvm.MethodName)) ∈ lw_all := lw_g (lw_at lw_m11 102 rfl) rfl
theorem q2792 : (Jvm.Cond.privateMethod ({ cls := "CircuitWardenModel$Walk", name := "length", desc := "(I)I" } : Jvm.MethodName)) ∈ lw_tbl := lw_at lw_m11 103 rfl
theorem q2793 : (Jvm.Cond.instanceMethod ({ cls := "CircuitWardenModel$Walk", name := "length", desc := "(I)I" } : Jvm.MethodName)) ∈ lw_all := lw_g (lw_at lw_m11 104 rfl) rfl
theorem q2794 : (Jvm.Cond.code ({ cls := "CircuitWardenModel$Walk", name := "length", desc := "(I)I" } : Jvm.MethodName) prog_22_method_53_code (2 : Nat) (Option.some Jvm.ClassFile.FieldType.int)) ∈ lw_all := lw_g (lw_at lw_m11 105 rfl) rfl
theorem q2795 : (Jvm.Cond.methodLink "CircuitWardenModel$Walk" (407 : Nat) ({ cls := "CircuitWardenModel$Walk", name := "at", desc := "(II)I" } : Jvm.MethodName)) ∈ lw_all := lw_g (lw_at lw_m11 106 rfl) rfl
theorem q2796 : (Jvm.Cond.privateMethod ({ cls := "CircuitWardenModel$Walk", name := "at", desc := "(II)I" } : Jvm.MethodName)) ∈ lw_tbl := lw_at lw_m11 107 rfl
theorem q2797 : (Jvm.Cond.instanceMethod ({ cls := "CircuitWardenModel$Walk", name := "at", desc := "(II)I" } : Jvm.MethodName)) ∈ lw_all := lw_g (lw_at lw_m11 108 rfl) rfl
theorem q2798 : (Jvm.Cond.code ({ cls := "CircuitWardenModel$Walk", name := "at", desc := "(II)I" } : Jvm.MethodName) prog_22_method_54_code (3 : Nat) (Option.some Jvm.ClassFile.FieldType.int)) ∈ lw_all := lw_g (lw_at lw_m11 109 rfl) rfl
theorem q2799 : (Jvm.Cond.methodLink "CircuitWardenModel$Walk" (447 : Nat) ({ cls := "CircuitWardenModel$Nodes", name := "or", desc := "(II)I" } : Jvm.MethodName)) ∈ lw_all := lw_g (lw_at lw_m11 110 rfl) rfl
theorem q2810 : (Jvm.Cond.methodLink "CircuitWardenModel$Walk" (441 : Nat) ({ cls := "CircuitWardenModel$Nodes", name := "xor", desc := "(II)I" } : Jvm.MethodName)) ∈ lw_all := lw_g (lw_at lw_m11 121 rfl) rfl
theorem q2815 : (Jvm.Cond.methodLink "CircuitWardenModel$Walk" (444 : Nat) ({ cls := "CircuitWardenModel$Nodes", name := "and", desc := "(II)I" } : Jvm.MethodName)) ∈ lw_all := lw_g (lw_at lw_m11 126 rfl) rfl
theorem q2816 : (Jvm.Cond.methodLink "CircuitWardenModel$Walk" (462 : Nat) ({ cls := "CircuitWardenModel$Walk", name := "copied", desc := "(I)I" } : Jvm.MethodName)) ∈ lw_all := lw_g (lw_at lw_m11 127 rfl) rfl
theorem q2817 : (Jvm.Cond.privateMethod ({ cls := "CircuitWardenModel$Walk", name := "copied", desc := "(I)I" } : Jvm.MethodName)) ∈ lw_tbl := lw_at lw_m11 128 rfl
theorem q2818 : (Jvm.Cond.instanceMethod ({ cls := "CircuitWardenModel$Walk", name := "copied", desc := "(I)I" } : Jvm.MethodName)) ∈ lw_all := lw_g (lw_at lw_m11 129 rfl) rfl
theorem q2819 : (Jvm.Cond.code ({ cls := "CircuitWardenModel$Walk", name := "copied", desc := "(I)I" } : Jvm.MethodName) prog_22_method_65_code (3 : Nat) (Option.some Jvm.ClassFile.FieldType.int)) ∈ lw_all := lw_g (lw_at lw_m11 130 rfl) rfl
theorem q2820 : (Jvm.Cond.methodLink "CircuitWardenModel$Walk" (453 : Nat) ({ cls := "CircuitWardenModel$Walk", name := "add", desc := "(IIII)V" } : Jvm.MethodName)) ∈ lw_all := lw_g (lw_at lw_m11 131 rfl) rfl
theorem q2821 : (Jvm.Cond.privateMethod ({ cls := "CircuitWardenModel$Walk", name := "add", desc := "(IIII)V" } : Jvm.MethodName)) ∈ lw_tbl := lw_at lw_m11 132 rfl
theorem q2822 : (Jvm.Cond.instanceMethod ({ cls := "CircuitWardenModel$Walk", name := "add", desc := "(IIII)V" } : Jvm.MethodName)) ∈ lw_all := lw_g (lw_at lw_m11 133 rfl) rfl
theorem q2823 : (Jvm.Cond.code ({ cls := "CircuitWardenModel$Walk", name := "add", desc := "(IIII)V" } : Jvm.MethodName) prog_22_method_66_code (10 : Nat) (Option.none : Option Jvm.ClassFile.FieldType)) ∈ lw_all := lw_g (lw_at lw_m11 134 rfl) rfl
theorem q2824 : (Jvm.Cond.methodLink "CircuitWardenModel$Walk" (450 : Nat) ({ cls := "CircuitWardenModel$Walk", name := "turned", desc := "(I)I" } : Jvm.MethodName)) ∈ lw_all := lw_g (lw_at lw_m11 135 rfl) rfl
theorem q2825 : (Jvm.Cond.privateMethod ({ cls := "CircuitWardenModel$Walk", name := "turned", desc := "(I)I" } : Jvm.MethodName)) ∈ lw_tbl := lw_at lw_m11 136 rfl
theorem q2826 : (Jvm.Cond.instanceMethod ({ cls := "CircuitWardenModel$Walk", name := "turned", desc := "(I)I" } : Jvm.MethodName)) ∈ lw_all := lw_g (lw_at lw_m11 137 rfl) rfl
theorem q2827 : (Jvm.Cond.code ({ cls := "CircuitWardenModel$Walk", name := "turned", desc := "(I)I" } : Jvm.MethodName) prog_22_method_64_code (4 : Nat) (Option.some Jvm.ClassFile.FieldType.int)) ∈ lw_all := lw_g (lw_at lw_m11 138 rfl) rfl
theorem q2828 : (Jvm.Cond.methodLink "CircuitWardenModel$Walk" (438 : Nat) ({ cls := "CircuitWardenModel$Nodes", name := "not", desc := "(I)I" } : Jvm.MethodName)) ∈ lw_all := lw_g (lw_at lw_m11 139 rfl) rfl
theorem q2829 : (Jvm.Cond.methodLink "CircuitWardenModel$Walk" (465 : Nat) ({ cls := "CircuitWardenModel$Walk", name := "product", desc := "(II)I" } : Jvm.MethodName)) ∈ lw_all := lw_g (lw_at lw_m11 140 rfl) rfl
theorem q2830 : (Jvm.Cond.privateMethod ({ cls := "CircuitWardenModel$Walk", name := "product", desc := "(II)I" } : Jvm.MethodName)) ∈ lw_tbl := lw_at lw_m11 141 rfl
theorem q2831 : (Jvm.Cond.instanceMethod ({ cls := "CircuitWardenModel$Walk", name := "product", desc := "(II)I" } : Jvm.MethodName)) ∈ lw_all := lw_g (lw_at lw_m11 142 rfl) rfl
theorem q2832 : (Jvm.Cond.code ({ cls := "CircuitWardenModel$Walk", name := "product", desc := "(II)I" } : Jvm.MethodName) prog_22_method_72_code (8 : Nat) (Option.some Jvm.ClassFile.FieldType.int)) ∈ lw_all := lw_g (lw_at lw_m11 143 rfl) rfl
theorem q2833 : (Jvm.Cond.methodLink "CircuitWardenModel$Walk" (468 : Nat) ({ cls := "CircuitWardenModel$Walk", name := "moved", desc := "(IIZ)I" } : Jvm.MethodName)) ∈ lw_all := lw_g (lw_at lw_m11 144 rfl) rfl
theorem q2834 : (Jvm.Cond.privateMethod ({ cls := "CircuitWardenModel$Walk", name := "moved", desc := "(IIZ)I" } : Jvm.MethodName)) ∈ lw_tbl := lw_at lw_m11 145 rfl
theorem q2835 : (Jvm.Cond.instanceMethod ({ cls := "CircuitWardenModel$Walk", name := "moved", desc := "(IIZ)I" } : Jvm.MethodName)) ∈ lw_all := lw_g (lw_at lw_m11 146 rfl) rfl
theorem q2836 : (Jvm.Cond.code ({ cls := "CircuitWardenModel$Walk", name := "moved", desc := "(IIZ)I" } : Jvm.MethodName) prog_22_method_73_code (11 : Nat) (Option.some Jvm.ClassFile.FieldType.int)) ∈ lw_all := lw_g (lw_at lw_m11 147 rfl) rfl
theorem q2837 : (Jvm.Cond.methodLink "CircuitWardenModel$Walk" (435 : Nat) ({ cls := "CircuitWardenModel$Nodes", name := "choose", desc := "(III)I" } : Jvm.MethodName)) ∈ lw_all := lw_g (lw_at lw_m11 148 rfl) rfl
theorem q2841 : (Jvm.Cond.methodLink "CircuitWardenModel$Walk" (472 : Nat) ({ cls := "CircuitWardenModel$Walk", name := "isSame", desc := "(II)I" } : Jvm.MethodName)) ∈ lw_all := lw_g (lw_at lw_m11 152 rfl) rfl
theorem q2842 : (Jvm.Cond.privateMethod ({ cls := "CircuitWardenModel$Walk", name := "isSame", desc := "(II)I" } : Jvm.MethodName)) ∈ lw_tbl := lw_at lw_m11 153 rfl
theorem q2843 : (Jvm.Cond.instanceMethod ({ cls := "CircuitWardenModel$Walk", name := "isSame", desc := "(II)I" } : Jvm.MethodName)) ∈ lw_all := lw_g (lw_at lw_m11 154 rfl) rfl
theorem q2844 : (Jvm.Cond.code ({ cls := "CircuitWardenModel$Walk", name := "isSame", desc := "(II)I" } : Jvm.MethodName) prog_22_method_69_code (5 : Nat) (Option.some Jvm.ClassFile.FieldType.int)) ∈ lw_all := lw_g (lw_at lw_m11 155 rfl) rfl
theorem q2845 : (Jvm.Cond.methodLink "CircuitWardenModel$Walk" (456 : Nat) ({ cls := "CircuitWardenModel$Walk", name := "single", desc := "(I)I" } : Jvm.MethodName)) ∈ lw_all := lw_g (lw_at lw_m11 156 rfl) rfl
theorem q2846 : (Jvm.Cond.privateMethod ({ cls := "CircuitWardenModel$Walk", name := "single", desc := "(I)I" } : Jvm.MethodName)) ∈ lw_tbl := lw_at lw_m11 157 rfl
theorem q2847 : (Jvm.Cond.instanceMethod ({ cls := "CircuitWardenModel$Walk", name := "single", desc := "(I)I" } : Jvm.MethodName)) ∈ lw_all := lw_g (lw_at lw_m11 158 rfl) rfl
theorem q2848 : (Jvm.Cond.code ({ cls := "CircuitWardenModel$Walk", name := "single", desc := "(I)I" } : Jvm.MethodName) prog_22_method_56_code (3 : Nat) (Option.some Jvm.ClassFile.FieldType.int)) ∈ lw_all := lw_g (lw_at lw_m11 159 rfl) rfl
theorem q2849 : (Jvm.Cond.methodLink "CircuitWardenModel$Walk" (475 : Nat) ({ cls := "CircuitWardenModel$Walk", name := "isLess", desc := "(II)I" } : Jvm.MethodName)) ∈ lw_all := lw_g (lw_at lw_m11 160 rfl) rfl
theorem q2850 : (Jvm.Cond.privateMethod ({ cls := "CircuitWardenModel$Walk", name := "isLess", desc := "(II)I" } : Jvm.MethodName)) ∈ lw_tbl := lw_at lw_m11 161 rfl
theorem q2851 : (Jvm.Cond.instanceMethod ({ cls := "CircuitWardenModel$Walk", name := "isLess", desc := "(II)I" } : Jvm.MethodName)) ∈ lw_all := lw_g (lw_at lw_m11 162 rfl) rfl
theorem q2852 : (Jvm.Cond.code ({ cls := "CircuitWardenModel$Walk", name := "isLess", desc := "(II)I" } : Jvm.MethodName) prog_22_method_68_code (7 : Nat) (Option.some Jvm.ClassFile.FieldType.int)) ∈ lw_all := lw_g (lw_at lw_m11 163 rfl) rfl
theorem q2853 : (Jvm.Cond.methodLink "CircuitWardenModel$Walk" (413 : Nat) ({ cls := "CircuitWardenModel$Walk", name := "settled", desc := "(II)I" } : Jvm.MethodName)) ∈ lw_all := lw_g (lw_at lw_m11 164 rfl) rfl
theorem q2854 : (Jvm.Cond.privateMethod ({ cls := "CircuitWardenModel$Walk", name := "settled", desc := "(II)I" } : Jvm.MethodName)) ∈ lw_tbl := lw_at lw_m11 165 rfl
theorem q2855 : (Jvm.Cond.instanceMethod ({ cls := "CircuitWardenModel$Walk", name := "settled", desc := "(II)I" } : Jvm.MethodName)) ∈ lw_all := lw_g (lw_at lw_m11 166 rfl) rfl
theorem q2856 : (Jvm.Cond.code ({ cls := "CircuitWardenModel$Walk", name := "settled", desc := "(II)I" } : Jvm.MethodName) prog_22_method_59_code (4 : Nat) (Option.some Jvm.ClassFile.FieldType.int)) ∈ lw_all := lw_g (lw_at lw_m11 167 rfl) rfl
theorem q2857 : (Jvm.Cond.methodLink "CircuitWardenModel$Walk" (422 : Nat) ({ cls := "CircuitWardenModel$Walk", name := "chosen", desc := "(III)I" } : Jvm.MethodName)) ∈ lw_all := lw_g (lw_at lw_m11 168 rfl) rfl
theorem q2858 : (Jvm.Cond.privateMethod ({ cls := "CircuitWardenModel$Walk", name := "chosen", desc := "(III)I" } : Jvm.MethodName)) ∈ lw_tbl := lw_at lw_m11 169 rfl
theorem q2859 : (Jvm.Cond.instanceMethod ({ cls := "CircuitWardenModel$Walk", name := "chosen", desc := "(III)I" } : Jvm.MethodName)) ∈ lw_all := lw_g (lw_at lw_m11 170 rfl) rfl
theorem q2860 : (Jvm.Cond.code ({ cls := "CircuitWardenModel$Walk", name := "chosen", desc := "(III)I" } : Jvm.MethodName) prog_22_method_63_code (6 : Nat) (Option.some Jvm.ClassFile.FieldType.int)) ∈ lw_all := lw_g (lw_at lw_m11 171 rfl) rfl
theorem q2861 : (Jvm.Cond.methodLink "CircuitWardenModel$Walk" (426 : Nat) ({ cls := "CircuitWardenModel$Walk", name := "literalsOfCall", desc := "(II)I" } : Jvm.MethodName)) ∈ lw_all := lw_g (lw_at lw_m11 172 rfl) rfl
theorem q2862 : (Jvm.Cond.privateMethod ({ cls := "CircuitWardenModel$Walk", name := "literalsOfCall", desc := "(II)I" } : Jvm.MethodName)) ∈ lw_tbl := lw_at lw_m11 173 rfl
theorem q2863 : (Jvm.Cond.instanceMethod ({ cls := "CircuitWardenModel$Walk", name := "literalsOfCall", desc := "(II)I" } : Jvm.MethodName)) ∈ lw_all := lw_g (lw_at lw_m11 174 rfl) rfl
theorem q2864 : (Jvm.Cond.code ({ cls := "CircuitWardenModel$Walk", name := "literalsOfCall", desc := "(II)I" } : Jvm.MethodName) prog_22_method_74_code (8 : Nat) (Option.some Jvm.ClassFile.FieldType.int)) ∈ lw_all := lw_g (lw_at lw_m11 175 rfl) rfl
theorem q2865 : (Jvm.Cond.methodLink "CircuitWardenModel$Walk" (429 : Nat) ({ cls := "CircuitWardenModel$Walk", name := "number", desc := "(II)I" } : Jvm.MethodName)) ∈ lw_all := lw_g (lw_at lw_m11 176 rfl) rfl
theorem q2866 : (Jvm.Cond.privateMethod ({ cls := "CircuitWardenModel$Walk", name := "number", desc := "(II)I" } : Jvm.MethodName)) ∈ lw_tbl := lw_at lw_m11 177 rfl
theorem q2867 : (Jvm.Cond.instanceMethod ({ cls := "CircuitWardenModel$Walk", name := "number", desc := "(II)I" } : Jvm.MethodName)) ∈ lw_all := lw_g (lw_at lw_m11 178 rfl) rfl
theorem q2868 : (Jvm.Cond.code ({ cls := "CircuitWardenModel$Walk", name := "number", desc := "(II)I" } : Jvm.MethodName) prog_22_method_58_code (5 : Nat) (Option.some Jvm.ClassFile.FieldType.int)) ∈ lw_all := lw_g (lw_at lw_m11 179 rfl) rfl
theorem q2869 : (Jvm.Cond.methodLink "CircuitWardenModel$Walk" (400 : Nat) ({ cls := "CircuitWardenModel$Walk", name := "bitOf", desc := "(JI)I" } : Jvm.MethodName)) ∈ lw_all := lw_g (lw_at lw_m11 180 rfl) rfl
theorem q2870 : (Jvm.Cond.static ({ cls := "CircuitWardenModel$Walk", name := "bitOf", desc := "(JI)I" } : Jvm.MethodName)) ∈ lw_all := lw_g (lw_at lw_m11 181 rfl) rfl
theorem q2871 : (Jvm.Cond.code ({ cls := "CircuitWardenModel$Walk", name := "bitOf", desc := "(JI)I" } : Jvm.MethodName) prog_22_method_57_code (3 : Nat) (Option.some Jvm.ClassFile.FieldType.int)) ∈ lw_all := lw_g (lw_at lw_m11 182 rfl) rfl
theorem q2872 : (Jvm.Cond.methodLink "CircuitWardenModel$Walk" (432 : Nat) ({ cls := "CircuitWardenModel$Walk", name := "literalsOfOne", desc := "(II)I" } : Jvm.MethodName)) ∈ lw_all := lw_g (lw_at lw_m11 183 rfl) rfl
theorem q2873 : (Jvm.Cond.privateMethod ({ cls := "CircuitWardenModel$Walk", name := "literalsOfOne", desc := "(II)I" } : Jvm.MethodName)) ∈ lw_tbl := lw_at lw_m11 184 rfl
theorem q2874 : (Jvm.Cond.instanceMethod ({ cls := "CircuitWardenModel$Walk", name := "literalsOfOne", desc := "(II)I" } : Jvm.MethodName)) ∈ lw_all := lw_g (lw_at lw_m11 185 rfl) rfl
theorem q2875 : (Jvm.Cond.code ({ cls := "CircuitWardenModel$Walk", name := "literalsOfOne", desc := "(II)I" } : Jvm.MethodName) prog_22_method_67_code (5 : Nat) (Option.some Jvm.ClassFile.FieldType.int)) ∈ lw_all := lw_g (lw_at lw_m11 186 rfl) rfl
theorem q2876 : (Jvm.Cond.methodLink "CircuitWardenModel$Walk" (478 : Nat) ({ cls := "CircuitWardenModel$Walk", name := "step", desc := "(III)V" } : Jvm.MethodName)) ∈ lw_all := lw_g (lw_at lw_m11 187 rfl) rfl
theorem q2877 : (Jvm.Cond.privateMethod ({ cls := "CircuitWardenModel$Walk", name := "step", desc := "(III)V" } : Jvm.MethodName)) ∈ lw_tbl := lw_at lw_m11 188 rfl
theorem q2878 : (Jvm.Cond.instanceMethod ({ cls := "CircuitWardenModel$Walk", name := "step", desc := "(III)V" } : Jvm.MethodName)) ∈ lw_all := lw_g (lw_at lw_m11 189 rfl) rfl
theorem q2879 : (Jvm.Cond.code ({ cls := "CircuitWardenModel$Walk", name := "step", desc := "(III)V" } : Jvm.MethodName) prog_22_method_76_code (9 : Nat) (Option.none : Option Jvm.ClassFile.FieldType)) ∈ lw_all := lw_g (lw_at lw_m11 190 rfl) rfl
theorem q2880 : (Jvm.Cond.methodLink "CircuitWardenModel$Walk" (481 : Nat) ({ cls := "CircuitWardenModel$Walk", name := "merge", desc := "(IIIII)V" } : Jvm.MethodName)) ∈ lw_all := lw_g (lw_at lw_m11 191 rfl) rfl
theorem q2881 : (Jvm.Cond.privateMethod ({ cls := "CircuitWardenModel$Walk", name := "merge", desc := "(IIIII)V" } : Jvm.MethodName)) ∈ lw_tbl := lw_at lw_m11 192 rfl
theorem q2882 : (Jvm.Cond.instanceMethod ({ cls := "CircuitWardenModel$Walk", name := "merge", desc := "(IIIII)V" } : Jvm.MethodName)) ∈ lw_all := lw_g (lw_at lw_m11 193 rfl) rfl
theorem q2883 : (Jvm.Cond.code ({ cls := "CircuitWardenModel$Walk", name := "merge", desc := "(IIIII)V" } : Jvm.MethodName) prog_22_method_75_code (9 : Nat) (Option.none : Option Jvm.ClassFile.FieldType)) ∈ lw_all := lw_g (lw_at lw_m11 194 rfl) rfl
theorem q2884 : (Jvm.Cond.methodLink "CircuitWardenModel$Walk" (484 : Nat) ({ cls := "CircuitWardenModel$Walk", name := "tidy", desc := "(II)V" } : Jvm.MethodName)) ∈ lw_all := lw_g (lw_at lw_m11 195 rfl) rfl
theorem q2885 : (Jvm.Cond.privateMethod ({ cls := "CircuitWardenModel$Walk", name := "tidy", desc := "(II)V" } : Jvm.MethodName)) ∈ lw_tbl := lw_at lw_m11 196 rfl
theorem q2886 : (Jvm.Cond.instanceMethod ({ cls := "CircuitWardenModel$Walk", name := "tidy", desc := "(II)V" } : Jvm.MethodName)) ∈ lw_all := lw_g (lw_at lw_m11 197 rfl) rfl
theorem q2887 : (Jvm.Cond.code ({ cls := "CircuitWardenModel$Walk", name := "tidy", desc := "(II)V" } : Jvm.MethodName) prog_22_method_60_code (7 : Nat) (Option.none : Option Jvm.ClassFile.FieldType)) ∈ lw_all := lw_g (lw_at lw_m11 198 rfl) rfl
theorem q2888 : (Jvm.Cond.methodLink "CircuitWardenModel$Walk" (487 : Nat) ({ cls := "CircuitWardenModel$Walk", name := "stepCase", desc := "(IIII)V" } : Jvm.MethodName)) ∈ lw_all := lw_g (lw_at lw_m11 199 rfl) rfl
theorem q2889 : (Jvm.Cond.privateMethod ({ cls := "CircuitWardenModel$Walk", name := "stepCase", desc := "(IIII)V" } : Jvm.MethodName)) ∈ lw_tbl := lw_at lw_m11 200 rfl
theorem q2890 : (Jvm.Cond.instanceMethod ({ cls := "CircuitWardenModel$Walk", name := "stepCase", desc := "(IIII)V" } : Jvm.MethodName)) ∈ lw_all := lw_g (lw_at lw_m11 201 rfl) rfl
theorem q2891 : (Jvm.Cond.code ({ cls := "CircuitWardenModel$Walk", name := "stepCase", desc := "(IIII)V" } : Jvm.MethodName) prog_22_method_77_code (14 : Nat) (Option.none : Option Jvm.ClassFile.FieldType)) ∈ lw_all := lw_g (lw_at lw_m11 202 rfl) rfl
theorem q2892 : (Jvm.Cond.methodLink "CircuitWardenModel$Walk" (382 : Nat) ({ cls := "CircuitWardenModel$Walk", name := "makeTwin", desc := "()Z" } : Jvm.MethodName)) ∈ lw_all := lw_g (lw_at lw_m11 203 rfl) rfl
theorem q2893 : (Jvm.Cond.privateMethod ({ cls := "CircuitWardenModel$Walk", name := "makeTwin", desc := "()Z" } : Jvm.MethodName)) ∈ lw_tbl := lw_at lw_m11 204 rfl
theorem q2894 : (Jvm.Cond.instanceMethod ({ cls := "CircuitWardenModel$Walk", name := "makeTwin", desc := "()Z" } : Jvm.MethodName)) ∈ lw_all := lw_g (lw_at lw_m11 205 rfl) rfl
theorem q2895 : (Jvm.Cond.code ({ cls := "CircuitWardenModel$Walk", name := "makeTwin", desc := "()Z" } : Jvm.MethodName) prog_22_method_80_code (9 : Nat) (Option.some Jvm.ClassFile.FieldType.boolean)) ∈ lw_all := lw_g (lw_at lw_m11 206 rfl) rfl
theorem q2896 : (Jvm.Cond.methodLink "CircuitWardenModel$Walk" (505 : Nat) ({ cls := "CircuitWardenModel$Walk", name := "with", desc := "([II)I" } : Jvm.MethodName)) ∈ lw_all := lw_g (lw_at lw_m11 207 rfl) rfl
theorem q2897 : (Jvm.Cond.privateMethod ({ cls := "CircuitWardenModel$Walk", name := "with", desc := "([II)I" } : Jvm.MethodName)) ∈ lw_tbl := lw_at lw_m11 208 rfl
theorem q2898 : (Jvm.Cond.instanceMethod ({ cls := "CircuitWardenModel$Walk", name := "with", desc := "([II)I" } : Jvm.MethodName)) ∈ lw_all := lw_g (lw_at lw_m11 209 rfl) rfl
theorem q2899 : (Jvm.Cond.code ({ cls := "CircuitWardenModel$Walk", name := "with", desc := "([II)I" } : Jvm.MethodName) prog_22_method_79_code (3 : Nat) (Option.some Jvm.ClassFile.FieldType.int)) ∈ lw_all := lw_g (lw_at lw_m11 210 rfl) rfl
theorem q3448 : (Jvm.Cond.instanceMethod ({ cls := "CircuitWardenModel$Walk", name := "label", desc := "(IIZ)I" } : Jvm.MethodName)) ∈ lw_all := lw_g (lw_at lw_m14 39 rfl) rfl
theorem q3449 : (Jvm.Cond.selects "CircuitWardenModel$Walk" ({ cls := "CircuitWardenModel$Walk", name := "label", desc := "(IIZ)I" } : Jvm.MethodName) ({ cls := "CircuitWardenModel$Walk", name := "label", desc := "(IIZ)I" } : Jvm.MethodName)) ∈ lw_all := lw_g (lw_at lw_m14 40 rfl) rfl
theorem q3450 : (Jvm.Cond.code ({ cls := "CircuitWardenModel$Walk", name := "label", desc := "(IIZ)I" } : Jvm.MethodName) prog_22_method_21_code (5 : Nat) (Option.some Jvm.ClassFile.FieldType.int)) ∈ lw_all := lw_g (lw_at lw_m14 41 rfl) rfl
theorem q3465 : (Jvm.Cond.instanceMethod ({ cls := "CircuitWardenModel$Walk", name := "literalOf", desc := "(III)I" } : Jvm.MethodName)) ∈ lw_all := lw_g (lw_at lw_m14 56 rfl) rfl
theorem q3466 : (Jvm.Cond.selects "CircuitWardenModel$Walk" ({ cls := "CircuitWardenModel$Walk", name := "literalOf", desc := "(III)I" } : Jvm.MethodName) ({ cls := "CircuitWardenModel$Walk", name := "literalOf", desc := "(III)I" } : Jvm.MethodName)) ∈ lw_all := lw_g (lw_at lw_m14 57 rfl) rfl
theorem q3467 : (Jvm.Cond.code ({ cls := "CircuitWardenModel$Walk", name := "literalOf", desc := "(III)I" } : Jvm.MethodName) prog_22_method_81_code (6 : Nat) (Option.some Jvm.ClassFile.FieldType.int)) ∈ lw_all := lw_g (lw_at lw_m14 58 rfl) rfl
theorem in_X18 : ∀ w ∈ wsX180, w ∈ lw_all := lw_in wsX180 [2364, 2366, 2368, 2370, 2372, 2374, 2376, 2378, 2380, 2382, 2384, 2386, 2388, 2390, 2392, 2394, 2396, 2398, 2400, 2402, 2404, 2406, 2408, 2410, 2412, 2414, 2416, 2418, 2420, 2422, 2424, 2426, 2428, 2430, 2432, 2434, 2436, 2438, 2440, 2442, 2444, 2446, 2448, 2450, 2452, 2454, 2456, 2458, 2460, 2462, 2464, 2466, 2468, 2470, 2472, 2474, 2476, 2478, 2480, 2482] (by decide +kernel) (by decide +kernel)
/-! CircuitWardenModel$Nodes -/
def RX19 : String := "CircuitWardenModel$Nodes"
def TX19 : u_T := fun k => match k with
  | 0 => ("CircuitWardenModel$Nodes", "left", "[I", false)
  | 1 => ("CircuitWardenModel$Nodes", "right", "[I", false)
  | 2 => ("CircuitWardenModel$Nodes", "count", "I", false)
  | 3 => ("CircuitWardenModel$Nodes", "gates", "I", false)
  | 4 => ("CircuitWardenModel$Nodes", "most", "I", true)
  | 5 => ("CircuitWardenModel$Nodes", "heads", "[I", false)
  | _ => ("CircuitWardenModel$Nodes", "before", "[I", false)
def tyX19 : Nat → FieldType := fun k => match k with
  | 0 => .array .int
  | 1 => .array .int
  | 2 => .int
  | 3 => .int
  | 4 => .int
  | 5 => .array .int
  | _ => .array .int
abbrev wsX190 : List Cond := u_ws RX19 TX19 7
theorem nmX19 : ∀ a, a < 7 → ∀ b, b < 7 → a ≠ b → (TX19 a).2.1 ≠ (TX19 b).2.1 := by decide +kernel
theorem tyX19_ok : ∀ k, k < 7 → parseFieldDescriptor (TX19 k).2.2.1 = some (tyX19 k) := by decide +kernel
abbrev cX19_init : ByteArray := prog_21_method_1_code
def yX19_init : MethodName := ⟨RX19, "<init>", "(I)V"⟩
abbrev cX19_begin : ByteArray := prog_21_method_2_code
def yX19_begin : MethodName := ⟨RX19, "begin", "()V"⟩
abbrev cX19_add : ByteArray := prog_21_method_4_code
def yX19_add : MethodName := ⟨RX19, "add", "(II)I"⟩
abbrev cX19_more : ByteArray := prog_21_method_3_code
def yX19_more : MethodName := ⟨RX19, "more", "([I)[I"⟩
abbrev cX19_isFull : ByteArray := prog_21_method_10_code
def yX19_isFull : MethodName := ⟨RX19, "isFull", "()Z"⟩
abbrev cX19_or : ByteArray := prog_21_method_7_code
def yX19_or : MethodName := ⟨RX19, "or", "(II)I"⟩
abbrev cX19_not : ByteArray := prog_21_method_6_code
def yX19_not : MethodName := ⟨RX19, "not", "(I)I"⟩
abbrev cX19_and : ByteArray := prog_21_method_5_code
def yX19_and : MethodName := ⟨RX19, "and", "(II)I"⟩
abbrev cX19_xor : ByteArray := prog_21_method_8_code
def yX19_xor : MethodName := ⟨RX19, "xor", "(II)I"⟩
abbrev cX19_choose : ByteArray := prog_21_method_9_code
def yX19_choose : MethodName := ⟨RX19, "choose", "(III)I"⟩
theorem q313 : (Jvm.Cond.initialized "CircuitWardenModel$Nodes") ∈ lw_all := lw_g (lw_at lw_m1 24 rfl) rfl
theorem q2221 : (Jvm.Cond.instantiable "CircuitWardenModel$Nodes" (7 : Nat)) ∈ lw_all := lw_g (lw_at lw_m9 12 rfl) rfl
theorem q2223 : (Jvm.Cond.instanceMethod ({ cls := "CircuitWardenModel$Nodes", name := "<init>", desc := "(I)V" } : Jvm.MethodName)) ∈ lw_all := lw_g (lw_at lw_m9 14 rfl) rfl
theorem q2224 : (Jvm.Cond.code ({ cls := "CircuitWardenModel$Nodes", name := "<init>", desc := "(I)V" } : Jvm.MethodName) prog_21_method_1_code (2 : Nat) (Option.none : Option Jvm.ClassFile.FieldType)) ∈ lw_all := lw_g (lw_at lw_m9 15 rfl) rfl
theorem q2225 : (Jvm.Cond.methodLink "CircuitWardenModel$Nodes" (1 : Nat) ({ cls := "java/lang/Object", name := "<init>", desc := "()V" } : Jvm.MethodName)) ∈ lw_all := lw_g (lw_at lw_m9 16 rfl) rfl
theorem q2226 : (Jvm.Cond.methodLink "CircuitWardenModel$Nodes" (26 : Nat) ({ cls := "CircuitWardenModel$Nodes", name := "begin", desc := "()V" } : Jvm.MethodName)) ∈ lw_all := lw_g (lw_at lw_m9 17 rfl) rfl
theorem q2227 : (Jvm.Cond.instanceMethod ({ cls := "CircuitWardenModel$Nodes", name := "begin", desc := "()V" } : Jvm.MethodName)) ∈ lw_all := lw_g (lw_at lw_m9 18 rfl) rfl
theorem q2228 : (Jvm.Cond.selects "CircuitWardenModel$Nodes" ({ cls := "CircuitWardenModel$Nodes", name := "begin", desc := "()V" } : Jvm.MethodName) ({ cls := "CircuitWardenModel$Nodes", name := "begin", desc := "()V" } : Jvm.MethodName)) ∈ lw_all := lw_g (lw_at lw_m9 19 rfl) rfl
theorem q2229 : (Jvm.Cond.code ({ cls := "CircuitWardenModel$Nodes", name := "begin", desc := "()V" } : Jvm.MethodName) prog_21_method_2_code (2 : Nat) (Option.none : Option Jvm.ClassFile.FieldType)) ∈ lw_all := lw_g (lw_at lw_m9 20 rfl) rfl
theorem q2230 : (Jvm.Cond.methodLink "CircuitWardenModel$Nodes" (35 : Nat) ({ cls := "CircuitWardenModel$Nodes", name := "add", desc := "(II)I" } : Jvm.MethodName)) ∈ lw_all := lw_g (lw_at lw_m9 21 rfl) rfl
theorem q2231 : (Jvm.Cond.instanceMethod ({ cls := "CircuitWardenModel$Nodes", name := "add", desc := "(II)I" } : Jvm.MethodName)) ∈ lw_all := lw_g (lw_at lw_m9 22 rfl) rfl
theorem q2232 : (Jvm.Cond.selects "CircuitWardenModel$Nodes" ({ cls := "CircuitWardenModel$Nodes", name := "add", desc := "(II)I" } : Jvm.MethodName) ({ cls := "CircuitWardenModel$Nodes", name := "add", desc := "(II)I" } : Jvm.MethodName)) ∈ lw_all := lw_g (lw_at lw_m9 23 rfl) rfl
theorem q2233 : (Jvm.Cond.code ({ cls := "CircuitWardenModel$Nodes", name := "add", desc := "(II)I" } : Jvm.MethodName) prog_21_method_4_code (5 : Nat) (Option.some Jvm.ClassFile.FieldType.int)) ∈ lw_all := lw_g (lw_at lw_m9 24 rfl) rfl
theorem q2234 : (Jvm.Cond.methodLink "CircuitWardenModel$Nodes" (45 : Nat) ({ cls := "CircuitWardenModel$Nodes", name := "more", desc := "([I)[I" } : Jvm.MethodName)) ∈ lw_all := lw_g (lw_at lw_m9 25 rfl) rfl
theorem q2235 : (Jvm.Cond.static ({ cls := "CircuitWardenModel$Nodes", name := "more", desc := "([I)[I" } : Jvm.MethodName)) ∈ lw_all := lw_g (lw_at lw_m9 26 rfl) rfl
theorem q2236 : (Jvm.Cond.code ({ cls := "CircuitWardenModel$Nodes", name := "more", desc := "([I)[I" } : Jvm.MethodName) prog_21_method_3_code (2 : Nat) (Option.some (Jvm.ClassFile.FieldType.array Jvm.ClassFile.FieldType.int))) ∈ lw_all := lw_g (lw_at lw_m9 27 rfl) rfl
theorem q2237 : (Jvm.Cond.methodLink "CircuitWardenModel$Nodes" (39 : Nat) ({ cls := "java/lang/System", name := "arraycopy", desc := "(Ljava/lang/Object;ILjava/lang/Object;II)V" } : Jvm.MethodName)) ∈ lw_all := lw_g (lw_at lw_m9 28 rfl) rfl
theorem q2238 : (Jvm.Cond.fieldLink "CircuitWardenModel$Nodes" (7 : Nat) "CircuitWardenModel$Nodes" "left" "[I") ∈ lw_all := lw_g (lw_at lw_m9 29 rfl) rfl
theorem q2242 : (Jvm.Cond.fieldLink "CircuitWardenModel$Nodes" (13 : Nat) "CircuitWardenModel$Nodes" "right" "[I") ∈ lw_all := lw_g (lw_at lw_m9 33 rfl) rfl
theorem q2246 : (Jvm.Cond.fieldLink "CircuitWardenModel$Nodes" (29 : Nat) "CircuitWardenModel$Nodes" "count" "I") ∈ lw_all := lw_g (lw_at lw_m9 37 rfl) rfl
theorem q2250 : (Jvm.Cond.fieldLink "CircuitWardenModel$Nodes" (32 : Nat) "CircuitWardenModel$Nodes" "gates" "I") ∈ lw_all := lw_g (lw_at lw_m9 41 rfl) rfl
theorem q2251 : (Jvm.Cond.fieldLink "CircuitWardenModel$Nodes" (22 : Nat) "CircuitWardenModel$Nodes" "most" "I") ∈ lw_all := lw_g (lw_at lw_m9 42 rfl) rfl
theorem q2252 : (Jvm.Cond.fieldLink "CircuitWardenModel$Nodes" (16 : Nat) "CircuitWardenModel$Nodes" "heads" "[I") ∈ lw_all := lw_g (lw_at lw_m9 43 rfl) rfl
theorem q2253 : (Jvm.Cond.fieldLink "CircuitWardenModel$Nodes" (19 : Nat) "CircuitWardenModel$Nodes" "before" "[I") ∈ lw_all := lw_g (lw_at lw_m9 44 rfl) rfl
theorem q2254 : (Jvm.Cond.lays "CircuitWardenModel$Nodes" "CircuitWardenModel$Nodes" "left" "[I") ∈ lw_all := lw_g (lw_at lw_m9 45 rfl) rfl
theorem q2255 : (Jvm.Cond.soleField "CircuitWardenModel$Nodes" "left") ∈ lw_all := lw_g (lw_at lw_m9 46 rfl) rfl
theorem q2256 : (Jvm.Cond.lays "CircuitWardenModel$Nodes" "CircuitWardenModel$Nodes" "right" "[I") ∈ lw_all := lw_g (lw_at lw_m9 47 rfl) rfl
theorem q2257 : (Jvm.Cond.soleField "CircuitWardenModel$Nodes" "right") ∈ lw_all := lw_g (lw_at lw_m9 48 rfl) rfl
theorem q2258 : (Jvm.Cond.lays "CircuitWardenModel$Nodes" "CircuitWardenModel$Nodes" "count" "I") ∈ lw_all := lw_g (lw_at lw_m9 49 rfl) rfl
theorem q2259 : (Jvm.Cond.soleField "CircuitWardenModel$Nodes" "count") ∈ lw_all := lw_g (lw_at lw_m9 50 rfl) rfl
theorem q2260 : (Jvm.Cond.lays "CircuitWardenModel$Nodes" "CircuitWardenModel$Nodes" "gates" "I") ∈ lw_all := lw_g (lw_at lw_m9 51 rfl) rfl
theorem q2261 : (Jvm.Cond.soleField "CircuitWardenModel$Nodes" "gates") ∈ lw_all := lw_g (lw_at lw_m9 52 rfl) rfl
theorem q2262 : (Jvm.Cond.laysFinal "CircuitWardenModel$Nodes" "CircuitWardenModel$Nodes" "most" "I") ∈ lw_all := lw_g (lw_at lw_m9 53 rfl) rfl
theorem q2263 : (Jvm.Cond.soleField "CircuitWardenModel$Nodes" "most") ∈ lw_all := lw_g (lw_at lw_m9 54 rfl) rfl
theorem q2264 : (Jvm.Cond.lays "CircuitWardenModel$Nodes" "CircuitWardenModel$Nodes" "heads" "[I") ∈ lw_all := lw_g (lw_at lw_m9 55 rfl) rfl
theorem q2265 : (Jvm.Cond.soleField "CircuitWardenModel$Nodes" "heads") ∈ lw_all := lw_g (lw_at lw_m9 56 rfl) rfl
theorem q2266 : (Jvm.Cond.lays "CircuitWardenModel$Nodes" "CircuitWardenModel$Nodes" "before" "[I") ∈ lw_all := lw_g (lw_at lw_m9 57 rfl) rfl
theorem q2267 : (Jvm.Cond.soleField "CircuitWardenModel$Nodes" "before") ∈ lw_all := lw_g (lw_at lw_m9 58 rfl) rfl
theorem q2268 : (Jvm.Cond.superclass "CircuitWardenModel$Nodes" "java/lang/Object") ∈ lw_all := lw_g (lw_at lw_m9 59 rfl) rfl
theorem q2772 : (Jvm.Cond.instanceMethod ({ cls := "CircuitWardenModel$Nodes", name := "isFull", desc := "()Z" } : Jvm.MethodName)) ∈ lw_all := lw_g (lw_at lw_m11 83 rfl) rfl
theorem q2773 : (Jvm.Cond.selects "CircuitWardenModel$Nodes" ({ cls := "CircuitWardenModel$Nodes", name := "isFull", desc := "()Z" } : Jvm.MethodName) ({ cls := "CircuitWardenModel$Nodes", name := "isFull", desc := "()Z" } : Jvm.MethodName)) ∈ lw_all := lw_g (lw_at lw_m11 84 rfl) rfl
theorem q2774 : (Jvm.Cond.code ({ cls := "CircuitWardenModel$Nodes", name := "isFull", desc := "()Z" } : Jvm.MethodName) prog_21_method_10_code (1 : Nat) (Option.some Jvm.ClassFile.FieldType.boolean)) ∈ lw_all := lw_g (lw_at lw_m11 85 rfl) rfl
theorem q2800 : (Jvm.Cond.instanceMethod ({ cls := "CircuitWardenModel$Nodes", name := "or", desc := "(II)I" } : Jvm.MethodName)) ∈ lw_all := lw_g (lw_at lw_m11 111 rfl) rfl
theorem q2801 : (Jvm.Cond.selects "CircuitWardenModel$Nodes" ({ cls := "CircuitWardenModel$Nodes", name := "or", desc := "(II)I" } : Jvm.MethodName) ({ cls := "CircuitWardenModel$Nodes", name := "or", desc := "(II)I" } : Jvm.MethodName)) ∈ lw_all := lw_g (lw_at lw_m11 112 rfl) rfl
theorem q2802 : (Jvm.Cond.code ({ cls := "CircuitWardenModel$Nodes", name := "or", desc := "(II)I" } : Jvm.MethodName) prog_21_method_7_code (3 : Nat) (Option.some Jvm.ClassFile.FieldType.int)) ∈ lw_all := lw_g (lw_at lw_m11 113 rfl) rfl
theorem q2803 : (Jvm.Cond.methodLink "CircuitWardenModel$Nodes" (49 : Nat) ({ cls := "CircuitWardenModel$Nodes", name := "not", desc := "(I)I" } : Jvm.MethodName)) ∈ lw_all := lw_g (lw_at lw_m11 114 rfl) rfl
theorem q2804 : (Jvm.Cond.static ({ cls := "CircuitWardenModel$Nodes", name := "not", desc := "(I)I" } : Jvm.MethodName)) ∈ lw_all := lw_g (lw_at lw_m11 115 rfl) rfl
theorem q2805 : (Jvm.Cond.code ({ cls := "CircuitWardenModel$Nodes", name := "not", desc := "(I)I" } : Jvm.MethodName) prog_21_method_6_code (1 : Nat) (Option.some Jvm.ClassFile.FieldType.int)) ∈ lw_all := lw_g (lw_at lw_m11 116 rfl) rfl
theorem q2806 : (Jvm.Cond.methodLink "CircuitWardenModel$Nodes" (53 : Nat) ({ cls := "CircuitWardenModel$Nodes", name := "and", desc := "(II)I" } : Jvm.MethodName)) ∈ lw_all := lw_g (lw_at lw_m11 117 rfl) rfl
theorem q2807 : (Jvm.Cond.instanceMethod ({ cls := "CircuitWardenModel$Nodes", name := "and", desc := "(II)I" } : Jvm.MethodName)) ∈ lw_all := lw_g (lw_at lw_m11 118 rfl) rfl
theorem q2808 : (Jvm.Cond.selects "CircuitWardenModel$Nodes" ({ cls := "CircuitWardenModel$Nodes", name := "and", desc := "(II)I" } : Jvm.MethodName) ({ cls := "CircuitWardenModel$Nodes", name := "and", desc := "(II)I" } : Jvm.MethodName)) ∈ lw_all := lw_g (lw_at lw_m11 119 rfl) rfl
theorem q2809 : (Jvm.Cond.code ({ cls := "CircuitWardenModel$Nodes", name := "and", desc := "(II)I" } : Jvm.MethodName) prog_21_method_5_code (6 : Nat) (Option.some Jvm.ClassFile.FieldType.int)) ∈ lw_all := lw_g (lw_at lw_m11 120 rfl) rfl
theorem q2811 : (Jvm.Cond.instanceMethod ({ cls := "CircuitWardenModel$Nodes", name := "xor", desc := "(II)I" } : Jvm.MethodName)) ∈ lw_all := lw_g (lw_at lw_m11 122 rfl) rfl
theorem q2812 : (Jvm.Cond.selects "CircuitWardenModel$Nodes" ({ cls := "CircuitWardenModel$Nodes", name := "xor", desc := "(II)I" } : Jvm.MethodName) ({ cls := "CircuitWardenModel$Nodes", name := "xor", desc := "(II)I" } : Jvm.MethodName)) ∈ lw_all := lw_g (lw_at lw_m11 123 rfl) rfl
theorem q2813 : (Jvm.Cond.code ({ cls := "CircuitWardenModel$Nodes", name := "xor", desc := "(II)I" } : Jvm.MethodName) prog_21_method_8_code (5 : Nat) (Option.some Jvm.ClassFile.FieldType.int)) ∈ lw_all := lw_g (lw_at lw_m11 124 rfl) rfl
theorem q2814 : (Jvm.Cond.methodLink "CircuitWardenModel$Nodes" (56 : Nat) ({ cls := "CircuitWardenModel$Nodes", name := "or", desc := "(II)I" } : Jvm.MethodName)) ∈ lw_all := lw_g (lw_at lw_m11 125 rfl) rfl
theorem q2838 : (Jvm.Cond.instanceMethod ({ cls := "CircuitWardenModel$Nodes", name := "choose", desc := "(III)I" } : Jvm.MethodName)) ∈ lw_all := lw_g (lw_at lw_m11 149 rfl) rfl
theorem q2839 : (Jvm.Cond.selects "CircuitWardenModel$Nodes" ({ cls := "CircuitWardenModel$Nodes", name := "choose", desc := "(III)I" } : Jvm.MethodName) ({ cls := "CircuitWardenModel$Nodes", name := "choose", desc := "(III)I" } : Jvm.MethodName)) ∈ lw_all := lw_g (lw_at lw_m11 150 rfl) rfl
theorem q2840 : (Jvm.Cond.code ({ cls := "CircuitWardenModel$Nodes", name := "choose", desc := "(III)I" } : Jvm.MethodName) prog_21_method_9_code (6 : Nat) (Option.some Jvm.ClassFile.FieldType.int)) ∈ lw_all := lw_g (lw_at lw_m11 151 rfl) rfl
theorem in_X19 : ∀ w ∈ wsX190, w ∈ lw_all := lw_in wsX190 [2254, 2256, 2258, 2260, 2262, 2264, 2266] (by decide +kernel) (by decide +kernel)
/-! CircuitWarden$Names -/
def RX2 : String := "CircuitWarden$Names"
def TX2 : u_T := fun k => match k with
  | 0 => ("CircuitWarden$Names", "letters", "LCircuitWarden$Bytes;", true)
  | 1 => ("CircuitWarden$Names", "starts", "[I", false)
  | 2 => ("CircuitWarden$Names", "count", "I", false)
  | _ => ("CircuitWarden$Names", "table", "[I", false)
def tyX2 : Nat → FieldType := fun k => match k with
  | 0 => .object "CircuitWarden$Bytes"
  | 1 => .array .int
  | 2 => .int
  | _ => .array .int
abbrev wsX20 : List Cond := u_ws RX2 TX2 4
theorem nmX2 : ∀ a, a < 4 → ∀ b, b < 4 → a ≠ b → (TX2 a).2.1 ≠ (TX2 b).2.1 := by decide +kernel
theorem tyX2_ok : ∀ k, k < 4 → parseFieldDescriptor (TX2 k).2.2.1 = some (tyX2 k) := by decide +kernel
abbrev cX2_init : ByteArray := prog_8_method_1_code
def yX2_init : MethodName := ⟨RX2, "<init>", "()V"⟩
abbrev cX2_cut : ByteArray := prog_8_method_10_code
def yX2_cut : MethodName := ⟨RX2, "cut", "(I)V"⟩
abbrev cX2_length : ByteArray := prog_8_method_2_code
def yX2_length : MethodName := ⟨RX2, "length", "(I)I"⟩
abbrev cX2_seek : ByteArray := prog_8_method_6_code
def yX2_seek : MethodName := ⟨RX2, "seek", "(LCircuitWarden$Bytes;II)I"⟩
abbrev cX2_mix : ByteArray := prog_8_method_5_code
def yX2_mix : MethodName := ⟨RX2, "mix", "(LCircuitWarden$Bytes;II)I"⟩
abbrev cX2_is : ByteArray := prog_8_method_4_code
def yX2_is : MethodName := ⟨RX2, "is", "(ILCircuitWarden$Bytes;II)Z"⟩
abbrev cX2_letter : ByteArray := prog_8_method_3_code
def yX2_letter : MethodName := ⟨RX2, "letter", "(II)I"⟩
abbrev cX2_number : ByteArray := prog_8_method_8_code
def yX2_number : MethodName := ⟨RX2, "number", "(LCircuitWarden$Bytes;II)I"⟩
abbrev cX2_spread : ByteArray := prog_8_method_9_code
def yX2_spread : MethodName := ⟨RX2, "spread", "()V"⟩
theorem q292 : (Jvm.Cond.initialized "CircuitWarden$Names") ∈ lw_all := lw_g (lw_at lw_m1 3 rfl) rfl
theorem q340 : (Jvm.Cond.fieldLinkNest "CircuitWarden$Names" (59 : Nat) "CircuitWarden$Bytes" "size" "I" "CircuitWarden") ∈ lw_tbl := lw_at lw_m1 51 rfl
theorem q349 : (Jvm.Cond.instantiable "CircuitWarden$Names" (4 : Nat)) ∈ lw_all := lw_g (lw_at lw_m1 60 rfl) rfl
theorem q351 : (Jvm.Cond.instanceMethod ({ cls := "CircuitWarden$Names", name := "<init>", desc := "()V" } : Jvm.MethodName)) ∈ lw_all := lw_g (lw_at lw_m1 62 rfl) rfl
theorem q352 : (Jvm.Cond.code ({ cls := "CircuitWarden$Names", name := "<init>", desc := "()V" } : Jvm.MethodName) prog_8_method_1_code (1 : Nat) (Option.none : Option Jvm.ClassFile.FieldType)) ∈ lw_all := lw_g (lw_at lw_m1 63 rfl) rfl
theorem q353 : (Jvm.Cond.methodLink "CircuitWarden$Names" (1 : Nat) ({ cls := "java/lang/Object", name := "<init>", desc := "()V" } : Jvm.MethodName)) ∈ lw_all := lw_g (lw_at lw_m1 64 rfl) rfl
theorem q354 : (Jvm.Cond.classLink "CircuitWarden$Names" (7 : Nat) "CircuitWarden$Bytes") ∈ lw_all := lw_g (lw_at lw_m1 65 rfl) rfl
theorem q355 : (Jvm.Cond.methodLinkNest "CircuitWarden$Names" (9 : Nat) ({ cls := "CircuitWarden$Bytes", name := "<init>", desc := "()V" } : Jvm.MethodName) "CircuitWarden") ∈ lw_tbl := lw_at lw_m1 66 rfl
theorem q356 : (Jvm.Cond.fieldLink "CircuitWarden$Names" (10 : Nat) "CircuitWarden$Names" "letters" "LCircuitWarden$Bytes;") ∈ lw_all := lw_g (lw_at lw_m1 67 rfl) rfl
theorem q357 : (Jvm.Cond.fieldLink "CircuitWarden$Names" (16 : Nat) "CircuitWarden$Names" "starts" "[I") ∈ lw_all := lw_g (lw_at lw_m1 68 rfl) rfl
theorem q358 : (Jvm.Cond.fieldLink "CircuitWarden$Names" (49 : Nat) "CircuitWarden$Names" "count" "I") ∈ lw_all := lw_g (lw_at lw_m1 69 rfl) rfl
theorem q361 : (Jvm.Cond.fieldLink "CircuitWarden$Names" (20 : Nat) "CircuitWarden$Names" "table" "[I") ∈ lw_all := lw_g (lw_at lw_m1 72 rfl) rfl
theorem q362 : (Jvm.Cond.laysFinal "CircuitWarden$Names" "CircuitWarden$Names" "letters" "LCircuitWarden$Bytes;") ∈ lw_all := lw_g (lw_at lw_m1 73 rfl) rfl
theorem q363 : (Jvm.Cond.soleField "CircuitWarden$Names" "letters") ∈ lw_all := lw_g (lw_at lw_m1 74 rfl) rfl
theorem q364 : (Jvm.Cond.lays "CircuitWarden$Names" "CircuitWarden$Names" "starts" "[I") ∈ lw_all := lw_g (lw_at lw_m1 75 rfl) rfl
theorem q365 : (Jvm.Cond.soleField "CircuitWarden$Names" "starts") ∈ lw_all := lw_g (lw_at lw_m1 76 rfl) rfl
theorem q366 : (Jvm.Cond.lays "CircuitWarden$Names" "CircuitWarden$Names" "count" "I") ∈ lw_all := lw_g (lw_at lw_m1 77 rfl) rfl
theorem q367 : (Jvm.Cond.soleField "CircuitWarden$Names" "count") ∈ lw_all := lw_g (lw_at lw_m1 78 rfl) rfl
theorem q368 : (Jvm.Cond.lays "CircuitWarden$Names" "CircuitWarden$Names" "table" "[I") ∈ lw_all := lw_g (lw_at lw_m1 79 rfl) rfl
theorem q369 : (Jvm.Cond.soleField "CircuitWarden$Names" "table") ∈ lw_all := lw_g (lw_at lw_m1 80 rfl) rfl
theorem q370 : (Jvm.Cond.superclass "CircuitWarden$Names" "java/lang/Object") ∈ lw_all := lw_g (lw_at lw_m1 81 rfl) rfl
theorem q1474 : (Jvm.Cond.instanceMethod ({ cls := "CircuitWarden$Names", name := "cut", desc := "(I)V" } : Jvm.MethodName)) ∈ lw_all := lw_g (lw_at lw_m5 225 rfl) rfl
theorem q1475 : (Jvm.Cond.selects "CircuitWarden$Names" ({ cls := "CircuitWarden$Names", name := "cut", desc := "(I)V" } : Jvm.MethodName) ({ cls := "CircuitWarden$Names", name := "cut", desc := "(I)V" } : Jvm.MethodName)) ∈ lw_all := lw_g (lw_at lw_m5 226 rfl) rfl
theorem q1476 : (Jvm.Cond.code ({ cls := "CircuitWarden$Names", name := "cut", desc := "(I)V" } : Jvm.MethodName) prog_8_method_10_code (3 : Nat) (Option.none : Option Jvm.ClassFile.FieldType)) ∈ lw_all := lw_g (lw_at lw_m5 227 rfl) rfl
theorem q1477 : (Jvm.Cond.methodLink "CircuitWarden$Names" (27 : Nat) ({ cls := "CircuitWarden$Names", name := "length", desc := "(I)I" } : Jvm.MethodName)) ∈ lw_all := lw_g (lw_at lw_m5 228 rfl) rfl
theorem q1478 : (Jvm.Cond.instanceMethod ({ cls := "CircuitWarden$Names", name := "length", desc := "(I)I" } : Jvm.MethodName)) ∈ lw_all := lw_g (lw_at lw_m5 229 rfl) rfl
theorem q1479 : (Jvm.Cond.selects "CircuitWarden$Names" ({ cls := "CircuitWarden$Names", name := "length", desc := "(I)I" } : Jvm.MethodName) ({ cls := "CircuitWarden$Names", name := "length", desc := "(I)I" } : Jvm.MethodName)) ∈ lw_all := lw_g (lw_at lw_m5 230 rfl) rfl
theorem q1480 : (Jvm.Cond.code ({ cls := "CircuitWarden$Names", name := "length", desc := "(I)I" } : Jvm.MethodName) prog_8_method_2_code (2 : Nat) (Option.some Jvm.ClassFile.FieldType.int)) ∈ lw_all := lw_g (lw_at lw_m5 231 rfl) rfl
theorem q1481 : (Jvm.Cond.methodLink "CircuitWarden$Names" (42 : Nat) ({ cls := "CircuitWarden$Names", name := "seek", desc := "(LCircuitWarden$Bytes;II)I" } : Jvm.MethodName)) ∈ lw_all := lw_g (lw_at lw_m5 232 rfl) rfl
theorem q1482 : (Jvm.Cond.privateMethod ({ cls := "CircuitWarden$Names", name := "seek", desc := "(LCircuitWarden$Bytes;II)I" } : Jvm.MethodName)) ∈ lw_tbl := lw_at lw_m5 233 rfl
theorem q1483 : (Jvm.Cond.instanceMethod ({ cls := "CircuitWarden$Names", name := "seek", desc := "(LCircuitWarden$Bytes;II)I" } : Jvm.MethodName)) ∈ lw_all := lw_g (lw_at lw_m5 234 rfl) rfl
theorem q1484 : (Jvm.Cond.code ({ cls := "CircuitWarden$Names", name := "seek", desc := "(LCircuitWarden$Bytes;II)I" } : Jvm.MethodName) prog_8_method_6_code (5 : Nat) (Option.some Jvm.ClassFile.FieldType.int)) ∈ lw_all := lw_g (lw_at lw_m5 235 rfl) rfl
theorem q1485 : (Jvm.Cond.methodLink "CircuitWarden$Names" (34 : Nat) ({ cls := "CircuitWarden$Names", name := "mix", desc := "(LCircuitWarden$Bytes;II)I" } : Jvm.MethodName)) ∈ lw_all := lw_g (lw_at lw_m5 236 rfl) rfl
theorem q1486 : (Jvm.Cond.static ({ cls := "CircuitWarden$Names", name := "mix", desc := "(LCircuitWarden$Bytes;II)I" } : Jvm.MethodName)) ∈ lw_all := lw_g (lw_at lw_m5 237 rfl) rfl
theorem q1487 : (Jvm.Cond.code ({ cls := "CircuitWarden$Names", name := "mix", desc := "(LCircuitWarden$Bytes;II)I" } : Jvm.MethodName) prog_8_method_5_code (5 : Nat) (Option.some Jvm.ClassFile.FieldType.int)) ∈ lw_all := lw_g (lw_at lw_m5 238 rfl) rfl
theorem q1488 : (Jvm.Cond.methodLink "CircuitWarden$Names" (23 : Nat) ({ cls := "CircuitWarden$Bytes", name := "get", desc := "(I)I" } : Jvm.MethodName)) ∈ lw_all := lw_g (lw_at lw_m5 239 rfl) rfl
theorem q1492 : (Jvm.Cond.methodLink "CircuitWarden$Names" (38 : Nat) ({ cls := "CircuitWarden$Names", name := "is", desc := "(ILCircuitWarden$Bytes;II)Z" } : Jvm.MethodName)) ∈ lw_all := lw_g (lw_at lw_m6 3 rfl) rfl
theorem q1493 : (Jvm.Cond.privateMethod ({ cls := "CircuitWarden$Names", name := "is", desc := "(ILCircuitWarden$Bytes;II)Z" } : Jvm.MethodName)) ∈ lw_tbl := lw_at lw_m6 4 rfl
theorem q1494 : (Jvm.Cond.instanceMethod ({ cls := "CircuitWarden$Names", name := "is", desc := "(ILCircuitWarden$Bytes;II)Z" } : Jvm.MethodName)) ∈ lw_all := lw_g (lw_at lw_m6 5 rfl) rfl
theorem q1495 : (Jvm.Cond.code ({ cls := "CircuitWarden$Names", name := "is", desc := "(ILCircuitWarden$Bytes;II)Z" } : Jvm.MethodName) prog_8_method_4_code (7 : Nat) (Option.some Jvm.ClassFile.FieldType.boolean)) ∈ lw_all := lw_g (lw_at lw_m6 6 rfl) rfl
theorem q1496 : (Jvm.Cond.methodLink "CircuitWarden$Names" (30 : Nat) ({ cls := "CircuitWarden$Names", name := "letter", desc := "(II)I" } : Jvm.MethodName)) ∈ lw_all := lw_g (lw_at lw_m6 7 rfl) rfl
theorem q1497 : (Jvm.Cond.instanceMethod ({ cls := "CircuitWarden$Names", name := "letter", desc := "(II)I" } : Jvm.MethodName)) ∈ lw_all := lw_g (lw_at lw_m6 8 rfl) rfl
theorem q1498 : (Jvm.Cond.selects "CircuitWarden$Names" ({ cls := "CircuitWarden$Names", name := "letter", desc := "(II)I" } : Jvm.MethodName) ({ cls := "CircuitWarden$Names", name := "letter", desc := "(II)I" } : Jvm.MethodName)) ∈ lw_all := lw_g (lw_at lw_m6 9 rfl) rfl
theorem q1499 : (Jvm.Cond.code ({ cls := "CircuitWarden$Names", name := "letter", desc := "(II)I" } : Jvm.MethodName) prog_8_method_3_code (3 : Nat) (Option.some Jvm.ClassFile.FieldType.int)) ∈ lw_all := lw_g (lw_at lw_m6 10 rfl) rfl
theorem q1695 : (Jvm.Cond.instanceMethod ({ cls := "CircuitWarden$Names", name := "number", desc := "(LCircuitWarden$Bytes;II)I" } : Jvm.MethodName)) ∈ lw_all := lw_g (lw_at lw_m6 206 rfl) rfl
theorem q1696 : (Jvm.Cond.selects "CircuitWarden$Names" ({ cls := "CircuitWarden$Names", name := "number", desc := "(LCircuitWarden$Bytes;II)I" } : Jvm.MethodName) ({ cls := "CircuitWarden$Names", name := "number", desc := "(LCircuitWarden$Bytes;II)I" } : Jvm.MethodName)) ∈ lw_all := lw_g (lw_at lw_m6 207 rfl) rfl
theorem q1697 : (Jvm.Cond.code ({ cls := "CircuitWarden$Names", name := "number", desc := "(LCircuitWarden$Bytes;II)I" } : Jvm.MethodName) prog_8_method_8_code (6 : Nat) (Option.some Jvm.ClassFile.FieldType.int)) ∈ lw_all := lw_g (lw_at lw_m6 208 rfl) rfl
theorem q1698 : (Jvm.Cond.methodLink "CircuitWarden$Names" (45 : Nat) ({ cls := "CircuitWarden$Bytes", name := "add", desc := "(I)V" } : Jvm.MethodName)) ∈ lw_all := lw_g (lw_at lw_m6 209 rfl) rfl
theorem q1699 : (Jvm.Cond.methodLinkNest "CircuitWarden$Names" (53 : Nat) ({ cls := "CircuitWarden", name := "grown", desc := "([II)[I" } : Jvm.MethodName) "CircuitWarden") ∈ lw_tbl := lw_at lw_m6 210 rfl
theorem q1700 : (Jvm.Cond.methodLink "CircuitWarden$Names" (62 : Nat) ({ cls := "CircuitWarden$Names", name := "spread", desc := "()V" } : Jvm.MethodName)) ∈ lw_all := lw_g (lw_at lw_m6 211 rfl) rfl
theorem q1701 : (Jvm.Cond.privateMethod ({ cls := "CircuitWarden$Names", name := "spread", desc := "()V" } : Jvm.MethodName)) ∈ lw_tbl := lw_at lw_m6 212 rfl
theorem q1702 : (Jvm.Cond.instanceMethod ({ cls := "CircuitWarden$Names", name := "spread", desc := "()V" } : Jvm.MethodName)) ∈ lw_all := lw_g (lw_at lw_m6 213 rfl) rfl
theorem q1703 : (Jvm.Cond.code ({ cls := "CircuitWarden$Names", name := "spread", desc := "()V" } : Jvm.MethodName) prog_8_method_9_code (2 : Nat) (Option.none : Option Jvm.ClassFile.FieldType)) ∈ lw_all := lw_g (lw_at lw_m6 214 rfl) rfl
theorem in_X2 : ∀ w ∈ wsX20, w ∈ lw_all := lw_in wsX20 [362, 364, 366, 368] (by decide +kernel) (by decide +kernel)
/-! CircuitWardenModel$Walk$Way -/
def RX20 : String := "CircuitWardenModel$Walk$Way"
def TX20 : u_T := fun k => match k with
  | 0 => ("CircuitWardenModel$Walk$Way", "pile", "[I", false)
  | 1 => ("CircuitWardenModel$Walk$Way", "top", "I", false)
  | 2 => ("CircuitWardenModel$Walk$Way", "state", "[I", true)
  | _ => ("CircuitWardenModel$Walk$Way", "modesNow", "[I", true)
def tyX20 : Nat → FieldType := fun k => match k with
  | 0 => .array .int
  | 1 => .int
  | 2 => .array .int
  | _ => .array .int
abbrev wsX200 : List Cond := u_ws RX20 TX20 4
theorem nmX20 : ∀ a, a < 4 → ∀ b, b < 4 → a ≠ b → (TX20 a).2.1 ≠ (TX20 b).2.1 := by decide +kernel
theorem tyX20_ok : ∀ k, k < 4 → parseFieldDescriptor (TX20 k).2.2.1 = some (tyX20 k) := by decide +kernel
abbrev cX20_init : ByteArray := prog_23_method_1_code
def yX20_init : MethodName := ⟨RX20, "<init>", "()V"⟩
abbrev cX20_push : ByteArray := prog_23_method_2_code
def yX20_push : MethodName := ⟨RX20, "push", "(IIIII)V"⟩
abbrev cX20_become : ByteArray := prog_23_method_3_code
def yX20_become : MethodName := ⟨RX20, "become", "(LCircuitWardenModel$Walk$Way;)V"⟩
theorem q314 : (Jvm.Cond.initialized "CircuitWardenModel$Walk$Way") ∈ lw_all := lw_g (lw_at lw_m1 25 rfl) rfl
theorem q2270 : (Jvm.Cond.instantiable "CircuitWardenModel$Walk$Way" (4 : Nat)) ∈ lw_all := lw_g (lw_at lw_m9 61 rfl) rfl
theorem q2272 : (Jvm.Cond.instanceMethod ({ cls := "CircuitWardenModel$Walk$Way", name := "<init>", desc := "()V" } : Jvm.MethodName)) ∈ lw_all := lw_g (lw_at lw_m9 63 rfl) rfl
theorem q2273 : (Jvm.Cond.code ({ cls := "CircuitWardenModel$Walk$Way", name := "<init>", desc := "()V" } : Jvm.MethodName) prog_23_method_1_code (1 : Nat) (Option.none : Option Jvm.ClassFile.FieldType)) ∈ lw_all := lw_g (lw_at lw_m9 64 rfl) rfl
theorem q2274 : (Jvm.Cond.methodLink "CircuitWardenModel$Walk$Way" (1 : Nat) ({ cls := "java/lang/Object", name := "<init>", desc := "()V" } : Jvm.MethodName)) ∈ lw_all := lw_g (lw_at lw_m9 65 rfl) rfl
theorem q2275 : (Jvm.Cond.fieldLink "CircuitWardenModel$Walk$Way" (7 : Nat) "CircuitWardenModel$Walk$Way" "pile" "[I") ∈ lw_all := lw_g (lw_at lw_m9 66 rfl) rfl
theorem q2277 : (Jvm.Cond.fieldLink "CircuitWardenModel$Walk$Way" (19 : Nat) "CircuitWardenModel$Walk$Way" "top" "I") ∈ lw_all := lw_g (lw_at lw_m9 68 rfl) rfl
theorem q2279 : (Jvm.Cond.fieldLink "CircuitWardenModel$Walk$Way" (13 : Nat) "CircuitWardenModel$Walk$Way" "state" "[I") ∈ lw_all := lw_g (lw_at lw_m9 70 rfl) rfl
theorem q2281 : (Jvm.Cond.fieldLink "CircuitWardenModel$Walk$Way" (16 : Nat) "CircuitWardenModel$Walk$Way" "modesNow" "[I") ∈ lw_all := lw_g (lw_at lw_m9 72 rfl) rfl
theorem q2283 : (Jvm.Cond.lays "CircuitWardenModel$Walk$Way" "CircuitWardenModel$Walk$Way" "pile" "[I") ∈ lw_all := lw_g (lw_at lw_m9 74 rfl) rfl
theorem q2284 : (Jvm.Cond.soleField "CircuitWardenModel$Walk$Way" "pile") ∈ lw_all := lw_g (lw_at lw_m9 75 rfl) rfl
theorem q2285 : (Jvm.Cond.lays "CircuitWardenModel$Walk$Way" "CircuitWardenModel$Walk$Way" "top" "I") ∈ lw_all := lw_g (lw_at lw_m9 76 rfl) rfl
theorem q2286 : (Jvm.Cond.soleField "CircuitWardenModel$Walk$Way" "top") ∈ lw_all := lw_g (lw_at lw_m9 77 rfl) rfl
theorem q2287 : (Jvm.Cond.laysFinal "CircuitWardenModel$Walk$Way" "CircuitWardenModel$Walk$Way" "state" "[I") ∈ lw_all := lw_g (lw_at lw_m9 78 rfl) rfl
theorem q2288 : (Jvm.Cond.soleField "CircuitWardenModel$Walk$Way" "state") ∈ lw_all := lw_g (lw_at lw_m9 79 rfl) rfl
theorem q2289 : (Jvm.Cond.laysFinal "CircuitWardenModel$Walk$Way" "CircuitWardenModel$Walk$Way" "modesNow" "[I") ∈ lw_all := lw_g (lw_at lw_m9 80 rfl) rfl
theorem q2290 : (Jvm.Cond.soleField "CircuitWardenModel$Walk$Way" "modesNow") ∈ lw_all := lw_g (lw_at lw_m9 81 rfl) rfl
theorem q2291 : (Jvm.Cond.superclass "CircuitWardenModel$Walk$Way" "java/lang/Object") ∈ lw_all := lw_g (lw_at lw_m9 82 rfl) rfl
theorem q2671 : (Jvm.Cond.instanceMethod ({ cls := "CircuitWardenModel$Walk$Way", name := "push", desc := "(IIIII)V" } : Jvm.MethodName)) ∈ lw_all := lw_g (lw_at lw_m10 222 rfl) rfl
theorem q2672 : (Jvm.Cond.selects "CircuitWardenModel$Walk$Way" ({ cls := "CircuitWardenModel$Walk$Way", name := "push", desc := "(IIIII)V" } : Jvm.MethodName) ({ cls := "CircuitWardenModel$Walk$Way", name := "push", desc := "(IIIII)V" } : Jvm.MethodName)) ∈ lw_all := lw_g (lw_at lw_m10 223 rfl) rfl
theorem q2673 : (Jvm.Cond.code ({ cls := "CircuitWardenModel$Walk$Way", name := "push", desc := "(IIIII)V" } : Jvm.MethodName) prog_23_method_2_code (6 : Nat) (Option.none : Option Jvm.ClassFile.FieldType)) ∈ lw_all := lw_g (lw_at lw_m10 224 rfl) rfl
theorem q2674 : (Jvm.Cond.methodLinkNest "CircuitWardenModel$Walk$Way" (23 : Nat) ({ cls := "CircuitWardenModel$Walk", name := "wide", desc := "([II)[I" } : Jvm.MethodName) "CircuitWardenModel") ∈ lw_tbl := lw_at lw_m10 225 rfl
theorem q2741 : (Jvm.Cond.instanceMethod ({ cls := "CircuitWardenModel$Walk$Way", name := "become", desc := "(LCircuitWardenModel$Walk$Way;)V" } : Jvm.MethodName)) ∈ lw_all := lw_g (lw_at lw_m11 52 rfl) rfl
theorem q2742 : (Jvm.Cond.selects "CircuitWardenModel$Walk$Way" ({ cls := "CircuitWardenModel$Walk$Way", name := "become", desc := "(LCircuitWardenModel$Walk$Way;)V" } : Jvm.MethodName) ({ cls := "CircuitWardenModel$Walk$Way", name := "become", desc := "(LCircuitWardenModel$Walk$Way;)V" } : Jvm.MethodName)) ∈ lw_all := lw_g (lw_at lw_m11 53 rfl) rfl
theorem q2743 : (Jvm.Cond.code ({ cls := "CircuitWardenModel$Walk$Way", name := "become", desc := "(LCircuitWardenModel$Walk$Way;)V" } : Jvm.MethodName) prog_23_method_3_code (2 : Nat) (Option.none : Option Jvm.ClassFile.FieldType)) ∈ lw_all := lw_g (lw_at lw_m11 54 rfl) rfl
theorem q2744 : (Jvm.Cond.methodLink "CircuitWardenModel$Walk$Way" (29 : Nat) ({ cls := "java/lang/System", name := "arraycopy", desc := "(Ljava/lang/Object;ILjava/lang/Object;II)V" } : Jvm.MethodName)) ∈ lw_all := lw_g (lw_at lw_m11 55 rfl) rfl
theorem in_X20 : ∀ w ∈ wsX200, w ∈ lw_all := lw_in wsX200 [2283, 2285, 2287, 2289] (by decide +kernel) (by decide +kernel)
/-! CircuitWardenModel$NetRun -/
def RX21 : String := "CircuitWardenModel$NetRun"
def TX21 : u_T := fun k => match k with
  | 0 => ("CircuitWardenModel$NetRun", "w", "LCircuitWardenModel$Walk;", true)
  | 1 => ("CircuitWardenModel$NetRun", "held", "[J", true)
  | 2 => ("CircuitWardenModel$NetRun", "taints", "[J", true)
  | 3 => ("CircuitWardenModel$NetRun", "nextHeld", "[J", true)
  | 4 => ("CircuitWardenModel$NetRun", "nextTaints", "[J", true)
  | 5 => ("CircuitWardenModel$NetRun", "bits", "[I", false)
  | _ => ("CircuitWardenModel$NetRun", "twinBits", "[I", false)
def tyX21 : Nat → FieldType := fun k => match k with
  | 0 => .object "CircuitWardenModel$Walk"
  | 1 => .array .long
  | 2 => .array .long
  | 3 => .array .long
  | 4 => .array .long
  | 5 => .array .int
  | _ => .array .int
abbrev wsX210 : List Cond := u_ws RX21 TX21 7
theorem nmX21 : ∀ a, a < 7 → ∀ b, b < 7 → a ≠ b → (TX21 a).2.1 ≠ (TX21 b).2.1 := by decide +kernel
theorem tyX21_ok : ∀ k, k < 7 → parseFieldDescriptor (TX21 k).2.2.1 = some (tyX21 k) := by decide +kernel
abbrev cX21_init : ByteArray := prog_20_method_1_code
def yX21_init : MethodName := ⟨RX21, "<init>", "(LCircuitWardenModel$Walk;)V"⟩
abbrev cX21_reckon : ByteArray := prog_20_method_4_code
def yX21_reckon : MethodName := ⟨RX21, "reckon", "(Z)V"⟩
abbrev cX21_reckon_2 : ByteArray := prog_20_method_2_code
def yX21_reckon_2 : MethodName := ⟨RX21, "reckon", "(LCircuitWardenModel$Nodes;[I)V"⟩
abbrev cX21_of : ByteArray := prog_20_method_3_code
def yX21_of : MethodName := ⟨RX21, "of", "([II)I"⟩
abbrev cX21_value : ByteArray := prog_20_method_5_code
def yX21_value : MethodName := ⟨RX21, "value", "(IZ)J"⟩
abbrev cX21_taint : ByteArray := prog_20_method_6_code
def yX21_taint : MethodName := ⟨RX21, "taint", "(IZ)J"⟩
abbrev cX21_clock : ByteArray := prog_20_method_7_code
def yX21_clock : MethodName := ⟨RX21, "clock", "(Z)V"⟩
theorem q315 : (Jvm.Cond.initialized "CircuitWardenModel$NetRun") ∈ lw_all := lw_g (lw_at lw_m1 26 rfl) rfl
theorem q2239 : (Jvm.Cond.fieldLink "CircuitWardenModel$NetRun" (39 : Nat) "CircuitWardenModel$Nodes" "left" "[I") ∈ lw_all := lw_g (lw_at lw_m9 30 rfl) rfl
theorem q2243 : (Jvm.Cond.fieldLink "CircuitWardenModel$NetRun" (46 : Nat) "CircuitWardenModel$Nodes" "right" "[I") ∈ lw_all := lw_g (lw_at lw_m9 34 rfl) rfl
theorem q2247 : (Jvm.Cond.fieldLink "CircuitWardenModel$NetRun" (33 : Nat) "CircuitWardenModel$Nodes" "count" "I") ∈ lw_all := lw_g (lw_at lw_m9 38 rfl) rfl
theorem q2304 : (Jvm.Cond.fieldLink "CircuitWardenModel$NetRun" (62 : Nat) "CircuitWardenModel$Walk" "signalCount" "I") ∈ lw_all := lw_g (lw_at lw_m9 95 rfl) rfl
theorem q2307 : (Jvm.Cond.fieldLinkNest "CircuitWardenModel$NetRun" (69 : Nat) "CircuitWardenModel$Walk" "widths" "[I" "CircuitWardenModel") ∈ lw_tbl := lw_at lw_m9 98 rfl
theorem q2342 : (Jvm.Cond.fieldLink "CircuitWardenModel$NetRun" (49 : Nat) "CircuitWardenModel$Walk" "net" "LCircuitWardenModel$Nodes;") ∈ lw_all := lw_g (lw_at lw_m9 133 rfl) rfl
theorem q2345 : (Jvm.Cond.fieldLink "CircuitWardenModel$NetRun" (59 : Nat) "CircuitWardenModel$Walk" "twin" "LCircuitWardenModel$Nodes;") ∈ lw_all := lw_g (lw_at lw_m9 136 rfl) rfl
theorem q2352 : (Jvm.Cond.fieldLinkNest "CircuitWardenModel$NetRun" (72 : Nat) "CircuitWardenModel$Walk" "inputs" "[I" "CircuitWardenModel") ∈ lw_tbl := lw_at lw_m9 143 rfl
theorem q2353 : (Jvm.Cond.fieldLink "CircuitWardenModel$NetRun" (79 : Nat) "CircuitWardenModel$Walk" "inputCount" "I") ∈ lw_all := lw_g (lw_at lw_m9 144 rfl) rfl
theorem q2508 : (Jvm.Cond.instantiable "CircuitWardenModel$NetRun" (7 : Nat)) ∈ lw_all := lw_g (lw_at lw_m10 59 rfl) rfl
theorem q2510 : (Jvm.Cond.instanceMethod ({ cls := "CircuitWardenModel$NetRun", name := "<init>", desc := "(LCircuitWardenModel$Walk;)V" } : Jvm.MethodName)) ∈ lw_all := lw_g (lw_at lw_m10 61 rfl) rfl
theorem q2511 : (Jvm.Cond.code ({ cls := "CircuitWardenModel$NetRun", name := "<init>", desc := "(LCircuitWardenModel$Walk;)V" } : Jvm.MethodName) prog_20_method_1_code (2 : Nat) (Option.none : Option Jvm.ClassFile.FieldType)) ∈ lw_all := lw_g (lw_at lw_m10 62 rfl) rfl
theorem q2512 : (Jvm.Cond.methodLink "CircuitWardenModel$NetRun" (1 : Nat) ({ cls := "java/lang/Object", name := "<init>", desc := "()V" } : Jvm.MethodName)) ∈ lw_all := lw_g (lw_at lw_m10 63 rfl) rfl
theorem q2513 : (Jvm.Cond.fieldLink "CircuitWardenModel$NetRun" (29 : Nat) "CircuitWardenModel$NetRun" "w" "LCircuitWardenModel$Walk;") ∈ lw_all := lw_g (lw_at lw_m10 64 rfl) rfl
theorem q2514 : (Jvm.Cond.fieldLink "CircuitWardenModel$NetRun" (7 : Nat) "CircuitWardenModel$NetRun" "held" "[J") ∈ lw_all := lw_g (lw_at lw_m10 65 rfl) rfl
theorem q2516 : (Jvm.Cond.fieldLink "CircuitWardenModel$NetRun" (13 : Nat) "CircuitWardenModel$NetRun" "taints" "[J") ∈ lw_all := lw_g (lw_at lw_m10 67 rfl) rfl
theorem q2518 : (Jvm.Cond.fieldLink "CircuitWardenModel$NetRun" (16 : Nat) "CircuitWardenModel$NetRun" "nextHeld" "[J") ∈ lw_all := lw_g (lw_at lw_m10 69 rfl) rfl
theorem q2519 : (Jvm.Cond.fieldLink "CircuitWardenModel$NetRun" (19 : Nat) "CircuitWardenModel$NetRun" "nextTaints" "[J") ∈ lw_all := lw_g (lw_at lw_m10 70 rfl) rfl
theorem q2520 : (Jvm.Cond.fieldLink "CircuitWardenModel$NetRun" (22 : Nat) "CircuitWardenModel$NetRun" "bits" "[I") ∈ lw_all := lw_g (lw_at lw_m10 71 rfl) rfl
theorem q2521 : (Jvm.Cond.fieldLink "CircuitWardenModel$NetRun" (26 : Nat) "CircuitWardenModel$NetRun" "twinBits" "[I") ∈ lw_all := lw_g (lw_at lw_m10 72 rfl) rfl
theorem q2522 : (Jvm.Cond.laysFinal "CircuitWardenModel$NetRun" "CircuitWardenModel$NetRun" "w" "LCircuitWardenModel$Walk;") ∈ lw_all := lw_g (lw_at lw_m10 73 rfl) rfl
theorem q2523 : (Jvm.Cond.soleField "CircuitWardenModel$NetRun" "w") ∈ lw_all := lw_g (lw_at lw_m10 74 rfl) rfl
theorem q2524 : (Jvm.Cond.laysFinal "CircuitWardenModel$NetRun" "CircuitWardenModel$NetRun" "held" "[J") ∈ lw_all := lw_g (lw_at lw_m10 75 rfl) rfl
theorem q2525 : (Jvm.Cond.soleField "CircuitWardenModel$NetRun" "held") ∈ lw_all := lw_g (lw_at lw_m10 76 rfl) rfl
theorem q2526 : (Jvm.Cond.laysFinal "CircuitWardenModel$NetRun" "CircuitWardenModel$NetRun" "taints" "[J") ∈ lw_all := lw_g (lw_at lw_m10 77 rfl) rfl
theorem q2527 : (Jvm.Cond.soleField "CircuitWardenModel$NetRun" "taints") ∈ lw_all := lw_g (lw_at lw_m10 78 rfl) rfl
theorem q2528 : (Jvm.Cond.laysFinal "CircuitWardenModel$NetRun" "CircuitWardenModel$NetRun" "nextHeld" "[J") ∈ lw_all := lw_g (lw_at lw_m10 79 rfl) rfl
theorem q2529 : (Jvm.Cond.soleField "CircuitWardenModel$NetRun" "nextHeld") ∈ lw_all := lw_g (lw_at lw_m10 80 rfl) rfl
theorem q2530 : (Jvm.Cond.laysFinal "CircuitWardenModel$NetRun" "CircuitWardenModel$NetRun" "nextTaints" "[J") ∈ lw_all := lw_g (lw_at lw_m10 81 rfl) rfl
theorem q2531 : (Jvm.Cond.soleField "CircuitWardenModel$NetRun" "nextTaints") ∈ lw_all := lw_g (lw_at lw_m10 82 rfl) rfl
theorem q2532 : (Jvm.Cond.lays "CircuitWardenModel$NetRun" "CircuitWardenModel$NetRun" "bits" "[I") ∈ lw_all := lw_g (lw_at lw_m10 83 rfl) rfl
theorem q2533 : (Jvm.Cond.soleField "CircuitWardenModel$NetRun" "bits") ∈ lw_all := lw_g (lw_at lw_m10 84 rfl) rfl
theorem q2534 : (Jvm.Cond.lays "CircuitWardenModel$NetRun" "CircuitWardenModel$NetRun" "twinBits" "[I") ∈ lw_all := lw_g (lw_at lw_m10 85 rfl) rfl
theorem q2535 : (Jvm.Cond.soleField "CircuitWardenModel$NetRun" "twinBits") ∈ lw_all := lw_g (lw_at lw_m10 86 rfl) rfl
theorem q2536 : (Jvm.Cond.superclass "CircuitWardenModel$NetRun" "java/lang/Object") ∈ lw_all := lw_g (lw_at lw_m10 87 rfl) rfl
theorem q3509 : (Jvm.Cond.instanceMethod ({ cls := "CircuitWardenModel$NetRun", name := "reckon", desc := "(Z)V" } : Jvm.MethodName)) ∈ lw_all := lw_g (lw_at lw_m14 100 rfl) rfl
theorem q3510 : (Jvm.Cond.selects "CircuitWardenModel$NetRun" ({ cls := "CircuitWardenModel$NetRun", name := "reckon", desc := "(Z)V" } : Jvm.MethodName) ({ cls := "CircuitWardenModel$NetRun", name := "reckon", desc := "(Z)V" } : Jvm.MethodName)) ∈ lw_all := lw_g (lw_at lw_m14 101 rfl) rfl
theorem q3511 : (Jvm.Cond.code ({ cls := "CircuitWardenModel$NetRun", name := "reckon", desc := "(Z)V" } : Jvm.MethodName) prog_20_method_4_code (5 : Nat) (Option.none : Option Jvm.ClassFile.FieldType)) ∈ lw_all := lw_g (lw_at lw_m14 102 rfl) rfl
theorem q3512 : (Jvm.Cond.methodLinkNest "CircuitWardenModel$NetRun" (55 : Nat) ({ cls := "CircuitWardenModel$Walk", name := "wide", desc := "([II)[I" } : Jvm.MethodName) "CircuitWardenModel") ∈ lw_tbl := lw_at lw_m14 103 rfl
theorem q3513 : (Jvm.Cond.methodLink "CircuitWardenModel$NetRun" (65 : Nat) ({ cls := "CircuitWardenModel$Walk", name := "kindOf", desc := "(I)I" } : Jvm.MethodName)) ∈ lw_all := lw_g (lw_at lw_m14 104 rfl) rfl
theorem q3514 : (Jvm.Cond.methodLinkNest "CircuitWardenModel$NetRun" (75 : Nat) ({ cls := "CircuitWardenModel$Walk", name := "bitOf", desc := "(JI)I" } : Jvm.MethodName) "CircuitWardenModel") ∈ lw_tbl := lw_at lw_m14 105 rfl
theorem q3515 : (Jvm.Cond.methodLink "CircuitWardenModel$NetRun" (82 : Nat) ({ cls := "CircuitWardenModel$NetRun", name := "reckon", desc := "(LCircuitWardenModel$Nodes;[I)V" } : Jvm.MethodName)) ∈ lw_all := lw_g (lw_at lw_m14 106 rfl) rfl
theorem q3516 : (Jvm.Cond.static ({ cls := "CircuitWardenModel$NetRun", name := "reckon", desc := "(LCircuitWardenModel$Nodes;[I)V" } : Jvm.MethodName)) ∈ lw_all := lw_g (lw_at lw_m14 107 rfl) rfl
theorem q3517 : (Jvm.Cond.code ({ cls := "CircuitWardenModel$NetRun", name := "reckon", desc := "(LCircuitWardenModel$Nodes;[I)V" } : Jvm.MethodName) prog_20_method_2_code (3 : Nat) (Option.none : Option Jvm.ClassFile.FieldType)) ∈ lw_all := lw_g (lw_at lw_m14 108 rfl) rfl
theorem q3518 : (Jvm.Cond.methodLink "CircuitWardenModel$NetRun" (42 : Nat) ({ cls := "CircuitWardenModel$NetRun", name := "of", desc := "([II)I" } : Jvm.MethodName)) ∈ lw_all := lw_g (lw_at lw_m14 109 rfl) rfl
theorem q3519 : (Jvm.Cond.static ({ cls := "CircuitWardenModel$NetRun", name := "of", desc := "([II)I" } : Jvm.MethodName)) ∈ lw_all := lw_g (lw_at lw_m14 110 rfl) rfl
theorem q3520 : (Jvm.Cond.code ({ cls := "CircuitWardenModel$NetRun", name := "of", desc := "([II)I" } : Jvm.MethodName) prog_20_method_3_code (2 : Nat) (Option.some Jvm.ClassFile.FieldType.int)) ∈ lw_all := lw_g (lw_at lw_m14 111 rfl) rfl
theorem q3534 : (Jvm.Cond.instanceMethod ({ cls := "CircuitWardenModel$NetRun", name := "value", desc := "(IZ)J" } : Jvm.MethodName)) ∈ lw_all := lw_g (lw_at lw_m14 125 rfl) rfl
theorem q3535 : (Jvm.Cond.selects "CircuitWardenModel$NetRun" ({ cls := "CircuitWardenModel$NetRun", name := "value", desc := "(IZ)J" } : Jvm.MethodName) ({ cls := "CircuitWardenModel$NetRun", name := "value", desc := "(IZ)J" } : Jvm.MethodName)) ∈ lw_all := lw_g (lw_at lw_m14 126 rfl) rfl
theorem q3536 : (Jvm.Cond.code ({ cls := "CircuitWardenModel$NetRun", name := "value", desc := "(IZ)J" } : Jvm.MethodName) prog_20_method_5_code (6 : Nat) (Option.some Jvm.ClassFile.FieldType.long)) ∈ lw_all := lw_g (lw_at lw_m14 127 rfl) rfl
theorem q3537 : (Jvm.Cond.constantLong "CircuitWardenModel$NetRun" (86 : Nat) (2 : Int64)) ∈ lw_all := lw_g (lw_at lw_m14 128 rfl) rfl
theorem q3538 : (Jvm.Cond.methodLink "CircuitWardenModel$NetRun" (88 : Nat) ({ cls := "CircuitWardenModel$Walk", name := "literalOf", desc := "(III)I" } : Jvm.MethodName)) ∈ lw_all := lw_g (lw_at lw_m14 129 rfl) rfl
theorem q3540 : (Jvm.Cond.instanceMethod ({ cls := "CircuitWardenModel$NetRun", name := "taint", desc := "(IZ)J" } : Jvm.MethodName)) ∈ lw_all := lw_g (lw_at lw_m14 131 rfl) rfl
theorem q3541 : (Jvm.Cond.selects "CircuitWardenModel$NetRun" ({ cls := "CircuitWardenModel$NetRun", name := "taint", desc := "(IZ)J" } : Jvm.MethodName) ({ cls := "CircuitWardenModel$NetRun", name := "taint", desc := "(IZ)J" } : Jvm.MethodName)) ∈ lw_all := lw_g (lw_at lw_m14 132 rfl) rfl
theorem q3542 : (Jvm.Cond.code ({ cls := "CircuitWardenModel$NetRun", name := "taint", desc := "(IZ)J" } : Jvm.MethodName) prog_20_method_6_code (6 : Nat) (Option.some Jvm.ClassFile.FieldType.long)) ∈ lw_all := lw_g (lw_at lw_m14 133 rfl) rfl
theorem q3552 : (Jvm.Cond.instanceMethod ({ cls := "CircuitWardenModel$NetRun", name := "clock", desc := "(Z)V" } : Jvm.MethodName)) ∈ lw_all := lw_g (lw_at lw_m14 143 rfl) rfl
theorem q3553 : (Jvm.Cond.selects "CircuitWardenModel$NetRun" ({ cls := "CircuitWardenModel$NetRun", name := "clock", desc := "(Z)V" } : Jvm.MethodName) ({ cls := "CircuitWardenModel$NetRun", name := "clock", desc := "(Z)V" } : Jvm.MethodName)) ∈ lw_all := lw_g (lw_at lw_m14 144 rfl) rfl
theorem q3554 : (Jvm.Cond.code ({ cls := "CircuitWardenModel$NetRun", name := "clock", desc := "(Z)V" } : Jvm.MethodName) prog_20_method_7_code (3 : Nat) (Option.none : Option Jvm.ClassFile.FieldType)) ∈ lw_all := lw_g (lw_at lw_m14 145 rfl) rfl
theorem q3555 : (Jvm.Cond.methodLink "CircuitWardenModel$NetRun" (92 : Nat) ({ cls := "CircuitWardenModel$NetRun", name := "value", desc := "(IZ)J" } : Jvm.MethodName)) ∈ lw_all := lw_g (lw_at lw_m14 146 rfl) rfl
theorem q3556 : (Jvm.Cond.methodLink "CircuitWardenModel$NetRun" (96 : Nat) ({ cls := "CircuitWardenModel$NetRun", name := "taint", desc := "(IZ)J" } : Jvm.MethodName)) ∈ lw_all := lw_g (lw_at lw_m14 147 rfl) rfl
theorem in_X21 : ∀ w ∈ wsX210, w ∈ lw_all := lw_in wsX210 [2522, 2524, 2526, 2528, 2530, 2532, 2534] (by decide +kernel) (by decide +kernel)
/-! CircuitWarden$Tree -/
def RX3 : String := "CircuitWarden$Tree"
def TX3 : u_T := fun k => match k with
  | 0 => ("CircuitWarden$Tree", "kinds", "[B", false)
  | 1 => ("CircuitWarden$Tree", "places", "[I", false)
  | 2 => ("CircuitWarden$Tree", "values", "[I", false)
  | 3 => ("CircuitWarden$Tree", "sizes", "[I", false)
  | _ => ("CircuitWarden$Tree", "count", "I", false)
def tyX3 : Nat → FieldType := fun k => match k with
  | 0 => .array .byte
  | 1 => .array .int
  | 2 => .array .int
  | 3 => .array .int
  | _ => .int
abbrev wsX30 : List Cond := u_ws RX3 TX3 5
theorem nmX3 : ∀ a, a < 5 → ∀ b, b < 5 → a ≠ b → (TX3 a).2.1 ≠ (TX3 b).2.1 := by decide +kernel
theorem tyX3_ok : ∀ k, k < 5 → parseFieldDescriptor (TX3 k).2.2.1 = some (tyX3 k) := by decide +kernel
abbrev cX3_init : ByteArray := prog_15_method_1_code
def yX3_init : MethodName := ⟨RX3, "<init>", "()V"⟩
abbrev cX3_clear : ByteArray := prog_15_method_2_code
def yX3_clear : MethodName := ⟨RX3, "clear", "()V"⟩
abbrev cX3_add : ByteArray := prog_15_method_4_code
def yX3_add : MethodName := ⟨RX3, "add", "(III)I"⟩
abbrev cX3_room : ByteArray := prog_15_method_3_code
def yX3_room : MethodName := ⟨RX3, "room", "(I)V"⟩
abbrev cX3_set : ByteArray := prog_15_method_5_code
def yX3_set : MethodName := ⟨RX3, "set", "(IIII)V"⟩
abbrev cX3_end : ByteArray := prog_15_method_7_code
def yX3_end : MethodName := ⟨RX3, "end", "(I)V"⟩
abbrev cX3_insert : ByteArray := prog_15_method_6_code
def yX3_insert : MethodName := ⟨RX3, "insert", "(IIII)V"⟩
abbrev cX3_parts : ByteArray := prog_15_method_8_code
def yX3_parts : MethodName := ⟨RX3, "parts", "(I)I"⟩
theorem q293 : (Jvm.Cond.initialized "CircuitWarden$Tree") ∈ lw_all := lw_g (lw_at lw_m1 4 rfl) rfl
theorem q373 : (Jvm.Cond.instantiable "CircuitWarden$Tree" (5 : Nat)) ∈ lw_all := lw_g (lw_at lw_m1 84 rfl) rfl
theorem q375 : (Jvm.Cond.instanceMethod ({ cls := "CircuitWarden$Tree", name := "<init>", desc := "()V" } : Jvm.MethodName)) ∈ lw_all := lw_g (lw_at lw_m1 86 rfl) rfl
theorem q376 : (Jvm.Cond.code ({ cls := "CircuitWarden$Tree", name := "<init>", desc := "()V" } : Jvm.MethodName) prog_15_method_1_code (1 : Nat) (Option.none : Option Jvm.ClassFile.FieldType)) ∈ lw_all := lw_g (lw_at lw_m1 87 rfl) rfl
theorem q377 : (Jvm.Cond.methodLink "CircuitWarden$Tree" (3 : Nat) ({ cls := "java/lang/Object", name := "<init>", desc := "()V" } : Jvm.MethodName)) ∈ lw_all := lw_g (lw_at lw_m1 88 rfl) rfl
theorem q378 : (Jvm.Cond.methodLink "CircuitWarden$Tree" (25 : Nat) ({ cls := "CircuitWarden$Tree", name := "clear", desc := "()V" } : Jvm.MethodName)) ∈ lw_all := lw_g (lw_at lw_m1 89 rfl) rfl
theorem q379 : (Jvm.Cond.instanceMethod ({ cls := "CircuitWarden$Tree", name := "clear", desc := "()V" } : Jvm.MethodName)) ∈ lw_all := lw_g (lw_at lw_m1 90 rfl) rfl
theorem q380 : (Jvm.Cond.selects "CircuitWarden$Tree" ({ cls := "CircuitWarden$Tree", name := "clear", desc := "()V" } : Jvm.MethodName) ({ cls := "CircuitWarden$Tree", name := "clear", desc := "()V" } : Jvm.MethodName)) ∈ lw_all := lw_g (lw_at lw_m1 91 rfl) rfl
theorem q381 : (Jvm.Cond.code ({ cls := "CircuitWarden$Tree", name := "clear", desc := "()V" } : Jvm.MethodName) prog_15_method_2_code (1 : Nat) (Option.none : Option Jvm.ClassFile.FieldType)) ∈ lw_all := lw_g (lw_at lw_m1 92 rfl) rfl
theorem q382 : (Jvm.Cond.methodLink "CircuitWarden$Tree" (32 : Nat) ({ cls := "CircuitWarden$Tree", name := "add", desc := "(III)I" } : Jvm.MethodName)) ∈ lw_all := lw_g (lw_at lw_m1 93 rfl) rfl
theorem q383 : (Jvm.Cond.instanceMethod ({ cls := "CircuitWarden$Tree", name := "add", desc := "(III)I" } : Jvm.MethodName)) ∈ lw_all := lw_g (lw_at lw_m1 94 rfl) rfl
theorem q384 : (Jvm.Cond.selects "CircuitWarden$Tree" ({ cls := "CircuitWarden$Tree", name := "add", desc := "(III)I" } : Jvm.MethodName) ({ cls := "CircuitWarden$Tree", name := "add", desc := "(III)I" } : Jvm.MethodName)) ∈ lw_all := lw_g (lw_at lw_m1 95 rfl) rfl
theorem q385 : (Jvm.Cond.code ({ cls := "CircuitWarden$Tree", name := "add", desc := "(III)I" } : Jvm.MethodName) prog_15_method_4_code (4 : Nat) (Option.some Jvm.ClassFile.FieldType.int)) ∈ lw_all := lw_g (lw_at lw_m1 96 rfl) rfl
theorem q386 : (Jvm.Cond.methodLink "CircuitWarden$Tree" (46 : Nat) ({ cls := "CircuitWarden$Tree", name := "room", desc := "(I)V" } : Jvm.MethodName)) ∈ lw_all := lw_g (lw_at lw_m1 97 rfl) rfl
theorem q387 : (Jvm.Cond.privateMethod ({ cls := "CircuitWarden$Tree", name := "room", desc := "(I)V" } : Jvm.MethodName)) ∈ lw_tbl := lw_at lw_m1 98 rfl
theorem q388 : (Jvm.Cond.instanceMethod ({ cls := "CircuitWarden$Tree", name := "room", desc := "(I)V" } : Jvm.MethodName)) ∈ lw_all := lw_g (lw_at lw_m1 99 rfl) rfl
theorem q389 : (Jvm.Cond.code ({ cls := "CircuitWarden$Tree", name := "room", desc := "(I)V" } : Jvm.MethodName) prog_15_method_3_code (3 : Nat) (Option.none : Option Jvm.ClassFile.FieldType)) ∈ lw_all := lw_g (lw_at lw_m1 100 rfl) rfl
theorem q390 : (Jvm.Cond.methodLink "CircuitWarden$Tree" (36 : Nat) ({ cls := "java/lang/System", name := "arraycopy", desc := "(Ljava/lang/Object;ILjava/lang/Object;II)V" } : Jvm.MethodName)) ∈ lw_all := lw_g (lw_at lw_m1 101 rfl) rfl
theorem q393 : (Jvm.Cond.methodLinkNest "CircuitWarden$Tree" (42 : Nat) ({ cls := "CircuitWarden", name := "grown", desc := "([II)[I" } : Jvm.MethodName) "CircuitWarden") ∈ lw_tbl := lw_at lw_m1 104 rfl
theorem q397 : (Jvm.Cond.methodLink "CircuitWarden$Tree" (50 : Nat) ({ cls := "CircuitWarden$Tree", name := "set", desc := "(IIII)V" } : Jvm.MethodName)) ∈ lw_all := lw_g (lw_at lw_m1 108 rfl) rfl
theorem q398 : (Jvm.Cond.privateMethod ({ cls := "CircuitWarden$Tree", name := "set", desc := "(IIII)V" } : Jvm.MethodName)) ∈ lw_tbl := lw_at lw_m1 109 rfl
theorem q399 : (Jvm.Cond.instanceMethod ({ cls := "CircuitWarden$Tree", name := "set", desc := "(IIII)V" } : Jvm.MethodName)) ∈ lw_all := lw_g (lw_at lw_m1 110 rfl) rfl
theorem q400 : (Jvm.Cond.code ({ cls := "CircuitWarden$Tree", name := "set", desc := "(IIII)V" } : Jvm.MethodName) prog_15_method_5_code (5 : Nat) (Option.none : Option Jvm.ClassFile.FieldType)) ∈ lw_all := lw_g (lw_at lw_m1 111 rfl) rfl
theorem q401 : (Jvm.Cond.fieldLink "CircuitWarden$Tree" (9 : Nat) "CircuitWarden$Tree" "kinds" "[B") ∈ lw_all := lw_g (lw_at lw_m1 112 rfl) rfl
theorem q405 : (Jvm.Cond.fieldLink "CircuitWarden$Tree" (15 : Nat) "CircuitWarden$Tree" "places" "[I") ∈ lw_all := lw_g (lw_at lw_m1 116 rfl) rfl
theorem q408 : (Jvm.Cond.fieldLink "CircuitWarden$Tree" (19 : Nat) "CircuitWarden$Tree" "values" "[I") ∈ lw_all := lw_g (lw_at lw_m1 119 rfl) rfl
theorem q410 : (Jvm.Cond.fieldLink "CircuitWarden$Tree" (22 : Nat) "CircuitWarden$Tree" "sizes" "[I") ∈ lw_all := lw_g (lw_at lw_m1 121 rfl) rfl
theorem q413 : (Jvm.Cond.fieldLink "CircuitWarden$Tree" (28 : Nat) "CircuitWarden$Tree" "count" "I") ∈ lw_all := lw_g (lw_at lw_m1 124 rfl) rfl
theorem q416 : (Jvm.Cond.lays "CircuitWarden$Tree" "CircuitWarden$Tree" "kinds" "[B") ∈ lw_all := lw_g (lw_at lw_m1 127 rfl) rfl
theorem q417 : (Jvm.Cond.soleField "CircuitWarden$Tree" "kinds") ∈ lw_all := lw_g (lw_at lw_m1 128 rfl) rfl
theorem q418 : (Jvm.Cond.lays "CircuitWarden$Tree" "CircuitWarden$Tree" "places" "[I") ∈ lw_all := lw_g (lw_at lw_m1 129 rfl) rfl
theorem q419 : (Jvm.Cond.soleField "CircuitWarden$Tree" "places") ∈ lw_all := lw_g (lw_at lw_m1 130 rfl) rfl
theorem q420 : (Jvm.Cond.lays "CircuitWarden$Tree" "CircuitWarden$Tree" "values" "[I") ∈ lw_all := lw_g (lw_at lw_m1 131 rfl) rfl
theorem q421 : (Jvm.Cond.soleField "CircuitWarden$Tree" "values") ∈ lw_all := lw_g (lw_at lw_m1 132 rfl) rfl
theorem q422 : (Jvm.Cond.lays "CircuitWarden$Tree" "CircuitWarden$Tree" "sizes" "[I") ∈ lw_all := lw_g (lw_at lw_m1 133 rfl) rfl
theorem q423 : (Jvm.Cond.soleField "CircuitWarden$Tree" "sizes") ∈ lw_all := lw_g (lw_at lw_m1 134 rfl) rfl
theorem q424 : (Jvm.Cond.lays "CircuitWarden$Tree" "CircuitWarden$Tree" "count" "I") ∈ lw_all := lw_g (lw_at lw_m1 135 rfl) rfl
theorem q425 : (Jvm.Cond.soleField "CircuitWarden$Tree" "count") ∈ lw_all := lw_g (lw_at lw_m1 136 rfl) rfl
theorem q426 : (Jvm.Cond.superclass "CircuitWarden$Tree" "java/lang/Object") ∈ lw_all := lw_g (lw_at lw_m1 137 rfl) rfl
theorem q1061 : (Jvm.Cond.instanceMethod ({ cls := "CircuitWarden$Tree", name := "end", desc := "(I)V" } : Jvm.MethodName)) ∈ lw_all := lw_g (lw_at lw_m4 52 rfl) rfl
theorem q1062 : (Jvm.Cond.selects "CircuitWarden$Tree" ({ cls := "CircuitWarden$Tree", name := "end", desc := "(I)V" } : Jvm.MethodName) ({ cls := "CircuitWarden$Tree", name := "end", desc := "(I)V" } : Jvm.MethodName)) ∈ lw_all := lw_g (lw_at lw_m4 53 rfl) rfl
theorem q1063 : (Jvm.Cond.code ({ cls := "CircuitWarden$Tree", name := "end", desc := "(I)V" } : Jvm.MethodName) prog_15_method_7_code (2 : Nat) (Option.none : Option Jvm.ClassFile.FieldType)) ∈ lw_all := lw_g (lw_at lw_m4 54 rfl) rfl
theorem q1764 : (Jvm.Cond.instanceMethod ({ cls := "CircuitWarden$Tree", name := "insert", desc := "(IIII)V" } : Jvm.MethodName)) ∈ lw_all := lw_g (lw_at lw_m7 35 rfl) rfl
theorem q1765 : (Jvm.Cond.selects "CircuitWarden$Tree" ({ cls := "CircuitWarden$Tree", name := "insert", desc := "(IIII)V" } : Jvm.MethodName) ({ cls := "CircuitWarden$Tree", name := "insert", desc := "(IIII)V" } : Jvm.MethodName)) ∈ lw_all := lw_g (lw_at lw_m7 36 rfl) rfl
theorem q1766 : (Jvm.Cond.code ({ cls := "CircuitWarden$Tree", name := "insert", desc := "(IIII)V" } : Jvm.MethodName) prog_15_method_6_code (7 : Nat) (Option.none : Option Jvm.ClassFile.FieldType)) ∈ lw_all := lw_g (lw_at lw_m7 37 rfl) rfl
theorem q1969 : (Jvm.Cond.instanceMethod ({ cls := "CircuitWarden$Tree", name := "parts", desc := "(I)I" } : Jvm.MethodName)) ∈ lw_all := lw_g (lw_at lw_m8 0 rfl) rfl
theorem q1970 : (Jvm.Cond.selects "CircuitWarden$Tree" ({ cls := "CircuitWarden$Tree", name := "parts", desc := "(I)I" } : Jvm.MethodName) ({ cls := "CircuitWarden$Tree", name := "parts", desc := "(I)I" } : Jvm.MethodName)) ∈ lw_all := lw_g (lw_at lw_m8 1 rfl) rfl
theorem q1971 : (Jvm.Cond.code ({ cls := "CircuitWarden$Tree", name := "parts", desc := "(I)I" } : Jvm.MethodName) prog_15_method_8_code (4 : Nat) (Option.some Jvm.ClassFile.FieldType.int)) ∈ lw_all := lw_g (lw_at lw_m8 2 rfl) rfl
theorem in_X3 : ∀ w ∈ wsX30, w ∈ lw_all := lw_in wsX30 [416, 418, 420, 422, 424] (by decide +kernel) (by decide +kernel)
/-! CircuitWarden$Reader -/
def RX4 : String := "CircuitWarden$Reader"
def TX4 : u_T := fun k => match k with
  | 0 => ("CircuitWarden$Reader", "names", "LCircuitWarden$Names;", true)
  | 1 => ("CircuitWarden$Reader", "t", "LCircuitWarden$Tokens;", true)
  | 2 => ("CircuitWarden$Reader", "tree", "LCircuitWarden$Tree;", false)
  | 3 => ("CircuitWarden$Reader", "depth", "I", false)
  | _ => ("CircuitWarden$Reader", "fault", "I", false)
def tyX4 : Nat → FieldType := fun k => match k with
  | 0 => .object "CircuitWarden$Names"
  | 1 => .object "CircuitWarden$Tokens"
  | 2 => .object "CircuitWarden$Tree"
  | 3 => .int
  | _ => .int
abbrev wsX40 : List Cond := u_ws RX4 TX4 5
theorem nmX4 : ∀ a, a < 5 → ∀ b, b < 5 → a ≠ b → (TX4 a).2.1 ≠ (TX4 b).2.1 := by decide +kernel
theorem tyX4_ok : ∀ k, k < 5 → parseFieldDescriptor (TX4 k).2.2.1 = some (tyX4 k) := by decide +kernel
abbrev cX4_init : ByteArray := prog_11_method_1_code
def yX4_init : MethodName := ⟨RX4, "<init>", "(LCircuitWarden$Names;)V"⟩
abbrev cX4_read : ByteArray := prog_11_method_31_code
def yX4_read : MethodName := ⟨RX4, "read", "(LCircuitWarden$Bytes;ILCircuitWarden$Tree;)I"⟩
abbrev cX4_item : ByteArray := prog_11_method_28_code
def yX4_item : MethodName := ⟨RX4, "item", "()V"⟩
abbrev cX4_fail : ByteArray := prog_11_method_2_code
def yX4_fail : MethodName := ⟨RX4, "fail", "()V"⟩
abbrev cX4_begin : ByteArray := prog_11_method_6_code
def yX4_begin : MethodName := ⟨RX4, "begin", "(I)I"⟩
abbrev cX4_name : ByteArray := prog_11_method_7_code
def yX4_name : MethodName := ⟨RX4, "name", "()V"⟩
abbrev cX4_takes : ByteArray := prog_11_method_5_code
def yX4_takes : MethodName := ⟨RX4, "takes", "(LCircuitWarden$Token;)Z"⟩
abbrev cX4_names : ByteArray := prog_11_method_8_code
def yX4_names : MethodName := ⟨RX4, "names", "(LCircuitWarden$Token;)V"⟩
abbrev cX4_take : ByteArray := prog_11_method_4_code
def yX4_take : MethodName := ⟨RX4, "take", "(LCircuitWarden$Token;)V"⟩
abbrev cX4_sum : ByteArray := prog_11_method_9_code
def yX4_sum : MethodName := ⟨RX4, "sum", "()V"⟩
abbrev cX4_deeper : ByteArray := prog_11_method_3_code
def yX4_deeper : MethodName := ⟨RX4, "deeper", "()V"⟩
abbrev cX4_chain : ByteArray := prog_11_method_12_code
def yX4_chain : MethodName := ⟨RX4, "chain", "(IZ)V"⟩
abbrev cX4_part : ByteArray := prog_11_method_13_code
def yX4_part : MethodName := ⟨RX4, "part", "(IZ)V"⟩
abbrev cX4_atom : ByteArray := prog_11_method_14_code
def yX4_atom : MethodName := ⟨RX4, "atom", "()V"⟩
abbrev cX4_unary : ByteArray := prog_11_method_17_code
def yX4_unary : MethodName := ⟨RX4, "unary", "()V"⟩
abbrev cX4_turned : ByteArray := prog_11_method_18_code
def yX4_turned : MethodName := ⟨RX4, "turned", "(I)V"⟩
abbrev cX4_expr : ByteArray := prog_11_method_15_code
def yX4_expr : MethodName := ⟨RX4, "expr", "()V"⟩
abbrev cX4_exprs : ByteArray := prog_11_method_16_code
def yX4_exprs : MethodName := ⟨RX4, "exprs", "(LCircuitWarden$Token;)V"⟩
abbrev cX4_named : ByteArray := prog_11_method_20_code
def yX4_named : MethodName := ⟨RX4, "named", "()V"⟩
abbrev cX4_arguments : ByteArray := prog_11_method_22_code
def yX4_arguments : MethodName := ⟨RX4, "arguments", "(I)V"⟩
abbrev cX4_bits : ByteArray := prog_11_method_21_code
def yX4_bits : MethodName := ⟨RX4, "bits", "(III)V"⟩
abbrev cX4_made : ByteArray := prog_11_method_19_code
def yX4_made : MethodName := ⟨RX4, "made", "(I)V"⟩
abbrev cX4_isSign : ByteArray := prog_11_method_11_code
def yX4_isSign : MethodName := ⟨RX4, "isSign", "(IZ)Z"⟩
abbrev cX4_function : ByteArray := prog_11_method_29_code
def yX4_function : MethodName := ⟨RX4, "function", "()V"⟩
abbrev cX4_width : ByteArray := prog_11_method_10_code
def yX4_width : MethodName := ⟨RX4, "width", "()V"⟩
abbrev cX4_block : ByteArray := prog_11_method_24_code
def yX4_block : MethodName := ⟨RX4, "block", "()V"⟩
abbrev cX4_statement : ByteArray := prog_11_method_26_code
def yX4_statement : MethodName := ⟨RX4, "statement", "()V"⟩
abbrev cX4_condition : ByteArray := prog_11_method_25_code
def yX4_condition : MethodName := ⟨RX4, "condition", "()V"⟩
abbrev cX4_cases : ByteArray := prog_11_method_27_code
def yX4_cases : MethodName := ⟨RX4, "cases", "()V"⟩
abbrev cX4_signal : ByteArray := prog_11_method_30_code
def yX4_signal : MethodName := ⟨RX4, "signal", "(I)V"⟩
abbrev cX4_label : ByteArray := prog_11_method_23_code
def yX4_label : MethodName := ⟨RX4, "label", "()V"⟩
theorem q295 : (Jvm.Cond.initialized "CircuitWarden$Reader") ∈ lw_all := lw_g (lw_at lw_m1 6 rfl) rfl
theorem q359 : (Jvm.Cond.fieldLinkNest "CircuitWarden$Reader" (261 : Nat) "CircuitWarden$Names" "count" "I" "CircuitWarden") ∈ lw_tbl := lw_at lw_m1 70 rfl
theorem q404 : (Jvm.Cond.fieldLinkNest "CircuitWarden$Reader" (251 : Nat) "CircuitWarden$Tree" "kinds" "[B" "CircuitWarden") ∈ lw_tbl := lw_at lw_m1 115 rfl
theorem q414 : (Jvm.Cond.fieldLinkNest "CircuitWarden$Reader" (119 : Nat) "CircuitWarden$Tree" "count" "I" "CircuitWarden") ∈ lw_tbl := lw_at lw_m1 125 rfl
theorem q428 : (Jvm.Cond.instantiable "CircuitWarden$Reader" (5 : Nat)) ∈ lw_all := lw_g (lw_at lw_m1 139 rfl) rfl
theorem q430 : (Jvm.Cond.instanceMethod ({ cls := "CircuitWarden$Reader", name := "<init>", desc := "(LCircuitWarden$Names;)V" } : Jvm.MethodName)) ∈ lw_all := lw_g (lw_at lw_m1 141 rfl) rfl
theorem q431 : (Jvm.Cond.code ({ cls := "CircuitWarden$Reader", name := "<init>", desc := "(LCircuitWarden$Names;)V" } : Jvm.MethodName) prog_11_method_1_code (2 : Nat) (Option.none : Option Jvm.ClassFile.FieldType)) ∈ lw_all := lw_g (lw_at lw_m1 142 rfl) rfl
theorem q432 : (Jvm.Cond.methodLink "CircuitWarden$Reader" (3 : Nat) ({ cls := "java/lang/Object", name := "<init>", desc := "()V" } : Jvm.MethodName)) ∈ lw_all := lw_g (lw_at lw_m1 143 rfl) rfl
theorem q433 : (Jvm.Cond.classLink "CircuitWarden$Reader" (9 : Nat) "CircuitWarden$Tokens") ∈ lw_all := lw_g (lw_at lw_m1 144 rfl) rfl
theorem q435 : (Jvm.Cond.methodLinkNest "CircuitWarden$Reader" (11 : Nat) ({ cls := "CircuitWarden$Tokens", name := "<init>", desc := "()V" } : Jvm.MethodName) "CircuitWarden") ∈ lw_tbl := lw_at lw_m1 146 rfl
theorem q454 : (Jvm.Cond.fieldLinkNest "CircuitWarden$Reader" (64 : Nat) "CircuitWarden$Tokens" "bytes" "LCircuitWarden$Bytes;" "CircuitWarden") ∈ lw_tbl := lw_at lw_m1 165 rfl
theorem q457 : (Jvm.Cond.fieldLinkNest "CircuitWarden$Reader" (42 : Nat) "CircuitWarden$Tokens" "token" "LCircuitWarden$Token;" "CircuitWarden") ∈ lw_tbl := lw_at lw_m1 168 rfl
theorem q459 : (Jvm.Cond.fieldLinkNest "CircuitWarden$Reader" (22 : Nat) "CircuitWarden$Tokens" "place" "I" "CircuitWarden") ∈ lw_tbl := lw_at lw_m1 170 rfl
theorem q462 : (Jvm.Cond.fieldLinkNest "CircuitWarden$Reader" (68 : Nat) "CircuitWarden$Tokens" "length" "I" "CircuitWarden") ∈ lw_tbl := lw_at lw_m1 173 rfl
theorem q464 : (Jvm.Cond.fieldLinkNest "CircuitWarden$Reader" (146 : Nat) "CircuitWarden$Tokens" "value" "I" "CircuitWarden") ∈ lw_tbl := lw_at lw_m1 175 rfl
theorem q482 : (Jvm.Cond.fieldLink "CircuitWarden$Reader" (18 : Nat) "CircuitWarden$Reader" "names" "LCircuitWarden$Names;") ∈ lw_all := lw_g (lw_at lw_m1 193 rfl) rfl
theorem q483 : (Jvm.Cond.fieldLink "CircuitWarden$Reader" (12 : Nat) "CircuitWarden$Reader" "t" "LCircuitWarden$Tokens;") ∈ lw_all := lw_g (lw_at lw_m1 194 rfl) rfl
theorem q484 : (Jvm.Cond.fieldLink "CircuitWarden$Reader" (49 : Nat) "CircuitWarden$Reader" "tree" "LCircuitWarden$Tree;") ∈ lw_all := lw_g (lw_at lw_m1 195 rfl) rfl
theorem q485 : (Jvm.Cond.fieldLink "CircuitWarden$Reader" (36 : Nat) "CircuitWarden$Reader" "depth" "I") ∈ lw_all := lw_g (lw_at lw_m1 196 rfl) rfl
theorem q486 : (Jvm.Cond.fieldLink "CircuitWarden$Reader" (26 : Nat) "CircuitWarden$Reader" "fault" "I") ∈ lw_all := lw_g (lw_at lw_m1 197 rfl) rfl
theorem q487 : (Jvm.Cond.laysFinal "CircuitWarden$Reader" "CircuitWarden$Reader" "names" "LCircuitWarden$Names;") ∈ lw_all := lw_g (lw_at lw_m1 198 rfl) rfl
theorem q488 : (Jvm.Cond.soleField "CircuitWarden$Reader" "names") ∈ lw_all := lw_g (lw_at lw_m1 199 rfl) rfl
theorem q489 : (Jvm.Cond.laysFinal "CircuitWarden$Reader" "CircuitWarden$Reader" "t" "LCircuitWarden$Tokens;") ∈ lw_all := lw_g (lw_at lw_m1 200 rfl) rfl
theorem q490 : (Jvm.Cond.soleField "CircuitWarden$Reader" "t") ∈ lw_all := lw_g (lw_at lw_m1 201 rfl) rfl
theorem q491 : (Jvm.Cond.lays "CircuitWarden$Reader" "CircuitWarden$Reader" "tree" "LCircuitWarden$Tree;") ∈ lw_all := lw_g (lw_at lw_m1 202 rfl) rfl
theorem q492 : (Jvm.Cond.soleField "CircuitWarden$Reader" "tree") ∈ lw_all := lw_g (lw_at lw_m1 203 rfl) rfl
theorem q493 : (Jvm.Cond.lays "CircuitWarden$Reader" "CircuitWarden$Reader" "depth" "I") ∈ lw_all := lw_g (lw_at lw_m1 204 rfl) rfl
theorem q494 : (Jvm.Cond.soleField "CircuitWarden$Reader" "depth") ∈ lw_all := lw_g (lw_at lw_m1 205 rfl) rfl
theorem q495 : (Jvm.Cond.lays "CircuitWarden$Reader" "CircuitWarden$Reader" "fault" "I") ∈ lw_all := lw_g (lw_at lw_m1 206 rfl) rfl
theorem q496 : (Jvm.Cond.soleField "CircuitWarden$Reader" "fault") ∈ lw_all := lw_g (lw_at lw_m1 207 rfl) rfl
theorem q497 : (Jvm.Cond.superclass "CircuitWarden$Reader" "java/lang/Object") ∈ lw_all := lw_g (lw_at lw_m1 208 rfl) rfl
theorem q1501 : (Jvm.Cond.instanceMethod ({ cls := "CircuitWarden$Reader", name := "read", desc := "(LCircuitWarden$Bytes;ILCircuitWarden$Tree;)I" } : Jvm.MethodName)) ∈ lw_all := lw_g (lw_at lw_m6 12 rfl) rfl
theorem q1502 : (Jvm.Cond.selects "CircuitWarden$Reader" ({ cls := "CircuitWarden$Reader", name := "read", desc := "(LCircuitWarden$Bytes;ILCircuitWarden$Tree;)I" } : Jvm.MethodName) ({ cls := "CircuitWarden$Reader", name := "read", desc := "(LCircuitWarden$Bytes;ILCircuitWarden$Tree;)I" } : Jvm.MethodName)) ∈ lw_all := lw_g (lw_at lw_m6 13 rfl) rfl
theorem q1503 : (Jvm.Cond.codeWith ({ cls := "CircuitWarden$Reader", name := "read", desc := "(LCircuitWarden$Bytes;ILCircuitWarden$Tree;)I" } : Jvm.MethodName) prog_11_method_31_code (7 : Nat) (Option.some Jvm.ClassFile.FieldType.int) [((51 : Nat), (94 : Nat), (97 : Nat), (29 : Nat))]) ∈ lw_all := lw_g (lw_at lw_m6 14 rfl) rfl
theorem q1504 : (Jvm.Cond.classLink "CircuitWarden$Reader" (29 : Nat) "java/lang/IllegalStateException") ∈ lw_all := lw_g (lw_at lw_m6 15 rfl) rfl
theorem q1505 : (Jvm.Cond.methodLink "CircuitWarden$Reader" (255 : Nat) ({ cls := "CircuitWarden$Tree", name := "clear", desc := "()V" } : Jvm.MethodName)) ∈ lw_all := lw_g (lw_at lw_m6 16 rfl) rfl
theorem q1506 : (Jvm.Cond.methodLink "CircuitWarden$Reader" (258 : Nat) ({ cls := "CircuitWarden$Tokens", name := "begin", desc := "(LCircuitWarden$Bytes;I)V" } : Jvm.MethodName)) ∈ lw_all := lw_g (lw_at lw_m6 17 rfl) rfl
theorem q1510 : (Jvm.Cond.methodLink "CircuitWarden$Reader" (46 : Nat) ({ cls := "CircuitWarden$Tokens", name := "next", desc := "()V" } : Jvm.MethodName)) ∈ lw_all := lw_g (lw_at lw_m6 21 rfl) rfl
theorem q1607 : (Jvm.Cond.fieldLink "CircuitWarden$Reader" (262 : Nat) "CircuitWarden$Token" "END" "LCircuitWarden$Token;") ∈ lw_all := lw_g (lw_at lw_m6 118 rfl) rfl
theorem q1608 : (Jvm.Cond.methodLink "CircuitWarden$Reader" (265 : Nat) ({ cls := "CircuitWarden$Reader", name := "item", desc := "()V" } : Jvm.MethodName)) ∈ lw_all := lw_g (lw_at lw_m6 119 rfl) rfl
theorem q1609 : (Jvm.Cond.privateMethod ({ cls := "CircuitWarden$Reader", name := "item", desc := "()V" } : Jvm.MethodName)) ∈ lw_tbl := lw_at lw_m6 120 rfl
theorem q1610 : (Jvm.Cond.instanceMethod ({ cls := "CircuitWarden$Reader", name := "item", desc := "()V" } : Jvm.MethodName)) ∈ lw_all := lw_g (lw_at lw_m6 121 rfl) rfl
theorem q1611 : (Jvm.Cond.code ({ cls := "CircuitWarden$Reader", name := "item", desc := "()V" } : Jvm.MethodName) prog_11_method_28_code (3 : Nat) (Option.none : Option Jvm.ClassFile.FieldType)) ∈ lw_all := lw_g (lw_at lw_m6 122 rfl) rfl
theorem q1612 : (Jvm.Cond.methodLink "CircuitWarden$Reader" (108 : Nat) ({ cls := "CircuitWarden$Token", name := "ordinal", desc := "()I" } : Jvm.MethodName)) ∈ lw_all := lw_g (lw_at lw_m6 123 rfl) rfl
theorem q1613 : (Jvm.Cond.fieldLink "CircuitWarden$Reader" (230 : Nat) "CircuitWarden$Token" "LEVEL" "LCircuitWarden$Token;") ∈ lw_all := lw_g (lw_at lw_m6 124 rfl) rfl
theorem q1614 : (Jvm.Cond.fieldLink "CircuitWarden$Reader" (233 : Nat) "CircuitWarden$Token" "MODE" "LCircuitWarden$Token;") ∈ lw_all := lw_g (lw_at lw_m6 125 rfl) rfl
theorem q1616 : (Jvm.Cond.methodLink "CircuitWarden$Reader" (39 : Nat) ({ cls := "CircuitWarden$Reader", name := "fail", desc := "()V" } : Jvm.MethodName)) ∈ lw_all := lw_g (lw_at lw_m6 127 rfl) rfl
theorem q1617 : (Jvm.Cond.privateMethod ({ cls := "CircuitWarden$Reader", name := "fail", desc := "()V" } : Jvm.MethodName)) ∈ lw_tbl := lw_at lw_m6 128 rfl
theorem q1618 : (Jvm.Cond.instanceMethod ({ cls := "CircuitWarden$Reader", name := "fail", desc := "()V" } : Jvm.MethodName)) ∈ lw_all := lw_g (lw_at lw_m6 129 rfl) rfl
theorem q1619 : (Jvm.Cond.code ({ cls := "CircuitWarden$Reader", name := "fail", desc := "()V" } : Jvm.MethodName) prog_11_method_2_code (1 : Nat) (Option.none : Option Jvm.ClassFile.FieldType)) ∈ lw_all := lw_g (lw_at lw_m6 130 rfl) rfl
theorem q1658 : (Jvm.Cond.stringRef "CircuitWarden$Reader" (31 : Nat) "it can't stand there") ∈ lw_tbl := lw_at lw_m6 169 rfl
theorem q1659 : (Jvm.Cond.methodLink "CircuitWarden$Reader" (33 : Nat) ({ cls := "java/lang/IllegalStateException", name := "<init>", desc := "(Ljava/lang/String;)V" } : Jvm.MethodName)) ∈ lw_all := lw_g (lw_at lw_m6 170 rfl) rfl
theorem q1684 : (Jvm.Cond.methodLink "CircuitWarden$Reader" (133 : Nat) ({ cls := "CircuitWarden$Reader", name := "begin", desc := "(I)I" } : Jvm.MethodName)) ∈ lw_all := lw_g (lw_at lw_m6 195 rfl) rfl
theorem q1685 : (Jvm.Cond.privateMethod ({ cls := "CircuitWarden$Reader", name := "begin", desc := "(I)I" } : Jvm.MethodName)) ∈ lw_tbl := lw_at lw_m6 196 rfl
theorem q1686 : (Jvm.Cond.instanceMethod ({ cls := "CircuitWarden$Reader", name := "begin", desc := "(I)I" } : Jvm.MethodName)) ∈ lw_all := lw_g (lw_at lw_m6 197 rfl) rfl
theorem q1687 : (Jvm.Cond.code ({ cls := "CircuitWarden$Reader", name := "begin", desc := "(I)I" } : Jvm.MethodName) prog_11_method_6_code (3 : Nat) (Option.some Jvm.ClassFile.FieldType.int)) ∈ lw_all := lw_g (lw_at lw_m6 198 rfl) rfl
theorem q1688 : (Jvm.Cond.methodLink "CircuitWarden$Reader" (53 : Nat) ({ cls := "CircuitWarden$Tree", name := "add", desc := "(III)I" } : Jvm.MethodName)) ∈ lw_all := lw_g (lw_at lw_m6 199 rfl) rfl
theorem q1689 : (Jvm.Cond.methodLink "CircuitWarden$Reader" (81 : Nat) ({ cls := "CircuitWarden$Reader", name := "name", desc := "()V" } : Jvm.MethodName)) ∈ lw_all := lw_g (lw_at lw_m6 200 rfl) rfl
theorem q1690 : (Jvm.Cond.privateMethod ({ cls := "CircuitWarden$Reader", name := "name", desc := "()V" } : Jvm.MethodName)) ∈ lw_tbl := lw_at lw_m6 201 rfl
theorem q1691 : (Jvm.Cond.instanceMethod ({ cls := "CircuitWarden$Reader", name := "name", desc := "()V" } : Jvm.MethodName)) ∈ lw_all := lw_g (lw_at lw_m6 202 rfl) rfl
theorem q1692 : (Jvm.Cond.code ({ cls := "CircuitWarden$Reader", name := "name", desc := "()V" } : Jvm.MethodName) prog_11_method_7_code (1 : Nat) (Option.none : Option Jvm.ClassFile.FieldType)) ∈ lw_all := lw_g (lw_at lw_m6 203 rfl) rfl
theorem q1693 : (Jvm.Cond.fieldLink "CircuitWarden$Reader" (59 : Nat) "CircuitWarden$Token" "NAME" "LCircuitWarden$Token;") ∈ lw_all := lw_g (lw_at lw_m6 204 rfl) rfl
theorem q1694 : (Jvm.Cond.methodLink "CircuitWarden$Reader" (71 : Nat) ({ cls := "CircuitWarden$Names", name := "number", desc := "(LCircuitWarden$Bytes;II)I" } : Jvm.MethodName)) ∈ lw_all := lw_g (lw_at lw_m6 205 rfl) rfl
theorem q1704 : (Jvm.Cond.methodLink "CircuitWarden$Reader" (77 : Nat) ({ cls := "CircuitWarden$Tree", name := "end", desc := "(I)V" } : Jvm.MethodName)) ∈ lw_all := lw_g (lw_at lw_m6 215 rfl) rfl
theorem q1705 : (Jvm.Cond.fieldLink "CircuitWarden$Reader" (236 : Nat) "CircuitWarden$Token" "MORE" "LCircuitWarden$Token;") ∈ lw_all := lw_g (lw_at lw_m6 216 rfl) rfl
theorem q1707 : (Jvm.Cond.methodLink "CircuitWarden$Reader" (84 : Nat) ({ cls := "CircuitWarden$Reader", name := "takes", desc := "(LCircuitWarden$Token;)Z" } : Jvm.MethodName)) ∈ lw_all := lw_g (lw_at lw_m6 218 rfl) rfl
theorem q1708 : (Jvm.Cond.privateMethod ({ cls := "CircuitWarden$Reader", name := "takes", desc := "(LCircuitWarden$Token;)Z" } : Jvm.MethodName)) ∈ lw_tbl := lw_at lw_m6 219 rfl
theorem q1709 : (Jvm.Cond.instanceMethod ({ cls := "CircuitWarden$Reader", name := "takes", desc := "(LCircuitWarden$Token;)Z" } : Jvm.MethodName)) ∈ lw_all := lw_g (lw_at lw_m6 220 rfl) rfl
theorem q1710 : (Jvm.Cond.code ({ cls := "CircuitWarden$Reader", name := "takes", desc := "(LCircuitWarden$Token;)Z" } : Jvm.MethodName) prog_11_method_5_code (3 : Nat) (Option.some Jvm.ClassFile.FieldType.boolean)) ∈ lw_all := lw_g (lw_at lw_m6 221 rfl) rfl
theorem q1711 : (Jvm.Cond.fieldLink "CircuitWarden$Reader" (164 : Nat) "CircuitWarden$Token" "COMMA" "LCircuitWarden$Token;") ∈ lw_all := lw_g (lw_at lw_m6 222 rfl) rfl
theorem q1713 : (Jvm.Cond.methodLink "CircuitWarden$Reader" (204 : Nat) ({ cls := "CircuitWarden$Reader", name := "names", desc := "(LCircuitWarden$Token;)V" } : Jvm.MethodName)) ∈ lw_all := lw_g (lw_at lw_m6 224 rfl) rfl
theorem q1714 : (Jvm.Cond.privateMethod ({ cls := "CircuitWarden$Reader", name := "names", desc := "(LCircuitWarden$Token;)V" } : Jvm.MethodName)) ∈ lw_tbl := lw_at lw_m6 225 rfl
theorem q1715 : (Jvm.Cond.instanceMethod ({ cls := "CircuitWarden$Reader", name := "names", desc := "(LCircuitWarden$Token;)V" } : Jvm.MethodName)) ∈ lw_all := lw_g (lw_at lw_m6 226 rfl) rfl
theorem q1716 : (Jvm.Cond.code ({ cls := "CircuitWarden$Reader", name := "names", desc := "(LCircuitWarden$Token;)V" } : Jvm.MethodName) prog_11_method_8_code (2 : Nat) (Option.none : Option Jvm.ClassFile.FieldType)) ∈ lw_all := lw_g (lw_at lw_m6 227 rfl) rfl
theorem q1717 : (Jvm.Cond.fieldLink "CircuitWarden$Reader" (215 : Nat) "CircuitWarden$Token" "STOP" "LCircuitWarden$Token;") ∈ lw_all := lw_g (lw_at lw_m6 228 rfl) rfl
theorem q1719 : (Jvm.Cond.methodLink "CircuitWarden$Reader" (98 : Nat) ({ cls := "CircuitWarden$Reader", name := "take", desc := "(LCircuitWarden$Token;)V" } : Jvm.MethodName)) ∈ lw_all := lw_g (lw_at lw_m6 230 rfl) rfl
theorem q1720 : (Jvm.Cond.privateMethod ({ cls := "CircuitWarden$Reader", name := "take", desc := "(LCircuitWarden$Token;)V" } : Jvm.MethodName)) ∈ lw_tbl := lw_at lw_m6 231 rfl
theorem q1721 : (Jvm.Cond.instanceMethod ({ cls := "CircuitWarden$Reader", name := "take", desc := "(LCircuitWarden$Token;)V" } : Jvm.MethodName)) ∈ lw_all := lw_g (lw_at lw_m6 232 rfl) rfl
theorem q1722 : (Jvm.Cond.code ({ cls := "CircuitWarden$Reader", name := "take", desc := "(LCircuitWarden$Token;)V" } : Jvm.MethodName) prog_11_method_4_code (2 : Nat) (Option.none : Option Jvm.ClassFile.FieldType)) ∈ lw_all := lw_g (lw_at lw_m6 233 rfl) rfl
theorem q1723 : (Jvm.Cond.fieldLink "CircuitWarden$Reader" (239 : Nat) "CircuitWarden$Token" "BECOMES" "LCircuitWarden$Token;") ∈ lw_all := lw_g (lw_at lw_m6 234 rfl) rfl
theorem q1725 : (Jvm.Cond.methodLink "CircuitWarden$Reader" (102 : Nat) ({ cls := "CircuitWarden$Reader", name := "sum", desc := "()V" } : Jvm.MethodName)) ∈ lw_all := lw_g (lw_at lw_m6 236 rfl) rfl
theorem q1726 : (Jvm.Cond.privateMethod ({ cls := "CircuitWarden$Reader", name := "sum", desc := "()V" } : Jvm.MethodName)) ∈ lw_tbl := lw_at lw_m6 237 rfl
theorem q1727 : (Jvm.Cond.instanceMethod ({ cls := "CircuitWarden$Reader", name := "sum", desc := "()V" } : Jvm.MethodName)) ∈ lw_all := lw_g (lw_at lw_m6 238 rfl) rfl
theorem q1728 : (Jvm.Cond.code ({ cls := "CircuitWarden$Reader", name := "sum", desc := "()V" } : Jvm.MethodName) prog_11_method_9_code (1 : Nat) (Option.none : Option Jvm.ClassFile.FieldType)) ∈ lw_all := lw_g (lw_at lw_m6 239 rfl) rfl
theorem q1729 : (Jvm.Cond.methodLink "CircuitWarden$Reader" (88 : Nat) ({ cls := "CircuitWarden$Reader", name := "deeper", desc := "()V" } : Jvm.MethodName)) ∈ lw_all := lw_g (lw_at lw_m7 0 rfl) rfl
theorem q1730 : (Jvm.Cond.privateMethod ({ cls := "CircuitWarden$Reader", name := "deeper", desc := "()V" } : Jvm.MethodName)) ∈ lw_tbl := lw_at lw_m7 1 rfl
theorem q1731 : (Jvm.Cond.instanceMethod ({ cls := "CircuitWarden$Reader", name := "deeper", desc := "()V" } : Jvm.MethodName)) ∈ lw_all := lw_g (lw_at lw_m7 2 rfl) rfl
theorem q1732 : (Jvm.Cond.code ({ cls := "CircuitWarden$Reader", name := "deeper", desc := "()V" } : Jvm.MethodName) prog_11_method_3_code (1 : Nat) (Option.none : Option Jvm.ClassFile.FieldType)) ∈ lw_all := lw_g (lw_at lw_m7 3 rfl) rfl
theorem q1733 : (Jvm.Cond.methodLink "CircuitWarden$Reader" (91 : Nat) ({ cls := "CircuitWarden$Reader", name := "chain", desc := "(IZ)V" } : Jvm.MethodName)) ∈ lw_all := lw_g (lw_at lw_m7 4 rfl) rfl
theorem q1734 : (Jvm.Cond.privateMethod ({ cls := "CircuitWarden$Reader", name := "chain", desc := "(IZ)V" } : Jvm.MethodName)) ∈ lw_tbl := lw_at lw_m7 5 rfl
theorem q1735 : (Jvm.Cond.instanceMethod ({ cls := "CircuitWarden$Reader", name := "chain", desc := "(IZ)V" } : Jvm.MethodName)) ∈ lw_all := lw_g (lw_at lw_m7 6 rfl) rfl
theorem q1736 : (Jvm.Cond.code ({ cls := "CircuitWarden$Reader", name := "chain", desc := "(IZ)V" } : Jvm.MethodName) prog_11_method_12_code (6 : Nat) (Option.none : Option Jvm.ClassFile.FieldType)) ∈ lw_all := lw_g (lw_at lw_m7 7 rfl) rfl
theorem q1737 : (Jvm.Cond.methodLink "CircuitWarden$Reader" (122 : Nat) ({ cls := "CircuitWarden$Reader", name := "part", desc := "(IZ)V" } : Jvm.MethodName)) ∈ lw_all := lw_g (lw_at lw_m7 8 rfl) rfl
theorem q1738 : (Jvm.Cond.privateMethod ({ cls := "CircuitWarden$Reader", name := "part", desc := "(IZ)V" } : Jvm.MethodName)) ∈ lw_tbl := lw_at lw_m7 9 rfl
theorem q1739 : (Jvm.Cond.instanceMethod ({ cls := "CircuitWarden$Reader", name := "part", desc := "(IZ)V" } : Jvm.MethodName)) ∈ lw_all := lw_g (lw_at lw_m7 10 rfl) rfl
theorem q1740 : (Jvm.Cond.code ({ cls := "CircuitWarden$Reader", name := "part", desc := "(IZ)V" } : Jvm.MethodName) prog_11_method_13_code (3 : Nat) (Option.none : Option Jvm.ClassFile.FieldType)) ∈ lw_all := lw_g (lw_at lw_m7 11 rfl) rfl
theorem q1741 : (Jvm.Cond.methodLink "CircuitWarden$Reader" (137 : Nat) ({ cls := "CircuitWarden$Reader", name := "atom", desc := "()V" } : Jvm.MethodName)) ∈ lw_all := lw_g (lw_at lw_m7 12 rfl) rfl
theorem q1742 : (Jvm.Cond.privateMethod ({ cls := "CircuitWarden$Reader", name := "atom", desc := "()V" } : Jvm.MethodName)) ∈ lw_tbl := lw_at lw_m7 13 rfl
theorem q1743 : (Jvm.Cond.instanceMethod ({ cls := "CircuitWarden$Reader", name := "atom", desc := "()V" } : Jvm.MethodName)) ∈ lw_all := lw_g (lw_at lw_m7 14 rfl) rfl
theorem q1744 : (Jvm.Cond.code ({ cls := "CircuitWarden$Reader", name := "atom", desc := "()V" } : Jvm.MethodName) prog_11_method_14_code (1 : Nat) (Option.none : Option Jvm.ClassFile.FieldType)) ∈ lw_all := lw_g (lw_at lw_m7 15 rfl) rfl
theorem q1745 : (Jvm.Cond.fieldLink "CircuitWarden$Reader" (143 : Nat) "CircuitWarden$Token" "NUMBER" "LCircuitWarden$Token;") ∈ lw_all := lw_g (lw_at lw_m7 16 rfl) rfl
theorem q1746 : (Jvm.Cond.fieldLink "CircuitWarden$Reader" (149 : Nat) "CircuitWarden$Token" "OPEN" "LCircuitWarden$Token;") ∈ lw_all := lw_g (lw_at lw_m7 17 rfl) rfl
theorem q1747 : (Jvm.Cond.fieldLink "CircuitWarden$Reader" (152 : Nat) "CircuitWarden$Token" "CLOSE" "LCircuitWarden$Token;") ∈ lw_all := lw_g (lw_at lw_m7 18 rfl) rfl
theorem q1749 : (Jvm.Cond.methodLink "CircuitWarden$Reader" (140 : Nat) ({ cls := "CircuitWarden$Reader", name := "unary", desc := "()V" } : Jvm.MethodName)) ∈ lw_all := lw_g (lw_at lw_m7 20 rfl) rfl
theorem q1750 : (Jvm.Cond.privateMethod ({ cls := "CircuitWarden$Reader", name := "unary", desc := "()V" } : Jvm.MethodName)) ∈ lw_tbl := lw_at lw_m7 21 rfl
theorem q1751 : (Jvm.Cond.instanceMethod ({ cls := "CircuitWarden$Reader", name := "unary", desc := "()V" } : Jvm.MethodName)) ∈ lw_all := lw_g (lw_at lw_m7 22 rfl) rfl
theorem q1752 : (Jvm.Cond.code ({ cls := "CircuitWarden$Reader", name := "unary", desc := "()V" } : Jvm.MethodName) prog_11_method_17_code (2 : Nat) (Option.none : Option Jvm.ClassFile.FieldType)) ∈ lw_all := lw_g (lw_at lw_m7 23 rfl) rfl
theorem q1753 : (Jvm.Cond.methodLink "CircuitWarden$Reader" (167 : Nat) ({ cls := "CircuitWarden$Reader", name := "turned", desc := "(I)V" } : Jvm.MethodName)) ∈ lw_all := lw_g (lw_at lw_m7 24 rfl) rfl
theorem q1754 : (Jvm.Cond.privateMethod ({ cls := "CircuitWarden$Reader", name := "turned", desc := "(I)V" } : Jvm.MethodName)) ∈ lw_tbl := lw_at lw_m7 25 rfl
theorem q1755 : (Jvm.Cond.instanceMethod ({ cls := "CircuitWarden$Reader", name := "turned", desc := "(I)V" } : Jvm.MethodName)) ∈ lw_all := lw_g (lw_at lw_m7 26 rfl) rfl
theorem q1756 : (Jvm.Cond.code ({ cls := "CircuitWarden$Reader", name := "turned", desc := "(I)V" } : Jvm.MethodName) prog_11_method_18_code (2 : Nat) (Option.none : Option Jvm.ClassFile.FieldType)) ∈ lw_all := lw_g (lw_at lw_m7 27 rfl) rfl
theorem q1757 : (Jvm.Cond.methodLink "CircuitWarden$Reader" (158 : Nat) ({ cls := "CircuitWarden$Reader", name := "expr", desc := "()V" } : Jvm.MethodName)) ∈ lw_all := lw_g (lw_at lw_m7 28 rfl) rfl
theorem q1758 : (Jvm.Cond.privateMethod ({ cls := "CircuitWarden$Reader", name := "expr", desc := "()V" } : Jvm.MethodName)) ∈ lw_tbl := lw_at lw_m7 29 rfl
theorem q1759 : (Jvm.Cond.instanceMethod ({ cls := "CircuitWarden$Reader", name := "expr", desc := "()V" } : Jvm.MethodName)) ∈ lw_all := lw_g (lw_at lw_m7 30 rfl) rfl
theorem q1760 : (Jvm.Cond.code ({ cls := "CircuitWarden$Reader", name := "expr", desc := "()V" } : Jvm.MethodName) prog_11_method_15_code (2 : Nat) (Option.none : Option Jvm.ClassFile.FieldType)) ∈ lw_all := lw_g (lw_at lw_m7 31 rfl) rfl
theorem q1761 : (Jvm.Cond.fieldLink "CircuitWarden$Reader" (155 : Nat) "CircuitWarden$Token" "ASK" "LCircuitWarden$Token;") ∈ lw_all := lw_g (lw_at lw_m7 32 rfl) rfl
theorem q1763 : (Jvm.Cond.methodLink "CircuitWarden$Reader" (129 : Nat) ({ cls := "CircuitWarden$Tree", name := "insert", desc := "(IIII)V" } : Jvm.MethodName)) ∈ lw_all := lw_g (lw_at lw_m7 34 rfl) rfl
theorem q1767 : (Jvm.Cond.fieldLink "CircuitWarden$Reader" (161 : Nat) "CircuitWarden$Token" "COLON" "LCircuitWarden$Token;") ∈ lw_all := lw_g (lw_at lw_m7 38 rfl) rfl
theorem q1769 : (Jvm.Cond.fieldLink "CircuitWarden$Reader" (170 : Nat) "CircuitWarden$Token" "FINISH" "LCircuitWarden$Token;") ∈ lw_all := lw_g (lw_at lw_m7 40 rfl) rfl
theorem q1771 : (Jvm.Cond.methodLink "CircuitWarden$Reader" (173 : Nat) ({ cls := "CircuitWarden$Reader", name := "exprs", desc := "(LCircuitWarden$Token;)V" } : Jvm.MethodName)) ∈ lw_all := lw_g (lw_at lw_m7 42 rfl) rfl
theorem q1772 : (Jvm.Cond.privateMethod ({ cls := "CircuitWarden$Reader", name := "exprs", desc := "(LCircuitWarden$Token;)V" } : Jvm.MethodName)) ∈ lw_tbl := lw_at lw_m7 43 rfl
theorem q1773 : (Jvm.Cond.instanceMethod ({ cls := "CircuitWarden$Reader", name := "exprs", desc := "(LCircuitWarden$Token;)V" } : Jvm.MethodName)) ∈ lw_all := lw_g (lw_at lw_m7 44 rfl) rfl
theorem q1774 : (Jvm.Cond.code ({ cls := "CircuitWarden$Reader", name := "exprs", desc := "(LCircuitWarden$Token;)V" } : Jvm.MethodName) prog_11_method_16_code (2 : Nat) (Option.none : Option Jvm.ClassFile.FieldType)) ∈ lw_all := lw_g (lw_at lw_m7 45 rfl) rfl
theorem q1775 : (Jvm.Cond.methodLink "CircuitWarden$Reader" (176 : Nat) ({ cls := "CircuitWarden$Reader", name := "named", desc := "()V" } : Jvm.MethodName)) ∈ lw_all := lw_g (lw_at lw_m7 46 rfl) rfl
theorem q1776 : (Jvm.Cond.privateMethod ({ cls := "CircuitWarden$Reader", name := "named", desc := "()V" } : Jvm.MethodName)) ∈ lw_tbl := lw_at lw_m7 47 rfl
theorem q1777 : (Jvm.Cond.instanceMethod ({ cls := "CircuitWarden$Reader", name := "named", desc := "()V" } : Jvm.MethodName)) ∈ lw_all := lw_g (lw_at lw_m7 48 rfl) rfl
theorem q1778 : (Jvm.Cond.code ({ cls := "CircuitWarden$Reader", name := "named", desc := "()V" } : Jvm.MethodName) prog_11_method_20_code (4 : Nat) (Option.none : Option Jvm.ClassFile.FieldType)) ∈ lw_all := lw_g (lw_at lw_m7 49 rfl) rfl
theorem q1779 : (Jvm.Cond.methodLink "CircuitWarden$Reader" (185 : Nat) ({ cls := "CircuitWarden$Reader", name := "arguments", desc := "(I)V" } : Jvm.MethodName)) ∈ lw_all := lw_g (lw_at lw_m7 50 rfl) rfl
theorem q1780 : (Jvm.Cond.privateMethod ({ cls := "CircuitWarden$Reader", name := "arguments", desc := "(I)V" } : Jvm.MethodName)) ∈ lw_tbl := lw_at lw_m7 51 rfl
theorem q1781 : (Jvm.Cond.instanceMethod ({ cls := "CircuitWarden$Reader", name := "arguments", desc := "(I)V" } : Jvm.MethodName)) ∈ lw_all := lw_g (lw_at lw_m7 52 rfl) rfl
theorem q1782 : (Jvm.Cond.code ({ cls := "CircuitWarden$Reader", name := "arguments", desc := "(I)V" } : Jvm.MethodName) prog_11_method_22_code (2 : Nat) (Option.none : Option Jvm.ClassFile.FieldType)) ∈ lw_all := lw_g (lw_at lw_m7 53 rfl) rfl
theorem q1783 : (Jvm.Cond.fieldLink "CircuitWarden$Reader" (95 : Nat) "CircuitWarden$Token" "FROM" "LCircuitWarden$Token;") ∈ lw_all := lw_g (lw_at lw_m7 54 rfl) rfl
theorem q1785 : (Jvm.Cond.methodLink "CircuitWarden$Reader" (188 : Nat) ({ cls := "CircuitWarden$Reader", name := "bits", desc := "(III)V" } : Jvm.MethodName)) ∈ lw_all := lw_g (lw_at lw_m7 56 rfl) rfl
theorem q1786 : (Jvm.Cond.privateMethod ({ cls := "CircuitWarden$Reader", name := "bits", desc := "(III)V" } : Jvm.MethodName)) ∈ lw_tbl := lw_at lw_m7 57 rfl
theorem q1787 : (Jvm.Cond.instanceMethod ({ cls := "CircuitWarden$Reader", name := "bits", desc := "(III)V" } : Jvm.MethodName)) ∈ lw_all := lw_g (lw_at lw_m7 58 rfl) rfl
theorem q1788 : (Jvm.Cond.code ({ cls := "CircuitWarden$Reader", name := "bits", desc := "(III)V" } : Jvm.MethodName) prog_11_method_21_code (5 : Nat) (Option.none : Option Jvm.ClassFile.FieldType)) ∈ lw_all := lw_g (lw_at lw_m7 59 rfl) rfl
theorem q1789 : (Jvm.Cond.fieldLink "CircuitWarden$Reader" (105 : Nat) "CircuitWarden$Token" "TO" "LCircuitWarden$Token;") ∈ lw_all := lw_g (lw_at lw_m7 60 rfl) rfl
theorem q1791 : (Jvm.Cond.methodLink "CircuitWarden$Reader" (179 : Nat) ({ cls := "CircuitWarden$Reader", name := "made", desc := "(I)V" } : Jvm.MethodName)) ∈ lw_all := lw_g (lw_at lw_m7 62 rfl) rfl
theorem q1792 : (Jvm.Cond.privateMethod ({ cls := "CircuitWarden$Reader", name := "made", desc := "(I)V" } : Jvm.MethodName)) ∈ lw_tbl := lw_at lw_m7 63 rfl
theorem q1793 : (Jvm.Cond.instanceMethod ({ cls := "CircuitWarden$Reader", name := "made", desc := "(I)V" } : Jvm.MethodName)) ∈ lw_all := lw_g (lw_at lw_m7 64 rfl) rfl
theorem q1794 : (Jvm.Cond.code ({ cls := "CircuitWarden$Reader", name := "made", desc := "(I)V" } : Jvm.MethodName) prog_11_method_19_code (3 : Nat) (Option.none : Option Jvm.ClassFile.FieldType)) ∈ lw_all := lw_g (lw_at lw_m7 65 rfl) rfl
theorem q1795 : (Jvm.Cond.fieldLink "CircuitWarden$Reader" (182 : Nat) "CircuitWarden$Token" "NUM" "LCircuitWarden$Token;") ∈ lw_all := lw_g (lw_at lw_m7 66 rfl) rfl
theorem q1797 : (Jvm.Cond.methodLink "CircuitWarden$Reader" (125 : Nat) ({ cls := "CircuitWarden$Reader", name := "isSign", desc := "(IZ)Z" } : Jvm.MethodName)) ∈ lw_all := lw_g (lw_at lw_m7 68 rfl) rfl
theorem q1798 : (Jvm.Cond.privateMethod ({ cls := "CircuitWarden$Reader", name := "isSign", desc := "(IZ)Z" } : Jvm.MethodName)) ∈ lw_tbl := lw_at lw_m7 69 rfl
theorem q1799 : (Jvm.Cond.instanceMethod ({ cls := "CircuitWarden$Reader", name := "isSign", desc := "(IZ)Z" } : Jvm.MethodName)) ∈ lw_all := lw_g (lw_at lw_m7 70 rfl) rfl
theorem q1800 : (Jvm.Cond.code ({ cls := "CircuitWarden$Reader", name := "isSign", desc := "(IZ)Z" } : Jvm.MethodName) prog_11_method_11_code (4 : Nat) (Option.some Jvm.ClassFile.FieldType.boolean)) ∈ lw_all := lw_g (lw_at lw_m7 71 rfl) rfl
theorem q1801 : (Jvm.Cond.fieldLink "CircuitWarden$Reader" (112 : Nat) "CircuitWarden$Token" "OR" "LCircuitWarden$Token;") ∈ lw_all := lw_g (lw_at lw_m7 72 rfl) rfl
theorem q1803 : (Jvm.Cond.fieldLinkNest "CircuitWarden$Reader" (115 : Nat) "CircuitWarden" "BINDS" "[I" "CircuitWarden") ∈ lw_tbl := lw_at lw_m7 74 rfl
theorem q1805 : (Jvm.Cond.methodLink "CircuitWarden$Reader" (242 : Nat) ({ cls := "CircuitWarden$Reader", name := "function", desc := "()V" } : Jvm.MethodName)) ∈ lw_all := lw_g (lw_at lw_m7 76 rfl) rfl
theorem q1806 : (Jvm.Cond.privateMethod ({ cls := "CircuitWarden$Reader", name := "function", desc := "()V" } : Jvm.MethodName)) ∈ lw_tbl := lw_at lw_m7 77 rfl
theorem q1807 : (Jvm.Cond.instanceMethod ({ cls := "CircuitWarden$Reader", name := "function", desc := "()V" } : Jvm.MethodName)) ∈ lw_all := lw_g (lw_at lw_m7 78 rfl) rfl
theorem q1808 : (Jvm.Cond.code ({ cls := "CircuitWarden$Reader", name := "function", desc := "()V" } : Jvm.MethodName) prog_11_method_29_code (3 : Nat) (Option.none : Option Jvm.ClassFile.FieldType)) ∈ lw_all := lw_g (lw_at lw_m7 79 rfl) rfl
theorem q1809 : (Jvm.Cond.methodLink "CircuitWarden$Reader" (248 : Nat) ({ cls := "CircuitWarden$Reader", name := "width", desc := "()V" } : Jvm.MethodName)) ∈ lw_all := lw_g (lw_at lw_m7 80 rfl) rfl
theorem q1810 : (Jvm.Cond.privateMethod ({ cls := "CircuitWarden$Reader", name := "width", desc := "()V" } : Jvm.MethodName)) ∈ lw_tbl := lw_at lw_m7 81 rfl
theorem q1811 : (Jvm.Cond.instanceMethod ({ cls := "CircuitWarden$Reader", name := "width", desc := "()V" } : Jvm.MethodName)) ∈ lw_all := lw_g (lw_at lw_m7 82 rfl) rfl
theorem q1812 : (Jvm.Cond.code ({ cls := "CircuitWarden$Reader", name := "width", desc := "()V" } : Jvm.MethodName) prog_11_method_10_code (1 : Nat) (Option.none : Option Jvm.ClassFile.FieldType)) ∈ lw_all := lw_g (lw_at lw_m7 83 rfl) rfl
theorem q1813 : (Jvm.Cond.methodLink "CircuitWarden$Reader" (221 : Nat) ({ cls := "CircuitWarden$Reader", name := "block", desc := "()V" } : Jvm.MethodName)) ∈ lw_all := lw_g (lw_at lw_m7 84 rfl) rfl
theorem q1814 : (Jvm.Cond.privateMethod ({ cls := "CircuitWarden$Reader", name := "block", desc := "()V" } : Jvm.MethodName)) ∈ lw_tbl := lw_at lw_m7 85 rfl
theorem q1815 : (Jvm.Cond.instanceMethod ({ cls := "CircuitWarden$Reader", name := "block", desc := "()V" } : Jvm.MethodName)) ∈ lw_all := lw_g (lw_at lw_m7 86 rfl) rfl
theorem q1816 : (Jvm.Cond.code ({ cls := "CircuitWarden$Reader", name := "block", desc := "()V" } : Jvm.MethodName) prog_11_method_24_code (2 : Nat) (Option.none : Option Jvm.ClassFile.FieldType)) ∈ lw_all := lw_g (lw_at lw_m7 87 rfl) rfl
theorem q1817 : (Jvm.Cond.fieldLink "CircuitWarden$Reader" (206 : Nat) "CircuitWarden$Token" "BEGIN" "LCircuitWarden$Token;") ∈ lw_all := lw_g (lw_at lw_m7 88 rfl) rfl
theorem q1819 : (Jvm.Cond.methodLink "CircuitWarden$Reader" (209 : Nat) ({ cls := "CircuitWarden$Reader", name := "statement", desc := "()V" } : Jvm.MethodName)) ∈ lw_all := lw_g (lw_at lw_m7 90 rfl) rfl
theorem q1820 : (Jvm.Cond.privateMethod ({ cls := "CircuitWarden$Reader", name := "statement", desc := "()V" } : Jvm.MethodName)) ∈ lw_tbl := lw_at lw_m7 91 rfl
theorem q1821 : (Jvm.Cond.instanceMethod ({ cls := "CircuitWarden$Reader", name := "statement", desc := "()V" } : Jvm.MethodName)) ∈ lw_all := lw_g (lw_at lw_m7 92 rfl) rfl
theorem q1822 : (Jvm.Cond.code ({ cls := "CircuitWarden$Reader", name := "statement", desc := "()V" } : Jvm.MethodName) prog_11_method_26_code (2 : Nat) (Option.none : Option Jvm.ClassFile.FieldType)) ∈ lw_all := lw_g (lw_at lw_m7 93 rfl) rfl
theorem q1823 : (Jvm.Cond.fieldLink "CircuitWarden$Reader" (212 : Nat) "CircuitWarden$Token" "MOST" "LCircuitWarden$Token;") ∈ lw_all := lw_g (lw_at lw_m7 94 rfl) rfl
theorem q1825 : (Jvm.Cond.methodLink "CircuitWarden$Reader" (218 : Nat) ({ cls := "CircuitWarden$Reader", name := "condition", desc := "()V" } : Jvm.MethodName)) ∈ lw_all := lw_g (lw_at lw_m7 96 rfl) rfl
theorem q1826 : (Jvm.Cond.privateMethod ({ cls := "CircuitWarden$Reader", name := "condition", desc := "()V" } : Jvm.MethodName)) ∈ lw_tbl := lw_at lw_m7 97 rfl
theorem q1827 : (Jvm.Cond.instanceMethod ({ cls := "CircuitWarden$Reader", name := "condition", desc := "()V" } : Jvm.MethodName)) ∈ lw_all := lw_g (lw_at lw_m7 98 rfl) rfl
theorem q1828 : (Jvm.Cond.code ({ cls := "CircuitWarden$Reader", name := "condition", desc := "()V" } : Jvm.MethodName) prog_11_method_25_code (1 : Nat) (Option.none : Option Jvm.ClassFile.FieldType)) ∈ lw_all := lw_g (lw_at lw_m7 99 rfl) rfl
theorem q1829 : (Jvm.Cond.fieldLink "CircuitWarden$Reader" (201 : Nat) "CircuitWarden$Token" "ELSE" "LCircuitWarden$Token;") ∈ lw_all := lw_g (lw_at lw_m7 100 rfl) rfl
theorem q1831 : (Jvm.Cond.methodLink "CircuitWarden$Reader" (224 : Nat) ({ cls := "CircuitWarden$Reader", name := "cases", desc := "()V" } : Jvm.MethodName)) ∈ lw_all := lw_g (lw_at lw_m7 102 rfl) rfl
theorem q1832 : (Jvm.Cond.privateMethod ({ cls := "CircuitWarden$Reader", name := "cases", desc := "()V" } : Jvm.MethodName)) ∈ lw_tbl := lw_at lw_m7 103 rfl
theorem q1833 : (Jvm.Cond.instanceMethod ({ cls := "CircuitWarden$Reader", name := "cases", desc := "()V" } : Jvm.MethodName)) ∈ lw_all := lw_g (lw_at lw_m7 104 rfl) rfl
theorem q1834 : (Jvm.Cond.code ({ cls := "CircuitWarden$Reader", name := "cases", desc := "()V" } : Jvm.MethodName) prog_11_method_27_code (2 : Nat) (Option.none : Option Jvm.ClassFile.FieldType)) ∈ lw_all := lw_g (lw_at lw_m7 105 rfl) rfl
theorem q1835 : (Jvm.Cond.fieldLink "CircuitWarden$Reader" (227 : Nat) "CircuitWarden$Token" "DEFAULT" "LCircuitWarden$Token;") ∈ lw_all := lw_g (lw_at lw_m7 106 rfl) rfl
theorem q1837 : (Jvm.Cond.methodLink "CircuitWarden$Reader" (245 : Nat) ({ cls := "CircuitWarden$Reader", name := "signal", desc := "(I)V" } : Jvm.MethodName)) ∈ lw_all := lw_g (lw_at lw_m7 108 rfl) rfl
theorem q1838 : (Jvm.Cond.privateMethod ({ cls := "CircuitWarden$Reader", name := "signal", desc := "(I)V" } : Jvm.MethodName)) ∈ lw_tbl := lw_at lw_m7 109 rfl
theorem q1839 : (Jvm.Cond.instanceMethod ({ cls := "CircuitWarden$Reader", name := "signal", desc := "(I)V" } : Jvm.MethodName)) ∈ lw_all := lw_g (lw_at lw_m7 110 rfl) rfl
theorem q1840 : (Jvm.Cond.code ({ cls := "CircuitWarden$Reader", name := "signal", desc := "(I)V" } : Jvm.MethodName) prog_11_method_30_code (3 : Nat) (Option.none : Option Jvm.ClassFile.FieldType)) ∈ lw_all := lw_g (lw_at lw_m7 111 rfl) rfl
theorem q1841 : (Jvm.Cond.methodLink "CircuitWarden$Reader" (198 : Nat) ({ cls := "CircuitWarden$Reader", name := "label", desc := "()V" } : Jvm.MethodName)) ∈ lw_all := lw_g (lw_at lw_m7 112 rfl) rfl
theorem q1842 : (Jvm.Cond.privateMethod ({ cls := "CircuitWarden$Reader", name := "label", desc := "()V" } : Jvm.MethodName)) ∈ lw_tbl := lw_at lw_m7 113 rfl
theorem q1843 : (Jvm.Cond.instanceMethod ({ cls := "CircuitWarden$Reader", name := "label", desc := "()V" } : Jvm.MethodName)) ∈ lw_all := lw_g (lw_at lw_m7 114 rfl) rfl
theorem q1844 : (Jvm.Cond.code ({ cls := "CircuitWarden$Reader", name := "label", desc := "()V" } : Jvm.MethodName) prog_11_method_23_code (2 : Nat) (Option.none : Option Jvm.ClassFile.FieldType)) ∈ lw_all := lw_g (lw_at lw_m7 115 rfl) rfl
theorem q1845 : (Jvm.Cond.fieldLink "CircuitWarden$Reader" (192 : Nat) "CircuitWarden$Token" "IF" "LCircuitWarden$Token;") ∈ lw_all := lw_g (lw_at lw_m7 116 rfl) rfl
theorem q1847 : (Jvm.Cond.fieldLink "CircuitWarden$Reader" (195 : Nat) "CircuitWarden$Token" "SAME" "LCircuitWarden$Token;") ∈ lw_all := lw_g (lw_at lw_m7 118 rfl) rfl
theorem q1849 : (Jvm.Cond.methodLink "CircuitWarden$Reader" (268 : Nat) ({ cls := "CircuitWarden$Names", name := "cut", desc := "(I)V" } : Jvm.MethodName)) ∈ lw_all := lw_g (lw_at lw_m7 120 rfl) rfl
theorem in_X4 : ∀ w ∈ wsX40, w ∈ lw_all := lw_in wsX40 [487, 489, 491, 493, 495] (by decide +kernel) (by decide +kernel)
/-! CircuitWarden$Tokens -/
def RX5 : String := "CircuitWarden$Tokens"
def TX5 : u_T := fun k => match k with
  | 0 => ("CircuitWarden$Tokens", "all", "[LCircuitWarden$Token;", true)
  | 1 => ("CircuitWarden$Tokens", "bytes", "LCircuitWarden$Bytes;", false)
  | 2 => ("CircuitWarden$Tokens", "end", "I", false)
  | 3 => ("CircuitWarden$Tokens", "at", "I", false)
  | 4 => ("CircuitWarden$Tokens", "token", "LCircuitWarden$Token;", false)
  | 5 => ("CircuitWarden$Tokens", "place", "I", false)
  | 6 => ("CircuitWarden$Tokens", "length", "I", false)
  | _ => ("CircuitWarden$Tokens", "value", "I", false)
def tyX5 : Nat → FieldType := fun k => match k with
  | 0 => .array (.object "CircuitWarden$Token")
  | 1 => .object "CircuitWarden$Bytes"
  | 2 => .int
  | 3 => .int
  | 4 => .object "CircuitWarden$Token"
  | 5 => .int
  | 6 => .int
  | _ => .int
abbrev wsX50 : List Cond := u_ws RX5 TX5 8
theorem nmX5 : ∀ a, a < 8 → ∀ b, b < 8 → a ≠ b → (TX5 a).2.1 ≠ (TX5 b).2.1 := by decide +kernel
theorem tyX5_ok : ∀ k, k < 8 → parseFieldDescriptor (TX5 k).2.2.1 = some (tyX5 k) := by decide +kernel
abbrev cX5_init : ByteArray := prog_14_method_1_code
def yX5_init : MethodName := ⟨RX5, "<init>", "()V"⟩
abbrev cX5_begin : ByteArray := prog_14_method_2_code
def yX5_begin : MethodName := ⟨RX5, "begin", "(LCircuitWarden$Bytes;I)V"⟩
abbrev cX5_next : ByteArray := prog_14_method_7_code
def yX5_next : MethodName := ⟨RX5, "next", "()V"⟩
abbrev cX5_blanks : ByteArray := prog_14_method_6_code
def yX5_blanks : MethodName := ⟨RX5, "blanks", "()V"⟩
abbrev cX5_look : ByteArray := prog_14_method_3_code
def yX5_look : MethodName := ⟨RX5, "look", "(I)I"⟩
abbrev cX5_begins : ByteArray := prog_14_method_5_code
def yX5_begins : MethodName := ⟨RX5, "begins", "(I)Z"⟩
abbrev cX5_isDigit : ByteArray := prog_14_method_4_code
def yX5_isDigit : MethodName := ⟨RX5, "isDigit", "(I)Z"⟩
abbrev cX5_spelt : ByteArray := prog_14_method_9_code
def yX5_spelt : MethodName := ⟨RX5, "spelt", "(LCircuitWarden$Token;)LCircuitWarden$Token;"⟩
abbrev cX5_number : ByteArray := prog_14_method_8_code
def yX5_number : MethodName := ⟨RX5, "number", "()V"⟩
theorem q296 : (Jvm.Cond.initialized "CircuitWarden$Tokens") ∈ lw_all := lw_g (lw_at lw_m1 7 rfl) rfl
theorem q434 : (Jvm.Cond.instantiable "CircuitWarden$Tokens" (8 : Nat)) ∈ lw_all := lw_g (lw_at lw_m1 145 rfl) rfl
theorem q436 : (Jvm.Cond.instanceMethod ({ cls := "CircuitWarden$Tokens", name := "<init>", desc := "()V" } : Jvm.MethodName)) ∈ lw_all := lw_g (lw_at lw_m1 147 rfl) rfl
theorem q437 : (Jvm.Cond.code ({ cls := "CircuitWarden$Tokens", name := "<init>", desc := "()V" } : Jvm.MethodName) prog_14_method_1_code (1 : Nat) (Option.none : Option Jvm.ClassFile.FieldType)) ∈ lw_all := lw_g (lw_at lw_m1 148 rfl) rfl
theorem q438 : (Jvm.Cond.methodLink "CircuitWarden$Tokens" (1 : Nat) ({ cls := "java/lang/Object", name := "<init>", desc := "()V" } : Jvm.MethodName)) ∈ lw_all := lw_g (lw_at lw_m1 149 rfl) rfl
theorem q439 : (Jvm.Cond.methodLink "CircuitWarden$Tokens" (7 : Nat) ({ cls := "CircuitWarden$Token", name := "values", desc := "()[LCircuitWarden$Token;" } : Jvm.MethodName)) ∈ lw_all := lw_g (lw_at lw_m1 150 rfl) rfl
theorem q452 : (Jvm.Cond.fieldLink "CircuitWarden$Tokens" (13 : Nat) "CircuitWarden$Tokens" "all" "[LCircuitWarden$Token;") ∈ lw_all := lw_g (lw_at lw_m1 163 rfl) rfl
theorem q453 : (Jvm.Cond.fieldLink "CircuitWarden$Tokens" (19 : Nat) "CircuitWarden$Tokens" "bytes" "LCircuitWarden$Bytes;") ∈ lw_all := lw_g (lw_at lw_m1 164 rfl) rfl
theorem q455 : (Jvm.Cond.fieldLink "CircuitWarden$Tokens" (23 : Nat) "CircuitWarden$Tokens" "end" "I") ∈ lw_all := lw_g (lw_at lw_m1 166 rfl) rfl
theorem q456 : (Jvm.Cond.fieldLink "CircuitWarden$Tokens" (27 : Nat) "CircuitWarden$Tokens" "at" "I") ∈ lw_all := lw_g (lw_at lw_m1 167 rfl) rfl
theorem q458 : (Jvm.Cond.fieldLink "CircuitWarden$Tokens" (52 : Nat) "CircuitWarden$Tokens" "token" "LCircuitWarden$Token;") ∈ lw_all := lw_g (lw_at lw_m1 169 rfl) rfl
theorem q460 : (Jvm.Cond.fieldLink "CircuitWarden$Tokens" (42 : Nat) "CircuitWarden$Tokens" "place" "I") ∈ lw_all := lw_g (lw_at lw_m1 171 rfl) rfl
theorem q461 : (Jvm.Cond.fieldLink "CircuitWarden$Tokens" (45 : Nat) "CircuitWarden$Tokens" "length" "I") ∈ lw_all := lw_g (lw_at lw_m1 172 rfl) rfl
theorem q463 : (Jvm.Cond.fieldLink "CircuitWarden$Tokens" (89 : Nat) "CircuitWarden$Tokens" "value" "I") ∈ lw_all := lw_g (lw_at lw_m1 174 rfl) rfl
theorem q465 : (Jvm.Cond.laysFinal "CircuitWarden$Tokens" "CircuitWarden$Tokens" "all" "[LCircuitWarden$Token;") ∈ lw_all := lw_g (lw_at lw_m1 176 rfl) rfl
theorem q466 : (Jvm.Cond.soleField "CircuitWarden$Tokens" "all") ∈ lw_all := lw_g (lw_at lw_m1 177 rfl) rfl
theorem q467 : (Jvm.Cond.lays "CircuitWarden$Tokens" "CircuitWarden$Tokens" "bytes" "LCircuitWarden$Bytes;") ∈ lw_all := lw_g (lw_at lw_m1 178 rfl) rfl
theorem q468 : (Jvm.Cond.soleField "CircuitWarden$Tokens" "bytes") ∈ lw_all := lw_g (lw_at lw_m1 179 rfl) rfl
theorem q469 : (Jvm.Cond.lays "CircuitWarden$Tokens" "CircuitWarden$Tokens" "end" "I") ∈ lw_all := lw_g (lw_at lw_m1 180 rfl) rfl
theorem q470 : (Jvm.Cond.soleField "CircuitWarden$Tokens" "end") ∈ lw_all := lw_g (lw_at lw_m1 181 rfl) rfl
theorem q471 : (Jvm.Cond.lays "CircuitWarden$Tokens" "CircuitWarden$Tokens" "at" "I") ∈ lw_all := lw_g (lw_at lw_m1 182 rfl) rfl
theorem q472 : (Jvm.Cond.soleField "CircuitWarden$Tokens" "at") ∈ lw_all := lw_g (lw_at lw_m1 183 rfl) rfl
theorem q473 : (Jvm.Cond.lays "CircuitWarden$Tokens" "CircuitWarden$Tokens" "token" "LCircuitWarden$Token;") ∈ lw_all := lw_g (lw_at lw_m1 184 rfl) rfl
theorem q474 : (Jvm.Cond.soleField "CircuitWarden$Tokens" "token") ∈ lw_all := lw_g (lw_at lw_m1 185 rfl) rfl
theorem q475 : (Jvm.Cond.lays "CircuitWarden$Tokens" "CircuitWarden$Tokens" "place" "I") ∈ lw_all := lw_g (lw_at lw_m1 186 rfl) rfl
theorem q476 : (Jvm.Cond.soleField "CircuitWarden$Tokens" "place") ∈ lw_all := lw_g (lw_at lw_m1 187 rfl) rfl
theorem q477 : (Jvm.Cond.lays "CircuitWarden$Tokens" "CircuitWarden$Tokens" "length" "I") ∈ lw_all := lw_g (lw_at lw_m1 188 rfl) rfl
theorem q478 : (Jvm.Cond.soleField "CircuitWarden$Tokens" "length") ∈ lw_all := lw_g (lw_at lw_m1 189 rfl) rfl
theorem q479 : (Jvm.Cond.lays "CircuitWarden$Tokens" "CircuitWarden$Tokens" "value" "I") ∈ lw_all := lw_g (lw_at lw_m1 190 rfl) rfl
theorem q480 : (Jvm.Cond.soleField "CircuitWarden$Tokens" "value") ∈ lw_all := lw_g (lw_at lw_m1 191 rfl) rfl
theorem q481 : (Jvm.Cond.superclass "CircuitWarden$Tokens" "java/lang/Object") ∈ lw_all := lw_g (lw_at lw_m1 192 rfl) rfl
theorem q1507 : (Jvm.Cond.instanceMethod ({ cls := "CircuitWarden$Tokens", name := "begin", desc := "(LCircuitWarden$Bytes;I)V" } : Jvm.MethodName)) ∈ lw_all := lw_g (lw_at lw_m6 18 rfl) rfl
theorem q1508 : (Jvm.Cond.selects "CircuitWarden$Tokens" ({ cls := "CircuitWarden$Tokens", name := "begin", desc := "(LCircuitWarden$Bytes;I)V" } : Jvm.MethodName) ({ cls := "CircuitWarden$Tokens", name := "begin", desc := "(LCircuitWarden$Bytes;I)V" } : Jvm.MethodName)) ∈ lw_all := lw_g (lw_at lw_m6 19 rfl) rfl
theorem q1509 : (Jvm.Cond.code ({ cls := "CircuitWarden$Tokens", name := "begin", desc := "(LCircuitWarden$Bytes;I)V" } : Jvm.MethodName) prog_14_method_2_code (3 : Nat) (Option.none : Option Jvm.ClassFile.FieldType)) ∈ lw_all := lw_g (lw_at lw_m6 20 rfl) rfl
theorem q1511 : (Jvm.Cond.instanceMethod ({ cls := "CircuitWarden$Tokens", name := "next", desc := "()V" } : Jvm.MethodName)) ∈ lw_all := lw_g (lw_at lw_m6 22 rfl) rfl
theorem q1512 : (Jvm.Cond.selects "CircuitWarden$Tokens" ({ cls := "CircuitWarden$Tokens", name := "next", desc := "()V" } : Jvm.MethodName) ({ cls := "CircuitWarden$Tokens", name := "next", desc := "()V" } : Jvm.MethodName)) ∈ lw_all := lw_g (lw_at lw_m6 23 rfl) rfl
theorem q1513 : (Jvm.Cond.code ({ cls := "CircuitWarden$Tokens", name := "next", desc := "()V" } : Jvm.MethodName) prog_14_method_7_code (2 : Nat) (Option.none : Option Jvm.ClassFile.FieldType)) ∈ lw_all := lw_g (lw_at lw_m6 24 rfl) rfl
theorem q1514 : (Jvm.Cond.methodLink "CircuitWarden$Tokens" (39 : Nat) ({ cls := "CircuitWarden$Tokens", name := "blanks", desc := "()V" } : Jvm.MethodName)) ∈ lw_all := lw_g (lw_at lw_m6 25 rfl) rfl
theorem q1515 : (Jvm.Cond.privateMethod ({ cls := "CircuitWarden$Tokens", name := "blanks", desc := "()V" } : Jvm.MethodName)) ∈ lw_tbl := lw_at lw_m6 26 rfl
theorem q1516 : (Jvm.Cond.instanceMethod ({ cls := "CircuitWarden$Tokens", name := "blanks", desc := "()V" } : Jvm.MethodName)) ∈ lw_all := lw_g (lw_at lw_m6 27 rfl) rfl
theorem q1517 : (Jvm.Cond.code ({ cls := "CircuitWarden$Tokens", name := "blanks", desc := "()V" } : Jvm.MethodName) prog_14_method_6_code (3 : Nat) (Option.none : Option Jvm.ClassFile.FieldType)) ∈ lw_all := lw_g (lw_at lw_m6 28 rfl) rfl
theorem q1518 : (Jvm.Cond.methodLink "CircuitWarden$Tokens" (36 : Nat) ({ cls := "CircuitWarden$Tokens", name := "look", desc := "(I)I" } : Jvm.MethodName)) ∈ lw_all := lw_g (lw_at lw_m6 29 rfl) rfl
theorem q1519 : (Jvm.Cond.privateMethod ({ cls := "CircuitWarden$Tokens", name := "look", desc := "(I)I" } : Jvm.MethodName)) ∈ lw_tbl := lw_at lw_m6 30 rfl
theorem q1520 : (Jvm.Cond.instanceMethod ({ cls := "CircuitWarden$Tokens", name := "look", desc := "(I)I" } : Jvm.MethodName)) ∈ lw_all := lw_g (lw_at lw_m6 31 rfl) rfl
theorem q1521 : (Jvm.Cond.code ({ cls := "CircuitWarden$Tokens", name := "look", desc := "(I)I" } : Jvm.MethodName) prog_14_method_3_code (2 : Nat) (Option.some Jvm.ClassFile.FieldType.int)) ∈ lw_all := lw_g (lw_at lw_m6 32 rfl) rfl
theorem q1522 : (Jvm.Cond.methodLink "CircuitWarden$Tokens" (30 : Nat) ({ cls := "CircuitWarden$Bytes", name := "get", desc := "(I)I" } : Jvm.MethodName)) ∈ lw_all := lw_g (lw_at lw_m6 33 rfl) rfl
theorem q1523 : (Jvm.Cond.fieldLink "CircuitWarden$Tokens" (48 : Nat) "CircuitWarden$Token" "END" "LCircuitWarden$Token;") ∈ lw_all := lw_g (lw_at lw_m6 34 rfl) rfl
theorem q1525 : (Jvm.Cond.methodLink "CircuitWarden$Tokens" (55 : Nat) ({ cls := "CircuitWarden$Tokens", name := "begins", desc := "(I)Z" } : Jvm.MethodName)) ∈ lw_all := lw_g (lw_at lw_m6 36 rfl) rfl
theorem q1526 : (Jvm.Cond.static ({ cls := "CircuitWarden$Tokens", name := "begins", desc := "(I)Z" } : Jvm.MethodName)) ∈ lw_all := lw_g (lw_at lw_m6 37 rfl) rfl
theorem q1527 : (Jvm.Cond.code ({ cls := "CircuitWarden$Tokens", name := "begins", desc := "(I)Z" } : Jvm.MethodName) prog_14_method_5_code (1 : Nat) (Option.some Jvm.ClassFile.FieldType.boolean)) ∈ lw_all := lw_g (lw_at lw_m6 38 rfl) rfl
theorem q1528 : (Jvm.Cond.methodLink "CircuitWarden$Tokens" (59 : Nat) ({ cls := "CircuitWarden$Tokens", name := "isDigit", desc := "(I)Z" } : Jvm.MethodName)) ∈ lw_all := lw_g (lw_at lw_m6 39 rfl) rfl
theorem q1529 : (Jvm.Cond.static ({ cls := "CircuitWarden$Tokens", name := "isDigit", desc := "(I)Z" } : Jvm.MethodName)) ∈ lw_all := lw_g (lw_at lw_m6 40 rfl) rfl
theorem q1530 : (Jvm.Cond.code ({ cls := "CircuitWarden$Tokens", name := "isDigit", desc := "(I)Z" } : Jvm.MethodName) prog_14_method_4_code (1 : Nat) (Option.some Jvm.ClassFile.FieldType.boolean)) ∈ lw_all := lw_g (lw_at lw_m6 41 rfl) rfl
theorem q1531 : (Jvm.Cond.fieldLink "CircuitWarden$Tokens" (62 : Nat) "CircuitWarden$Token" "LEVEL" "LCircuitWarden$Token;") ∈ lw_all := lw_g (lw_at lw_m6 42 rfl) rfl
theorem q1533 : (Jvm.Cond.methodLink "CircuitWarden$Tokens" (65 : Nat) ({ cls := "CircuitWarden$Tokens", name := "spelt", desc := "(LCircuitWarden$Token;)LCircuitWarden$Token;" } : Jvm.MethodName)) ∈ lw_all := lw_g (lw_at lw_m6 44 rfl) rfl
theorem q1534 : (Jvm.Cond.privateMethod ({ cls := "CircuitWarden$Tokens", name := "spelt", desc := "(LCircuitWarden$Token;)LCircuitWarden$Token;" } : Jvm.MethodName)) ∈ lw_tbl := lw_at lw_m6 45 rfl
theorem q1535 : (Jvm.Cond.instanceMethod ({ cls := "CircuitWarden$Tokens", name := "spelt", desc := "(LCircuitWarden$Token;)LCircuitWarden$Token;" } : Jvm.MethodName)) ∈ lw_all := lw_g (lw_at lw_m6 46 rfl) rfl
theorem q1536 : (Jvm.Cond.code ({ cls := "CircuitWarden$Tokens", name := "spelt", desc := "(LCircuitWarden$Token;)LCircuitWarden$Token;" } : Jvm.MethodName) prog_14_method_9_code (6 : Nat) (Option.some (Jvm.ClassFile.FieldType.object "CircuitWarden$Token"))) ∈ lw_all := lw_g (lw_at lw_m6 47 rfl) rfl
theorem q1537 : (Jvm.Cond.methodLink "CircuitWarden$Tokens" (95 : Nat) ({ cls := "CircuitWarden$Token", name := "ordinal", desc := "()I" } : Jvm.MethodName)) ∈ lw_all := lw_g (lw_at lw_m6 48 rfl) rfl
theorem q1543 : (Jvm.Cond.methodLink "CircuitWarden$Tokens" (103 : Nat) ({ cls := "java/lang/String", name := "length", desc := "()I" } : Jvm.MethodName)) ∈ lw_all := lw_g (lw_at lw_m6 54 rfl) rfl
theorem q1553 : (Jvm.Cond.methodLink "CircuitWarden$Tokens" (107 : Nat) ({ cls := "java/lang/String", name := "charAt", desc := "(I)C" } : Jvm.MethodName)) ∈ lw_all := lw_g (lw_at lw_m6 64 rfl) rfl
theorem q1591 : (Jvm.Cond.fieldLink "CircuitWarden$Tokens" (69 : Nat) "CircuitWarden$Token" "WRONG" "LCircuitWarden$Token;") ∈ lw_all := lw_g (lw_at lw_m6 102 rfl) rfl
theorem q1593 : (Jvm.Cond.fieldLink "CircuitWarden$Tokens" (72 : Nat) "CircuitWarden$Token" "NAME" "LCircuitWarden$Token;") ∈ lw_all := lw_g (lw_at lw_m6 104 rfl) rfl
theorem q1595 : (Jvm.Cond.methodLink "CircuitWarden$Tokens" (75 : Nat) ({ cls := "CircuitWarden$Tokens", name := "number", desc := "()V" } : Jvm.MethodName)) ∈ lw_all := lw_g (lw_at lw_m6 106 rfl) rfl
theorem q1596 : (Jvm.Cond.privateMethod ({ cls := "CircuitWarden$Tokens", name := "number", desc := "()V" } : Jvm.MethodName)) ∈ lw_tbl := lw_at lw_m6 107 rfl
theorem q1597 : (Jvm.Cond.instanceMethod ({ cls := "CircuitWarden$Tokens", name := "number", desc := "()V" } : Jvm.MethodName)) ∈ lw_all := lw_g (lw_at lw_m6 108 rfl) rfl
theorem q1598 : (Jvm.Cond.code ({ cls := "CircuitWarden$Tokens", name := "number", desc := "()V" } : Jvm.MethodName) prog_14_method_8_code (4 : Nat) (Option.none : Option Jvm.ClassFile.FieldType)) ∈ lw_all := lw_g (lw_at lw_m6 109 rfl) rfl
theorem q1599 : (Jvm.Cond.constantLong "CircuitWarden$Tokens" (81 : Nat) (4294967296 : Int64)) ∈ lw_all := lw_g (lw_at lw_m6 110 rfl) rfl
theorem q1600 : (Jvm.Cond.constantLong "CircuitWarden$Tokens" (83 : Nat) (10 : Int64)) ∈ lw_all := lw_g (lw_at lw_m6 111 rfl) rfl
theorem q1601 : (Jvm.Cond.constantLong "CircuitWarden$Tokens" (85 : Nat) (48 : Int64)) ∈ lw_all := lw_g (lw_at lw_m6 112 rfl) rfl
theorem q1602 : (Jvm.Cond.constantLong "CircuitWarden$Tokens" (87 : Nat) (2147483647 : Int64)) ∈ lw_all := lw_g (lw_at lw_m6 113 rfl) rfl
theorem q1603 : (Jvm.Cond.fieldLink "CircuitWarden$Tokens" (92 : Nat) "CircuitWarden$Token" "NUMBER" "LCircuitWarden$Token;") ∈ lw_all := lw_g (lw_at lw_m6 114 rfl) rfl
theorem q1605 : (Jvm.Cond.fieldLink "CircuitWarden$Tokens" (78 : Nat) "CircuitWarden$Token" "OPEN" "LCircuitWarden$Token;") ∈ lw_all := lw_g (lw_at lw_m6 116 rfl) rfl
theorem q3576 : (Jvm.Cond.fieldLinkNest "CircuitWarden$Tokens" (99 : Nat) "CircuitWarden$Token" "letters" "Ljava/lang/String;" "CircuitWarden") ∈ lw_tbl := lw_at lw_m14 167 rfl
theorem in_X5 : ∀ w ∈ wsX50, w ∈ lw_all := lw_in wsX50 [465, 467, 469, 471, 473, 475, 477, 479] (by decide +kernel) (by decide +kernel)
/-! CircuitWarden$Token -/
def RX6 : String := "CircuitWarden$Token"
abbrev cX6_values : ByteArray := prog_13_method_1_code
def yX6_values : MethodName := ⟨RX6, "values", "()[LCircuitWarden$Token;"⟩
theorem q298 : (Jvm.Cond.initialized "CircuitWarden$Token") ∈ lw_all := lw_g (lw_at lw_m1 9 rfl) rfl
theorem q440 : (Jvm.Cond.static ({ cls := "CircuitWarden$Token", name := "values", desc := "()[LCircuitWarden$Token;" } : Jvm.MethodName)) ∈ lw_all := lw_g (lw_at lw_m1 151 rfl) rfl
theorem q441 : (Jvm.Cond.code ({ cls := "CircuitWarden$Token", name := "values", desc := "()[LCircuitWarden$Token;" } : Jvm.MethodName) prog_13_method_1_code (0 : Nat) (Option.some (Jvm.ClassFile.FieldType.array (Jvm.ClassFile.FieldType.object "CircuitWarden$Token")))) ∈ lw_all := lw_g (lw_at lw_m1 152 rfl) rfl
theorem q442 : (Jvm.Cond.fieldLink "CircuitWarden$Token" (160 : Nat) "CircuitWarden$Token" "$VALUES" "[LCircuitWarden$Token;") ∈ lw_all := lw_g (lw_at lw_m1 153 rfl) rfl
theorem q443 : (Jvm.Cond.laysStatic "CircuitWarden$Token" "$VALUES" "[LCircuitWarden$Token;") ∈ lw_tbl := lw_at lw_m1 154 rfl
theorem q444 : (Jvm.Cond.methodLink "CircuitWarden$Token" (164 : Nat) ({ cls := "[LCircuitWarden$Token;", name := "clone", desc := "()Ljava/lang/Object;" } : Jvm.MethodName)) ∈ lw_all := lw_g (lw_at lw_m1 155 rfl) rfl
theorem q451 : (Jvm.Cond.classLink "CircuitWarden$Token" (165 : Nat) "[LCircuitWarden$Token;") ∈ lw_all := lw_g (lw_at lw_m1 162 rfl) rfl
theorem q1524 : (Jvm.Cond.laysStatic "CircuitWarden$Token" "END" "LCircuitWarden$Token;") ∈ lw_tbl := lw_at lw_m6 35 rfl
theorem q1532 : (Jvm.Cond.laysStatic "CircuitWarden$Token" "LEVEL" "LCircuitWarden$Token;") ∈ lw_tbl := lw_at lw_m6 43 rfl
theorem q1538 : (Jvm.Cond.sameMethod "CircuitWarden$Token" "java/lang/Enum" "ordinal" "()I") ∈ lw_all := lw_g (lw_at lw_m6 49 rfl) rfl
theorem q1540 : (Jvm.Cond.selects "CircuitWarden$Token" ({ cls := "CircuitWarden$Token", name := "ordinal", desc := "()I" } : Jvm.MethodName) ({ cls := "java/lang/Enum", name := "ordinal", desc := "()I" } : Jvm.MethodName)) ∈ lw_all := lw_g (lw_at lw_m6 51 rfl) rfl
theorem q1592 : (Jvm.Cond.laysStatic "CircuitWarden$Token" "WRONG" "LCircuitWarden$Token;") ∈ lw_tbl := lw_at lw_m6 103 rfl
theorem q1594 : (Jvm.Cond.laysStatic "CircuitWarden$Token" "NAME" "LCircuitWarden$Token;") ∈ lw_tbl := lw_at lw_m6 105 rfl
theorem q1604 : (Jvm.Cond.laysStatic "CircuitWarden$Token" "NUMBER" "LCircuitWarden$Token;") ∈ lw_tbl := lw_at lw_m6 115 rfl
theorem q1606 : (Jvm.Cond.laysStatic "CircuitWarden$Token" "OPEN" "LCircuitWarden$Token;") ∈ lw_tbl := lw_at lw_m6 117 rfl
theorem q1615 : (Jvm.Cond.laysStatic "CircuitWarden$Token" "MODE" "LCircuitWarden$Token;") ∈ lw_tbl := lw_at lw_m6 126 rfl
theorem q1706 : (Jvm.Cond.laysStatic "CircuitWarden$Token" "MORE" "LCircuitWarden$Token;") ∈ lw_tbl := lw_at lw_m6 217 rfl
theorem q1712 : (Jvm.Cond.laysStatic "CircuitWarden$Token" "COMMA" "LCircuitWarden$Token;") ∈ lw_tbl := lw_at lw_m6 223 rfl
theorem q1718 : (Jvm.Cond.laysStatic "CircuitWarden$Token" "STOP" "LCircuitWarden$Token;") ∈ lw_tbl := lw_at lw_m6 229 rfl
theorem q1724 : (Jvm.Cond.laysStatic "CircuitWarden$Token" "BECOMES" "LCircuitWarden$Token;") ∈ lw_tbl := lw_at lw_m6 235 rfl
theorem q1748 : (Jvm.Cond.laysStatic "CircuitWarden$Token" "CLOSE" "LCircuitWarden$Token;") ∈ lw_tbl := lw_at lw_m7 19 rfl
theorem q1762 : (Jvm.Cond.laysStatic "CircuitWarden$Token" "ASK" "LCircuitWarden$Token;") ∈ lw_tbl := lw_at lw_m7 33 rfl
theorem q1768 : (Jvm.Cond.laysStatic "CircuitWarden$Token" "COLON" "LCircuitWarden$Token;") ∈ lw_tbl := lw_at lw_m7 39 rfl
theorem q1770 : (Jvm.Cond.laysStatic "CircuitWarden$Token" "FINISH" "LCircuitWarden$Token;") ∈ lw_tbl := lw_at lw_m7 41 rfl
theorem q1784 : (Jvm.Cond.laysStatic "CircuitWarden$Token" "FROM" "LCircuitWarden$Token;") ∈ lw_tbl := lw_at lw_m7 55 rfl
theorem q1790 : (Jvm.Cond.laysStatic "CircuitWarden$Token" "TO" "LCircuitWarden$Token;") ∈ lw_tbl := lw_at lw_m7 61 rfl
theorem q1796 : (Jvm.Cond.laysStatic "CircuitWarden$Token" "NUM" "LCircuitWarden$Token;") ∈ lw_tbl := lw_at lw_m7 67 rfl
theorem q1802 : (Jvm.Cond.laysStatic "CircuitWarden$Token" "OR" "LCircuitWarden$Token;") ∈ lw_tbl := lw_at lw_m7 73 rfl
theorem q1818 : (Jvm.Cond.laysStatic "CircuitWarden$Token" "BEGIN" "LCircuitWarden$Token;") ∈ lw_tbl := lw_at lw_m7 89 rfl
theorem q1824 : (Jvm.Cond.laysStatic "CircuitWarden$Token" "MOST" "LCircuitWarden$Token;") ∈ lw_tbl := lw_at lw_m7 95 rfl
theorem q1830 : (Jvm.Cond.laysStatic "CircuitWarden$Token" "ELSE" "LCircuitWarden$Token;") ∈ lw_tbl := lw_at lw_m7 101 rfl
theorem q1836 : (Jvm.Cond.laysStatic "CircuitWarden$Token" "DEFAULT" "LCircuitWarden$Token;") ∈ lw_tbl := lw_at lw_m7 107 rfl
theorem q1846 : (Jvm.Cond.laysStatic "CircuitWarden$Token" "IF" "LCircuitWarden$Token;") ∈ lw_tbl := lw_at lw_m7 117 rfl
theorem q1848 : (Jvm.Cond.laysStatic "CircuitWarden$Token" "SAME" "LCircuitWarden$Token;") ∈ lw_tbl := lw_at lw_m7 119 rfl
theorem q3579 : (Jvm.Cond.laysStatic "CircuitWarden$Token" "FLIP" "LCircuitWarden$Token;") ∈ lw_tbl := lw_at lw_m14 170 rfl
theorem q3580 : (Jvm.Cond.laysStatic "CircuitWarden$Token" "NOT" "LCircuitWarden$Token;") ∈ lw_tbl := lw_at lw_m14 171 rfl
theorem q3581 : (Jvm.Cond.laysStatic "CircuitWarden$Token" "XOR" "LCircuitWarden$Token;") ∈ lw_tbl := lw_at lw_m14 172 rfl
theorem q3582 : (Jvm.Cond.laysStatic "CircuitWarden$Token" "AND" "LCircuitWarden$Token;") ∈ lw_tbl := lw_at lw_m14 173 rfl
theorem q3583 : (Jvm.Cond.laysStatic "CircuitWarden$Token" "OTHER" "LCircuitWarden$Token;") ∈ lw_tbl := lw_at lw_m14 174 rfl
theorem q3584 : (Jvm.Cond.laysStatic "CircuitWarden$Token" "LESS" "LCircuitWarden$Token;") ∈ lw_tbl := lw_at lw_m14 175 rfl
theorem q3585 : (Jvm.Cond.laysStatic "CircuitWarden$Token" "LEAST" "LCircuitWarden$Token;") ∈ lw_tbl := lw_at lw_m14 176 rfl
theorem q3586 : (Jvm.Cond.laysStatic "CircuitWarden$Token" "LEFT" "LCircuitWarden$Token;") ∈ lw_tbl := lw_at lw_m14 177 rfl
theorem q3587 : (Jvm.Cond.laysStatic "CircuitWarden$Token" "RIGHT" "LCircuitWarden$Token;") ∈ lw_tbl := lw_at lw_m14 178 rfl
theorem q3588 : (Jvm.Cond.laysStatic "CircuitWarden$Token" "PLUS" "LCircuitWarden$Token;") ∈ lw_tbl := lw_at lw_m14 179 rfl
theorem q3589 : (Jvm.Cond.laysStatic "CircuitWarden$Token" "MINUS" "LCircuitWarden$Token;") ∈ lw_tbl := lw_at lw_m14 180 rfl
theorem q3590 : (Jvm.Cond.laysStatic "CircuitWarden$Token" "TIMES" "LCircuitWarden$Token;") ∈ lw_tbl := lw_at lw_m14 181 rfl
theorem q3591 : (Jvm.Cond.laysStatic "CircuitWarden$Token" "OVER" "LCircuitWarden$Token;") ∈ lw_tbl := lw_at lw_m14 182 rfl
theorem q3592 : (Jvm.Cond.laysStatic "CircuitWarden$Token" "REST" "LCircuitWarden$Token;") ∈ lw_tbl := lw_at lw_m14 183 rfl
theorem q3593 : (Jvm.Cond.laysStatic "CircuitWarden$Token" "CONST" "LCircuitWarden$Token;") ∈ lw_tbl := lw_at lw_m14 184 rfl
theorem q3594 : (Jvm.Cond.laysStatic "CircuitWarden$Token" "FUN" "LCircuitWarden$Token;") ∈ lw_tbl := lw_at lw_m14 185 rfl
theorem q3595 : (Jvm.Cond.laysStatic "CircuitWarden$Token" "IN" "LCircuitWarden$Token;") ∈ lw_tbl := lw_at lw_m14 186 rfl
theorem q3596 : (Jvm.Cond.laysStatic "CircuitWarden$Token" "REG" "LCircuitWarden$Token;") ∈ lw_tbl := lw_at lw_m14 187 rfl
theorem q3597 : (Jvm.Cond.laysStatic "CircuitWarden$Token" "WIRE" "LCircuitWarden$Token;") ∈ lw_tbl := lw_at lw_m14 188 rfl
theorem q3598 : (Jvm.Cond.laysStatic "CircuitWarden$Token" "OUT" "LCircuitWarden$Token;") ∈ lw_tbl := lw_at lw_m14 189 rfl
theorem q3599 : (Jvm.Cond.laysStatic "CircuitWarden$Token" "NEXT" "LCircuitWarden$Token;") ∈ lw_tbl := lw_at lw_m14 190 rfl
theorem q3600 : (Jvm.Cond.laysStatic "CircuitWarden$Token" "CASE" "LCircuitWarden$Token;") ∈ lw_tbl := lw_at lw_m14 191 rfl
theorem q3601 : (Jvm.Cond.laysStatic "CircuitWarden$Token" "ZEXT" "LCircuitWarden$Token;") ∈ lw_tbl := lw_at lw_m14 192 rfl
theorem q3602 : (Jvm.Cond.laysStatic "CircuitWarden$Token" "SEXT" "LCircuitWarden$Token;") ∈ lw_tbl := lw_at lw_m14 193 rfl
theorem q3603 : (Jvm.Cond.laysStatic "CircuitWarden$Token" "ANY" "LCircuitWarden$Token;") ∈ lw_tbl := lw_at lw_m14 194 rfl
theorem q3604 : (Jvm.Cond.laysStatic "CircuitWarden$Token" "ALL" "LCircuitWarden$Token;") ∈ lw_tbl := lw_at lw_m14 195 rfl
theorem q3605 : (Jvm.Cond.laysStatic "CircuitWarden$Token" "ODD" "LCircuitWarden$Token;") ∈ lw_tbl := lw_at lw_m14 196 rfl
theorem q3606 : (Jvm.Cond.stringRef "CircuitWarden$Token" (179 : Nat) "") ∈ lw_tbl := lw_at lw_m14 197 rfl
theorem q3607 : (Jvm.Cond.stringRef "CircuitWarden$Token" (281 : Nat) "level") ∈ lw_tbl := lw_at lw_m14 198 rfl
theorem q3608 : (Jvm.Cond.stringRef "CircuitWarden$Token" (191 : Nat) "(") ∈ lw_tbl := lw_at lw_m14 199 rfl
theorem q3609 : (Jvm.Cond.stringRef "CircuitWarden$Token" (290 : Nat) "mode") ∈ lw_tbl := lw_at lw_m14 200 rfl
theorem q3610 : (Jvm.Cond.stringRef "CircuitWarden$Token" (254 : Nat) ">") ∈ lw_tbl := lw_at lw_m14 201 rfl
theorem q3611 : (Jvm.Cond.stringRef "CircuitWarden$Token" (212 : Nat) ",") ∈ lw_tbl := lw_at lw_m14 202 rfl
theorem q3612 : (Jvm.Cond.stringRef "CircuitWarden$Token" (215 : Nat) ";") ∈ lw_tbl := lw_at lw_m14 203 rfl
theorem q3613 : (Jvm.Cond.stringRef "CircuitWarden$Token" (224 : Nat) "=") ∈ lw_tbl := lw_at lw_m14 204 rfl
theorem q3614 : (Jvm.Cond.stringRef "CircuitWarden$Token" (197 : Nat) ")") ∈ lw_tbl := lw_at lw_m14 205 rfl
theorem q3615 : (Jvm.Cond.stringRef "CircuitWarden$Token" (221 : Nat) "?") ∈ lw_tbl := lw_at lw_m14 206 rfl
theorem q3616 : (Jvm.Cond.stringRef "CircuitWarden$Token" (218 : Nat) ":") ∈ lw_tbl := lw_at lw_m14 207 rfl
theorem q3617 : (Jvm.Cond.stringRef "CircuitWarden$Token" (203 : Nat) "}") ∈ lw_tbl := lw_at lw_m14 208 rfl
theorem q3618 : (Jvm.Cond.stringRef "CircuitWarden$Token" (206 : Nat) "[") ∈ lw_tbl := lw_at lw_m14 209 rfl
theorem q3619 : (Jvm.Cond.stringRef "CircuitWarden$Token" (209 : Nat) "]") ∈ lw_tbl := lw_at lw_m14 210 rfl
theorem q3620 : (Jvm.Cond.stringRef "CircuitWarden$Token" (320 : Nat) "num") ∈ lw_tbl := lw_at lw_m14 211 rfl
theorem q3621 : (Jvm.Cond.stringRef "CircuitWarden$Token" (233 : Nat) "|") ∈ lw_tbl := lw_at lw_m14 212 rfl
theorem q3622 : (Jvm.Cond.stringRef "CircuitWarden$Token" (200 : Nat) "{") ∈ lw_tbl := lw_at lw_m14 213 rfl
theorem q3623 : (Jvm.Cond.stringRef "CircuitWarden$Token" (251 : Nat) "<=") ∈ lw_tbl := lw_at lw_m14 214 rfl
theorem q3624 : (Jvm.Cond.stringRef "CircuitWarden$Token" (311 : Nat) "else") ∈ lw_tbl := lw_at lw_m14 215 rfl
theorem q3625 : (Jvm.Cond.stringRef "CircuitWarden$Token" (317 : Nat) "default") ∈ lw_tbl := lw_at lw_m14 216 rfl
theorem q3626 : (Jvm.Cond.stringRef "CircuitWarden$Token" (308 : Nat) "if") ∈ lw_tbl := lw_at lw_m14 217 rfl
theorem q3627 : (Jvm.Cond.stringRef "CircuitWarden$Token" (242 : Nat) "==") ∈ lw_tbl := lw_at lw_m14 218 rfl
theorem q3628 : (Jvm.Cond.stringRef "CircuitWarden$Token" (227 : Nat) "~") ∈ lw_tbl := lw_at lw_m14 219 rfl
theorem q3629 : (Jvm.Cond.stringRef "CircuitWarden$Token" (230 : Nat) "!") ∈ lw_tbl := lw_at lw_m14 220 rfl
theorem q3630 : (Jvm.Cond.stringRef "CircuitWarden$Token" (236 : Nat) "^") ∈ lw_tbl := lw_at lw_m14 221 rfl
theorem q3631 : (Jvm.Cond.stringRef "CircuitWarden$Token" (239 : Nat) "&") ∈ lw_tbl := lw_at lw_m14 222 rfl
theorem q3632 : (Jvm.Cond.stringRef "CircuitWarden$Token" (245 : Nat) "!=") ∈ lw_tbl := lw_at lw_m14 223 rfl
theorem q3633 : (Jvm.Cond.stringRef "CircuitWarden$Token" (248 : Nat) "<") ∈ lw_tbl := lw_at lw_m14 224 rfl
theorem q3634 : (Jvm.Cond.stringRef "CircuitWarden$Token" (257 : Nat) ">=") ∈ lw_tbl := lw_at lw_m14 225 rfl
theorem q3635 : (Jvm.Cond.stringRef "CircuitWarden$Token" (260 : Nat) "<<") ∈ lw_tbl := lw_at lw_m14 226 rfl
theorem q3636 : (Jvm.Cond.stringRef "CircuitWarden$Token" (263 : Nat) ">>") ∈ lw_tbl := lw_at lw_m14 227 rfl
theorem q3637 : (Jvm.Cond.stringRef "CircuitWarden$Token" (266 : Nat) "+") ∈ lw_tbl := lw_at lw_m14 228 rfl
theorem q3638 : (Jvm.Cond.stringRef "CircuitWarden$Token" (269 : Nat) "-") ∈ lw_tbl := lw_at lw_m14 229 rfl
theorem q3639 : (Jvm.Cond.stringRef "CircuitWarden$Token" (272 : Nat) "*") ∈ lw_tbl := lw_at lw_m14 230 rfl
theorem q3640 : (Jvm.Cond.stringRef "CircuitWarden$Token" (275 : Nat) "/") ∈ lw_tbl := lw_at lw_m14 231 rfl
theorem q3641 : (Jvm.Cond.stringRef "CircuitWarden$Token" (278 : Nat) "%") ∈ lw_tbl := lw_at lw_m14 232 rfl
theorem q3642 : (Jvm.Cond.stringRef "CircuitWarden$Token" (284 : Nat) "const") ∈ lw_tbl := lw_at lw_m14 233 rfl
theorem q3643 : (Jvm.Cond.stringRef "CircuitWarden$Token" (287 : Nat) "fun") ∈ lw_tbl := lw_at lw_m14 234 rfl
theorem q3644 : (Jvm.Cond.stringRef "CircuitWarden$Token" (293 : Nat) "in") ∈ lw_tbl := lw_at lw_m14 235 rfl
theorem q3645 : (Jvm.Cond.stringRef "CircuitWarden$Token" (296 : Nat) "reg") ∈ lw_tbl := lw_at lw_m14 236 rfl
theorem q3646 : (Jvm.Cond.stringRef "CircuitWarden$Token" (299 : Nat) "wire") ∈ lw_tbl := lw_at lw_m14 237 rfl
theorem q3647 : (Jvm.Cond.stringRef "CircuitWarden$Token" (302 : Nat) "out") ∈ lw_tbl := lw_at lw_m14 238 rfl
theorem q3648 : (Jvm.Cond.stringRef "CircuitWarden$Token" (305 : Nat) "next") ∈ lw_tbl := lw_at lw_m14 239 rfl
theorem q3649 : (Jvm.Cond.stringRef "CircuitWarden$Token" (314 : Nat) "case") ∈ lw_tbl := lw_at lw_m15 0 rfl
theorem q3650 : (Jvm.Cond.stringRef "CircuitWarden$Token" (323 : Nat) "zext") ∈ lw_tbl := lw_at lw_m15 1 rfl
theorem q3651 : (Jvm.Cond.stringRef "CircuitWarden$Token" (326 : Nat) "sext") ∈ lw_tbl := lw_at lw_m15 2 rfl
theorem q3652 : (Jvm.Cond.stringRef "CircuitWarden$Token" (329 : Nat) "any") ∈ lw_tbl := lw_at lw_m15 3 rfl
theorem q3653 : (Jvm.Cond.stringRef "CircuitWarden$Token" (332 : Nat) "all") ∈ lw_tbl := lw_at lw_m15 4 rfl
theorem q3654 : (Jvm.Cond.stringRef "CircuitWarden$Token" (335 : Nat) "odd") ∈ lw_tbl := lw_at lw_m15 5 rfl
/-! CircuitWarden$Design -/
def RX7 : String := "CircuitWarden$Design"
def TX7 : u_T := fun k => match k with
  | 0 => ("CircuitWarden$Design", "names", "LCircuitWarden$Names;", true)
  | 1 => ("CircuitWarden$Design", "tree", "LCircuitWarden$Tree;", false)
  | 2 => ("CircuitWarden$Design", "op", "[I", false)
  | 3 => ("CircuitWarden$Design", "width", "[I", false)
  | 4 => ("CircuitWarden$Design", "a", "[I", false)
  | 5 => ("CircuitWarden$Design", "b", "[I", false)
  | 6 => ("CircuitWarden$Design", "c", "[I", false)
  | 7 => ("CircuitWarden$Design", "looks", "I", false)
  | 8 => ("CircuitWarden$Design", "counted", "I", false)
  | 9 => ("CircuitWarden$Design", "kinds", "[I", false)
  | 10 => ("CircuitWarden$Design", "widths", "[I", false)
  | 11 => ("CircuitWarden$Design", "inits", "[I", false)
  | 12 => ("CircuitWarden$Design", "nodes", "[I", false)
  | 13 => ("CircuitWarden$Design", "labels", "[I", false)
  | 14 => ("CircuitWarden$Design", "roots", "[I", false)
  | 15 => ("CircuitWarden$Design", "froms", "[I", false)
  | 16 => ("CircuitWarden$Design", "tos", "[I", false)
  | 17 => ("CircuitWarden$Design", "signals", "I", false)
  | 18 => ("CircuitWarden$Design", "many", "[I", true)
  | 19 => ("CircuitWarden$Design", "modeBits", "I", false)
  | 20 => ("CircuitWarden$Design", "means", "[I", false)
  | 21 => ("CircuitWarden$Design", "sums", "[I", false)
  | 22 => ("CircuitWarden$Design", "steps", "[I", false)
  | 23 => ("CircuitWarden$Design", "stepSignals", "[I", false)
  | 24 => ("CircuitWarden$Design", "stepRoots", "[I", false)
  | 25 => ("CircuitWarden$Design", "stepFroms", "[I", false)
  | 26 => ("CircuitWarden$Design", "stepTos", "[I", false)
  | 27 => ("CircuitWarden$Design", "stepEnds", "[I", false)
  | 28 => ("CircuitWarden$Design", "stepSeconds", "[I", false)
  | 29 => ("CircuitWarden$Design", "stepCount", "I", false)
  | 30 => ("CircuitWarden$Design", "levelNodes", "[I", true)
  | 31 => ("CircuitWarden$Design", "levels", "I", false)
  | 32 => ("CircuitWarden$Design", "higher", "[I", false)
  | 33 => ("CircuitWarden$Design", "lower", "[I", false)
  | 34 => ("CircuitWarden$Design", "edges", "I", false)
  | 35 => ("CircuitWarden$Design", "wrong", "I", false)
  | 36 => ("CircuitWarden$Design", "place", "I", false)
  | 37 => ("CircuitWarden$Design", "sorts", "[I", false)
  | 38 => ("CircuitWarden$Design", "values", "[I", false)
  | 39 => ("CircuitWarden$Design", "orders", "[I", false)
  | 40 => ("CircuitWarden$Design", "item", "I", false)
  | 41 => ("CircuitWarden$Design", "nextAt", "I", false)
  | 42 => ("CircuitWarden$Design", "constBase", "[I", false)
  | 43 => ("CircuitWarden$Design", "givenBase", "[I", false)
  | 44 => ("CircuitWarden$Design", "limits", "[I", false)
  | 45 => ("CircuitWarden$Design", "funs", "[I", false)
  | 46 => ("CircuitWarden$Design", "open", "I", false)
  | 47 => ("CircuitWarden$Design", "consts", "[I", false)
  | 48 => ("CircuitWarden$Design", "constTop", "I", false)
  | 49 => ("CircuitWarden$Design", "given", "[I", false)
  | _ => ("CircuitWarden$Design", "givenTop", "I", false)
def tyX7 : Nat → FieldType := fun k => match k with
  | 0 => .object "CircuitWarden$Names"
  | 1 => .object "CircuitWarden$Tree"
  | 2 => .array .int
  | 3 => .array .int
  | 4 => .array .int
  | 5 => .array .int
  | 6 => .array .int
  | 7 => .int
  | 8 => .int
  | 9 => .array .int
  | 10 => .array .int
  | 11 => .array .int
  | 12 => .array .int
  | 13 => .array .int
  | 14 => .array .int
  | 15 => .array .int
  | 16 => .array .int
  | 17 => .int
  | 18 => .array .int
  | 19 => .int
  | 20 => .array .int
  | 21 => .array .int
  | 22 => .array .int
  | 23 => .array .int
  | 24 => .array .int
  | 25 => .array .int
  | 26 => .array .int
  | 27 => .array .int
  | 28 => .array .int
  | 29 => .int
  | 30 => .array .int
  | 31 => .int
  | 32 => .array .int
  | 33 => .array .int
  | 34 => .int
  | 35 => .int
  | 36 => .int
  | 37 => .array .int
  | 38 => .array .int
  | 39 => .array .int
  | 40 => .int
  | 41 => .int
  | 42 => .array .int
  | 43 => .array .int
  | 44 => .array .int
  | 45 => .array .int
  | 46 => .int
  | 47 => .array .int
  | 48 => .int
  | 49 => .array .int
  | _ => .int
abbrev wsX70 : List Cond := u_ws RX7 TX7 51
theorem nmX7 : ∀ a, a < 51 → ∀ b, b < 51 → a ≠ b → (TX7 a).2.1 ≠ (TX7 b).2.1 := by decide +kernel
theorem tyX7_ok : ∀ k, k < 51 → parseFieldDescriptor (TX7 k).2.2.1 = some (tyX7 k) := by decide +kernel
abbrev cX7_init : ByteArray := prog_4_method_1_code
def yX7_init : MethodName := ⟨RX7, "<init>", "(LCircuitWarden$Names;)V"⟩
abbrev cX7_none : ByteArray := prog_4_method_39_code
def yX7_none : MethodName := ⟨RX7, "none", "()V"⟩
abbrev cX7_lay : ByteArray := prog_4_method_40_code
def yX7_lay : MethodName := ⟨RX7, "lay", "(LCircuitWarden$Tree;)Z"⟩
abbrev cX7_items : ByteArray := prog_4_method_38_code
def yX7_items : MethodName := ⟨RX7, "items", "()V"⟩
abbrev cX7_level : ByteArray := prog_4_method_29_code
def yX7_level : MethodName := ⟨RX7, "level", "(I)V"⟩
abbrev cX7_fresh : ByteArray := prog_4_method_8_code
def yX7_fresh : MethodName := ⟨RX7, "fresh", "(I)V"⟩
abbrev cX7_nameOf : ByteArray := prog_4_method_5_code
def yX7_nameOf : MethodName := ⟨RX7, "nameOf", "(I)I"⟩
abbrev cX7_want : ByteArray := prog_4_method_3_code
def yX7_want : MethodName := ⟨RX7, "want", "(ZII)V"⟩
abbrev cX7_fail : ByteArray := prog_4_method_2_code
def yX7_fail : MethodName := ⟨RX7, "fail", "(II)V"⟩
abbrev cX7_after : ByteArray := prog_4_method_4_code
def yX7_after : MethodName := ⟨RX7, "after", "(I)I"⟩
abbrev cX7_meant : ByteArray := prog_4_method_7_code
def yX7_meant : MethodName := ⟨RX7, "meant", "(II)I"⟩
abbrev cX7_sortOf : ByteArray := prog_4_method_6_code
def yX7_sortOf : MethodName := ⟨RX7, "sortOf", "(I)I"⟩
abbrev cX7_define : ByteArray := prog_4_method_9_code
def yX7_define : MethodName := ⟨RX7, "define", "(III)V"⟩
abbrev cX7_sum : ByteArray := prog_4_method_12_code
def yX7_sum : MethodName := ⟨RX7, "sum", "(I)I"⟩
abbrev cX7_constant : ByteArray := prog_4_method_10_code
def yX7_constant : MethodName := ⟨RX7, "constant", "(I)I"⟩
abbrev cX7_parameter : ByteArray := prog_4_method_11_code
def yX7_parameter : MethodName := ⟨RX7, "parameter", "(I)I"⟩
abbrev cX7_reckoned : ByteArray := prog_4_method_13_code
def yX7_reckoned : MethodName := ⟨RX7, "reckoned", "(IJJI)I"⟩
abbrev cX7_function : ByteArray := prog_4_method_30_code
def yX7_function : MethodName := ⟨RX7, "function", "(I)V"⟩
abbrev cX7_alone : ByteArray := prog_4_method_31_code
def yX7_alone : MethodName := ⟨RX7, "alone", "(III)V"⟩
abbrev cX7_block : ByteArray := prog_4_method_35_code
def yX7_block : MethodName := ⟨RX7, "block", "(I)V"⟩
abbrev cX7_statement : ByteArray := prog_4_method_36_code
def yX7_statement : MethodName := ⟨RX7, "statement", "(I)V"⟩
abbrev cX7_expr : ByteArray := prog_4_method_19_code
def yX7_expr : MethodName := ⟨RX7, "expr", "(II)I"⟩
abbrev cX7_signal : ByteArray := prog_4_method_18_code
def yX7_signal : MethodName := ⟨RX7, "signal", "(I)I"⟩
abbrev cX7_lay_2 : ByteArray := prog_4_method_16_code
def yX7_lay_2 : MethodName := ⟨RX7, "lay", "(IIIII)I"⟩
abbrev cX7_chain : ByteArray := prog_4_method_23_code
def yX7_chain : MethodName := ⟨RX7, "chain", "(II)I"⟩
abbrev cX7_count : ByteArray := prog_4_method_17_code
def yX7_count : MethodName := ⟨RX7, "count", "(II)V"⟩
abbrev cX7_choose : ByteArray := prog_4_method_24_code
def yX7_choose : MethodName := ⟨RX7, "choose", "(II)I"⟩
abbrev cX7_bits : ByteArray := prog_4_method_20_code
def yX7_bits : MethodName := ⟨RX7, "bits", "(I)I"⟩
abbrev cX7_call : ByteArray := prog_4_method_25_code
def yX7_call : MethodName := ⟨RX7, "call", "(II)I"⟩
abbrev cX7_give : ByteArray := prog_4_method_22_code
def yX7_give : MethodName := ⟨RX7, "give", "(I)V"⟩
abbrev cX7_enter : ByteArray := prog_4_method_26_code
def yX7_enter : MethodName := ⟨RX7, "enter", "(III)V"⟩
abbrev cX7_body : ByteArray := prog_4_method_27_code
def yX7_body : MethodName := ⟨RX7, "body", "(IIII)I"⟩
abbrev cX7_widthOf : ByteArray := prog_4_method_14_code
def yX7_widthOf : MethodName := ⟨RX7, "widthOf", "(I)I"⟩
abbrev cX7_row : ByteArray := prog_4_method_21_code
def yX7_row : MethodName := ⟨RX7, "row", "(II)I"⟩
abbrev cX7_valueOf : ByteArray := prog_4_method_15_code
def yX7_valueOf : MethodName := ⟨RX7, "valueOf", "(II)I"⟩
abbrev cX7_step : ByteArray := prog_4_method_34_code
def yX7_step : MethodName := ⟨RX7, "step", "(IIII)I"⟩
abbrev cX7_cases : ByteArray := prog_4_method_37_code
def yX7_cases : MethodName := ⟨RX7, "cases", "(III)V"⟩
abbrev cX7_signalItem : ByteArray := prog_4_method_32_code
def yX7_signalItem : MethodName := ⟨RX7, "signalItem", "(I)V"⟩
abbrev cX7_label : ByteArray := prog_4_method_28_code
def yX7_label : MethodName := ⟨RX7, "label", "(I)V"⟩
abbrev cX7_add : ByteArray := prog_4_method_33_code
def yX7_add : MethodName := ⟨RX7, "add", "(IIIIIII)V"⟩
theorem q299 : (Jvm.Cond.initialized "CircuitWarden$Design") ∈ lw_all := lw_g (lw_at lw_m1 10 rfl) rfl
theorem q360 : (Jvm.Cond.fieldLinkNest "CircuitWarden$Design" (322 : Nat) "CircuitWarden$Names" "count" "I" "CircuitWarden") ∈ lw_tbl := lw_at lw_m1 71 rfl
theorem q403 : (Jvm.Cond.fieldLinkNest "CircuitWarden$Design" (172 : Nat) "CircuitWarden$Tree" "kinds" "[B" "CircuitWarden") ∈ lw_tbl := lw_at lw_m1 114 rfl
theorem q406 : (Jvm.Cond.fieldLinkNest "CircuitWarden$Design" (159 : Nat) "CircuitWarden$Tree" "places" "[I" "CircuitWarden") ∈ lw_tbl := lw_at lw_m1 117 rfl
theorem q409 : (Jvm.Cond.fieldLinkNest "CircuitWarden$Design" (148 : Nat) "CircuitWarden$Tree" "values" "[I" "CircuitWarden") ∈ lw_tbl := lw_at lw_m1 120 rfl
theorem q411 : (Jvm.Cond.fieldLinkNest "CircuitWarden$Design" (143 : Nat) "CircuitWarden$Tree" "sizes" "[I" "CircuitWarden") ∈ lw_tbl := lw_at lw_m1 122 rfl
theorem q415 : (Jvm.Cond.fieldLinkNest "CircuitWarden$Design" (305 : Nat) "CircuitWarden$Tree" "count" "I" "CircuitWarden") ∈ lw_tbl := lw_at lw_m1 126 rfl
theorem q499 : (Jvm.Cond.instantiable "CircuitWarden$Design" (51 : Nat)) ∈ lw_all := lw_g (lw_at lw_m1 210 rfl) rfl
theorem q501 : (Jvm.Cond.instanceMethod ({ cls := "CircuitWarden$Design", name := "<init>", desc := "(LCircuitWarden$Names;)V" } : Jvm.MethodName)) ∈ lw_all := lw_g (lw_at lw_m1 212 rfl) rfl
theorem q502 : (Jvm.Cond.code ({ cls := "CircuitWarden$Design", name := "<init>", desc := "(LCircuitWarden$Names;)V" } : Jvm.MethodName) prog_4_method_1_code (2 : Nat) (Option.none : Option Jvm.ClassFile.FieldType)) ∈ lw_all := lw_g (lw_at lw_m1 213 rfl) rfl
theorem q503 : (Jvm.Cond.methodLink "CircuitWarden$Design" (3 : Nat) ({ cls := "java/lang/Object", name := "<init>", desc := "()V" } : Jvm.MethodName)) ∈ lw_all := lw_g (lw_at lw_m1 214 rfl) rfl
theorem q504 : (Jvm.Cond.fieldLink "CircuitWarden$Design" (117 : Nat) "CircuitWarden$Design" "names" "LCircuitWarden$Names;") ∈ lw_all := lw_g (lw_at lw_m1 215 rfl) rfl
theorem q505 : (Jvm.Cond.fieldLink "CircuitWarden$Design" (139 : Nat) "CircuitWarden$Design" "tree" "LCircuitWarden$Tree;") ∈ lw_all := lw_g (lw_at lw_m1 216 rfl) rfl
theorem q507 : (Jvm.Cond.fieldLink "CircuitWarden$Design" (9 : Nat) "CircuitWarden$Design" "op" "[I") ∈ lw_all := lw_g (lw_at lw_m1 218 rfl) rfl
theorem q512 : (Jvm.Cond.fieldLink "CircuitWarden$Design" (15 : Nat) "CircuitWarden$Design" "width" "[I") ∈ lw_all := lw_g (lw_at lw_m1 223 rfl) rfl
theorem q515 : (Jvm.Cond.fieldLink "CircuitWarden$Design" (18 : Nat) "CircuitWarden$Design" "a" "[I") ∈ lw_all := lw_g (lw_at lw_m1 226 rfl) rfl
theorem q520 : (Jvm.Cond.fieldLink "CircuitWarden$Design" (21 : Nat) "CircuitWarden$Design" "b" "[I") ∈ lw_all := lw_g (lw_at lw_m1 231 rfl) rfl
theorem q524 : (Jvm.Cond.fieldLink "CircuitWarden$Design" (24 : Nat) "CircuitWarden$Design" "c" "[I") ∈ lw_all := lw_g (lw_at lw_m1 235 rfl) rfl
theorem q531 : (Jvm.Cond.fieldLink "CircuitWarden$Design" (192 : Nat) "CircuitWarden$Design" "looks" "I") ∈ lw_all := lw_g (lw_at lw_m2 2 rfl) rfl
theorem q532 : (Jvm.Cond.fieldLink "CircuitWarden$Design" (199 : Nat) "CircuitWarden$Design" "counted" "I") ∈ lw_all := lw_g (lw_at lw_m2 3 rfl) rfl
theorem q533 : (Jvm.Cond.fieldLink "CircuitWarden$Design" (27 : Nat) "CircuitWarden$Design" "kinds" "[I") ∈ lw_all := lw_g (lw_at lw_m2 4 rfl) rfl
theorem q540 : (Jvm.Cond.fieldLink "CircuitWarden$Design" (30 : Nat) "CircuitWarden$Design" "widths" "[I") ∈ lw_all := lw_g (lw_at lw_m2 11 rfl) rfl
theorem q546 : (Jvm.Cond.fieldLink "CircuitWarden$Design" (33 : Nat) "CircuitWarden$Design" "inits" "[I") ∈ lw_all := lw_g (lw_at lw_m2 17 rfl) rfl
theorem q549 : (Jvm.Cond.fieldLink "CircuitWarden$Design" (36 : Nat) "CircuitWarden$Design" "nodes" "[I") ∈ lw_all := lw_g (lw_at lw_m2 20 rfl) rfl
theorem q551 : (Jvm.Cond.fieldLink "CircuitWarden$Design" (39 : Nat) "CircuitWarden$Design" "labels" "[I") ∈ lw_all := lw_g (lw_at lw_m2 22 rfl) rfl
theorem q555 : (Jvm.Cond.fieldLink "CircuitWarden$Design" (42 : Nat) "CircuitWarden$Design" "roots" "[I") ∈ lw_all := lw_g (lw_at lw_m2 26 rfl) rfl
theorem q559 : (Jvm.Cond.fieldLink "CircuitWarden$Design" (45 : Nat) "CircuitWarden$Design" "froms" "[I") ∈ lw_all := lw_g (lw_at lw_m2 30 rfl) rfl
theorem q562 : (Jvm.Cond.fieldLink "CircuitWarden$Design" (48 : Nat) "CircuitWarden$Design" "tos" "[I") ∈ lw_all := lw_g (lw_at lw_m2 33 rfl) rfl
theorem q571 : (Jvm.Cond.fieldLink "CircuitWarden$Design" (287 : Nat) "CircuitWarden$Design" "signals" "I") ∈ lw_all := lw_g (lw_at lw_m2 42 rfl) rfl
theorem q572 : (Jvm.Cond.fieldLink "CircuitWarden$Design" (51 : Nat) "CircuitWarden$Design" "many" "[I") ∈ lw_all := lw_g (lw_at lw_m2 43 rfl) rfl
theorem q575 : (Jvm.Cond.fieldLink "CircuitWarden$Design" (280 : Nat) "CircuitWarden$Design" "modeBits" "I") ∈ lw_all := lw_g (lw_at lw_m2 46 rfl) rfl
theorem q576 : (Jvm.Cond.fieldLink "CircuitWarden$Design" (54 : Nat) "CircuitWarden$Design" "means" "[I") ∈ lw_all := lw_g (lw_at lw_m2 47 rfl) rfl
theorem q578 : (Jvm.Cond.fieldLink "CircuitWarden$Design" (57 : Nat) "CircuitWarden$Design" "sums" "[I") ∈ lw_all := lw_g (lw_at lw_m2 49 rfl) rfl
theorem q580 : (Jvm.Cond.fieldLink "CircuitWarden$Design" (60 : Nat) "CircuitWarden$Design" "steps" "[I") ∈ lw_all := lw_g (lw_at lw_m2 51 rfl) rfl
theorem q583 : (Jvm.Cond.fieldLink "CircuitWarden$Design" (63 : Nat) "CircuitWarden$Design" "stepSignals" "[I") ∈ lw_all := lw_g (lw_at lw_m2 54 rfl) rfl
theorem q587 : (Jvm.Cond.fieldLink "CircuitWarden$Design" (66 : Nat) "CircuitWarden$Design" "stepRoots" "[I") ∈ lw_all := lw_g (lw_at lw_m2 58 rfl) rfl
theorem q591 : (Jvm.Cond.fieldLink "CircuitWarden$Design" (69 : Nat) "CircuitWarden$Design" "stepFroms" "[I") ∈ lw_all := lw_g (lw_at lw_m2 62 rfl) rfl
theorem q594 : (Jvm.Cond.fieldLink "CircuitWarden$Design" (72 : Nat) "CircuitWarden$Design" "stepTos" "[I") ∈ lw_all := lw_g (lw_at lw_m2 65 rfl) rfl
theorem q597 : (Jvm.Cond.fieldLink "CircuitWarden$Design" (75 : Nat) "CircuitWarden$Design" "stepEnds" "[I") ∈ lw_all := lw_g (lw_at lw_m2 68 rfl) rfl
theorem q601 : (Jvm.Cond.fieldLink "CircuitWarden$Design" (78 : Nat) "CircuitWarden$Design" "stepSeconds" "[I") ∈ lw_all := lw_g (lw_at lw_m2 72 rfl) rfl
theorem q608 : (Jvm.Cond.fieldLink "CircuitWarden$Design" (290 : Nat) "CircuitWarden$Design" "stepCount" "I") ∈ lw_all := lw_g (lw_at lw_m2 79 rfl) rfl
theorem q609 : (Jvm.Cond.fieldLink "CircuitWarden$Design" (81 : Nat) "CircuitWarden$Design" "levelNodes" "[I") ∈ lw_all := lw_g (lw_at lw_m2 80 rfl) rfl
theorem q611 : (Jvm.Cond.fieldLink "CircuitWarden$Design" (268 : Nat) "CircuitWarden$Design" "levels" "I") ∈ lw_all := lw_g (lw_at lw_m2 82 rfl) rfl
theorem q612 : (Jvm.Cond.fieldLink "CircuitWarden$Design" (84 : Nat) "CircuitWarden$Design" "higher" "[I") ∈ lw_all := lw_g (lw_at lw_m2 83 rfl) rfl
theorem q614 : (Jvm.Cond.fieldLink "CircuitWarden$Design" (87 : Nat) "CircuitWarden$Design" "lower" "[I") ∈ lw_all := lw_g (lw_at lw_m2 85 rfl) rfl
theorem q617 : (Jvm.Cond.fieldLink "CircuitWarden$Design" (271 : Nat) "CircuitWarden$Design" "edges" "I") ∈ lw_all := lw_g (lw_at lw_m2 88 rfl) rfl
theorem q618 : (Jvm.Cond.fieldLink "CircuitWarden$Design" (121 : Nat) "CircuitWarden$Design" "wrong" "I") ∈ lw_all := lw_g (lw_at lw_m2 89 rfl) rfl
theorem q620 : (Jvm.Cond.fieldLink "CircuitWarden$Design" (125 : Nat) "CircuitWarden$Design" "place" "I") ∈ lw_all := lw_g (lw_at lw_m2 91 rfl) rfl
theorem q622 : (Jvm.Cond.fieldLink "CircuitWarden$Design" (90 : Nat) "CircuitWarden$Design" "sorts" "[I") ∈ lw_all := lw_g (lw_at lw_m2 93 rfl) rfl
theorem q623 : (Jvm.Cond.fieldLink "CircuitWarden$Design" (93 : Nat) "CircuitWarden$Design" "values" "[I") ∈ lw_all := lw_g (lw_at lw_m2 94 rfl) rfl
theorem q624 : (Jvm.Cond.fieldLink "CircuitWarden$Design" (96 : Nat) "CircuitWarden$Design" "orders" "[I") ∈ lw_all := lw_g (lw_at lw_m2 95 rfl) rfl
theorem q625 : (Jvm.Cond.fieldLink "CircuitWarden$Design" (156 : Nat) "CircuitWarden$Design" "item" "I") ∈ lw_all := lw_g (lw_at lw_m2 96 rfl) rfl
theorem q627 : (Jvm.Cond.fieldLink "CircuitWarden$Design" (313 : Nat) "CircuitWarden$Design" "nextAt" "I") ∈ lw_all := lw_g (lw_at lw_m2 98 rfl) rfl
theorem q628 : (Jvm.Cond.fieldLink "CircuitWarden$Design" (99 : Nat) "CircuitWarden$Design" "constBase" "[I") ∈ lw_all := lw_g (lw_at lw_m2 99 rfl) rfl
theorem q629 : (Jvm.Cond.fieldLink "CircuitWarden$Design" (102 : Nat) "CircuitWarden$Design" "givenBase" "[I") ∈ lw_all := lw_g (lw_at lw_m2 100 rfl) rfl
theorem q630 : (Jvm.Cond.fieldLink "CircuitWarden$Design" (105 : Nat) "CircuitWarden$Design" "limits" "[I") ∈ lw_all := lw_g (lw_at lw_m2 101 rfl) rfl
theorem q631 : (Jvm.Cond.fieldLink "CircuitWarden$Design" (108 : Nat) "CircuitWarden$Design" "funs" "[I") ∈ lw_all := lw_g (lw_at lw_m2 102 rfl) rfl
theorem q632 : (Jvm.Cond.fieldLink "CircuitWarden$Design" (153 : Nat) "CircuitWarden$Design" "open" "I") ∈ lw_all := lw_g (lw_at lw_m2 103 rfl) rfl
theorem q633 : (Jvm.Cond.fieldLink "CircuitWarden$Design" (111 : Nat) "CircuitWarden$Design" "consts" "[I") ∈ lw_all := lw_g (lw_at lw_m2 104 rfl) rfl
theorem q634 : (Jvm.Cond.fieldLink "CircuitWarden$Design" (251 : Nat) "CircuitWarden$Design" "constTop" "I") ∈ lw_all := lw_g (lw_at lw_m2 105 rfl) rfl
theorem q635 : (Jvm.Cond.fieldLink "CircuitWarden$Design" (114 : Nat) "CircuitWarden$Design" "given" "[I") ∈ lw_all := lw_g (lw_at lw_m2 106 rfl) rfl
theorem q636 : (Jvm.Cond.fieldLink "CircuitWarden$Design" (236 : Nat) "CircuitWarden$Design" "givenTop" "I") ∈ lw_all := lw_g (lw_at lw_m2 107 rfl) rfl
theorem q637 : (Jvm.Cond.laysFinal "CircuitWarden$Design" "CircuitWarden$Design" "names" "LCircuitWarden$Names;") ∈ lw_all := lw_g (lw_at lw_m2 108 rfl) rfl
theorem q638 : (Jvm.Cond.soleField "CircuitWarden$Design" "names") ∈ lw_all := lw_g (lw_at lw_m2 109 rfl) rfl
theorem q639 : (Jvm.Cond.lays "CircuitWarden$Design" "CircuitWarden$Design" "tree" "LCircuitWarden$Tree;") ∈ lw_all := lw_g (lw_at lw_m2 110 rfl) rfl
theorem q640 : (Jvm.Cond.soleField "CircuitWarden$Design" "tree") ∈ lw_all := lw_g (lw_at lw_m2 111 rfl) rfl
theorem q641 : (Jvm.Cond.lays "CircuitWarden$Design" "CircuitWarden$Design" "op" "[I") ∈ lw_all := lw_g (lw_at lw_m2 112 rfl) rfl
theorem q642 : (Jvm.Cond.soleField "CircuitWarden$Design" "op") ∈ lw_all := lw_g (lw_at lw_m2 113 rfl) rfl
theorem q643 : (Jvm.Cond.lays "CircuitWarden$Design" "CircuitWarden$Design" "width" "[I") ∈ lw_all := lw_g (lw_at lw_m2 114 rfl) rfl
theorem q644 : (Jvm.Cond.soleField "CircuitWarden$Design" "width") ∈ lw_all := lw_g (lw_at lw_m2 115 rfl) rfl
theorem q645 : (Jvm.Cond.lays "CircuitWarden$Design" "CircuitWarden$Design" "a" "[I") ∈ lw_all := lw_g (lw_at lw_m2 116 rfl) rfl
theorem q646 : (Jvm.Cond.soleField "CircuitWarden$Design" "a") ∈ lw_all := lw_g (lw_at lw_m2 117 rfl) rfl
theorem q647 : (Jvm.Cond.lays "CircuitWarden$Design" "CircuitWarden$Design" "b" "[I") ∈ lw_all := lw_g (lw_at lw_m2 118 rfl) rfl
theorem q648 : (Jvm.Cond.soleField "CircuitWarden$Design" "b") ∈ lw_all := lw_g (lw_at lw_m2 119 rfl) rfl
theorem q649 : (Jvm.Cond.lays "CircuitWarden$Design" "CircuitWarden$Design" "c" "[I") ∈ lw_all := lw_g (lw_at lw_m2 120 rfl) rfl
theorem q650 : (Jvm.Cond.soleField "CircuitWarden$Design" "c") ∈ lw_all := lw_g (lw_at lw_m2 121 rfl) rfl
theorem q651 : (Jvm.Cond.lays "CircuitWarden$Design" "CircuitWarden$Design" "looks" "I") ∈ lw_all := lw_g (lw_at lw_m2 122 rfl) rfl
theorem q652 : (Jvm.Cond.soleField "CircuitWarden$Design" "looks") ∈ lw_all := lw_g (lw_at lw_m2 123 rfl) rfl
theorem q653 : (Jvm.Cond.lays "CircuitWarden$Design" "CircuitWarden$Design" "counted" "I") ∈ lw_all := lw_g (lw_at lw_m2 124 rfl) rfl
theorem q654 : (Jvm.Cond.soleField "CircuitWarden$Design" "counted") ∈ lw_all := lw_g (lw_at lw_m2 125 rfl) rfl
theorem q655 : (Jvm.Cond.lays "CircuitWarden$Design" "CircuitWarden$Design" "kinds" "[I") ∈ lw_all := lw_g (lw_at lw_m2 126 rfl) rfl
theorem q656 : (Jvm.Cond.soleField "CircuitWarden$Design" "kinds") ∈ lw_all := lw_g (lw_at lw_m2 127 rfl) rfl
theorem q657 : (Jvm.Cond.lays "CircuitWarden$Design" "CircuitWarden$Design" "widths" "[I") ∈ lw_all := lw_g (lw_at lw_m2 128 rfl) rfl
theorem q658 : (Jvm.Cond.soleField "CircuitWarden$Design" "widths") ∈ lw_all := lw_g (lw_at lw_m2 129 rfl) rfl
theorem q659 : (Jvm.Cond.lays "CircuitWarden$Design" "CircuitWarden$Design" "inits" "[I") ∈ lw_all := lw_g (lw_at lw_m2 130 rfl) rfl
theorem q660 : (Jvm.Cond.soleField "CircuitWarden$Design" "inits") ∈ lw_all := lw_g (lw_at lw_m2 131 rfl) rfl
theorem q661 : (Jvm.Cond.lays "CircuitWarden$Design" "CircuitWarden$Design" "nodes" "[I") ∈ lw_all := lw_g (lw_at lw_m2 132 rfl) rfl
theorem q662 : (Jvm.Cond.soleField "CircuitWarden$Design" "nodes") ∈ lw_all := lw_g (lw_at lw_m2 133 rfl) rfl
theorem q663 : (Jvm.Cond.lays "CircuitWarden$Design" "CircuitWarden$Design" "labels" "[I") ∈ lw_all := lw_g (lw_at lw_m2 134 rfl) rfl
theorem q664 : (Jvm.Cond.soleField "CircuitWarden$Design" "labels") ∈ lw_all := lw_g (lw_at lw_m2 135 rfl) rfl
theorem q665 : (Jvm.Cond.lays "CircuitWarden$Design" "CircuitWarden$Design" "roots" "[I") ∈ lw_all := lw_g (lw_at lw_m2 136 rfl) rfl
theorem q666 : (Jvm.Cond.soleField "CircuitWarden$Design" "roots") ∈ lw_all := lw_g (lw_at lw_m2 137 rfl) rfl
theorem q667 : (Jvm.Cond.lays "CircuitWarden$Design" "CircuitWarden$Design" "froms" "[I") ∈ lw_all := lw_g (lw_at lw_m2 138 rfl) rfl
theorem q668 : (Jvm.Cond.soleField "CircuitWarden$Design" "froms") ∈ lw_all := lw_g (lw_at lw_m2 139 rfl) rfl
theorem q669 : (Jvm.Cond.lays "CircuitWarden$Design" "CircuitWarden$Design" "tos" "[I") ∈ lw_all := lw_g (lw_at lw_m2 140 rfl) rfl
theorem q670 : (Jvm.Cond.soleField "CircuitWarden$Design" "tos") ∈ lw_all := lw_g (lw_at lw_m2 141 rfl) rfl
theorem q671 : (Jvm.Cond.lays "CircuitWarden$Design" "CircuitWarden$Design" "signals" "I") ∈ lw_all := lw_g (lw_at lw_m2 142 rfl) rfl
theorem q672 : (Jvm.Cond.soleField "CircuitWarden$Design" "signals") ∈ lw_all := lw_g (lw_at lw_m2 143 rfl) rfl
theorem q673 : (Jvm.Cond.laysFinal "CircuitWarden$Design" "CircuitWarden$Design" "many" "[I") ∈ lw_all := lw_g (lw_at lw_m2 144 rfl) rfl
theorem q674 : (Jvm.Cond.soleField "CircuitWarden$Design" "many") ∈ lw_all := lw_g (lw_at lw_m2 145 rfl) rfl
theorem q675 : (Jvm.Cond.lays "CircuitWarden$Design" "CircuitWarden$Design" "modeBits" "I") ∈ lw_all := lw_g (lw_at lw_m2 146 rfl) rfl
theorem q676 : (Jvm.Cond.soleField "CircuitWarden$Design" "modeBits") ∈ lw_all := lw_g (lw_at lw_m2 147 rfl) rfl
theorem q677 : (Jvm.Cond.lays "CircuitWarden$Design" "CircuitWarden$Design" "means" "[I") ∈ lw_all := lw_g (lw_at lw_m2 148 rfl) rfl
theorem q678 : (Jvm.Cond.soleField "CircuitWarden$Design" "means") ∈ lw_all := lw_g (lw_at lw_m2 149 rfl) rfl
theorem q679 : (Jvm.Cond.lays "CircuitWarden$Design" "CircuitWarden$Design" "sums" "[I") ∈ lw_all := lw_g (lw_at lw_m2 150 rfl) rfl
theorem q680 : (Jvm.Cond.soleField "CircuitWarden$Design" "sums") ∈ lw_all := lw_g (lw_at lw_m2 151 rfl) rfl
theorem q681 : (Jvm.Cond.lays "CircuitWarden$Design" "CircuitWarden$Design" "steps" "[I") ∈ lw_all := lw_g (lw_at lw_m2 152 rfl) rfl
theorem q682 : (Jvm.Cond.soleField "CircuitWarden$Design" "steps") ∈ lw_all := lw_g (lw_at lw_m2 153 rfl) rfl
theorem q683 : (Jvm.Cond.lays "CircuitWarden$Design" "CircuitWarden$Design" "stepSignals" "[I") ∈ lw_all := lw_g (lw_at lw_m2 154 rfl) rfl
theorem q684 : (Jvm.Cond.soleField "CircuitWarden$Design" "stepSignals") ∈ lw_all := lw_g (lw_at lw_m2 155 rfl) rfl
theorem q685 : (Jvm.Cond.lays "CircuitWarden$Design" "CircuitWarden$Design" "stepRoots" "[I") ∈ lw_all := lw_g (lw_at lw_m2 156 rfl) rfl
theorem q686 : (Jvm.Cond.soleField "CircuitWarden$Design" "stepRoots") ∈ lw_all := lw_g (lw_at lw_m2 157 rfl) rfl
theorem q687 : (Jvm.Cond.lays "CircuitWarden$Design" "CircuitWarden$Design" "stepFroms" "[I") ∈ lw_all := lw_g (lw_at lw_m2 158 rfl) rfl
theorem q688 : (Jvm.Cond.soleField "CircuitWarden$Design" "stepFroms") ∈ lw_all := lw_g (lw_at lw_m2 159 rfl) rfl
theorem q689 : (Jvm.Cond.lays "CircuitWarden$Design" "CircuitWarden$Design" "stepTos" "[I") ∈ lw_all := lw_g (lw_at lw_m2 160 rfl) rfl
theorem q690 : (Jvm.Cond.soleField "CircuitWarden$Design" "stepTos") ∈ lw_all := lw_g (lw_at lw_m2 161 rfl) rfl
theorem q691 : (Jvm.Cond.lays "CircuitWarden$Design" "CircuitWarden$Design" "stepEnds" "[I") ∈ lw_all := lw_g (lw_at lw_m2 162 rfl) rfl
theorem q692 : (Jvm.Cond.soleField "CircuitWarden$Design" "stepEnds") ∈ lw_all := lw_g (lw_at lw_m2 163 rfl) rfl
theorem q693 : (Jvm.Cond.lays "CircuitWarden$Design" "CircuitWarden$Design" "stepSeconds" "[I") ∈ lw_all := lw_g (lw_at lw_m2 164 rfl) rfl
theorem q694 : (Jvm.Cond.soleField "CircuitWarden$Design" "stepSeconds") ∈ lw_all := lw_g (lw_at lw_m2 165 rfl) rfl
theorem q695 : (Jvm.Cond.lays "CircuitWarden$Design" "CircuitWarden$Design" "stepCount" "I") ∈ lw_all := lw_g (lw_at lw_m2 166 rfl) rfl
theorem q696 : (Jvm.Cond.soleField "CircuitWarden$Design" "stepCount") ∈ lw_all := lw_g (lw_at lw_m2 167 rfl) rfl
theorem q697 : (Jvm.Cond.laysFinal "CircuitWarden$Design" "CircuitWarden$Design" "levelNodes" "[I") ∈ lw_all := lw_g (lw_at lw_m2 168 rfl) rfl
theorem q698 : (Jvm.Cond.soleField "CircuitWarden$Design" "levelNodes") ∈ lw_all := lw_g (lw_at lw_m2 169 rfl) rfl
theorem q699 : (Jvm.Cond.lays "CircuitWarden$Design" "CircuitWarden$Design" "levels" "I") ∈ lw_all := lw_g (lw_at lw_m2 170 rfl) rfl
theorem q700 : (Jvm.Cond.soleField "CircuitWarden$Design" "levels") ∈ lw_all := lw_g (lw_at lw_m2 171 rfl) rfl
theorem q701 : (Jvm.Cond.lays "CircuitWarden$Design" "CircuitWarden$Design" "higher" "[I") ∈ lw_all := lw_g (lw_at lw_m2 172 rfl) rfl
theorem q702 : (Jvm.Cond.soleField "CircuitWarden$Design" "higher") ∈ lw_all := lw_g (lw_at lw_m2 173 rfl) rfl
theorem q703 : (Jvm.Cond.lays "CircuitWarden$Design" "CircuitWarden$Design" "lower" "[I") ∈ lw_all := lw_g (lw_at lw_m2 174 rfl) rfl
theorem q704 : (Jvm.Cond.soleField "CircuitWarden$Design" "lower") ∈ lw_all := lw_g (lw_at lw_m2 175 rfl) rfl
theorem q705 : (Jvm.Cond.lays "CircuitWarden$Design" "CircuitWarden$Design" "edges" "I") ∈ lw_all := lw_g (lw_at lw_m2 176 rfl) rfl
theorem q706 : (Jvm.Cond.soleField "CircuitWarden$Design" "edges") ∈ lw_all := lw_g (lw_at lw_m2 177 rfl) rfl
theorem q707 : (Jvm.Cond.lays "CircuitWarden$Design" "CircuitWarden$Design" "wrong" "I") ∈ lw_all := lw_g (lw_at lw_m2 178 rfl) rfl
theorem q708 : (Jvm.Cond.soleField "CircuitWarden$Design" "wrong") ∈ lw_all := lw_g (lw_at lw_m2 179 rfl) rfl
theorem q709 : (Jvm.Cond.lays "CircuitWarden$Design" "CircuitWarden$Design" "place" "I") ∈ lw_all := lw_g (lw_at lw_m2 180 rfl) rfl
theorem q710 : (Jvm.Cond.soleField "CircuitWarden$Design" "place") ∈ lw_all := lw_g (lw_at lw_m2 181 rfl) rfl
theorem q711 : (Jvm.Cond.lays "CircuitWarden$Design" "CircuitWarden$Design" "sorts" "[I") ∈ lw_all := lw_g (lw_at lw_m2 182 rfl) rfl
theorem q712 : (Jvm.Cond.soleField "CircuitWarden$Design" "sorts") ∈ lw_all := lw_g (lw_at lw_m2 183 rfl) rfl
theorem q713 : (Jvm.Cond.lays "CircuitWarden$Design" "CircuitWarden$Design" "values" "[I") ∈ lw_all := lw_g (lw_at lw_m2 184 rfl) rfl
theorem q714 : (Jvm.Cond.soleField "CircuitWarden$Design" "values") ∈ lw_all := lw_g (lw_at lw_m2 185 rfl) rfl
theorem q715 : (Jvm.Cond.lays "CircuitWarden$Design" "CircuitWarden$Design" "orders" "[I") ∈ lw_all := lw_g (lw_at lw_m2 186 rfl) rfl
theorem q716 : (Jvm.Cond.soleField "CircuitWarden$Design" "orders") ∈ lw_all := lw_g (lw_at lw_m2 187 rfl) rfl
theorem q717 : (Jvm.Cond.lays "CircuitWarden$Design" "CircuitWarden$Design" "item" "I") ∈ lw_all := lw_g (lw_at lw_m2 188 rfl) rfl
theorem q718 : (Jvm.Cond.soleField "CircuitWarden$Design" "item") ∈ lw_all := lw_g (lw_at lw_m2 189 rfl) rfl
theorem q719 : (Jvm.Cond.lays "CircuitWarden$Design" "CircuitWarden$Design" "nextAt" "I") ∈ lw_all := lw_g (lw_at lw_m2 190 rfl) rfl
theorem q720 : (Jvm.Cond.soleField "CircuitWarden$Design" "nextAt") ∈ lw_all := lw_g (lw_at lw_m2 191 rfl) rfl
theorem q721 : (Jvm.Cond.lays "CircuitWarden$Design" "CircuitWarden$Design" "constBase" "[I") ∈ lw_all := lw_g (lw_at lw_m2 192 rfl) rfl
theorem q722 : (Jvm.Cond.soleField "CircuitWarden$Design" "constBase") ∈ lw_all := lw_g (lw_at lw_m2 193 rfl) rfl
theorem q723 : (Jvm.Cond.lays "CircuitWarden$Design" "CircuitWarden$Design" "givenBase" "[I") ∈ lw_all := lw_g (lw_at lw_m2 194 rfl) rfl
theorem q724 : (Jvm.Cond.soleField "CircuitWarden$Design" "givenBase") ∈ lw_all := lw_g (lw_at lw_m2 195 rfl) rfl
theorem q725 : (Jvm.Cond.lays "CircuitWarden$Design" "CircuitWarden$Design" "limits" "[I") ∈ lw_all := lw_g (lw_at lw_m2 196 rfl) rfl
theorem q726 : (Jvm.Cond.soleField "CircuitWarden$Design" "limits") ∈ lw_all := lw_g (lw_at lw_m2 197 rfl) rfl
theorem q727 : (Jvm.Cond.lays "CircuitWarden$Design" "CircuitWarden$Design" "funs" "[I") ∈ lw_all := lw_g (lw_at lw_m2 198 rfl) rfl
theorem q728 : (Jvm.Cond.soleField "CircuitWarden$Design" "funs") ∈ lw_all := lw_g (lw_at lw_m2 199 rfl) rfl
theorem q729 : (Jvm.Cond.lays "CircuitWarden$Design" "CircuitWarden$Design" "open" "I") ∈ lw_all := lw_g (lw_at lw_m2 200 rfl) rfl
theorem q730 : (Jvm.Cond.soleField "CircuitWarden$Design" "open") ∈ lw_all := lw_g (lw_at lw_m2 201 rfl) rfl
theorem q731 : (Jvm.Cond.lays "CircuitWarden$Design" "CircuitWarden$Design" "consts" "[I") ∈ lw_all := lw_g (lw_at lw_m2 202 rfl) rfl
theorem q732 : (Jvm.Cond.soleField "CircuitWarden$Design" "consts") ∈ lw_all := lw_g (lw_at lw_m2 203 rfl) rfl
theorem q733 : (Jvm.Cond.lays "CircuitWarden$Design" "CircuitWarden$Design" "constTop" "I") ∈ lw_all := lw_g (lw_at lw_m2 204 rfl) rfl
theorem q734 : (Jvm.Cond.soleField "CircuitWarden$Design" "constTop") ∈ lw_all := lw_g (lw_at lw_m2 205 rfl) rfl
theorem q735 : (Jvm.Cond.lays "CircuitWarden$Design" "CircuitWarden$Design" "given" "[I") ∈ lw_all := lw_g (lw_at lw_m2 206 rfl) rfl
theorem q736 : (Jvm.Cond.soleField "CircuitWarden$Design" "given") ∈ lw_all := lw_g (lw_at lw_m2 207 rfl) rfl
theorem q737 : (Jvm.Cond.lays "CircuitWarden$Design" "CircuitWarden$Design" "givenTop" "I") ∈ lw_all := lw_g (lw_at lw_m2 208 rfl) rfl
theorem q738 : (Jvm.Cond.soleField "CircuitWarden$Design" "givenTop") ∈ lw_all := lw_g (lw_at lw_m2 209 rfl) rfl
theorem q739 : (Jvm.Cond.superclass "CircuitWarden$Design" "java/lang/Object") ∈ lw_all := lw_g (lw_at lw_m2 210 rfl) rfl
theorem q1069 : (Jvm.Cond.instanceMethod ({ cls := "CircuitWarden$Design", name := "none", desc := "()V" } : Jvm.MethodName)) ∈ lw_all := lw_g (lw_at lw_m4 60 rfl) rfl
theorem q1070 : (Jvm.Cond.selects "CircuitWarden$Design" ({ cls := "CircuitWarden$Design", name := "none", desc := "()V" } : Jvm.MethodName) ({ cls := "CircuitWarden$Design", name := "none", desc := "()V" } : Jvm.MethodName)) ∈ lw_all := lw_g (lw_at lw_m4 61 rfl) rfl
theorem q1071 : (Jvm.Cond.code ({ cls := "CircuitWarden$Design", name := "none", desc := "()V" } : Jvm.MethodName) prog_4_method_39_code (2 : Nat) (Option.none : Option Jvm.ClassFile.FieldType)) ∈ lw_all := lw_g (lw_at lw_m4 62 rfl) rfl
theorem q1855 : (Jvm.Cond.instanceMethod ({ cls := "CircuitWarden$Design", name := "lay", desc := "(LCircuitWarden$Tree;)Z" } : Jvm.MethodName)) ∈ lw_all := lw_g (lw_at lw_m7 126 rfl) rfl
theorem q1856 : (Jvm.Cond.selects "CircuitWarden$Design" ({ cls := "CircuitWarden$Design", name := "lay", desc := "(LCircuitWarden$Tree;)Z" } : Jvm.MethodName) ({ cls := "CircuitWarden$Design", name := "lay", desc := "(LCircuitWarden$Tree;)Z" } : Jvm.MethodName)) ∈ lw_all := lw_g (lw_at lw_m7 127 rfl) rfl
theorem q1857 : (Jvm.Cond.codeWith ({ cls := "CircuitWarden$Design", name := "lay", desc := "(LCircuitWarden$Tree;)Z" } : Jvm.MethodName) prog_4_method_40_code (3 : Nat) (Option.some Jvm.ClassFile.FieldType.boolean) [((129 : Nat), (133 : Nat), (136 : Nat), (128 : Nat))]) ∈ lw_all := lw_g (lw_at lw_m7 128 rfl) rfl
theorem q1858 : (Jvm.Cond.classLink "CircuitWarden$Design" (128 : Nat) "java/lang/IllegalStateException") ∈ lw_all := lw_g (lw_at lw_m7 129 rfl) rfl
theorem q1859 : (Jvm.Cond.methodLink "CircuitWarden$Design" (319 : Nat) ({ cls := "CircuitWarden$Design", name := "none", desc := "()V" } : Jvm.MethodName)) ∈ lw_all := lw_g (lw_at lw_m7 130 rfl) rfl
theorem q1860 : (Jvm.Cond.methodLinkNest "CircuitWarden$Design" (195 : Nat) ({ cls := "CircuitWarden", name := "grown", desc := "([II)[I" } : Jvm.MethodName) "CircuitWarden") ∈ lw_tbl := lw_at lw_m7 131 rfl
theorem q1861 : (Jvm.Cond.methodLink "CircuitWarden$Design" (325 : Nat) ({ cls := "CircuitWarden$Design", name := "items", desc := "()V" } : Jvm.MethodName)) ∈ lw_all := lw_g (lw_at lw_m7 132 rfl) rfl
theorem q1862 : (Jvm.Cond.privateMethod ({ cls := "CircuitWarden$Design", name := "items", desc := "()V" } : Jvm.MethodName)) ∈ lw_tbl := lw_at lw_m7 133 rfl
theorem q1863 : (Jvm.Cond.instanceMethod ({ cls := "CircuitWarden$Design", name := "items", desc := "()V" } : Jvm.MethodName)) ∈ lw_all := lw_g (lw_at lw_m7 134 rfl) rfl
theorem q1864 : (Jvm.Cond.code ({ cls := "CircuitWarden$Design", name := "items", desc := "()V" } : Jvm.MethodName) prog_4_method_38_code (2 : Nat) (Option.none : Option Jvm.ClassFile.FieldType)) ∈ lw_all := lw_g (lw_at lw_m7 135 rfl) rfl
theorem q1865 : (Jvm.Cond.methodLink "CircuitWarden$Design" (307 : Nat) ({ cls := "CircuitWarden$Design", name := "level", desc := "(I)V" } : Jvm.MethodName)) ∈ lw_all := lw_g (lw_at lw_m7 136 rfl) rfl
theorem q1866 : (Jvm.Cond.privateMethod ({ cls := "CircuitWarden$Design", name := "level", desc := "(I)V" } : Jvm.MethodName)) ∈ lw_tbl := lw_at lw_m7 137 rfl
theorem q1867 : (Jvm.Cond.instanceMethod ({ cls := "CircuitWarden$Design", name := "level", desc := "(I)V" } : Jvm.MethodName)) ∈ lw_all := lw_g (lw_at lw_m7 138 rfl) rfl
theorem q1868 : (Jvm.Cond.code ({ cls := "CircuitWarden$Design", name := "level", desc := "(I)V" } : Jvm.MethodName) prog_4_method_29_code (4 : Nat) (Option.none : Option Jvm.ClassFile.FieldType)) ∈ lw_all := lw_g (lw_at lw_m7 139 rfl) rfl
theorem q1869 : (Jvm.Cond.methodLink "CircuitWarden$Design" (265 : Nat) ({ cls := "CircuitWarden$Design", name := "fresh", desc := "(I)V" } : Jvm.MethodName)) ∈ lw_all := lw_g (lw_at lw_m7 140 rfl) rfl
theorem q1870 : (Jvm.Cond.privateMethod ({ cls := "CircuitWarden$Design", name := "fresh", desc := "(I)V" } : Jvm.MethodName)) ∈ lw_tbl := lw_at lw_m7 141 rfl
theorem q1871 : (Jvm.Cond.instanceMethod ({ cls := "CircuitWarden$Design", name := "fresh", desc := "(I)V" } : Jvm.MethodName)) ∈ lw_all := lw_g (lw_at lw_m7 142 rfl) rfl
theorem q1872 : (Jvm.Cond.code ({ cls := "CircuitWarden$Design", name := "fresh", desc := "(I)V" } : Jvm.MethodName) prog_4_method_8_code (2 : Nat) (Option.none : Option Jvm.ClassFile.FieldType)) ∈ lw_all := lw_g (lw_at lw_m7 143 rfl) rfl
theorem q1873 : (Jvm.Cond.methodLink "CircuitWarden$Design" (149 : Nat) ({ cls := "CircuitWarden$Design", name := "nameOf", desc := "(I)I" } : Jvm.MethodName)) ∈ lw_all := lw_g (lw_at lw_m7 144 rfl) rfl
theorem q1874 : (Jvm.Cond.privateMethod ({ cls := "CircuitWarden$Design", name := "nameOf", desc := "(I)I" } : Jvm.MethodName)) ∈ lw_tbl := lw_at lw_m7 145 rfl
theorem q1875 : (Jvm.Cond.instanceMethod ({ cls := "CircuitWarden$Design", name := "nameOf", desc := "(I)I" } : Jvm.MethodName)) ∈ lw_all := lw_g (lw_at lw_m7 146 rfl) rfl
theorem q1876 : (Jvm.Cond.code ({ cls := "CircuitWarden$Design", name := "nameOf", desc := "(I)I" } : Jvm.MethodName) prog_4_method_5_code (2 : Nat) (Option.some Jvm.ClassFile.FieldType.int)) ∈ lw_all := lw_g (lw_at lw_m7 147 rfl) rfl
theorem q1877 : (Jvm.Cond.methodLink "CircuitWarden$Design" (162 : Nat) ({ cls := "CircuitWarden$Design", name := "want", desc := "(ZII)V" } : Jvm.MethodName)) ∈ lw_all := lw_g (lw_at lw_m7 148 rfl) rfl
theorem q1878 : (Jvm.Cond.privateMethod ({ cls := "CircuitWarden$Design", name := "want", desc := "(ZII)V" } : Jvm.MethodName)) ∈ lw_tbl := lw_at lw_m7 149 rfl
theorem q1879 : (Jvm.Cond.instanceMethod ({ cls := "CircuitWarden$Design", name := "want", desc := "(ZII)V" } : Jvm.MethodName)) ∈ lw_all := lw_g (lw_at lw_m7 150 rfl) rfl
theorem q1880 : (Jvm.Cond.code ({ cls := "CircuitWarden$Design", name := "want", desc := "(ZII)V" } : Jvm.MethodName) prog_4_method_3_code (4 : Nat) (Option.none : Option Jvm.ClassFile.FieldType)) ∈ lw_all := lw_g (lw_at lw_m7 151 rfl) rfl
theorem q1881 : (Jvm.Cond.methodLink "CircuitWarden$Design" (135 : Nat) ({ cls := "CircuitWarden$Design", name := "fail", desc := "(II)V" } : Jvm.MethodName)) ∈ lw_all := lw_g (lw_at lw_m7 152 rfl) rfl
theorem q1882 : (Jvm.Cond.privateMethod ({ cls := "CircuitWarden$Design", name := "fail", desc := "(II)V" } : Jvm.MethodName)) ∈ lw_tbl := lw_at lw_m7 153 rfl
theorem q1883 : (Jvm.Cond.instanceMethod ({ cls := "CircuitWarden$Design", name := "fail", desc := "(II)V" } : Jvm.MethodName)) ∈ lw_all := lw_g (lw_at lw_m7 154 rfl) rfl
theorem q1884 : (Jvm.Cond.code ({ cls := "CircuitWarden$Design", name := "fail", desc := "(II)V" } : Jvm.MethodName) prog_4_method_2_code (3 : Nat) (Option.none : Option Jvm.ClassFile.FieldType)) ∈ lw_all := lw_g (lw_at lw_m7 155 rfl) rfl
theorem q1885 : (Jvm.Cond.stringRef "CircuitWarden$Design" (130 : Nat) "it is wrong") ∈ lw_tbl := lw_at lw_m7 156 rfl
theorem q1886 : (Jvm.Cond.methodLink "CircuitWarden$Design" (132 : Nat) ({ cls := "java/lang/IllegalStateException", name := "<init>", desc := "(Ljava/lang/String;)V" } : Jvm.MethodName)) ∈ lw_all := lw_g (lw_at lw_m7 157 rfl) rfl
theorem q1887 : (Jvm.Cond.methodLink "CircuitWarden$Design" (169 : Nat) ({ cls := "CircuitWarden$Design", name := "after", desc := "(I)I" } : Jvm.MethodName)) ∈ lw_all := lw_g (lw_at lw_m7 158 rfl) rfl
theorem q1888 : (Jvm.Cond.privateMethod ({ cls := "CircuitWarden$Design", name := "after", desc := "(I)I" } : Jvm.MethodName)) ∈ lw_tbl := lw_at lw_m7 159 rfl
theorem q1889 : (Jvm.Cond.instanceMethod ({ cls := "CircuitWarden$Design", name := "after", desc := "(I)I" } : Jvm.MethodName)) ∈ lw_all := lw_g (lw_at lw_m7 160 rfl) rfl
theorem q1890 : (Jvm.Cond.code ({ cls := "CircuitWarden$Design", name := "after", desc := "(I)I" } : Jvm.MethodName) prog_4_method_4_code (2 : Nat) (Option.some Jvm.ClassFile.FieldType.int)) ∈ lw_all := lw_g (lw_at lw_m7 161 rfl) rfl
theorem q1891 : (Jvm.Cond.methodLink "CircuitWarden$Design" (181 : Nat) ({ cls := "CircuitWarden$Design", name := "meant", desc := "(II)I" } : Jvm.MethodName)) ∈ lw_all := lw_g (lw_at lw_m7 162 rfl) rfl
theorem q1892 : (Jvm.Cond.privateMethod ({ cls := "CircuitWarden$Design", name := "meant", desc := "(II)I" } : Jvm.MethodName)) ∈ lw_tbl := lw_at lw_m7 163 rfl
theorem q1893 : (Jvm.Cond.instanceMethod ({ cls := "CircuitWarden$Design", name := "meant", desc := "(II)I" } : Jvm.MethodName)) ∈ lw_all := lw_g (lw_at lw_m7 164 rfl) rfl
theorem q1894 : (Jvm.Cond.code ({ cls := "CircuitWarden$Design", name := "meant", desc := "(II)I" } : Jvm.MethodName) prog_4_method_7_code (3 : Nat) (Option.some Jvm.ClassFile.FieldType.int)) ∈ lw_all := lw_g (lw_at lw_m7 165 rfl) rfl
theorem q1895 : (Jvm.Cond.methodLink "CircuitWarden$Design" (166 : Nat) ({ cls := "CircuitWarden$Design", name := "sortOf", desc := "(I)I" } : Jvm.MethodName)) ∈ lw_all := lw_g (lw_at lw_m7 166 rfl) rfl
theorem q1896 : (Jvm.Cond.privateMethod ({ cls := "CircuitWarden$Design", name := "sortOf", desc := "(I)I" } : Jvm.MethodName)) ∈ lw_tbl := lw_at lw_m7 167 rfl
theorem q1897 : (Jvm.Cond.instanceMethod ({ cls := "CircuitWarden$Design", name := "sortOf", desc := "(I)I" } : Jvm.MethodName)) ∈ lw_all := lw_g (lw_at lw_m7 168 rfl) rfl
theorem q1898 : (Jvm.Cond.code ({ cls := "CircuitWarden$Design", name := "sortOf", desc := "(I)I" } : Jvm.MethodName) prog_4_method_6_code (4 : Nat) (Option.some Jvm.ClassFile.FieldType.int)) ∈ lw_all := lw_g (lw_at lw_m7 169 rfl) rfl
theorem q1899 : (Jvm.Cond.methodLink "CircuitWarden$Design" (274 : Nat) ({ cls := "CircuitWarden$Design", name := "define", desc := "(III)V" } : Jvm.MethodName)) ∈ lw_all := lw_g (lw_at lw_m7 170 rfl) rfl
theorem q1900 : (Jvm.Cond.privateMethod ({ cls := "CircuitWarden$Design", name := "define", desc := "(III)V" } : Jvm.MethodName)) ∈ lw_tbl := lw_at lw_m7 171 rfl
theorem q1901 : (Jvm.Cond.instanceMethod ({ cls := "CircuitWarden$Design", name := "define", desc := "(III)V" } : Jvm.MethodName)) ∈ lw_all := lw_g (lw_at lw_m7 172 rfl) rfl
theorem q1902 : (Jvm.Cond.code ({ cls := "CircuitWarden$Design", name := "define", desc := "(III)V" } : Jvm.MethodName) prog_4_method_9_code (4 : Nat) (Option.none : Option Jvm.ClassFile.FieldType)) ∈ lw_all := lw_g (lw_at lw_m7 173 rfl) rfl
theorem q1903 : (Jvm.Cond.methodLink "CircuitWarden$Design" (185 : Nat) ({ cls := "CircuitWarden$Design", name := "sum", desc := "(I)I" } : Jvm.MethodName)) ∈ lw_all := lw_g (lw_at lw_m7 174 rfl) rfl
theorem q1904 : (Jvm.Cond.privateMethod ({ cls := "CircuitWarden$Design", name := "sum", desc := "(I)I" } : Jvm.MethodName)) ∈ lw_tbl := lw_at lw_m7 175 rfl
theorem q1905 : (Jvm.Cond.instanceMethod ({ cls := "CircuitWarden$Design", name := "sum", desc := "(I)I" } : Jvm.MethodName)) ∈ lw_all := lw_g (lw_at lw_m7 176 rfl) rfl
theorem q1906 : (Jvm.Cond.code ({ cls := "CircuitWarden$Design", name := "sum", desc := "(I)I" } : Jvm.MethodName) prog_4_method_12_code (5 : Nat) (Option.some Jvm.ClassFile.FieldType.int)) ∈ lw_all := lw_g (lw_at lw_m7 177 rfl) rfl
theorem q1907 : (Jvm.Cond.methodLink "CircuitWarden$Design" (175 : Nat) ({ cls := "CircuitWarden$Design", name := "constant", desc := "(I)I" } : Jvm.MethodName)) ∈ lw_all := lw_g (lw_at lw_m7 178 rfl) rfl
theorem q1908 : (Jvm.Cond.privateMethod ({ cls := "CircuitWarden$Design", name := "constant", desc := "(I)I" } : Jvm.MethodName)) ∈ lw_tbl := lw_at lw_m7 179 rfl
theorem q1909 : (Jvm.Cond.instanceMethod ({ cls := "CircuitWarden$Design", name := "constant", desc := "(I)I" } : Jvm.MethodName)) ∈ lw_all := lw_g (lw_at lw_m7 180 rfl) rfl
theorem q1910 : (Jvm.Cond.code ({ cls := "CircuitWarden$Design", name := "constant", desc := "(I)I" } : Jvm.MethodName) prog_4_method_10_code (5 : Nat) (Option.some Jvm.ClassFile.FieldType.int)) ∈ lw_all := lw_g (lw_at lw_m7 181 rfl) rfl
theorem q1911 : (Jvm.Cond.methodLink "CircuitWarden$Design" (178 : Nat) ({ cls := "CircuitWarden$Design", name := "parameter", desc := "(I)I" } : Jvm.MethodName)) ∈ lw_all := lw_g (lw_at lw_m7 182 rfl) rfl
theorem q1912 : (Jvm.Cond.privateMethod ({ cls := "CircuitWarden$Design", name := "parameter", desc := "(I)I" } : Jvm.MethodName)) ∈ lw_tbl := lw_at lw_m7 183 rfl
theorem q1913 : (Jvm.Cond.instanceMethod ({ cls := "CircuitWarden$Design", name := "parameter", desc := "(I)I" } : Jvm.MethodName)) ∈ lw_all := lw_g (lw_at lw_m7 184 rfl) rfl
theorem q1914 : (Jvm.Cond.code ({ cls := "CircuitWarden$Design", name := "parameter", desc := "(I)I" } : Jvm.MethodName) prog_4_method_11_code (4 : Nat) (Option.some Jvm.ClassFile.FieldType.int)) ∈ lw_all := lw_g (lw_at lw_m7 185 rfl) rfl
theorem q1915 : (Jvm.Cond.methodLink "CircuitWarden$Design" (188 : Nat) ({ cls := "CircuitWarden$Design", name := "reckoned", desc := "(IJJI)I" } : Jvm.MethodName)) ∈ lw_all := lw_g (lw_at lw_m7 186 rfl) rfl
theorem q1916 : (Jvm.Cond.privateMethod ({ cls := "CircuitWarden$Design", name := "reckoned", desc := "(IJJI)I" } : Jvm.MethodName)) ∈ lw_tbl := lw_at lw_m7 187 rfl
theorem q1917 : (Jvm.Cond.instanceMethod ({ cls := "CircuitWarden$Design", name := "reckoned", desc := "(IJJI)I" } : Jvm.MethodName)) ∈ lw_all := lw_g (lw_at lw_m7 188 rfl) rfl
theorem q1918 : (Jvm.Cond.code ({ cls := "CircuitWarden$Design", name := "reckoned", desc := "(IJJI)I" } : Jvm.MethodName) prog_4_method_13_code (9 : Nat) (Option.some Jvm.ClassFile.FieldType.int)) ∈ lw_all := lw_g (lw_at lw_m7 189 rfl) rfl
theorem q1919 : (Jvm.Cond.methodLink "CircuitWarden$Design" (310 : Nat) ({ cls := "CircuitWarden$Design", name := "function", desc := "(I)V" } : Jvm.MethodName)) ∈ lw_all := lw_g (lw_at lw_m7 190 rfl) rfl
theorem q1920 : (Jvm.Cond.privateMethod ({ cls := "CircuitWarden$Design", name := "function", desc := "(I)V" } : Jvm.MethodName)) ∈ lw_tbl := lw_at lw_m7 191 rfl
theorem q1921 : (Jvm.Cond.instanceMethod ({ cls := "CircuitWarden$Design", name := "function", desc := "(I)V" } : Jvm.MethodName)) ∈ lw_all := lw_g (lw_at lw_m7 192 rfl) rfl
theorem q1922 : (Jvm.Cond.code ({ cls := "CircuitWarden$Design", name := "function", desc := "(I)V" } : Jvm.MethodName) prog_4_method_30_code (4 : Nat) (Option.none : Option Jvm.ClassFile.FieldType)) ∈ lw_all := lw_g (lw_at lw_m7 193 rfl) rfl
theorem q1923 : (Jvm.Cond.methodLink "CircuitWarden$Design" (277 : Nat) ({ cls := "CircuitWarden$Design", name := "alone", desc := "(III)V" } : Jvm.MethodName)) ∈ lw_all := lw_g (lw_at lw_m7 194 rfl) rfl
theorem q1924 : (Jvm.Cond.privateMethod ({ cls := "CircuitWarden$Design", name := "alone", desc := "(III)V" } : Jvm.MethodName)) ∈ lw_tbl := lw_at lw_m7 195 rfl
theorem q1925 : (Jvm.Cond.instanceMethod ({ cls := "CircuitWarden$Design", name := "alone", desc := "(III)V" } : Jvm.MethodName)) ∈ lw_all := lw_g (lw_at lw_m7 196 rfl) rfl
theorem q1926 : (Jvm.Cond.code ({ cls := "CircuitWarden$Design", name := "alone", desc := "(III)V" } : Jvm.MethodName) prog_4_method_31_code (5 : Nat) (Option.none : Option Jvm.ClassFile.FieldType)) ∈ lw_all := lw_g (lw_at lw_m7 197 rfl) rfl
theorem q1927 : (Jvm.Cond.methodLink "CircuitWarden$Design" (243 : Nat) ({ cls := "java/lang/Math", name := "min", desc := "(II)I" } : Jvm.MethodName)) ∈ lw_all := lw_g (lw_at lw_m7 198 rfl) rfl
theorem q1928 : (Jvm.Cond.methodLink "CircuitWarden$Design" (302 : Nat) ({ cls := "CircuitWarden$Design", name := "block", desc := "(I)V" } : Jvm.MethodName)) ∈ lw_all := lw_g (lw_at lw_m7 199 rfl) rfl
theorem q1929 : (Jvm.Cond.privateMethod ({ cls := "CircuitWarden$Design", name := "block", desc := "(I)V" } : Jvm.MethodName)) ∈ lw_tbl := lw_at lw_m7 200 rfl
theorem q1930 : (Jvm.Cond.instanceMethod ({ cls := "CircuitWarden$Design", name := "block", desc := "(I)V" } : Jvm.MethodName)) ∈ lw_all := lw_g (lw_at lw_m7 201 rfl) rfl
theorem q1931 : (Jvm.Cond.code ({ cls := "CircuitWarden$Design", name := "block", desc := "(I)V" } : Jvm.MethodName) prog_4_method_35_code (3 : Nat) (Option.none : Option Jvm.ClassFile.FieldType)) ∈ lw_all := lw_g (lw_at lw_m7 202 rfl) rfl
theorem q1932 : (Jvm.Cond.methodLink "CircuitWarden$Design" (293 : Nat) ({ cls := "CircuitWarden$Design", name := "statement", desc := "(I)V" } : Jvm.MethodName)) ∈ lw_all := lw_g (lw_at lw_m7 203 rfl) rfl
theorem q1933 : (Jvm.Cond.privateMethod ({ cls := "CircuitWarden$Design", name := "statement", desc := "(I)V" } : Jvm.MethodName)) ∈ lw_tbl := lw_at lw_m7 204 rfl
theorem q1934 : (Jvm.Cond.instanceMethod ({ cls := "CircuitWarden$Design", name := "statement", desc := "(I)V" } : Jvm.MethodName)) ∈ lw_all := lw_g (lw_at lw_m7 205 rfl) rfl
theorem q1935 : (Jvm.Cond.code ({ cls := "CircuitWarden$Design", name := "statement", desc := "(I)V" } : Jvm.MethodName) prog_4_method_36_code (7 : Nat) (Option.none : Option Jvm.ClassFile.FieldType)) ∈ lw_all := lw_g (lw_at lw_m7 206 rfl) rfl
theorem q1936 : (Jvm.Cond.methodLink "CircuitWarden$Design" (233 : Nat) ({ cls := "CircuitWarden$Design", name := "expr", desc := "(II)I" } : Jvm.MethodName)) ∈ lw_all := lw_g (lw_at lw_m7 207 rfl) rfl
theorem q1937 : (Jvm.Cond.privateMethod ({ cls := "CircuitWarden$Design", name := "expr", desc := "(II)I" } : Jvm.MethodName)) ∈ lw_tbl := lw_at lw_m7 208 rfl
theorem q1938 : (Jvm.Cond.instanceMethod ({ cls := "CircuitWarden$Design", name := "expr", desc := "(II)I" } : Jvm.MethodName)) ∈ lw_all := lw_g (lw_at lw_m7 209 rfl) rfl
theorem q1939 : (Jvm.Cond.code ({ cls := "CircuitWarden$Design", name := "expr", desc := "(II)I" } : Jvm.MethodName) prog_4_method_19_code (8 : Nat) (Option.some Jvm.ClassFile.FieldType.int)) ∈ lw_all := lw_g (lw_at lw_m7 210 rfl) rfl
theorem q1940 : (Jvm.Cond.methodLink "CircuitWarden$Design" (206 : Nat) ({ cls := "CircuitWarden$Design", name := "signal", desc := "(I)I" } : Jvm.MethodName)) ∈ lw_all := lw_g (lw_at lw_m7 211 rfl) rfl
theorem q1941 : (Jvm.Cond.privateMethod ({ cls := "CircuitWarden$Design", name := "signal", desc := "(I)I" } : Jvm.MethodName)) ∈ lw_tbl := lw_at lw_m7 212 rfl
theorem q1942 : (Jvm.Cond.instanceMethod ({ cls := "CircuitWarden$Design", name := "signal", desc := "(I)I" } : Jvm.MethodName)) ∈ lw_all := lw_g (lw_at lw_m7 213 rfl) rfl
theorem q1943 : (Jvm.Cond.code ({ cls := "CircuitWarden$Design", name := "signal", desc := "(I)I" } : Jvm.MethodName) prog_4_method_18_code (4 : Nat) (Option.some Jvm.ClassFile.FieldType.int)) ∈ lw_all := lw_g (lw_at lw_m7 214 rfl) rfl
theorem q1944 : (Jvm.Cond.methodLink "CircuitWarden$Design" (202 : Nat) ({ cls := "CircuitWarden$Design", name := "lay", desc := "(IIIII)I" } : Jvm.MethodName)) ∈ lw_all := lw_g (lw_at lw_m7 215 rfl) rfl
theorem q1945 : (Jvm.Cond.privateMethod ({ cls := "CircuitWarden$Design", name := "lay", desc := "(IIIII)I" } : Jvm.MethodName)) ∈ lw_tbl := lw_at lw_m7 216 rfl
theorem q1946 : (Jvm.Cond.instanceMethod ({ cls := "CircuitWarden$Design", name := "lay", desc := "(IIIII)I" } : Jvm.MethodName)) ∈ lw_all := lw_g (lw_at lw_m7 217 rfl) rfl
theorem q1947 : (Jvm.Cond.code ({ cls := "CircuitWarden$Design", name := "lay", desc := "(IIIII)I" } : Jvm.MethodName) prog_4_method_16_code (6 : Nat) (Option.some Jvm.ClassFile.FieldType.int)) ∈ lw_all := lw_g (lw_at lw_m7 218 rfl) rfl
theorem q1948 : (Jvm.Cond.methodLink "CircuitWarden$Design" (209 : Nat) ({ cls := "CircuitWarden$Design", name := "chain", desc := "(II)I" } : Jvm.MethodName)) ∈ lw_all := lw_g (lw_at lw_m7 219 rfl) rfl
theorem q1949 : (Jvm.Cond.privateMethod ({ cls := "CircuitWarden$Design", name := "chain", desc := "(II)I" } : Jvm.MethodName)) ∈ lw_tbl := lw_at lw_m7 220 rfl
theorem q1950 : (Jvm.Cond.instanceMethod ({ cls := "CircuitWarden$Design", name := "chain", desc := "(II)I" } : Jvm.MethodName)) ∈ lw_all := lw_g (lw_at lw_m7 221 rfl) rfl
theorem q1951 : (Jvm.Cond.code ({ cls := "CircuitWarden$Design", name := "chain", desc := "(II)I" } : Jvm.MethodName) prog_4_method_23_code (7 : Nat) (Option.some Jvm.ClassFile.FieldType.int)) ∈ lw_all := lw_g (lw_at lw_m7 222 rfl) rfl
theorem q1952 : (Jvm.Cond.methodLink "CircuitWarden$Design" (215 : Nat) ({ cls := "CircuitWarden$Design", name := "count", desc := "(II)V" } : Jvm.MethodName)) ∈ lw_all := lw_g (lw_at lw_m7 223 rfl) rfl
theorem q1953 : (Jvm.Cond.privateMethod ({ cls := "CircuitWarden$Design", name := "count", desc := "(II)V" } : Jvm.MethodName)) ∈ lw_tbl := lw_at lw_m7 224 rfl
theorem q1954 : (Jvm.Cond.instanceMethod ({ cls := "CircuitWarden$Design", name := "count", desc := "(II)V" } : Jvm.MethodName)) ∈ lw_all := lw_g (lw_at lw_m7 225 rfl) rfl
theorem q1955 : (Jvm.Cond.code ({ cls := "CircuitWarden$Design", name := "count", desc := "(II)V" } : Jvm.MethodName) prog_4_method_17_code (3 : Nat) (Option.none : Option Jvm.ClassFile.FieldType)) ∈ lw_all := lw_g (lw_at lw_m7 226 rfl) rfl
theorem q1956 : (Jvm.Cond.methodLink "CircuitWarden$Design" (212 : Nat) ({ cls := "CircuitWarden$Design", name := "choose", desc := "(II)I" } : Jvm.MethodName)) ∈ lw_all := lw_g (lw_at lw_m7 227 rfl) rfl
theorem q1957 : (Jvm.Cond.privateMethod ({ cls := "CircuitWarden$Design", name := "choose", desc := "(II)I" } : Jvm.MethodName)) ∈ lw_tbl := lw_at lw_m7 228 rfl
theorem q1958 : (Jvm.Cond.instanceMethod ({ cls := "CircuitWarden$Design", name := "choose", desc := "(II)I" } : Jvm.MethodName)) ∈ lw_all := lw_g (lw_at lw_m7 229 rfl) rfl
theorem q1959 : (Jvm.Cond.code ({ cls := "CircuitWarden$Design", name := "choose", desc := "(II)I" } : Jvm.MethodName) prog_4_method_24_code (7 : Nat) (Option.some Jvm.ClassFile.FieldType.int)) ∈ lw_all := lw_g (lw_at lw_m7 230 rfl) rfl
theorem q1960 : (Jvm.Cond.methodLink "CircuitWarden$Design" (218 : Nat) ({ cls := "CircuitWarden$Design", name := "bits", desc := "(I)I" } : Jvm.MethodName)) ∈ lw_all := lw_g (lw_at lw_m7 231 rfl) rfl
theorem q1961 : (Jvm.Cond.privateMethod ({ cls := "CircuitWarden$Design", name := "bits", desc := "(I)I" } : Jvm.MethodName)) ∈ lw_tbl := lw_at lw_m7 232 rfl
theorem q1962 : (Jvm.Cond.instanceMethod ({ cls := "CircuitWarden$Design", name := "bits", desc := "(I)I" } : Jvm.MethodName)) ∈ lw_all := lw_g (lw_at lw_m7 233 rfl) rfl
theorem q1963 : (Jvm.Cond.code ({ cls := "CircuitWarden$Design", name := "bits", desc := "(I)I" } : Jvm.MethodName) prog_4_method_20_code (7 : Nat) (Option.some Jvm.ClassFile.FieldType.int)) ∈ lw_all := lw_g (lw_at lw_m7 234 rfl) rfl
theorem q1964 : (Jvm.Cond.methodLink "CircuitWarden$Design" (221 : Nat) ({ cls := "CircuitWarden$Design", name := "call", desc := "(II)I" } : Jvm.MethodName)) ∈ lw_all := lw_g (lw_at lw_m7 235 rfl) rfl
theorem q1965 : (Jvm.Cond.privateMethod ({ cls := "CircuitWarden$Design", name := "call", desc := "(II)I" } : Jvm.MethodName)) ∈ lw_tbl := lw_at lw_m7 236 rfl
theorem q1966 : (Jvm.Cond.instanceMethod ({ cls := "CircuitWarden$Design", name := "call", desc := "(II)I" } : Jvm.MethodName)) ∈ lw_all := lw_g (lw_at lw_m7 237 rfl) rfl
theorem q1967 : (Jvm.Cond.code ({ cls := "CircuitWarden$Design", name := "call", desc := "(II)I" } : Jvm.MethodName) prog_4_method_25_code (12 : Nat) (Option.some Jvm.ClassFile.FieldType.int)) ∈ lw_all := lw_g (lw_at lw_m7 238 rfl) rfl
theorem q1968 : (Jvm.Cond.methodLink "CircuitWarden$Design" (248 : Nat) ({ cls := "CircuitWarden$Tree", name := "parts", desc := "(I)I" } : Jvm.MethodName)) ∈ lw_all := lw_g (lw_at lw_m7 239 rfl) rfl
theorem q1972 : (Jvm.Cond.methodLink "CircuitWarden$Design" (239 : Nat) ({ cls := "CircuitWarden$Design", name := "give", desc := "(I)V" } : Jvm.MethodName)) ∈ lw_all := lw_g (lw_at lw_m8 3 rfl) rfl
theorem q1973 : (Jvm.Cond.privateMethod ({ cls := "CircuitWarden$Design", name := "give", desc := "(I)V" } : Jvm.MethodName)) ∈ lw_tbl := lw_at lw_m8 4 rfl
theorem q1974 : (Jvm.Cond.instanceMethod ({ cls := "CircuitWarden$Design", name := "give", desc := "(I)V" } : Jvm.MethodName)) ∈ lw_all := lw_g (lw_at lw_m8 5 rfl) rfl
theorem q1975 : (Jvm.Cond.code ({ cls := "CircuitWarden$Design", name := "give", desc := "(I)V" } : Jvm.MethodName) prog_4_method_22_code (2 : Nat) (Option.none : Option Jvm.ClassFile.FieldType)) ∈ lw_all := lw_g (lw_at lw_m8 6 rfl) rfl
theorem q1976 : (Jvm.Cond.methodLink "CircuitWarden$Design" (254 : Nat) ({ cls := "CircuitWarden$Design", name := "enter", desc := "(III)V" } : Jvm.MethodName)) ∈ lw_all := lw_g (lw_at lw_m8 7 rfl) rfl
theorem q1977 : (Jvm.Cond.privateMethod ({ cls := "CircuitWarden$Design", name := "enter", desc := "(III)V" } : Jvm.MethodName)) ∈ lw_tbl := lw_at lw_m8 8 rfl
theorem q1978 : (Jvm.Cond.instanceMethod ({ cls := "CircuitWarden$Design", name := "enter", desc := "(III)V" } : Jvm.MethodName)) ∈ lw_all := lw_g (lw_at lw_m8 9 rfl) rfl
theorem q1979 : (Jvm.Cond.code ({ cls := "CircuitWarden$Design", name := "enter", desc := "(III)V" } : Jvm.MethodName) prog_4_method_26_code (4 : Nat) (Option.none : Option Jvm.ClassFile.FieldType)) ∈ lw_all := lw_g (lw_at lw_m8 10 rfl) rfl
theorem q1980 : (Jvm.Cond.methodLink "CircuitWarden$Design" (258 : Nat) ({ cls := "CircuitWarden$Design", name := "body", desc := "(IIII)I" } : Jvm.MethodName)) ∈ lw_all := lw_g (lw_at lw_m8 11 rfl) rfl
theorem q1981 : (Jvm.Cond.privateMethod ({ cls := "CircuitWarden$Design", name := "body", desc := "(IIII)I" } : Jvm.MethodName)) ∈ lw_tbl := lw_at lw_m8 12 rfl
theorem q1982 : (Jvm.Cond.instanceMethod ({ cls := "CircuitWarden$Design", name := "body", desc := "(IIII)I" } : Jvm.MethodName)) ∈ lw_all := lw_g (lw_at lw_m8 13 rfl) rfl
theorem q1983 : (Jvm.Cond.code ({ cls := "CircuitWarden$Design", name := "body", desc := "(IIII)I" } : Jvm.MethodName) prog_4_method_27_code (9 : Nat) (Option.some Jvm.ClassFile.FieldType.int)) ∈ lw_all := lw_g (lw_at lw_m8 14 rfl) rfl
theorem q1984 : (Jvm.Cond.methodLink "CircuitWarden$Design" (227 : Nat) ({ cls := "CircuitWarden$Design", name := "widthOf", desc := "(I)I" } : Jvm.MethodName)) ∈ lw_all := lw_g (lw_at lw_m8 15 rfl) rfl
theorem q1985 : (Jvm.Cond.privateMethod ({ cls := "CircuitWarden$Design", name := "widthOf", desc := "(I)I" } : Jvm.MethodName)) ∈ lw_tbl := lw_at lw_m8 16 rfl
theorem q1986 : (Jvm.Cond.instanceMethod ({ cls := "CircuitWarden$Design", name := "widthOf", desc := "(I)I" } : Jvm.MethodName)) ∈ lw_all := lw_g (lw_at lw_m8 17 rfl) rfl
theorem q1987 : (Jvm.Cond.code ({ cls := "CircuitWarden$Design", name := "widthOf", desc := "(I)I" } : Jvm.MethodName) prog_4_method_14_code (3 : Nat) (Option.some Jvm.ClassFile.FieldType.int)) ∈ lw_all := lw_g (lw_at lw_m8 18 rfl) rfl
theorem q1988 : (Jvm.Cond.methodLink "CircuitWarden$Design" (224 : Nat) ({ cls := "CircuitWarden$Design", name := "row", desc := "(II)I" } : Jvm.MethodName)) ∈ lw_all := lw_g (lw_at lw_m8 19 rfl) rfl
theorem q1989 : (Jvm.Cond.privateMethod ({ cls := "CircuitWarden$Design", name := "row", desc := "(II)I" } : Jvm.MethodName)) ∈ lw_tbl := lw_at lw_m8 20 rfl
theorem q1990 : (Jvm.Cond.instanceMethod ({ cls := "CircuitWarden$Design", name := "row", desc := "(II)I" } : Jvm.MethodName)) ∈ lw_all := lw_g (lw_at lw_m8 21 rfl) rfl
theorem q1991 : (Jvm.Cond.code ({ cls := "CircuitWarden$Design", name := "row", desc := "(II)I" } : Jvm.MethodName) prog_4_method_21_code (7 : Nat) (Option.some Jvm.ClassFile.FieldType.int)) ∈ lw_all := lw_g (lw_at lw_m8 22 rfl) rfl
theorem q1992 : (Jvm.Cond.methodLink "CircuitWarden$Design" (230 : Nat) ({ cls := "CircuitWarden$Design", name := "valueOf", desc := "(II)I" } : Jvm.MethodName)) ∈ lw_all := lw_g (lw_at lw_m8 23 rfl) rfl
theorem q1993 : (Jvm.Cond.privateMethod ({ cls := "CircuitWarden$Design", name := "valueOf", desc := "(II)I" } : Jvm.MethodName)) ∈ lw_tbl := lw_at lw_m8 24 rfl
theorem q1994 : (Jvm.Cond.instanceMethod ({ cls := "CircuitWarden$Design", name := "valueOf", desc := "(II)I" } : Jvm.MethodName)) ∈ lw_all := lw_g (lw_at lw_m8 25 rfl) rfl
theorem q1995 : (Jvm.Cond.code ({ cls := "CircuitWarden$Design", name := "valueOf", desc := "(II)I" } : Jvm.MethodName) prog_4_method_15_code (4 : Nat) (Option.some Jvm.ClassFile.FieldType.int)) ∈ lw_all := lw_g (lw_at lw_m8 26 rfl) rfl
theorem q1996 : (Jvm.Cond.methodLink "CircuitWarden$Design" (296 : Nat) ({ cls := "CircuitWarden$Design", name := "step", desc := "(IIII)I" } : Jvm.MethodName)) ∈ lw_all := lw_g (lw_at lw_m8 27 rfl) rfl
theorem q1997 : (Jvm.Cond.privateMethod ({ cls := "CircuitWarden$Design", name := "step", desc := "(IIII)I" } : Jvm.MethodName)) ∈ lw_tbl := lw_at lw_m8 28 rfl
theorem q1998 : (Jvm.Cond.instanceMethod ({ cls := "CircuitWarden$Design", name := "step", desc := "(IIII)I" } : Jvm.MethodName)) ∈ lw_all := lw_g (lw_at lw_m8 29 rfl) rfl
theorem q1999 : (Jvm.Cond.code ({ cls := "CircuitWarden$Design", name := "step", desc := "(IIII)I" } : Jvm.MethodName) prog_4_method_34_code (6 : Nat) (Option.some Jvm.ClassFile.FieldType.int)) ∈ lw_all := lw_g (lw_at lw_m8 30 rfl) rfl
theorem q2000 : (Jvm.Cond.methodLink "CircuitWarden$Design" (299 : Nat) ({ cls := "CircuitWarden$Design", name := "cases", desc := "(III)V" } : Jvm.MethodName)) ∈ lw_all := lw_g (lw_at lw_m8 31 rfl) rfl
theorem q2001 : (Jvm.Cond.privateMethod ({ cls := "CircuitWarden$Design", name := "cases", desc := "(III)V" } : Jvm.MethodName)) ∈ lw_tbl := lw_at lw_m8 32 rfl
theorem q2002 : (Jvm.Cond.instanceMethod ({ cls := "CircuitWarden$Design", name := "cases", desc := "(III)V" } : Jvm.MethodName)) ∈ lw_all := lw_g (lw_at lw_m8 33 rfl) rfl
theorem q2003 : (Jvm.Cond.code ({ cls := "CircuitWarden$Design", name := "cases", desc := "(III)V" } : Jvm.MethodName) prog_4_method_37_code (11 : Nat) (Option.none : Option Jvm.ClassFile.FieldType)) ∈ lw_all := lw_g (lw_at lw_m8 34 rfl) rfl
theorem q2004 : (Jvm.Cond.methodLink "CircuitWarden$Design" (316 : Nat) ({ cls := "CircuitWarden$Design", name := "signalItem", desc := "(I)V" } : Jvm.MethodName)) ∈ lw_all := lw_g (lw_at lw_m8 35 rfl) rfl
theorem q2005 : (Jvm.Cond.privateMethod ({ cls := "CircuitWarden$Design", name := "signalItem", desc := "(I)V" } : Jvm.MethodName)) ∈ lw_tbl := lw_at lw_m8 36 rfl
theorem q2006 : (Jvm.Cond.instanceMethod ({ cls := "CircuitWarden$Design", name := "signalItem", desc := "(I)V" } : Jvm.MethodName)) ∈ lw_all := lw_g (lw_at lw_m8 37 rfl) rfl
theorem q2007 : (Jvm.Cond.code ({ cls := "CircuitWarden$Design", name := "signalItem", desc := "(I)V" } : Jvm.MethodName) prog_4_method_32_code (10 : Nat) (Option.none : Option Jvm.ClassFile.FieldType)) ∈ lw_all := lw_g (lw_at lw_m8 38 rfl) rfl
theorem q2008 : (Jvm.Cond.methodLink "CircuitWarden$Design" (262 : Nat) ({ cls := "CircuitWarden$Design", name := "label", desc := "(I)V" } : Jvm.MethodName)) ∈ lw_all := lw_g (lw_at lw_m8 39 rfl) rfl
theorem q2009 : (Jvm.Cond.privateMethod ({ cls := "CircuitWarden$Design", name := "label", desc := "(I)V" } : Jvm.MethodName)) ∈ lw_tbl := lw_at lw_m8 40 rfl
theorem q2010 : (Jvm.Cond.instanceMethod ({ cls := "CircuitWarden$Design", name := "label", desc := "(I)V" } : Jvm.MethodName)) ∈ lw_all := lw_g (lw_at lw_m8 41 rfl) rfl
theorem q2011 : (Jvm.Cond.code ({ cls := "CircuitWarden$Design", name := "label", desc := "(I)V" } : Jvm.MethodName) prog_4_method_28_code (6 : Nat) (Option.none : Option Jvm.ClassFile.FieldType)) ∈ lw_all := lw_g (lw_at lw_m8 42 rfl) rfl
theorem q2012 : (Jvm.Cond.methodLink "CircuitWarden$Design" (283 : Nat) ({ cls := "CircuitWarden$Design", name := "add", desc := "(IIIIIII)V" } : Jvm.MethodName)) ∈ lw_all := lw_g (lw_at lw_m8 43 rfl) rfl
theorem q2013 : (Jvm.Cond.privateMethod ({ cls := "CircuitWarden$Design", name := "add", desc := "(IIIIIII)V" } : Jvm.MethodName)) ∈ lw_tbl := lw_at lw_m8 44 rfl
theorem q2014 : (Jvm.Cond.instanceMethod ({ cls := "CircuitWarden$Design", name := "add", desc := "(IIIIIII)V" } : Jvm.MethodName)) ∈ lw_all := lw_g (lw_at lw_m8 45 rfl) rfl
theorem q2015 : (Jvm.Cond.code ({ cls := "CircuitWarden$Design", name := "add", desc := "(IIIIIII)V" } : Jvm.MethodName) prog_4_method_33_code (8 : Nat) (Option.none : Option Jvm.ClassFile.FieldType)) ∈ lw_all := lw_g (lw_at lw_m8 46 rfl) rfl
theorem in_X7 : ∀ w ∈ wsX70, w ∈ lw_all := lw_in wsX70 [637, 639, 641, 643, 645, 647, 649, 651, 653, 655, 657, 659, 661, 663, 665, 667, 669, 671, 673, 675, 677, 679, 681, 683, 685, 687, 689, 691, 693, 695, 697, 699, 701, 703, 705, 707, 709, 711, 713, 715, 717, 719, 721, 723, 725, 727, 729, 731, 733, 735, 737] (by decide +kernel) (by decide +kernel)
/-! CircuitWarden$Levels -/
def RX8 : String := "CircuitWarden$Levels"
def TX8 : u_T := fun k => match k with
  | 0 => ("CircuitWarden$Levels", "below", "[I", true)
  | 1 => ("CircuitWarden$Levels", "joins", "[I", true)
  | _ => ("CircuitWarden$Levels", "count", "I", false)
def tyX8 : Nat → FieldType := fun k => match k with
  | 0 => .array .int
  | 1 => .array .int
  | _ => .int
abbrev wsX80 : List Cond := u_ws RX8 TX8 3
theorem nmX8 : ∀ a, a < 3 → ∀ b, b < 3 → a ≠ b → (TX8 a).2.1 ≠ (TX8 b).2.1 := by decide +kernel
theorem tyX8_ok : ∀ k, k < 3 → parseFieldDescriptor (TX8 k).2.2.1 = some (tyX8 k) := by decide +kernel
abbrev cX8_init : ByteArray := prog_7_method_1_code
def yX8_init : MethodName := ⟨RX8, "<init>", "()V"⟩
abbrev cX8_clear : ByteArray := prog_7_method_2_code
def yX8_clear : MethodName := ⟨RX8, "clear", "()V"⟩
abbrev cX8_join : ByteArray := prog_7_method_6_code
def yX8_join : MethodName := ⟨RX8, "join", "()Z"⟩
abbrev cX8_least : ByteArray := prog_7_method_5_code
def yX8_least : MethodName := ⟨RX8, "least", "(II)I"⟩
abbrev cX8_lies : ByteArray := prog_7_method_4_code
def yX8_lies : MethodName := ⟨RX8, "lies", "(II)Z"⟩
abbrev cX8_join_2 : ByteArray := prog_7_method_7_code
def yX8_join_2 : MethodName := ⟨RX8, "join", "(II)I"⟩
abbrev cX8_add : ByteArray := prog_7_method_3_code
def yX8_add : MethodName := ⟨RX8, "add", "(I)V"⟩
theorem q300 : (Jvm.Cond.initialized "CircuitWarden$Levels") ∈ lw_all := lw_g (lw_at lw_m1 11 rfl) rfl
theorem q741 : (Jvm.Cond.instantiable "CircuitWarden$Levels" (3 : Nat)) ∈ lw_all := lw_g (lw_at lw_m2 212 rfl) rfl
theorem q743 : (Jvm.Cond.instanceMethod ({ cls := "CircuitWarden$Levels", name := "<init>", desc := "()V" } : Jvm.MethodName)) ∈ lw_all := lw_g (lw_at lw_m2 214 rfl) rfl
theorem q744 : (Jvm.Cond.code ({ cls := "CircuitWarden$Levels", name := "<init>", desc := "()V" } : Jvm.MethodName) prog_7_method_1_code (1 : Nat) (Option.none : Option Jvm.ClassFile.FieldType)) ∈ lw_all := lw_g (lw_at lw_m2 215 rfl) rfl
theorem q745 : (Jvm.Cond.methodLink "CircuitWarden$Levels" (3 : Nat) ({ cls := "java/lang/Object", name := "<init>", desc := "()V" } : Jvm.MethodName)) ∈ lw_all := lw_g (lw_at lw_m2 216 rfl) rfl
theorem q746 : (Jvm.Cond.fieldLink "CircuitWarden$Levels" (11 : Nat) "CircuitWarden$Levels" "below" "[I") ∈ lw_all := lw_g (lw_at lw_m2 217 rfl) rfl
theorem q747 : (Jvm.Cond.fieldLink "CircuitWarden$Levels" (15 : Nat) "CircuitWarden$Levels" "joins" "[I") ∈ lw_all := lw_g (lw_at lw_m2 218 rfl) rfl
theorem q748 : (Jvm.Cond.fieldLink "CircuitWarden$Levels" (18 : Nat) "CircuitWarden$Levels" "count" "I") ∈ lw_all := lw_g (lw_at lw_m2 219 rfl) rfl
theorem q750 : (Jvm.Cond.laysFinal "CircuitWarden$Levels" "CircuitWarden$Levels" "below" "[I") ∈ lw_all := lw_g (lw_at lw_m2 221 rfl) rfl
theorem q751 : (Jvm.Cond.soleField "CircuitWarden$Levels" "below") ∈ lw_all := lw_g (lw_at lw_m2 222 rfl) rfl
theorem q752 : (Jvm.Cond.laysFinal "CircuitWarden$Levels" "CircuitWarden$Levels" "joins" "[I") ∈ lw_all := lw_g (lw_at lw_m2 223 rfl) rfl
theorem q753 : (Jvm.Cond.soleField "CircuitWarden$Levels" "joins") ∈ lw_all := lw_g (lw_at lw_m2 224 rfl) rfl
theorem q754 : (Jvm.Cond.lays "CircuitWarden$Levels" "CircuitWarden$Levels" "count" "I") ∈ lw_all := lw_g (lw_at lw_m2 225 rfl) rfl
theorem q755 : (Jvm.Cond.soleField "CircuitWarden$Levels" "count") ∈ lw_all := lw_g (lw_at lw_m2 226 rfl) rfl
theorem q756 : (Jvm.Cond.superclass "CircuitWarden$Levels" "java/lang/Object") ∈ lw_all := lw_g (lw_at lw_m2 227 rfl) rfl
theorem q1073 : (Jvm.Cond.instanceMethod ({ cls := "CircuitWarden$Levels", name := "clear", desc := "()V" } : Jvm.MethodName)) ∈ lw_all := lw_g (lw_at lw_m4 64 rfl) rfl
theorem q1074 : (Jvm.Cond.selects "CircuitWarden$Levels" ({ cls := "CircuitWarden$Levels", name := "clear", desc := "()V" } : Jvm.MethodName) ({ cls := "CircuitWarden$Levels", name := "clear", desc := "()V" } : Jvm.MethodName)) ∈ lw_all := lw_g (lw_at lw_m4 65 rfl) rfl
theorem q1075 : (Jvm.Cond.code ({ cls := "CircuitWarden$Levels", name := "clear", desc := "()V" } : Jvm.MethodName) prog_7_method_2_code (1 : Nat) (Option.none : Option Jvm.ClassFile.FieldType)) ∈ lw_all := lw_g (lw_at lw_m4 66 rfl) rfl
theorem q1077 : (Jvm.Cond.instanceMethod ({ cls := "CircuitWarden$Levels", name := "join", desc := "()Z" } : Jvm.MethodName)) ∈ lw_all := lw_g (lw_at lw_m4 68 rfl) rfl
theorem q1078 : (Jvm.Cond.selects "CircuitWarden$Levels" ({ cls := "CircuitWarden$Levels", name := "join", desc := "()Z" } : Jvm.MethodName) ({ cls := "CircuitWarden$Levels", name := "join", desc := "()Z" } : Jvm.MethodName)) ∈ lw_all := lw_g (lw_at lw_m4 69 rfl) rfl
theorem q1079 : (Jvm.Cond.code ({ cls := "CircuitWarden$Levels", name := "join", desc := "()Z" } : Jvm.MethodName) prog_7_method_6_code (4 : Nat) (Option.some Jvm.ClassFile.FieldType.boolean)) ∈ lw_all := lw_g (lw_at lw_m4 70 rfl) rfl
theorem q1080 : (Jvm.Cond.methodLink "CircuitWarden$Levels" (26 : Nat) ({ cls := "CircuitWarden$Levels", name := "least", desc := "(II)I" } : Jvm.MethodName)) ∈ lw_all := lw_g (lw_at lw_m4 71 rfl) rfl
theorem q1081 : (Jvm.Cond.privateMethod ({ cls := "CircuitWarden$Levels", name := "least", desc := "(II)I" } : Jvm.MethodName)) ∈ lw_tbl := lw_at lw_m4 72 rfl
theorem q1082 : (Jvm.Cond.instanceMethod ({ cls := "CircuitWarden$Levels", name := "least", desc := "(II)I" } : Jvm.MethodName)) ∈ lw_all := lw_g (lw_at lw_m4 73 rfl) rfl
theorem q1083 : (Jvm.Cond.code ({ cls := "CircuitWarden$Levels", name := "least", desc := "(II)I" } : Jvm.MethodName) prog_7_method_5_code (8 : Nat) (Option.some Jvm.ClassFile.FieldType.int)) ∈ lw_all := lw_g (lw_at lw_m4 74 rfl) rfl
theorem q1084 : (Jvm.Cond.methodLink "CircuitWarden$Levels" (22 : Nat) ({ cls := "CircuitWarden$Levels", name := "lies", desc := "(II)Z" } : Jvm.MethodName)) ∈ lw_all := lw_g (lw_at lw_m4 75 rfl) rfl
theorem q1085 : (Jvm.Cond.instanceMethod ({ cls := "CircuitWarden$Levels", name := "lies", desc := "(II)Z" } : Jvm.MethodName)) ∈ lw_all := lw_g (lw_at lw_m4 76 rfl) rfl
theorem q1086 : (Jvm.Cond.selects "CircuitWarden$Levels" ({ cls := "CircuitWarden$Levels", name := "lies", desc := "(II)Z" } : Jvm.MethodName) ({ cls := "CircuitWarden$Levels", name := "lies", desc := "(II)Z" } : Jvm.MethodName)) ∈ lw_all := lw_g (lw_at lw_m4 77 rfl) rfl
theorem q1087 : (Jvm.Cond.code ({ cls := "CircuitWarden$Levels", name := "lies", desc := "(II)Z" } : Jvm.MethodName) prog_7_method_4_code (3 : Nat) (Option.some Jvm.ClassFile.FieldType.boolean)) ∈ lw_all := lw_g (lw_at lw_m4 78 rfl) rfl
theorem q1119 : (Jvm.Cond.instanceMethod ({ cls := "CircuitWarden$Levels", name := "join", desc := "(II)I" } : Jvm.MethodName)) ∈ lw_all := lw_g (lw_at lw_m4 110 rfl) rfl
theorem q1120 : (Jvm.Cond.selects "CircuitWarden$Levels" ({ cls := "CircuitWarden$Levels", name := "join", desc := "(II)I" } : Jvm.MethodName) ({ cls := "CircuitWarden$Levels", name := "join", desc := "(II)I" } : Jvm.MethodName)) ∈ lw_all := lw_g (lw_at lw_m4 111 rfl) rfl
theorem q1121 : (Jvm.Cond.code ({ cls := "CircuitWarden$Levels", name := "join", desc := "(II)I" } : Jvm.MethodName) prog_7_method_7_code (3 : Nat) (Option.some Jvm.ClassFile.FieldType.int)) ∈ lw_all := lw_g (lw_at lw_m4 112 rfl) rfl
theorem q2021 : (Jvm.Cond.instanceMethod ({ cls := "CircuitWarden$Levels", name := "add", desc := "(I)V" } : Jvm.MethodName)) ∈ lw_all := lw_g (lw_at lw_m8 52 rfl) rfl
theorem q2022 : (Jvm.Cond.selects "CircuitWarden$Levels" ({ cls := "CircuitWarden$Levels", name := "add", desc := "(I)V" } : Jvm.MethodName) ({ cls := "CircuitWarden$Levels", name := "add", desc := "(I)V" } : Jvm.MethodName)) ∈ lw_all := lw_g (lw_at lw_m8 53 rfl) rfl
theorem q2023 : (Jvm.Cond.code ({ cls := "CircuitWarden$Levels", name := "add", desc := "(I)V" } : Jvm.MethodName) prog_7_method_3_code (4 : Nat) (Option.none : Option Jvm.ClassFile.FieldType)) ∈ lw_all := lw_g (lw_at lw_m8 54 rfl) rfl
theorem in_X8 : ∀ w ∈ wsX80, w ∈ lw_all := lw_in wsX80 [750, 752, 754] (by decide +kernel) (by decide +kernel)
/-! CircuitWarden$Labels -/
def RX9 : String := "CircuitWarden$Labels"
def TX9 : u_T := fun k => match k with
  | 0 => ("CircuitWarden$Labels", "d", "LCircuitWarden$Design;", true)
  | 1 => ("CircuitWarden$Labels", "levels", "LCircuitWarden$Levels;", true)
  | 2 => ("CircuitWarden$Labels", "known", "[Z", false)
  | 3 => ("CircuitWarden$Labels", "values", "[J", false)
  | 4 => ("CircuitWarden$Labels", "labels", "[B", false)
  | 5 => ("CircuitWarden$Labels", "shifts", "[I", false)
  | _ => ("CircuitWarden$Labels", "m", "I", false)
def tyX9 : Nat → FieldType := fun k => match k with
  | 0 => .object "CircuitWarden$Design"
  | 1 => .object "CircuitWarden$Levels"
  | 2 => .array .boolean
  | 3 => .array .long
  | 4 => .array .byte
  | 5 => .array .int
  | _ => .int
abbrev wsX90 : List Cond := u_ws RX9 TX9 7
theorem nmX9 : ∀ a, a < 7 → ∀ b, b < 7 → a ≠ b → (TX9 a).2.1 ≠ (TX9 b).2.1 := by decide +kernel
theorem tyX9_ok : ∀ k, k < 7 → parseFieldDescriptor (TX9 k).2.2.1 = some (tyX9 k) := by decide +kernel
abbrev cX9_init : ByteArray := prog_6_method_1_code
def yX9_init : MethodName := ⟨RX9, "<init>", "(LCircuitWarden$Design;LCircuitWarden$Levels;)V"⟩
abbrev cX9_begin : ByteArray := prog_6_method_2_code
def yX9_begin : MethodName := ⟨RX9, "begin", "()V"⟩
abbrev cX9_told : ByteArray := prog_6_method_5_code
def yX9_told : MethodName := ⟨RX9, "told", "(II)I"⟩
abbrev cX9_mode : ByteArray := prog_6_method_4_code
def yX9_mode : MethodName := ⟨RX9, "mode", "(II)I"⟩
abbrev cX9_reckon : ByteArray := prog_6_method_8_code
def yX9_reckon : MethodName := ⟨RX9, "reckon", "(I)V"⟩
abbrev cX9_look : ByteArray := prog_6_method_9_code
def yX9_look : MethodName := ⟨RX9, "look", "(I)V"⟩
abbrev cX9_signal : ByteArray := prog_6_method_11_code
def yX9_signal : MethodName := ⟨RX9, "signal", "(II)V"⟩
abbrev cX9_set : ByteArray := prog_6_method_10_code
def yX9_set : MethodName := ⟨RX9, "set", "(IZJI)V"⟩
abbrev cX9_own : ByteArray := prog_6_method_6_code
def yX9_own : MethodName := ⟨RX9, "own", "(I)I"⟩
abbrev cX9_parts : ByteArray := prog_6_method_3_code
def yX9_parts : MethodName := ⟨RX9, "parts", "(I)I"⟩
abbrev cX9_join : ByteArray := prog_6_method_7_code
def yX9_join : MethodName := ⟨RX9, "join", "(II)I"⟩
theorem q301 : (Jvm.Cond.initialized "CircuitWarden$Labels") ∈ lw_all := lw_g (lw_at lw_m1 12 rfl) rfl
theorem q402 : (Jvm.Cond.fieldLinkNest "CircuitWarden$Labels" (55 : Nat) "CircuitWarden$Tree" "kinds" "[B" "CircuitWarden") ∈ lw_tbl := lw_at lw_m1 113 rfl
theorem q412 : (Jvm.Cond.fieldLinkNest "CircuitWarden$Labels" (59 : Nat) "CircuitWarden$Tree" "sizes" "[I" "CircuitWarden") ∈ lw_tbl := lw_at lw_m1 123 rfl
theorem q506 : (Jvm.Cond.fieldLinkNest "CircuitWarden$Labels" (51 : Nat) "CircuitWarden$Design" "tree" "LCircuitWarden$Tree;" "CircuitWarden") ∈ lw_tbl := lw_at lw_m1 217 rfl
theorem q511 : (Jvm.Cond.fieldLinkNest "CircuitWarden$Labels" (95 : Nat) "CircuitWarden$Design" "op" "[I" "CircuitWarden") ∈ lw_tbl := lw_at lw_m1 222 rfl
theorem q519 : (Jvm.Cond.fieldLinkNest "CircuitWarden$Labels" (98 : Nat) "CircuitWarden$Design" "a" "[I" "CircuitWarden") ∈ lw_tbl := lw_at lw_m1 230 rfl
theorem q523 : (Jvm.Cond.fieldLinkNest "CircuitWarden$Labels" (113 : Nat) "CircuitWarden$Design" "b" "[I" "CircuitWarden") ∈ lw_tbl := lw_at lw_m1 234 rfl
theorem q527 : (Jvm.Cond.fieldLinkNest "CircuitWarden$Labels" (116 : Nat) "CircuitWarden$Design" "c" "[I" "CircuitWarden") ∈ lw_tbl := lw_at lw_m1 238 rfl
theorem q530 : (Jvm.Cond.fieldLinkNest "CircuitWarden$Labels" (88 : Nat) "CircuitWarden$Design" "looks" "I" "CircuitWarden") ∈ lw_tbl := lw_at lw_m2 1 rfl
theorem q535 : (Jvm.Cond.fieldLinkNest "CircuitWarden$Labels" (45 : Nat) "CircuitWarden$Design" "kinds" "[I" "CircuitWarden") ∈ lw_tbl := lw_at lw_m2 6 rfl
theorem q541 : (Jvm.Cond.fieldLinkNest "CircuitWarden$Labels" (48 : Nat) "CircuitWarden$Design" "widths" "[I" "CircuitWarden") ∈ lw_tbl := lw_at lw_m2 12 rfl
theorem q552 : (Jvm.Cond.fieldLinkNest "CircuitWarden$Labels" (77 : Nat) "CircuitWarden$Design" "labels" "[I" "CircuitWarden") ∈ lw_tbl := lw_at lw_m2 23 rfl
theorem q558 : (Jvm.Cond.fieldLinkNest "CircuitWarden$Labels" (85 : Nat) "CircuitWarden$Design" "roots" "[I" "CircuitWarden") ∈ lw_tbl := lw_at lw_m2 29 rfl
theorem q565 : (Jvm.Cond.fieldLinkNest "CircuitWarden$Labels" (35 : Nat) "CircuitWarden$Design" "signals" "I" "CircuitWarden") ∈ lw_tbl := lw_at lw_m2 36 rfl
theorem q577 : (Jvm.Cond.fieldLinkNest "CircuitWarden$Labels" (62 : Nat) "CircuitWarden$Design" "means" "[I" "CircuitWarden") ∈ lw_tbl := lw_at lw_m2 48 rfl
theorem q579 : (Jvm.Cond.fieldLinkNest "CircuitWarden$Labels" (69 : Nat) "CircuitWarden$Design" "sums" "[I" "CircuitWarden") ∈ lw_tbl := lw_at lw_m2 50 rfl
theorem q758 : (Jvm.Cond.instantiable "CircuitWarden$Labels" (7 : Nat)) ∈ lw_all := lw_g (lw_at lw_m2 229 rfl) rfl
theorem q760 : (Jvm.Cond.instanceMethod ({ cls := "CircuitWarden$Labels", name := "<init>", desc := "(LCircuitWarden$Design;LCircuitWarden$Levels;)V" } : Jvm.MethodName)) ∈ lw_all := lw_g (lw_at lw_m2 231 rfl) rfl
theorem q761 : (Jvm.Cond.code ({ cls := "CircuitWarden$Labels", name := "<init>", desc := "(LCircuitWarden$Design;LCircuitWarden$Levels;)V" } : Jvm.MethodName) prog_6_method_1_code (3 : Nat) (Option.none : Option Jvm.ClassFile.FieldType)) ∈ lw_all := lw_g (lw_at lw_m2 232 rfl) rfl
theorem q762 : (Jvm.Cond.methodLink "CircuitWarden$Labels" (3 : Nat) ({ cls := "java/lang/Object", name := "<init>", desc := "()V" } : Jvm.MethodName)) ∈ lw_all := lw_g (lw_at lw_m2 233 rfl) rfl
theorem q763 : (Jvm.Cond.fieldLink "CircuitWarden$Labels" (27 : Nat) "CircuitWarden$Labels" "d" "LCircuitWarden$Design;") ∈ lw_all := lw_g (lw_at lw_m2 234 rfl) rfl
theorem q764 : (Jvm.Cond.fieldLink "CircuitWarden$Labels" (31 : Nat) "CircuitWarden$Labels" "levels" "LCircuitWarden$Levels;") ∈ lw_all := lw_g (lw_at lw_m2 235 rfl) rfl
theorem q765 : (Jvm.Cond.fieldLink "CircuitWarden$Labels" (9 : Nat) "CircuitWarden$Labels" "known" "[Z") ∈ lw_all := lw_g (lw_at lw_m2 236 rfl) rfl
theorem q767 : (Jvm.Cond.fieldLink "CircuitWarden$Labels" (15 : Nat) "CircuitWarden$Labels" "values" "[J") ∈ lw_all := lw_g (lw_at lw_m2 238 rfl) rfl
theorem q769 : (Jvm.Cond.fieldLink "CircuitWarden$Labels" (19 : Nat) "CircuitWarden$Labels" "labels" "[B") ∈ lw_all := lw_g (lw_at lw_m3 0 rfl) rfl
theorem q771 : (Jvm.Cond.fieldLink "CircuitWarden$Labels" (23 : Nat) "CircuitWarden$Labels" "shifts" "[I") ∈ lw_all := lw_g (lw_at lw_m3 2 rfl) rfl
theorem q773 : (Jvm.Cond.fieldLink "CircuitWarden$Labels" (79 : Nat) "CircuitWarden$Labels" "m" "I") ∈ lw_all := lw_g (lw_at lw_m3 4 rfl) rfl
theorem q774 : (Jvm.Cond.laysFinal "CircuitWarden$Labels" "CircuitWarden$Labels" "d" "LCircuitWarden$Design;") ∈ lw_all := lw_g (lw_at lw_m3 5 rfl) rfl
theorem q775 : (Jvm.Cond.soleField "CircuitWarden$Labels" "d") ∈ lw_all := lw_g (lw_at lw_m3 6 rfl) rfl
theorem q776 : (Jvm.Cond.laysFinal "CircuitWarden$Labels" "CircuitWarden$Labels" "levels" "LCircuitWarden$Levels;") ∈ lw_all := lw_g (lw_at lw_m3 7 rfl) rfl
theorem q777 : (Jvm.Cond.soleField "CircuitWarden$Labels" "levels") ∈ lw_all := lw_g (lw_at lw_m3 8 rfl) rfl
theorem q778 : (Jvm.Cond.lays "CircuitWarden$Labels" "CircuitWarden$Labels" "known" "[Z") ∈ lw_all := lw_g (lw_at lw_m3 9 rfl) rfl
theorem q779 : (Jvm.Cond.soleField "CircuitWarden$Labels" "known") ∈ lw_all := lw_g (lw_at lw_m3 10 rfl) rfl
theorem q780 : (Jvm.Cond.lays "CircuitWarden$Labels" "CircuitWarden$Labels" "values" "[J") ∈ lw_all := lw_g (lw_at lw_m3 11 rfl) rfl
theorem q781 : (Jvm.Cond.soleField "CircuitWarden$Labels" "values") ∈ lw_all := lw_g (lw_at lw_m3 12 rfl) rfl
theorem q782 : (Jvm.Cond.lays "CircuitWarden$Labels" "CircuitWarden$Labels" "labels" "[B") ∈ lw_all := lw_g (lw_at lw_m3 13 rfl) rfl
theorem q783 : (Jvm.Cond.soleField "CircuitWarden$Labels" "labels") ∈ lw_all := lw_g (lw_at lw_m3 14 rfl) rfl
theorem q784 : (Jvm.Cond.lays "CircuitWarden$Labels" "CircuitWarden$Labels" "shifts" "[I") ∈ lw_all := lw_g (lw_at lw_m3 15 rfl) rfl
theorem q785 : (Jvm.Cond.soleField "CircuitWarden$Labels" "shifts") ∈ lw_all := lw_g (lw_at lw_m3 16 rfl) rfl
theorem q786 : (Jvm.Cond.lays "CircuitWarden$Labels" "CircuitWarden$Labels" "m" "I") ∈ lw_all := lw_g (lw_at lw_m3 17 rfl) rfl
theorem q787 : (Jvm.Cond.soleField "CircuitWarden$Labels" "m") ∈ lw_all := lw_g (lw_at lw_m3 18 rfl) rfl
theorem q788 : (Jvm.Cond.superclass "CircuitWarden$Labels" "java/lang/Object") ∈ lw_all := lw_g (lw_at lw_m3 19 rfl) rfl
theorem q1093 : (Jvm.Cond.instanceMethod ({ cls := "CircuitWarden$Labels", name := "begin", desc := "()V" } : Jvm.MethodName)) ∈ lw_all := lw_g (lw_at lw_m4 84 rfl) rfl
theorem q1094 : (Jvm.Cond.selects "CircuitWarden$Labels" ({ cls := "CircuitWarden$Labels", name := "begin", desc := "()V" } : Jvm.MethodName) ({ cls := "CircuitWarden$Labels", name := "begin", desc := "()V" } : Jvm.MethodName)) ∈ lw_all := lw_g (lw_at lw_m4 85 rfl) rfl
theorem q1095 : (Jvm.Cond.code ({ cls := "CircuitWarden$Labels", name := "begin", desc := "()V" } : Jvm.MethodName) prog_6_method_2_code (3 : Nat) (Option.none : Option Jvm.ClassFile.FieldType)) ∈ lw_all := lw_g (lw_at lw_m4 86 rfl) rfl
theorem q1096 : (Jvm.Cond.methodLinkNest "CircuitWarden$Labels" (41 : Nat) ({ cls := "CircuitWarden", name := "grown", desc := "([II)[I" } : Jvm.MethodName) "CircuitWarden") ∈ lw_tbl := lw_at lw_m4 87 rfl
theorem q1111 : (Jvm.Cond.instanceMethod ({ cls := "CircuitWarden$Labels", name := "told", desc := "(II)I" } : Jvm.MethodName)) ∈ lw_all := lw_g (lw_at lw_m4 102 rfl) rfl
theorem q1112 : (Jvm.Cond.selects "CircuitWarden$Labels" ({ cls := "CircuitWarden$Labels", name := "told", desc := "(II)I" } : Jvm.MethodName) ({ cls := "CircuitWarden$Labels", name := "told", desc := "(II)I" } : Jvm.MethodName)) ∈ lw_all := lw_g (lw_at lw_m4 103 rfl) rfl
theorem q1113 : (Jvm.Cond.code ({ cls := "CircuitWarden$Labels", name := "told", desc := "(II)I" } : Jvm.MethodName) prog_6_method_5_code (6 : Nat) (Option.some Jvm.ClassFile.FieldType.int)) ∈ lw_all := lw_g (lw_at lw_m4 104 rfl) rfl
theorem q1114 : (Jvm.Cond.methodLink "CircuitWarden$Labels" (65 : Nat) ({ cls := "CircuitWarden$Labels", name := "mode", desc := "(II)I" } : Jvm.MethodName)) ∈ lw_all := lw_g (lw_at lw_m4 105 rfl) rfl
theorem q1115 : (Jvm.Cond.instanceMethod ({ cls := "CircuitWarden$Labels", name := "mode", desc := "(II)I" } : Jvm.MethodName)) ∈ lw_all := lw_g (lw_at lw_m4 106 rfl) rfl
theorem q1116 : (Jvm.Cond.selects "CircuitWarden$Labels" ({ cls := "CircuitWarden$Labels", name := "mode", desc := "(II)I" } : Jvm.MethodName) ({ cls := "CircuitWarden$Labels", name := "mode", desc := "(II)I" } : Jvm.MethodName)) ∈ lw_all := lw_g (lw_at lw_m4 107 rfl) rfl
theorem q1117 : (Jvm.Cond.code ({ cls := "CircuitWarden$Labels", name := "mode", desc := "(II)I" } : Jvm.MethodName) prog_6_method_4_code (3 : Nat) (Option.some Jvm.ClassFile.FieldType.int)) ∈ lw_all := lw_g (lw_at lw_m4 108 rfl) rfl
theorem q1118 : (Jvm.Cond.methodLink "CircuitWarden$Labels" (72 : Nat) ({ cls := "CircuitWarden$Levels", name := "join", desc := "(II)I" } : Jvm.MethodName)) ∈ lw_all := lw_g (lw_at lw_m4 109 rfl) rfl
theorem q1127 : (Jvm.Cond.instanceMethod ({ cls := "CircuitWarden$Labels", name := "reckon", desc := "(I)V" } : Jvm.MethodName)) ∈ lw_all := lw_g (lw_at lw_m4 118 rfl) rfl
theorem q1128 : (Jvm.Cond.selects "CircuitWarden$Labels" ({ cls := "CircuitWarden$Labels", name := "reckon", desc := "(I)V" } : Jvm.MethodName) ({ cls := "CircuitWarden$Labels", name := "reckon", desc := "(I)V" } : Jvm.MethodName)) ∈ lw_all := lw_g (lw_at lw_m4 119 rfl) rfl
theorem q1129 : (Jvm.Cond.code ({ cls := "CircuitWarden$Labels", name := "reckon", desc := "(I)V" } : Jvm.MethodName) prog_6_method_8_code (3 : Nat) (Option.none : Option Jvm.ClassFile.FieldType)) ∈ lw_all := lw_g (lw_at lw_m4 120 rfl) rfl
theorem q1130 : (Jvm.Cond.methodLink "CircuitWarden$Labels" (91 : Nat) ({ cls := "CircuitWarden$Labels", name := "look", desc := "(I)V" } : Jvm.MethodName)) ∈ lw_all := lw_g (lw_at lw_m4 121 rfl) rfl
theorem q1131 : (Jvm.Cond.privateMethod ({ cls := "CircuitWarden$Labels", name := "look", desc := "(I)V" } : Jvm.MethodName)) ∈ lw_tbl := lw_at lw_m4 122 rfl
theorem q1132 : (Jvm.Cond.instanceMethod ({ cls := "CircuitWarden$Labels", name := "look", desc := "(I)V" } : Jvm.MethodName)) ∈ lw_all := lw_g (lw_at lw_m4 123 rfl) rfl
theorem q1133 : (Jvm.Cond.code ({ cls := "CircuitWarden$Labels", name := "look", desc := "(I)V" } : Jvm.MethodName) prog_6_method_9_code (7 : Nat) (Option.none : Option Jvm.ClassFile.FieldType)) ∈ lw_all := lw_g (lw_at lw_m4 124 rfl) rfl
theorem q1134 : (Jvm.Cond.methodLink "CircuitWarden$Labels" (101 : Nat) ({ cls := "CircuitWarden$Labels", name := "signal", desc := "(II)V" } : Jvm.MethodName)) ∈ lw_all := lw_g (lw_at lw_m4 125 rfl) rfl
theorem q1135 : (Jvm.Cond.privateMethod ({ cls := "CircuitWarden$Labels", name := "signal", desc := "(II)V" } : Jvm.MethodName)) ∈ lw_tbl := lw_at lw_m4 126 rfl
theorem q1136 : (Jvm.Cond.instanceMethod ({ cls := "CircuitWarden$Labels", name := "signal", desc := "(II)V" } : Jvm.MethodName)) ∈ lw_all := lw_g (lw_at lw_m4 127 rfl) rfl
theorem q1137 : (Jvm.Cond.code ({ cls := "CircuitWarden$Labels", name := "signal", desc := "(II)V" } : Jvm.MethodName) prog_6_method_11_code (5 : Nat) (Option.none : Option Jvm.ClassFile.FieldType)) ∈ lw_all := lw_g (lw_at lw_m4 128 rfl) rfl
theorem q1138 : (Jvm.Cond.methodLink "CircuitWarden$Labels" (105 : Nat) ({ cls := "CircuitWarden$Labels", name := "set", desc := "(IZJI)V" } : Jvm.MethodName)) ∈ lw_all := lw_g (lw_at lw_m4 129 rfl) rfl
theorem q1139 : (Jvm.Cond.privateMethod ({ cls := "CircuitWarden$Labels", name := "set", desc := "(IZJI)V" } : Jvm.MethodName)) ∈ lw_tbl := lw_at lw_m4 130 rfl
theorem q1140 : (Jvm.Cond.instanceMethod ({ cls := "CircuitWarden$Labels", name := "set", desc := "(IZJI)V" } : Jvm.MethodName)) ∈ lw_all := lw_g (lw_at lw_m4 131 rfl) rfl
theorem q1141 : (Jvm.Cond.code ({ cls := "CircuitWarden$Labels", name := "set", desc := "(IZJI)V" } : Jvm.MethodName) prog_6_method_10_code (6 : Nat) (Option.none : Option Jvm.ClassFile.FieldType)) ∈ lw_all := lw_g (lw_at lw_m4 132 rfl) rfl
theorem q1142 : (Jvm.Cond.methodLink "CircuitWarden$Labels" (124 : Nat) ({ cls := "CircuitWarden$Labels", name := "own", desc := "(I)I" } : Jvm.MethodName)) ∈ lw_all := lw_g (lw_at lw_m4 133 rfl) rfl
theorem q1143 : (Jvm.Cond.instanceMethod ({ cls := "CircuitWarden$Labels", name := "own", desc := "(I)I" } : Jvm.MethodName)) ∈ lw_all := lw_g (lw_at lw_m4 134 rfl) rfl
theorem q1144 : (Jvm.Cond.selects "CircuitWarden$Labels" ({ cls := "CircuitWarden$Labels", name := "own", desc := "(I)I" } : Jvm.MethodName) ({ cls := "CircuitWarden$Labels", name := "own", desc := "(I)I" } : Jvm.MethodName)) ∈ lw_all := lw_g (lw_at lw_m4 135 rfl) rfl
theorem q1145 : (Jvm.Cond.code ({ cls := "CircuitWarden$Labels", name := "own", desc := "(I)I" } : Jvm.MethodName) prog_6_method_6_code (3 : Nat) (Option.some Jvm.ClassFile.FieldType.int)) ∈ lw_all := lw_g (lw_at lw_m4 136 rfl) rfl
theorem q1146 : (Jvm.Cond.methodLink "CircuitWarden$Labels" (82 : Nat) ({ cls := "CircuitWarden$Labels", name := "told", desc := "(II)I" } : Jvm.MethodName)) ∈ lw_all := lw_g (lw_at lw_m4 137 rfl) rfl
theorem q1147 : (Jvm.Cond.methodLink "CircuitWarden$Labels" (109 : Nat) ({ cls := "CircuitWarden$Labels", name := "parts", desc := "(I)I" } : Jvm.MethodName)) ∈ lw_all := lw_g (lw_at lw_m4 138 rfl) rfl
theorem q1148 : (Jvm.Cond.static ({ cls := "CircuitWarden$Labels", name := "parts", desc := "(I)I" } : Jvm.MethodName)) ∈ lw_all := lw_g (lw_at lw_m4 139 rfl) rfl
theorem q1149 : (Jvm.Cond.code ({ cls := "CircuitWarden$Labels", name := "parts", desc := "(I)I" } : Jvm.MethodName) prog_6_method_3_code (1 : Nat) (Option.some Jvm.ClassFile.FieldType.int)) ∈ lw_all := lw_g (lw_at lw_m4 140 rfl) rfl
theorem q1150 : (Jvm.Cond.methodLink "CircuitWarden$Labels" (119 : Nat) ({ cls := "CircuitWarden$Labels", name := "join", desc := "(II)I" } : Jvm.MethodName)) ∈ lw_all := lw_g (lw_at lw_m4 141 rfl) rfl
theorem q1151 : (Jvm.Cond.privateMethod ({ cls := "CircuitWarden$Labels", name := "join", desc := "(II)I" } : Jvm.MethodName)) ∈ lw_tbl := lw_at lw_m4 142 rfl
theorem q1152 : (Jvm.Cond.instanceMethod ({ cls := "CircuitWarden$Labels", name := "join", desc := "(II)I" } : Jvm.MethodName)) ∈ lw_all := lw_g (lw_at lw_m4 143 rfl) rfl
theorem q1153 : (Jvm.Cond.code ({ cls := "CircuitWarden$Labels", name := "join", desc := "(II)I" } : Jvm.MethodName) prog_6_method_7_code (3 : Nat) (Option.some Jvm.ClassFile.FieldType.int)) ∈ lw_all := lw_g (lw_at lw_m4 144 rfl) rfl
theorem q1154 : (Jvm.Cond.methodLinkNest "CircuitWarden$Labels" (120 : Nat) ({ cls := "CircuitWarden", name := "valueOf", desc := "(LCircuitWarden$Design;I[J)J" } : Jvm.MethodName) "CircuitWarden") ∈ lw_tbl := lw_at lw_m4 145 rfl
theorem in_X9 : ∀ w ∈ wsX90, w ∈ lw_all := lw_in wsX90 [774, 776, 778, 780, 782, 784, 786] (by decide +kernel) (by decide +kernel)
/-! the law's own entry -/
abbrev cL_law : ByteArray := code
theorem q289 : (Jvm.Cond.initialized "CircuitWardenLaw") ∈ lw_all := lw_g (lw_at lw_m1 0 rfl) rfl
theorem q324 : (Jvm.Cond.classLink "CircuitWardenLaw" (7 : Nat) "CircuitWarden") ∈ lw_all := lw_g (lw_at lw_m1 35 rfl) rfl
theorem q326 : (Jvm.Cond.methodLink "CircuitWardenLaw" (9 : Nat) ({ cls := "CircuitWarden", name := "<init>", desc := "()V" } : Jvm.MethodName)) ∈ lw_all := lw_g (lw_at lw_m1 37 rfl) rfl
theorem q1456 : (Jvm.Cond.methodLink "CircuitWardenLaw" (13 : Nat) ({ cls := "CircuitWarden", name := "feed", desc := "(IIIII)I" } : Jvm.MethodName)) ∈ lw_all := lw_g (lw_at lw_m5 207 rfl) rfl
theorem q1469 : (Jvm.Cond.methodLink "CircuitWardenLaw" (18 : Nat) ({ cls := "CircuitWarden", name := "end", desc := "(I)I" } : Jvm.MethodName)) ∈ lw_all := lw_g (lw_at lw_m5 220 rfl) rfl
theorem q2036 : (Jvm.Cond.methodLink "CircuitWardenLaw" (23 : Nat) ({ cls := "CircuitWarden", name := "told", desc := "(I)I" } : Jvm.MethodName)) ∈ lw_all := lw_g (lw_at lw_m8 67 rfl) rfl
theorem q2040 : (Jvm.Cond.methodLink "CircuitWardenLaw" (27 : Nat) ({ cls := "CircuitWarden", name := "count", desc := "(I)I" } : Jvm.MethodName)) ∈ lw_all := lw_g (lw_at lw_m8 71 rfl) rfl
theorem q2044 : (Jvm.Cond.methodLink "CircuitWardenLaw" (31 : Nat) ({ cls := "CircuitWarden", name := "item", desc := "(II)I" } : Jvm.MethodName)) ∈ lw_all := lw_g (lw_at lw_m8 75 rfl) rfl
theorem q2052 : (Jvm.Cond.methodLink "CircuitWardenLaw" (36 : Nat) ({ cls := "CircuitWarden", name := "label", desc := "(IIZ)I" } : Jvm.MethodName)) ∈ lw_all := lw_g (lw_at lw_m8 83 rfl) rfl
theorem q2059 : (Jvm.Cond.methodLink "CircuitWardenLaw" (41 : Nat) ({ cls := "CircuitWarden", name := "join", desc := "(II)I" } : Jvm.MethodName)) ∈ lw_all := lw_g (lw_at lw_m8 90 rfl) rfl
theorem q2068 : (Jvm.Cond.methodLink "CircuitWardenLaw" (45 : Nat) ({ cls := "CircuitWarden", name := "gate", desc := "(ZII)I" } : Jvm.MethodName)) ∈ lw_all := lw_g (lw_at lw_m8 99 rfl) rfl
theorem q2073 : (Jvm.Cond.methodLink "CircuitWardenLaw" (50 : Nat) ({ cls := "CircuitWarden", name := "literal", desc := "(III)I" } : Jvm.MethodName)) ∈ lw_all := lw_g (lw_at lw_m8 104 rfl) rfl
theorem q2083 : (Jvm.Cond.methodLink "CircuitWardenLaw" (55 : Nat) ({ cls := "CircuitWarden", name := "begin", desc := "(I)I" } : Jvm.MethodName)) ∈ lw_all := lw_g (lw_at lw_m8 114 rfl) rfl
theorem q2098 : (Jvm.Cond.methodLink "CircuitWardenLaw" (61 : Nat) ({ cls := "CircuitWarden", name := "drive", desc := "(IIJ)I" } : Jvm.MethodName)) ∈ lw_all := lw_g (lw_at lw_m8 129 rfl) rfl
theorem q2114 : (Jvm.Cond.methodLink "CircuitWardenLaw" (66 : Nat) ({ cls := "CircuitWarden", name := "step", desc := "(I)I" } : Jvm.MethodName)) ∈ lw_all := lw_g (lw_at lw_m8 145 rfl) rfl
theorem q2192 : (Jvm.Cond.methodLink "CircuitWardenLaw" (70 : Nat) ({ cls := "CircuitWarden", name := "value", desc := "(IIZ)J" } : Jvm.MethodName)) ∈ lw_all := lw_g (lw_at lw_m8 223 rfl) rfl
theorem q2197 : (Jvm.Cond.methodLink "CircuitWardenLaw" (75 : Nat) ({ cls := "CircuitWarden", name := "taint", desc := "(I)J" } : Jvm.MethodName)) ∈ lw_all := lw_g (lw_at lw_m8 228 rfl) rfl
theorem q2202 : (Jvm.Cond.methodLink "CircuitWardenLaw" (80 : Nat) ({ cls := "CircuitWarden", name := "broken", desc := "()I" } : Jvm.MethodName)) ∈ lw_all := lw_g (lw_at lw_m8 233 rfl) rfl
theorem q2206 : (Jvm.Cond.classLink "CircuitWardenLaw" (10 : Nat) "CircuitWardenModel") ∈ lw_all := lw_g (lw_at lw_m8 237 rfl) rfl
theorem q2208 : (Jvm.Cond.methodLink "CircuitWardenLaw" (12 : Nat) ({ cls := "CircuitWardenModel", name := "<init>", desc := "()V" } : Jvm.MethodName)) ∈ lw_all := lw_g (lw_at lw_m8 239 rfl) rfl
theorem q3117 : (Jvm.Cond.methodLink "CircuitWardenLaw" (17 : Nat) ({ cls := "CircuitWardenModel", name := "feed", desc := "(IIIII)I" } : Jvm.MethodName)) ∈ lw_all := lw_g (lw_at lw_m12 188 rfl) rfl
theorem q3121 : (Jvm.Cond.methodLink "CircuitWardenLaw" (22 : Nat) ({ cls := "CircuitWardenModel", name := "end", desc := "(I)I" } : Jvm.MethodName)) ∈ lw_all := lw_g (lw_at lw_m12 192 rfl) rfl
theorem q3427 : (Jvm.Cond.methodLink "CircuitWardenLaw" (26 : Nat) ({ cls := "CircuitWardenModel", name := "told", desc := "(I)I" } : Jvm.MethodName)) ∈ lw_all := lw_g (lw_at lw_m14 18 rfl) rfl
theorem q3431 : (Jvm.Cond.methodLink "CircuitWardenLaw" (30 : Nat) ({ cls := "CircuitWardenModel", name := "count", desc := "(I)I" } : Jvm.MethodName)) ∈ lw_all := lw_g (lw_at lw_m14 22 rfl) rfl
theorem q3435 : (Jvm.Cond.methodLink "CircuitWardenLaw" (35 : Nat) ({ cls := "CircuitWardenModel", name := "item", desc := "(II)I" } : Jvm.MethodName)) ∈ lw_all := lw_g (lw_at lw_m14 26 rfl) rfl
theorem q3443 : (Jvm.Cond.methodLink "CircuitWardenLaw" (40 : Nat) ({ cls := "CircuitWardenModel", name := "label", desc := "(IIZ)I" } : Jvm.MethodName)) ∈ lw_all := lw_g (lw_at lw_m14 34 rfl) rfl
theorem q3451 : (Jvm.Cond.methodLink "CircuitWardenLaw" (44 : Nat) ({ cls := "CircuitWardenModel", name := "join", desc := "(II)I" } : Jvm.MethodName)) ∈ lw_all := lw_g (lw_at lw_m14 42 rfl) rfl
theorem q3456 : (Jvm.Cond.methodLink "CircuitWardenLaw" (49 : Nat) ({ cls := "CircuitWardenModel", name := "gate", desc := "(ZII)I" } : Jvm.MethodName)) ∈ lw_all := lw_g (lw_at lw_m14 47 rfl) rfl
theorem q3460 : (Jvm.Cond.methodLink "CircuitWardenLaw" (54 : Nat) ({ cls := "CircuitWardenModel", name := "literal", desc := "(III)I" } : Jvm.MethodName)) ∈ lw_all := lw_g (lw_at lw_m14 51 rfl) rfl
theorem q3468 : (Jvm.Cond.methodLink "CircuitWardenLaw" (58 : Nat) ({ cls := "CircuitWardenModel", name := "begin", desc := "(I)I" } : Jvm.MethodName)) ∈ lw_all := lw_g (lw_at lw_m14 59 rfl) rfl
theorem q3521 : (Jvm.Cond.methodLink "CircuitWardenLaw" (65 : Nat) ({ cls := "CircuitWardenModel", name := "drive", desc := "(IIJ)I" } : Jvm.MethodName)) ∈ lw_all := lw_g (lw_at lw_m14 112 rfl) rfl
theorem q3525 : (Jvm.Cond.methodLink "CircuitWardenLaw" (69 : Nat) ({ cls := "CircuitWardenModel", name := "step", desc := "(I)I" } : Jvm.MethodName)) ∈ lw_all := lw_g (lw_at lw_m14 116 rfl) rfl
theorem q3557 : (Jvm.Cond.methodLink "CircuitWardenLaw" (74 : Nat) ({ cls := "CircuitWardenModel", name := "value", desc := "(IIZ)J" } : Jvm.MethodName)) ∈ lw_all := lw_g (lw_at lw_m14 148 rfl) rfl
theorem q3565 : (Jvm.Cond.methodLink "CircuitWardenLaw" (79 : Nat) ({ cls := "CircuitWardenModel", name := "taint", desc := "(I)J" } : Jvm.MethodName)) ∈ lw_all := lw_g (lw_at lw_m14 156 rfl) rfl
theorem q3569 : (Jvm.Cond.methodLink "CircuitWardenLaw" (84 : Nat) ({ cls := "CircuitWardenModel", name := "broken", desc := "()I" } : Jvm.MethodName)) ∈ lw_all := lw_g (lw_at lw_m14 160 rfl) rfl
theorem q3573 : (Jvm.Cond.constantLong "CircuitWardenLaw" (59 : Nat) (4294967295 : Int64)) ∈ lw_all := lw_g (lw_at lw_m14 164 rfl) rfl
theorem q445 : (Jvm.Cond.sameMethod "[LCircuitWarden$Token;" "java/lang/Object" "clone" "()Ljava/lang/Object;") ∈ lw_all := lw_g (lw_at lw_m1 156 rfl) rfl
theorem q448 : (Jvm.Cond.selects "[LCircuitWarden$Token;" ({ cls := "[LCircuitWarden$Token;", name := "clone", desc := "()Ljava/lang/Object;" } : Jvm.MethodName) ({ cls := "java/lang/Object", name := "clone", desc := "()Ljava/lang/Object;" } : Jvm.MethodName)) ∈ lw_all := lw_g (lw_at lw_m1 159 rfl) rfl
theorem q449 : (Jvm.Cond.castable "[LCircuitWarden$Token;" "java/lang/Cloneable") ∈ lw_tbl := lw_at lw_m1 160 rfl
theorem q294 : (Jvm.Cond.initialized "java/lang/System") ∈ lw_all := lw_g (lw_at lw_m1 5 rfl) rfl
theorem q391 : (Jvm.Cond.static ({ cls := "java/lang/System", name := "arraycopy", desc := "(Ljava/lang/Object;ILjava/lang/Object;II)V" } : Jvm.MethodName)) ∈ lw_all := lw_g (lw_at lw_m1 102 rfl) rfl
theorem q392 : (Jvm.Cond.native ({ cls := "java/lang/System", name := "arraycopy", desc := "(Ljava/lang/Object;ILjava/lang/Object;II)V" } : Jvm.MethodName)) ∈ lw_all := lw_g (lw_at lw_m1 103 rfl) rfl
theorem q347 : (Jvm.Cond.arrayClass Jvm.ClassFile.FieldType.byte) ∈ lw_all := lw_g (lw_at lw_m1 58 rfl) rfl
theorem q371 : (Jvm.Cond.arrayClass Jvm.ClassFile.FieldType.int) ∈ lw_all := lw_g (lw_at lw_m1 82 rfl) rfl
theorem q450 : (Jvm.Cond.arrayOver (Jvm.ClassFile.FieldType.object "CircuitWarden$Token")) ∈ lw_tbl := lw_at lw_m1 161 rfl
theorem q789 : (Jvm.Cond.arrayClass Jvm.ClassFile.FieldType.boolean) ∈ lw_all := lw_g (lw_at lw_m3 20 rfl) rfl
theorem q790 : (Jvm.Cond.arrayClass Jvm.ClassFile.FieldType.long) ∈ lw_all := lw_g (lw_at lw_m3 21 rfl) rfl
theorem q2213 : (Jvm.Cond.arrayOver (Jvm.ClassFile.FieldType.array Jvm.ClassFile.FieldType.long)) ∈ lw_tbl := lw_at lw_m9 4 rfl
theorem q2292 : (Jvm.Cond.arrayOver (Jvm.ClassFile.FieldType.object "CircuitWardenModel$Walk$Way")) ∈ lw_tbl := lw_at lw_m9 83 rfl
theorem q2486 : (Jvm.Cond.arrayOver (Jvm.ClassFile.FieldType.object "CircuitWardenModel$NetRun")) ∈ lw_tbl := lw_at lw_m10 37 rfl
theorem q2488 : (Jvm.Cond.arrayOver (Jvm.ClassFile.FieldType.object "java/lang/String")) ∈ lw_tbl := lw_at lw_m10 39 rfl
