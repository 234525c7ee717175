set_option maxRecDepth 100000
/-! java/lang/Throwable -/
def RJ0 : String := "java/lang/Throwable"
def TJ0 : u_T := fun k => match k with
  | 0 => ("java/lang/Throwable", "cause", "Ljava/lang/Throwable;", false)
  | 1 => ("java/lang/Throwable", "stackTrace", "[Ljava/lang/StackTraceElement;", false)
  | 2 => ("java/lang/Throwable", "suppressedExceptions", "Ljava/util/List;", false)
  | 3 => ("java/lang/Throwable", "detailMessage", "Ljava/lang/String;", false)
  | _ => ("java/lang/Throwable", "backtrace", "Ljava/lang/Object;", false)
def tyJ0 : Nat → FieldType := fun k => match k with
  | 0 => .object "java/lang/Throwable"
  | 1 => .array (.object "java/lang/StackTraceElement")
  | 2 => .object "java/util/List"
  | 3 => .object "java/lang/String"
  | _ => .object "java/lang/Object"
abbrev wsJ00 : List Cond := u_ws RJ0 TJ0 5
theorem nmJ0 : ∀ a, a < 5 → ∀ b, b < 5 → a ≠ b → (TJ0 a).2.1 ≠ (TJ0 b).2.1 := by decide +kernel
theorem tyJ0_ok : ∀ k, k < 5 → parseFieldDescriptor (TJ0 k).2.2.1 = some (tyJ0 k) := by decide +kernel
abbrev cJ0_init : ByteArray := prog_37_method_1_code
def yJ0_init : MethodName := ⟨RJ0, "<init>", "()V"⟩
abbrev cJ0_init_2 : ByteArray := prog_37_method_5_code
def yJ0_init_2 : MethodName := ⟨RJ0, "<init>", "(Ljava/lang/String;Ljava/lang/Throwable;ZZ)V"⟩

theorem q169 : (Jvm.Cond.initialized "java/lang/Throwable") ∈ lw_all := lw_g (lw_at lw_m1 3 rfl) rfl
theorem q223 : (Jvm.Cond.declares ({ cls := "java/lang/Throwable", name := "<init>", desc := "()V" } : Jvm.MethodName)) ∈ lw_tbl := lw_at lw_m1 57 rfl
theorem q224 : (Jvm.Cond.declares ({ cls := "java/lang/Throwable", name := "<init>", desc := "(Ljava/lang/String;)V" } : Jvm.MethodName)) ∈ lw_tbl := lw_at lw_m1 58 rfl
theorem q228 : (Jvm.Cond.lays "java/lang/Throwable" "java/lang/Throwable" "cause" "Ljava/lang/Throwable;") ∈ lw_all := lw_g (lw_at lw_m1 62 rfl) rfl
theorem q230 : (Jvm.Cond.lays "java/lang/Throwable" "java/lang/Throwable" "stackTrace" "[Ljava/lang/StackTraceElement;") ∈ lw_all := lw_g (lw_at lw_m1 64 rfl) rfl
theorem q232 : (Jvm.Cond.lays "java/lang/Throwable" "java/lang/Throwable" "suppressedExceptions" "Ljava/util/List;") ∈ lw_all := lw_g (lw_at lw_m1 66 rfl) rfl
theorem q234 : (Jvm.Cond.lays "java/lang/Throwable" "java/lang/Throwable" "detailMessage" "Ljava/lang/String;") ∈ lw_all := lw_g (lw_at lw_m1 68 rfl) rfl
theorem q236 : (Jvm.Cond.lays "java/lang/Throwable" "java/lang/Throwable" "backtrace" "Ljava/lang/Object;") ∈ lw_all := lw_g (lw_at lw_m1 70 rfl) rfl
theorem q237 : (Jvm.Cond.fieldLink "java/lang/Throwable" (198 : Nat) "java/lang/Throwable" "backtrace" "Ljava/lang/Object;") ∈ lw_all := lw_g (lw_at lw_m1 71 rfl) rfl
theorem q238 : (Jvm.Cond.superclass "java/lang/Throwable" "java/lang/Object") ∈ lw_all := lw_g (lw_at lw_m1 72 rfl) rfl
theorem q239 : (Jvm.Cond.instanceMethod ({ cls := "java/lang/Throwable", name := "<init>", desc := "()V" } : Jvm.MethodName)) ∈ lw_all := lw_g (lw_at lw_m1 73 rfl) rfl
theorem q240 : (Jvm.Cond.code ({ cls := "java/lang/Throwable", name := "<init>", desc := "()V" } : Jvm.MethodName) prog_37_method_1_code (1 : Nat) (Option.none : Option Jvm.ClassFile.FieldType)) ∈ lw_all := lw_g (lw_at lw_m1 74 rfl) rfl
theorem q241 : (Jvm.Cond.methodLink "java/lang/Throwable" (1 : Nat) ({ cls := "java/lang/Object", name := "<init>", desc := "()V" } : Jvm.MethodName)) ∈ lw_all := lw_g (lw_at lw_m1 75 rfl) rfl
theorem q242 : (Jvm.Cond.fieldLink "java/lang/Throwable" (13 : Nat) "java/lang/Throwable" "UNASSIGNED_STACK" "[Ljava/lang/StackTraceElement;") ∈ lw_all := lw_g (lw_at lw_m1 76 rfl) rfl
theorem q243 : (Jvm.Cond.laysStatic "java/lang/Throwable" "UNASSIGNED_STACK" "[Ljava/lang/StackTraceElement;") ∈ lw_tbl := lw_at lw_m1 77 rfl
theorem q244 : (Jvm.Cond.fieldLink "java/lang/Throwable" (20 : Nat) "java/lang/Throwable" "SUPPRESSED_SENTINEL" "Ljava/util/List;") ∈ lw_all := lw_g (lw_at lw_m1 78 rfl) rfl
theorem q245 : (Jvm.Cond.laysStatic "java/lang/Throwable" "SUPPRESSED_SENTINEL" "Ljava/util/List;") ∈ lw_tbl := lw_at lw_m1 79 rfl
theorem q246 : (Jvm.Cond.methodLink "java/lang/Throwable" (27 : Nat) ({ cls := "java/lang/Throwable", name := "fillInStackTrace", desc := "()Ljava/lang/Throwable;" } : Jvm.MethodName)) ∈ lw_all := lw_g (lw_at lw_m1 80 rfl) rfl
theorem q247 : (Jvm.Cond.instanceMethod ({ cls := "java/lang/Throwable", name := "fillInStackTrace", desc := "()Ljava/lang/Throwable;" } : Jvm.MethodName)) ∈ lw_all := lw_g (lw_at lw_m1 81 rfl) rfl
theorem q248 : (Jvm.Cond.sameMethod "java/lang/Throwable" "java/lang/Throwable" "fillInStackTrace" "()Ljava/lang/Throwable;") ∈ lw_all := lw_g (lw_at lw_m1 82 rfl) rfl
theorem q250 : (Jvm.Cond.codeSync ({ cls := "java/lang/Throwable", name := "fillInStackTrace", desc := "()Ljava/lang/Throwable;" } : Jvm.MethodName) prog_37_method_18_code (1 : Nat) (Option.some (Jvm.ClassFile.FieldType.object "java/lang/Throwable"))) ∈ lw_all := lw_g (lw_at lw_m1 84 rfl) rfl
theorem q251 : (Jvm.Cond.methodLink "java/lang/Throwable" (202 : Nat) ({ cls := "java/lang/Throwable", name := "fillInStackTrace", desc := "(I)Ljava/lang/Throwable;" } : Jvm.MethodName)) ∈ lw_all := lw_g (lw_at lw_m1 85 rfl) rfl
theorem q252 : (Jvm.Cond.privateMethod ({ cls := "java/lang/Throwable", name := "fillInStackTrace", desc := "(I)Ljava/lang/Throwable;" } : Jvm.MethodName)) ∈ lw_tbl := lw_at lw_m1 86 rfl
theorem q253 : (Jvm.Cond.instanceMethod ({ cls := "java/lang/Throwable", name := "fillInStackTrace", desc := "(I)Ljava/lang/Throwable;" } : Jvm.MethodName)) ∈ lw_all := lw_g (lw_at lw_m1 87 rfl) rfl
theorem q254 : (Jvm.Cond.instantiable "java/lang/Throwable" (6 : Nat)) ∈ lw_all := lw_g (lw_at lw_m1 88 rfl) rfl
theorem q255 : (Jvm.Cond.native ({ cls := "java/lang/Throwable", name := "fillInStackTrace", desc := "(I)Ljava/lang/Throwable;" } : Jvm.MethodName)) ∈ lw_all := lw_g (lw_at lw_m1 89 rfl) rfl
theorem q266 : (Jvm.Cond.instanceMethod ({ cls := "java/lang/Throwable", name := "<init>", desc := "(Ljava/lang/String;Ljava/lang/Throwable;ZZ)V" } : Jvm.MethodName)) ∈ lw_all := lw_g (lw_at lw_m1 100 rfl) rfl
theorem q267 : (Jvm.Cond.code ({ cls := "java/lang/Throwable", name := "<init>", desc := "(Ljava/lang/String;Ljava/lang/Throwable;ZZ)V" } : Jvm.MethodName) prog_37_method_5_code (5 : Nat) (Option.none : Option Jvm.ClassFile.FieldType)) ∈ lw_all := lw_g (lw_at lw_m1 101 rfl) rfl
theorem q272 : (Jvm.Cond.fieldLink "java/lang/Throwable" (198 : Nat) "java/lang/Throwable" "backtrace" "Ljava/lang/Object;") ∈ lw_all := lw_g (lw_at lw_m1 106 rfl) rfl
theorem q273 : (Jvm.Cond.fieldLink "java/lang/Throwable" (31 : Nat) "java/lang/Throwable" "detailMessage" "Ljava/lang/String;") ∈ lw_all := lw_g (lw_at lw_m1 107 rfl) rfl
theorem q274 : (Jvm.Cond.fieldLink "java/lang/Throwable" (7 : Nat) "java/lang/Throwable" "cause" "Ljava/lang/Throwable;") ∈ lw_all := lw_g (lw_at lw_m1 108 rfl) rfl
theorem q275 : (Jvm.Cond.fieldLink "java/lang/Throwable" (17 : Nat) "java/lang/Throwable" "stackTrace" "[Ljava/lang/StackTraceElement;") ∈ lw_all := lw_g (lw_at lw_m1 109 rfl) rfl
theorem q276 : (Jvm.Cond.fieldLink "java/lang/Throwable" (24 : Nat) "java/lang/Throwable" "suppressedExceptions" "Ljava/util/List;") ∈ lw_all := lw_g (lw_at lw_m1 110 rfl) rfl
theorem q281 : (Jvm.Cond.soleField "java/lang/Throwable" "backtrace") ∈ lw_all := lw_g (lw_at lw_m1 115 rfl) rfl
theorem q282 : (Jvm.Cond.soleField "java/lang/Throwable" "detailMessage") ∈ lw_all := lw_g (lw_at lw_m1 116 rfl) rfl
theorem q283 : (Jvm.Cond.soleField "java/lang/Throwable" "cause") ∈ lw_all := lw_g (lw_at lw_m1 117 rfl) rfl
theorem q284 : (Jvm.Cond.soleField "java/lang/Throwable" "stackTrace") ∈ lw_all := lw_g (lw_at lw_m1 118 rfl) rfl
theorem q286 : (Jvm.Cond.soleField "java/lang/Throwable" "depth") ∈ lw_all := lw_g (lw_at lw_m1 120 rfl) rfl
theorem q287 : (Jvm.Cond.soleField "java/lang/Throwable" "suppressedExceptions") ∈ lw_all := lw_g (lw_at lw_m1 121 rfl) rfl
theorem q2783 : (Jvm.Cond.sameMethod "java/lang/Throwable" "java/lang/Throwable" "fillInStackTrace" "(I)Ljava/lang/Throwable;") ∈ lw_all := lw_g (lw_at lw_m11 217 rfl) rfl
theorem q2812 : (Jvm.Cond.castable "java/lang/Throwable" "java/lang/Object") ∈ lw_tbl := lw_at lw_m12 6 rfl
theorem in_J0 : ∀ w ∈ wsJ00, w ∈ lw_all := lw_in wsJ00 [228, 230, 232, 234, 236] (by decide +kernel) (by decide +kernel)
/-! java/lang/Exception -/
def RJ1 : String := "java/lang/Exception"
abbrev cJ1_init : ByteArray := prog_29_method_5_code
def yJ1_init : MethodName := ⟨RJ1, "<init>", "(Ljava/lang/String;Ljava/lang/Throwable;ZZ)V"⟩
abbrev cJ1_init_2 : ByteArray := prog_29_method_1_code
def yJ1_init_2 : MethodName := ⟨RJ1, "<init>", "()V"⟩

theorem q170 : (Jvm.Cond.initialized "java/lang/Exception") ∈ lw_all := lw_g (lw_at lw_m1 4 rfl) rfl
theorem q221 : (Jvm.Cond.declares ({ cls := "java/lang/Exception", name := "<init>", desc := "()V" } : Jvm.MethodName)) ∈ lw_tbl := lw_at lw_m1 55 rfl
theorem q222 : (Jvm.Cond.declares ({ cls := "java/lang/Exception", name := "<init>", desc := "(Ljava/lang/String;)V" } : Jvm.MethodName)) ∈ lw_tbl := lw_at lw_m1 56 rfl
theorem q263 : (Jvm.Cond.instanceMethod ({ cls := "java/lang/Exception", name := "<init>", desc := "(Ljava/lang/String;Ljava/lang/Throwable;ZZ)V" } : Jvm.MethodName)) ∈ lw_all := lw_g (lw_at lw_m1 97 rfl) rfl
theorem q264 : (Jvm.Cond.code ({ cls := "java/lang/Exception", name := "<init>", desc := "(Ljava/lang/String;Ljava/lang/Throwable;ZZ)V" } : Jvm.MethodName) prog_29_method_5_code (5 : Nat) (Option.none : Option Jvm.ClassFile.FieldType)) ∈ lw_all := lw_g (lw_at lw_m1 98 rfl) rfl
theorem q265 : (Jvm.Cond.methodLink "java/lang/Exception" (16 : Nat) ({ cls := "java/lang/Throwable", name := "<init>", desc := "(Ljava/lang/String;Ljava/lang/Throwable;ZZ)V" } : Jvm.MethodName)) ∈ lw_all := lw_g (lw_at lw_m1 99 rfl) rfl
theorem q1878 : (Jvm.Cond.instanceMethod ({ cls := "java/lang/Exception", name := "<init>", desc := "()V" } : Jvm.MethodName)) ∈ lw_all := lw_g (lw_at lw_m8 32 rfl) rfl
theorem q1879 : (Jvm.Cond.code ({ cls := "java/lang/Exception", name := "<init>", desc := "()V" } : Jvm.MethodName) prog_29_method_1_code (1 : Nat) (Option.none : Option Jvm.ClassFile.FieldType)) ∈ lw_all := lw_g (lw_at lw_m8 33 rfl) rfl
theorem q1880 : (Jvm.Cond.methodLink "java/lang/Exception" (1 : Nat) ({ cls := "java/lang/Throwable", name := "<init>", desc := "()V" } : Jvm.MethodName)) ∈ lw_all := lw_g (lw_at lw_m8 34 rfl) rfl
/-! java/lang/Object -/
def RJ10 : String := "java/lang/Object"
abbrev cJ10_init : ByteArray := object_method_1_code
def yJ10_init : MethodName := ⟨RJ10, "<init>", "()V"⟩

theorem q208 : (Jvm.Cond.instanceMethod ({ cls := "java/lang/Object", name := "<init>", desc := "()V" } : Jvm.MethodName)) ∈ lw_all := lw_g (lw_at lw_m1 42 rfl) rfl
theorem q209 : (Jvm.Cond.code ({ cls := "java/lang/Object", name := "<init>", desc := "()V" } : Jvm.MethodName) object_method_1_code (1 : Nat) (Option.none : Option Jvm.ClassFile.FieldType)) ∈ lw_all := lw_g (lw_at lw_m1 43 rfl) rfl
/-! java/lang/System$2 -/
def RJ11 : String := "java/lang/System$2"
abbrev cJ11_getUTF16Char : ByteArray := prog_36_method_45_code
def yJ11_getUTF16Char : MethodName := ⟨RJ11, "getUTF16Char", "([BI)C"⟩

theorem q777 : (Jvm.Cond.castable "java/lang/System$2" "jdk/internal/access/JavaLangAccess") ∈ lw_tbl := lw_at lw_m3 131 rfl
theorem q778 : (Jvm.Cond.selects "java/lang/System$2" ({ cls := "jdk/internal/access/JavaLangAccess", name := "getUTF16Char", desc := "([BI)C" } : Jvm.MethodName) ({ cls := "java/lang/System$2", name := "getUTF16Char", desc := "([BI)C" } : Jvm.MethodName)) ∈ lw_all := lw_g (lw_at lw_m3 132 rfl) rfl
theorem q779 : (Jvm.Cond.unhidden "java/lang/System$2" "getUTF16Char" "([BI)C") ∈ lw_tbl := lw_at lw_m3 133 rfl
theorem q780 : (Jvm.Cond.instanceMethod ({ cls := "java/lang/System$2", name := "getUTF16Char", desc := "([BI)C" } : Jvm.MethodName)) ∈ lw_all := lw_g (lw_at lw_m3 134 rfl) rfl
theorem q781 : (Jvm.Cond.publicMethod ({ cls := "java/lang/System$2", name := "getUTF16Char", desc := "([BI)C" } : Jvm.MethodName)) ∈ lw_tbl := lw_at lw_m3 135 rfl
theorem q782 : (Jvm.Cond.code ({ cls := "java/lang/System$2", name := "getUTF16Char", desc := "([BI)C" } : Jvm.MethodName) prog_36_method_45_code (3 : Nat) (Option.some Jvm.ClassFile.FieldType.char)) ∈ lw_all := lw_g (lw_at lw_m3 136 rfl) rfl
theorem q783 : (Jvm.Cond.methodLink "java/lang/System$2" (185 : Nat) ({ cls := "java/lang/StringUTF16", name := "getChar", desc := "([BI)C" } : Jvm.MethodName)) ∈ lw_all := lw_g (lw_at lw_m3 137 rfl) rfl
theorem q2797 : (Jvm.Cond.castable "java/lang/System$2" "java/lang/Object") ∈ lw_tbl := lw_at lw_m11 231 rfl
/-! java/lang/RuntimeException -/
def RJ2 : String := "java/lang/RuntimeException"
abbrev cJ2_init : ByteArray := prog_31_method_5_code
def yJ2_init : MethodName := ⟨RJ2, "<init>", "(Ljava/lang/String;Ljava/lang/Throwable;ZZ)V"⟩
abbrev cJ2_init_2 : ByteArray := prog_31_method_1_code
def yJ2_init_2 : MethodName := ⟨RJ2, "<init>", "()V"⟩

theorem q171 : (Jvm.Cond.initialized "java/lang/RuntimeException") ∈ lw_all := lw_g (lw_at lw_m1 5 rfl) rfl
theorem q219 : (Jvm.Cond.declares ({ cls := "java/lang/RuntimeException", name := "<init>", desc := "()V" } : Jvm.MethodName)) ∈ lw_tbl := lw_at lw_m1 53 rfl
theorem q220 : (Jvm.Cond.declares ({ cls := "java/lang/RuntimeException", name := "<init>", desc := "(Ljava/lang/String;)V" } : Jvm.MethodName)) ∈ lw_tbl := lw_at lw_m1 54 rfl
theorem q260 : (Jvm.Cond.instanceMethod ({ cls := "java/lang/RuntimeException", name := "<init>", desc := "(Ljava/lang/String;Ljava/lang/Throwable;ZZ)V" } : Jvm.MethodName)) ∈ lw_all := lw_g (lw_at lw_m1 94 rfl) rfl
theorem q261 : (Jvm.Cond.code ({ cls := "java/lang/RuntimeException", name := "<init>", desc := "(Ljava/lang/String;Ljava/lang/Throwable;ZZ)V" } : Jvm.MethodName) prog_31_method_5_code (5 : Nat) (Option.none : Option Jvm.ClassFile.FieldType)) ∈ lw_all := lw_g (lw_at lw_m1 95 rfl) rfl
theorem q262 : (Jvm.Cond.methodLink "java/lang/RuntimeException" (16 : Nat) ({ cls := "java/lang/Exception", name := "<init>", desc := "(Ljava/lang/String;Ljava/lang/Throwable;ZZ)V" } : Jvm.MethodName)) ∈ lw_all := lw_g (lw_at lw_m1 96 rfl) rfl
theorem q1875 : (Jvm.Cond.instanceMethod ({ cls := "java/lang/RuntimeException", name := "<init>", desc := "()V" } : Jvm.MethodName)) ∈ lw_all := lw_g (lw_at lw_m8 29 rfl) rfl
theorem q1876 : (Jvm.Cond.code ({ cls := "java/lang/RuntimeException", name := "<init>", desc := "()V" } : Jvm.MethodName) prog_31_method_1_code (1 : Nat) (Option.none : Option Jvm.ClassFile.FieldType)) ∈ lw_all := lw_g (lw_at lw_m8 30 rfl) rfl
theorem q1877 : (Jvm.Cond.methodLink "java/lang/RuntimeException" (1 : Nat) ({ cls := "java/lang/Exception", name := "<init>", desc := "()V" } : Jvm.MethodName)) ∈ lw_all := lw_g (lw_at lw_m8 31 rfl) rfl
/-! java/lang/String -/
def RJ3 : String := "java/lang/String"
def TJ3 : u_T := fun k => match k with
  | 0 => ("java/lang/String", "value", "[B", true)
  | 1 => ("java/lang/String", "coder", "B", true)
  | 2 => ("java/lang/String", "hash", "I", false)
  | _ => ("java/lang/String", "hashIsZero", "Z", false)
def tyJ3 : Nat → FieldType := fun k => match k with
  | 0 => .array .byte
  | 1 => .byte
  | 2 => .int
  | _ => .boolean
abbrev wsJ30 : List Cond := u_ws RJ3 TJ3 4
theorem nmJ3 : ∀ a, a < 4 → ∀ b, b < 4 → a ≠ b → (TJ3 a).2.1 ≠ (TJ3 b).2.1 := by decide +kernel
theorem tyJ3_ok : ∀ k, k < 4 → parseFieldDescriptor (TJ3 k).2.2.1 = some (tyJ3 k) := by decide +kernel
abbrev cJ3_init : ByteArray := prog_32_method_4_code
def yJ3_init : MethodName := ⟨RJ3, "<init>", "([CII)V"⟩
abbrev cJ3_rangeCheck : ByteArray := prog_32_method_5_code
def yJ3_rangeCheck : MethodName := ⟨RJ3, "rangeCheck", "([CII)Ljava/lang/Void;"⟩
abbrev cJ3_checkBoundsOffCount : ByteArray := prog_32_method_157_code
def yJ3_checkBoundsOffCount : MethodName := ⟨RJ3, "checkBoundsOffCount", "(III)I"⟩
abbrev cJ3_init_2 : ByteArray := prog_32_method_149_code
def yJ3_init_2 : MethodName := ⟨RJ3, "<init>", "([CIILjava/lang/Void;)V"⟩
abbrev cJ3_hashCode : ByteArray := prog_32_method_78_code
def yJ3_hashCode : MethodName := ⟨RJ3, "hashCode", "()I"⟩
abbrev cJ3_isLatin1 : ByteArray := prog_32_method_154_code
def yJ3_isLatin1 : MethodName := ⟨RJ3, "isLatin1", "()Z"⟩
abbrev cJ3_equals : ByteArray := prog_32_method_66_code
def yJ3_equals : MethodName := ⟨RJ3, "equals", "(Ljava/lang/Object;)Z"⟩
abbrev cJ3_length : ByteArray := prog_32_method_54_code
def yJ3_length : MethodName := ⟨RJ3, "length", "()I"⟩
abbrev cJ3_coder : ByteArray := prog_32_method_152_code
def yJ3_coder : MethodName := ⟨RJ3, "coder", "()B"⟩
abbrev cJ3_charAt : ByteArray := prog_32_method_56_code
def yJ3_charAt : MethodName := ⟨RJ3, "charAt", "(I)C"⟩
abbrev cJ3_checkIndex : ByteArray := prog_32_method_155_code
def yJ3_checkIndex : MethodName := ⟨RJ3, "checkIndex", "(II)V"⟩

theorem q178 : (Jvm.Cond.initialized "java/lang/String") ∈ lw_all := lw_g (lw_at lw_m1 12 rfl) rfl
theorem q657 : (Jvm.Cond.instantiable "java/lang/String" (4 : Nat)) ∈ lw_all := lw_g (lw_at lw_m3 11 rfl) rfl
theorem q659 : (Jvm.Cond.instanceMethod ({ cls := "java/lang/String", name := "<init>", desc := "([CII)V" } : Jvm.MethodName)) ∈ lw_all := lw_g (lw_at lw_m3 13 rfl) rfl
theorem q660 : (Jvm.Cond.code ({ cls := "java/lang/String", name := "<init>", desc := "([CII)V" } : Jvm.MethodName) prog_32_method_4_code (4 : Nat) (Option.none : Option Jvm.ClassFile.FieldType)) ∈ lw_all := lw_g (lw_at lw_m3 14 rfl) rfl
theorem q661 : (Jvm.Cond.methodLink "java/lang/String" (30 : Nat) ({ cls := "java/lang/String", name := "rangeCheck", desc := "([CII)Ljava/lang/Void;" } : Jvm.MethodName)) ∈ lw_all := lw_g (lw_at lw_m3 15 rfl) rfl
theorem q662 : (Jvm.Cond.static ({ cls := "java/lang/String", name := "rangeCheck", desc := "([CII)Ljava/lang/Void;" } : Jvm.MethodName)) ∈ lw_all := lw_g (lw_at lw_m3 16 rfl) rfl
theorem q663 : (Jvm.Cond.code ({ cls := "java/lang/String", name := "rangeCheck", desc := "([CII)Ljava/lang/Void;" } : Jvm.MethodName) prog_32_method_5_code (3 : Nat) (Option.some (Jvm.ClassFile.FieldType.object "java/lang/Void"))) ∈ lw_all := lw_g (lw_at lw_m3 17 rfl) rfl
theorem q664 : (Jvm.Cond.methodLink "java/lang/String" (34 : Nat) ({ cls := "java/lang/String", name := "checkBoundsOffCount", desc := "(III)I" } : Jvm.MethodName)) ∈ lw_all := lw_g (lw_at lw_m3 18 rfl) rfl
theorem q665 : (Jvm.Cond.static ({ cls := "java/lang/String", name := "checkBoundsOffCount", desc := "(III)I" } : Jvm.MethodName)) ∈ lw_all := lw_g (lw_at lw_m3 19 rfl) rfl
theorem q666 : (Jvm.Cond.code ({ cls := "java/lang/String", name := "checkBoundsOffCount", desc := "(III)I" } : Jvm.MethodName) prog_32_method_157_code (3 : Nat) (Option.some Jvm.ClassFile.FieldType.int)) ∈ lw_all := lw_g (lw_at lw_m3 20 rfl) rfl
theorem q667 : (Jvm.Cond.fieldLink "java/lang/String" (1053 : Nat) "jdk/internal/util/Preconditions" "SIOOBE_FORMATTER" "Ljava/util/function/BiFunction;") ∈ lw_all := lw_g (lw_at lw_m3 21 rfl) rfl
theorem q669 : (Jvm.Cond.methodLink "java/lang/String" (1065 : Nat) ({ cls := "jdk/internal/util/Preconditions", name := "checkFromIndexSize", desc := "(IIILjava/util/function/BiFunction;)I" } : Jvm.MethodName)) ∈ lw_all := lw_g (lw_at lw_m3 23 rfl) rfl
theorem q672 : (Jvm.Cond.methodLink "java/lang/String" (27 : Nat) ({ cls := "java/lang/String", name := "<init>", desc := "([CIILjava/lang/Void;)V" } : Jvm.MethodName)) ∈ lw_all := lw_g (lw_at lw_m3 26 rfl) rfl
theorem q673 : (Jvm.Cond.instanceMethod ({ cls := "java/lang/String", name := "<init>", desc := "([CIILjava/lang/Void;)V" } : Jvm.MethodName)) ∈ lw_all := lw_g (lw_at lw_m3 27 rfl) rfl
theorem q674 : (Jvm.Cond.code ({ cls := "java/lang/String", name := "<init>", desc := "([CIILjava/lang/Void;)V" } : Jvm.MethodName) prog_32_method_149_code (6 : Nat) (Option.none : Option Jvm.ClassFile.FieldType)) ∈ lw_all := lw_g (lw_at lw_m3 28 rfl) rfl
theorem q675 : (Jvm.Cond.methodLink "java/lang/String" (1 : Nat) ({ cls := "java/lang/Object", name := "<init>", desc := "()V" } : Jvm.MethodName)) ∈ lw_all := lw_g (lw_at lw_m3 29 rfl) rfl
theorem q676 : (Jvm.Cond.stringRef "java/lang/String" (7 : Nat) "") ∈ lw_tbl := lw_at lw_m3 30 rfl
theorem q677 : (Jvm.Cond.fieldLink "java/lang/String" (38 : Nat) "java/lang/String" "COMPACT_STRINGS" "Z") ∈ lw_all := lw_g (lw_at lw_m3 31 rfl) rfl
theorem q678 : (Jvm.Cond.laysStatic "java/lang/String" "COMPACT_STRINGS" "Z") ∈ lw_tbl := lw_at lw_m3 32 rfl
theorem q679 : (Jvm.Cond.methodLink "java/lang/String" (177 : Nat) ({ cls := "java/lang/StringUTF16", name := "compress", desc := "([CII)[B" } : Jvm.MethodName)) ∈ lw_all := lw_g (lw_at lw_m3 33 rfl) rfl
theorem q717 : (Jvm.Cond.methodLink "java/lang/String" (47 : Nat) ({ cls := "java/lang/StringUTF16", name := "coderFromArrayLen", desc := "([BI)B" } : Jvm.MethodName)) ∈ lw_all := lw_g (lw_at lw_m3 71 rfl) rfl
theorem q720 : (Jvm.Cond.methodLink "java/lang/String" (180 : Nat) ({ cls := "java/lang/StringUTF16", name := "toBytes", desc := "([CII)[B" } : Jvm.MethodName)) ∈ lw_all := lw_g (lw_at lw_m3 74 rfl) rfl
theorem q721 : (Jvm.Cond.fieldLink "java/lang/String" (9 : Nat) "java/lang/String" "value" "[B") ∈ lw_all := lw_g (lw_at lw_m3 75 rfl) rfl
theorem q722 : (Jvm.Cond.fieldLink "java/lang/String" (15 : Nat) "java/lang/String" "coder" "B") ∈ lw_all := lw_g (lw_at lw_m3 76 rfl) rfl
theorem q723 : (Jvm.Cond.fieldLink "java/lang/String" (19 : Nat) "java/lang/String" "hash" "I") ∈ lw_all := lw_g (lw_at lw_m3 77 rfl) rfl
theorem q724 : (Jvm.Cond.fieldLink "java/lang/String" (23 : Nat) "java/lang/String" "hashIsZero" "Z") ∈ lw_all := lw_g (lw_at lw_m3 78 rfl) rfl
theorem q725 : (Jvm.Cond.laysFinal "java/lang/String" "java/lang/String" "value" "[B") ∈ lw_all := lw_g (lw_at lw_m3 79 rfl) rfl
theorem q726 : (Jvm.Cond.soleField "java/lang/String" "value") ∈ lw_all := lw_g (lw_at lw_m3 80 rfl) rfl
theorem q727 : (Jvm.Cond.laysFinal "java/lang/String" "java/lang/String" "coder" "B") ∈ lw_all := lw_g (lw_at lw_m3 81 rfl) rfl
theorem q728 : (Jvm.Cond.soleField "java/lang/String" "coder") ∈ lw_all := lw_g (lw_at lw_m3 82 rfl) rfl
theorem q729 : (Jvm.Cond.lays "java/lang/String" "java/lang/String" "hash" "I") ∈ lw_all := lw_g (lw_at lw_m3 83 rfl) rfl
theorem q730 : (Jvm.Cond.soleField "java/lang/String" "hash") ∈ lw_all := lw_g (lw_at lw_m3 84 rfl) rfl
theorem q731 : (Jvm.Cond.lays "java/lang/String" "java/lang/String" "hashIsZero" "Z") ∈ lw_all := lw_g (lw_at lw_m3 85 rfl) rfl
theorem q732 : (Jvm.Cond.soleField "java/lang/String" "hashIsZero") ∈ lw_all := lw_g (lw_at lw_m3 86 rfl) rfl
theorem q733 : (Jvm.Cond.superclass "java/lang/String" "java/lang/Object") ∈ lw_all := lw_g (lw_at lw_m3 87 rfl) rfl
theorem q751 : (Jvm.Cond.instanceMethod ({ cls := "java/lang/String", name := "hashCode", desc := "()I" } : Jvm.MethodName)) ∈ lw_all := lw_g (lw_at lw_m3 105 rfl) rfl
theorem q752 : (Jvm.Cond.selects "java/lang/String" ({ cls := "java/lang/String", name := "hashCode", desc := "()I" } : Jvm.MethodName) ({ cls := "java/lang/String", name := "hashCode", desc := "()I" } : Jvm.MethodName)) ∈ lw_all := lw_g (lw_at lw_m3 106 rfl) rfl
theorem q753 : (Jvm.Cond.code ({ cls := "java/lang/String", name := "hashCode", desc := "()I" } : Jvm.MethodName) prog_32_method_78_code (2 : Nat) (Option.some Jvm.ClassFile.FieldType.int)) ∈ lw_all := lw_g (lw_at lw_m3 107 rfl) rfl
theorem q754 : (Jvm.Cond.methodLink "java/lang/String" (492 : Nat) ({ cls := "java/lang/String", name := "isLatin1", desc := "()Z" } : Jvm.MethodName)) ∈ lw_all := lw_g (lw_at lw_m3 108 rfl) rfl
theorem q755 : (Jvm.Cond.instanceMethod ({ cls := "java/lang/String", name := "isLatin1", desc := "()Z" } : Jvm.MethodName)) ∈ lw_all := lw_g (lw_at lw_m3 109 rfl) rfl
theorem q756 : (Jvm.Cond.selects "java/lang/String" ({ cls := "java/lang/String", name := "isLatin1", desc := "()Z" } : Jvm.MethodName) ({ cls := "java/lang/String", name := "isLatin1", desc := "()Z" } : Jvm.MethodName)) ∈ lw_all := lw_g (lw_at lw_m3 110 rfl) rfl
theorem q757 : (Jvm.Cond.code ({ cls := "java/lang/String", name := "isLatin1", desc := "()Z" } : Jvm.MethodName) prog_32_method_154_code (1 : Nat) (Option.some Jvm.ClassFile.FieldType.boolean)) ∈ lw_all := lw_g (lw_at lw_m3 111 rfl) rfl
theorem q758 : (Jvm.Cond.methodLink "java/lang/String" (628 : Nat) ({ cls := "java/lang/StringLatin1", name := "hashCode", desc := "([B)I" } : Jvm.MethodName)) ∈ lw_all := lw_g (lw_at lw_m3 112 rfl) rfl
theorem q799 : (Jvm.Cond.methodLink "java/lang/String" (632 : Nat) ({ cls := "java/lang/StringUTF16", name := "hashCode", desc := "([B)I" } : Jvm.MethodName)) ∈ lw_all := lw_g (lw_at lw_m3 153 rfl) rfl
theorem q805 : (Jvm.Cond.instanceMethod ({ cls := "java/lang/String", name := "equals", desc := "(Ljava/lang/Object;)Z" } : Jvm.MethodName)) ∈ lw_all := lw_g (lw_at lw_m3 159 rfl) rfl
theorem q806 : (Jvm.Cond.selects "java/lang/String" ({ cls := "java/lang/String", name := "equals", desc := "(Ljava/lang/Object;)Z" } : Jvm.MethodName) ({ cls := "java/lang/String", name := "equals", desc := "(Ljava/lang/Object;)Z" } : Jvm.MethodName)) ∈ lw_all := lw_g (lw_at lw_m3 160 rfl) rfl
theorem q807 : (Jvm.Cond.code ({ cls := "java/lang/String", name := "equals", desc := "(Ljava/lang/Object;)Z" } : Jvm.MethodName) prog_32_method_66_code (3 : Nat) (Option.some Jvm.ClassFile.FieldType.boolean)) ∈ lw_all := lw_g (lw_at lw_m3 161 rfl) rfl
theorem q808 : (Jvm.Cond.classLink "java/lang/String" (10 : Nat) "java/lang/String") ∈ lw_all := lw_g (lw_at lw_m3 162 rfl) rfl
theorem q809 : (Jvm.Cond.methodLink "java/lang/String" (541 : Nat) ({ cls := "java/lang/StringLatin1", name := "equals", desc := "([B[B)Z" } : Jvm.MethodName)) ∈ lw_all := lw_g (lw_at lw_m3 163 rfl) rfl
theorem q1089 : (Jvm.Cond.instanceMethod ({ cls := "java/lang/String", name := "length", desc := "()I" } : Jvm.MethodName)) ∈ lw_all := lw_g (lw_at lw_m4 203 rfl) rfl
theorem q1090 : (Jvm.Cond.selects "java/lang/String" ({ cls := "java/lang/String", name := "length", desc := "()I" } : Jvm.MethodName) ({ cls := "java/lang/String", name := "length", desc := "()I" } : Jvm.MethodName)) ∈ lw_all := lw_g (lw_at lw_m4 204 rfl) rfl
theorem q1091 : (Jvm.Cond.code ({ cls := "java/lang/String", name := "length", desc := "()I" } : Jvm.MethodName) prog_32_method_54_code (1 : Nat) (Option.some Jvm.ClassFile.FieldType.int)) ∈ lw_all := lw_g (lw_at lw_m4 205 rfl) rfl
theorem q1092 : (Jvm.Cond.methodLink "java/lang/String" (335 : Nat) ({ cls := "java/lang/String", name := "coder", desc := "()B" } : Jvm.MethodName)) ∈ lw_all := lw_g (lw_at lw_m4 206 rfl) rfl
theorem q1093 : (Jvm.Cond.instanceMethod ({ cls := "java/lang/String", name := "coder", desc := "()B" } : Jvm.MethodName)) ∈ lw_all := lw_g (lw_at lw_m4 207 rfl) rfl
theorem q1094 : (Jvm.Cond.selects "java/lang/String" ({ cls := "java/lang/String", name := "coder", desc := "()B" } : Jvm.MethodName) ({ cls := "java/lang/String", name := "coder", desc := "()B" } : Jvm.MethodName)) ∈ lw_all := lw_g (lw_at lw_m4 208 rfl) rfl
theorem q1095 : (Jvm.Cond.code ({ cls := "java/lang/String", name := "coder", desc := "()B" } : Jvm.MethodName) prog_32_method_152_code (1 : Nat) (Option.some Jvm.ClassFile.FieldType.byte)) ∈ lw_all := lw_g (lw_at lw_m4 209 rfl) rfl
theorem q1097 : (Jvm.Cond.instanceMethod ({ cls := "java/lang/String", name := "charAt", desc := "(I)C" } : Jvm.MethodName)) ∈ lw_all := lw_g (lw_at lw_m4 211 rfl) rfl
theorem q1098 : (Jvm.Cond.selects "java/lang/String" ({ cls := "java/lang/String", name := "charAt", desc := "(I)C" } : Jvm.MethodName) ({ cls := "java/lang/String", name := "charAt", desc := "(I)C" } : Jvm.MethodName)) ∈ lw_all := lw_g (lw_at lw_m4 212 rfl) rfl
theorem q1099 : (Jvm.Cond.code ({ cls := "java/lang/String", name := "charAt", desc := "(I)C" } : Jvm.MethodName) prog_32_method_56_code (2 : Nat) (Option.some Jvm.ClassFile.FieldType.char)) ∈ lw_all := lw_g (lw_at lw_m4 213 rfl) rfl
theorem q1100 : (Jvm.Cond.methodLink "java/lang/String" (495 : Nat) ({ cls := "java/lang/StringLatin1", name := "charAt", desc := "([BI)C" } : Jvm.MethodName)) ∈ lw_all := lw_g (lw_at lw_m4 214 rfl) rfl
theorem q1104 : (Jvm.Cond.static ({ cls := "java/lang/String", name := "checkIndex", desc := "(II)V" } : Jvm.MethodName)) ∈ lw_all := lw_g (lw_at lw_m4 218 rfl) rfl
theorem q1105 : (Jvm.Cond.code ({ cls := "java/lang/String", name := "checkIndex", desc := "(II)V" } : Jvm.MethodName) prog_32_method_155_code (2 : Nat) (Option.none : Option Jvm.ClassFile.FieldType)) ∈ lw_all := lw_g (lw_at lw_m4 219 rfl) rfl
theorem q1106 : (Jvm.Cond.methodLink "java/lang/String" (1059 : Nat) ({ cls := "jdk/internal/util/Preconditions", name := "checkIndex", desc := "(IILjava/util/function/BiFunction;)I" } : Jvm.MethodName)) ∈ lw_all := lw_g (lw_at lw_m4 220 rfl) rfl
theorem q1109 : (Jvm.Cond.methodLink "java/lang/String" (498 : Nat) ({ cls := "java/lang/StringUTF16", name := "charAt", desc := "([BI)C" } : Jvm.MethodName)) ∈ lw_all := lw_g (lw_at lw_m4 223 rfl) rfl
theorem q2796 : (Jvm.Cond.castable "java/lang/String" "java/lang/Object") ∈ lw_tbl := lw_at lw_m11 230 rfl
theorem in_J3 : ∀ w ∈ wsJ30, w ∈ lw_all := lw_in wsJ30 [725, 727, 729, 731] (by decide +kernel) (by decide +kernel)
/-! jdk/internal/util/Preconditions -/
def RJ4 : String := "jdk/internal/util/Preconditions"
abbrev cJ4_checkFromIndexSize : ByteArray := prog_43_method_13_code
def yJ4_checkFromIndexSize : MethodName := ⟨RJ4, "checkFromIndexSize", "(IIILjava/util/function/BiFunction;)I"⟩
abbrev cJ4_checkIndex : ByteArray := prog_43_method_11_code
def yJ4_checkIndex : MethodName := ⟨RJ4, "checkIndex", "(IILjava/util/function/BiFunction;)I"⟩

theorem q179 : (Jvm.Cond.initialized "jdk/internal/util/Preconditions") ∈ lw_all := lw_g (lw_at lw_m1 13 rfl) rfl
theorem q668 : (Jvm.Cond.laysStatic "jdk/internal/util/Preconditions" "SIOOBE_FORMATTER" "Ljava/util/function/BiFunction;") ∈ lw_tbl := lw_at lw_m3 22 rfl
theorem q670 : (Jvm.Cond.static ({ cls := "jdk/internal/util/Preconditions", name := "checkFromIndexSize", desc := "(IIILjava/util/function/BiFunction;)I" } : Jvm.MethodName)) ∈ lw_all := lw_g (lw_at lw_m3 24 rfl) rfl
theorem q671 : (Jvm.Cond.code ({ cls := "jdk/internal/util/Preconditions", name := "checkFromIndexSize", desc := "(IIILjava/util/function/BiFunction;)I" } : Jvm.MethodName) prog_43_method_13_code (4 : Nat) (Option.some Jvm.ClassFile.FieldType.int)) ∈ lw_all := lw_g (lw_at lw_m3 25 rfl) rfl
theorem q1107 : (Jvm.Cond.static ({ cls := "jdk/internal/util/Preconditions", name := "checkIndex", desc := "(IILjava/util/function/BiFunction;)I" } : Jvm.MethodName)) ∈ lw_all := lw_g (lw_at lw_m4 221 rfl) rfl
theorem q1108 : (Jvm.Cond.code ({ cls := "jdk/internal/util/Preconditions", name := "checkIndex", desc := "(IILjava/util/function/BiFunction;)I" } : Jvm.MethodName) prog_43_method_11_code (3 : Nat) (Option.some Jvm.ClassFile.FieldType.int)) ∈ lw_all := lw_g (lw_at lw_m4 222 rfl) rfl
/-! java/lang/StringUTF16 -/
def RJ5 : String := "java/lang/StringUTF16"
abbrev cJ5_compress : ByteArray := prog_34_method_16_code
def yJ5_compress : MethodName := ⟨RJ5, "compress", "([CII)[B"⟩
abbrev cJ5_compress_2 : ByteArray := prog_34_method_21_code
def yJ5_compress_2 : MethodName := ⟨RJ5, "compress", "([CI[BII)I"⟩
abbrev cJ5_toBytes : ByteArray := prog_34_method_14_code
def yJ5_toBytes : MethodName := ⟨RJ5, "toBytes", "([CII)[B"⟩
abbrev cJ5_newBytesFor : ByteArray := prog_34_method_2_code
def yJ5_newBytesFor : MethodName := ⟨RJ5, "newBytesFor", "(I)[B"⟩
abbrev cJ5_newBytesLength : ByteArray := prog_34_method_3_code
def yJ5_newBytesLength : MethodName := ⟨RJ5, "newBytesLength", "(I)I"⟩
abbrev cJ5_putChar : ByteArray := prog_34_method_4_code
def yJ5_putChar : MethodName := ⟨RJ5, "putChar", "([BII)V"⟩
abbrev cJ5_length : ByteArray := prog_34_method_6_code
def yJ5_length : MethodName := ⟨RJ5, "length", "([B)I"⟩
abbrev cJ5_getChar : ByteArray := prog_34_method_5_code
def yJ5_getChar : MethodName := ⟨RJ5, "getChar", "([BI)C"⟩
abbrev cJ5_compress_3 : ByteArray := prog_34_method_22_code
def yJ5_compress_3 : MethodName := ⟨RJ5, "compress", "([BI[BII)I"⟩
abbrev cJ5_checkBoundsOffCount : ByteArray := prog_34_method_94_code
def yJ5_checkBoundsOffCount : MethodName := ⟨RJ5, "checkBoundsOffCount", "(II[B)V"⟩
abbrev cJ5_coderFromArrayLen : ByteArray := prog_34_method_15_code
def yJ5_coderFromArrayLen : MethodName := ⟨RJ5, "coderFromArrayLen", "([BI)B"⟩
abbrev cJ5_hashCode : ByteArray := prog_34_method_39_code
def yJ5_hashCode : MethodName := ⟨RJ5, "hashCode", "([B)I"⟩
abbrev cJ5_charAt : ByteArray := prog_34_method_83_code
def yJ5_charAt : MethodName := ⟨RJ5, "charAt", "([BI)C"⟩
abbrev cJ5_checkIndex : ByteArray := prog_34_method_91_code
def yJ5_checkIndex : MethodName := ⟨RJ5, "checkIndex", "(I[B)V"⟩

theorem q180 : (Jvm.Cond.initialized "java/lang/StringUTF16") ∈ lw_all := lw_g (lw_at lw_m1 14 rfl) rfl
theorem q680 : (Jvm.Cond.static ({ cls := "java/lang/StringUTF16", name := "compress", desc := "([CII)[B" } : Jvm.MethodName)) ∈ lw_all := lw_g (lw_at lw_m3 34 rfl) rfl
theorem q681 : (Jvm.Cond.code ({ cls := "java/lang/StringUTF16", name := "compress", desc := "([CII)[B" } : Jvm.MethodName) prog_34_method_16_code (6 : Nat) (Option.some (Jvm.ClassFile.FieldType.array Jvm.ClassFile.FieldType.byte))) ∈ lw_all := lw_g (lw_at lw_m3 35 rfl) rfl
theorem q682 : (Jvm.Cond.methodLink "java/lang/StringUTF16" (115 : Nat) ({ cls := "java/lang/StringUTF16", name := "compress", desc := "([CI[BII)I" } : Jvm.MethodName)) ∈ lw_all := lw_g (lw_at lw_m3 36 rfl) rfl
theorem q683 : (Jvm.Cond.static ({ cls := "java/lang/StringUTF16", name := "compress", desc := "([CI[BII)I" } : Jvm.MethodName)) ∈ lw_all := lw_g (lw_at lw_m3 37 rfl) rfl
theorem q684 : (Jvm.Cond.code ({ cls := "java/lang/StringUTF16", name := "compress", desc := "([CI[BII)I" } : Jvm.MethodName) prog_34_method_21_code (7 : Nat) (Option.some Jvm.ClassFile.FieldType.int)) ∈ lw_all := lw_g (lw_at lw_m3 38 rfl) rfl
theorem q685 : (Jvm.Cond.methodLink "java/lang/StringUTF16" (119 : Nat) ({ cls := "java/lang/StringUTF16", name := "toBytes", desc := "([CII)[B" } : Jvm.MethodName)) ∈ lw_all := lw_g (lw_at lw_m3 39 rfl) rfl
theorem q686 : (Jvm.Cond.static ({ cls := "java/lang/StringUTF16", name := "toBytes", desc := "([CII)[B" } : Jvm.MethodName)) ∈ lw_all := lw_g (lw_at lw_m3 40 rfl) rfl
theorem q687 : (Jvm.Cond.code ({ cls := "java/lang/StringUTF16", name := "toBytes", desc := "([CII)[B" } : Jvm.MethodName) prog_34_method_14_code (5 : Nat) (Option.some (Jvm.ClassFile.FieldType.array Jvm.ClassFile.FieldType.byte))) ∈ lw_all := lw_g (lw_at lw_m3 41 rfl) rfl
theorem q688 : (Jvm.Cond.methodLink "java/lang/StringUTF16" (107 : Nat) ({ cls := "java/lang/StringUTF16", name := "newBytesFor", desc := "(I)[B" } : Jvm.MethodName)) ∈ lw_all := lw_g (lw_at lw_m3 42 rfl) rfl
theorem q689 : (Jvm.Cond.static ({ cls := "java/lang/StringUTF16", name := "newBytesFor", desc := "(I)[B" } : Jvm.MethodName)) ∈ lw_all := lw_g (lw_at lw_m3 43 rfl) rfl
theorem q690 : (Jvm.Cond.code ({ cls := "java/lang/StringUTF16", name := "newBytesFor", desc := "(I)[B" } : Jvm.MethodName) prog_34_method_2_code (1 : Nat) (Option.some (Jvm.ClassFile.FieldType.array Jvm.ClassFile.FieldType.byte))) ∈ lw_all := lw_g (lw_at lw_m3 44 rfl) rfl
theorem q691 : (Jvm.Cond.methodLink "java/lang/StringUTF16" (11 : Nat) ({ cls := "java/lang/StringUTF16", name := "newBytesLength", desc := "(I)I" } : Jvm.MethodName)) ∈ lw_all := lw_g (lw_at lw_m3 45 rfl) rfl
theorem q692 : (Jvm.Cond.static ({ cls := "java/lang/StringUTF16", name := "newBytesLength", desc := "(I)I" } : Jvm.MethodName)) ∈ lw_all := lw_g (lw_at lw_m3 46 rfl) rfl
theorem q693 : (Jvm.Cond.code ({ cls := "java/lang/StringUTF16", name := "newBytesLength", desc := "(I)I" } : Jvm.MethodName) prog_34_method_3_code (1 : Nat) (Option.some Jvm.ClassFile.FieldType.int)) ∈ lw_all := lw_g (lw_at lw_m3 47 rfl) rfl
theorem q694 : (Jvm.Cond.constant "java/lang/StringUTF16" (20 : Nat) (1073741823 : Int32)) ∈ lw_all := lw_g (lw_at lw_m3 48 rfl) rfl
theorem q695 : (Jvm.Cond.methodLink "java/lang/StringUTF16" (111 : Nat) ({ cls := "java/lang/StringUTF16", name := "putChar", desc := "([BII)V" } : Jvm.MethodName)) ∈ lw_all := lw_g (lw_at lw_m3 49 rfl) rfl
theorem q696 : (Jvm.Cond.static ({ cls := "java/lang/StringUTF16", name := "putChar", desc := "([BII)V" } : Jvm.MethodName)) ∈ lw_all := lw_g (lw_at lw_m3 50 rfl) rfl
theorem q697 : (Jvm.Cond.code ({ cls := "java/lang/StringUTF16", name := "putChar", desc := "([BII)V" } : Jvm.MethodName) prog_34_method_4_code (3 : Nat) (Option.none : Option Jvm.ClassFile.FieldType)) ∈ lw_all := lw_g (lw_at lw_m3 51 rfl) rfl
theorem q698 : (Jvm.Cond.fieldLink "java/lang/StringUTF16" (44 : Nat) "java/lang/StringUTF16" "$assertionsDisabled" "Z") ∈ lw_all := lw_g (lw_at lw_m3 52 rfl) rfl
theorem q699 : (Jvm.Cond.laysStatic "java/lang/StringUTF16" "$assertionsDisabled" "Z") ∈ lw_tbl := lw_at lw_m3 53 rfl
theorem q700 : (Jvm.Cond.methodLink "java/lang/StringUTF16" (48 : Nat) ({ cls := "java/lang/StringUTF16", name := "length", desc := "([B)I" } : Jvm.MethodName)) ∈ lw_all := lw_g (lw_at lw_m3 54 rfl) rfl
theorem q701 : (Jvm.Cond.static ({ cls := "java/lang/StringUTF16", name := "length", desc := "([B)I" } : Jvm.MethodName)) ∈ lw_all := lw_g (lw_at lw_m3 55 rfl) rfl
theorem q702 : (Jvm.Cond.code ({ cls := "java/lang/StringUTF16", name := "length", desc := "([B)I" } : Jvm.MethodName) prog_34_method_6_code (1 : Nat) (Option.some Jvm.ClassFile.FieldType.int)) ∈ lw_all := lw_g (lw_at lw_m3 56 rfl) rfl
theorem q703 : (Jvm.Cond.fieldLink "java/lang/StringUTF16" (59 : Nat) "java/lang/StringUTF16" "HI_BYTE_SHIFT" "I") ∈ lw_all := lw_g (lw_at lw_m3 57 rfl) rfl
theorem q704 : (Jvm.Cond.laysStatic "java/lang/StringUTF16" "HI_BYTE_SHIFT" "I") ∈ lw_tbl := lw_at lw_m3 58 rfl
theorem q705 : (Jvm.Cond.fieldLink "java/lang/StringUTF16" (63 : Nat) "java/lang/StringUTF16" "LO_BYTE_SHIFT" "I") ∈ lw_all := lw_g (lw_at lw_m3 59 rfl) rfl
theorem q706 : (Jvm.Cond.laysStatic "java/lang/StringUTF16" "LO_BYTE_SHIFT" "I") ∈ lw_tbl := lw_at lw_m3 60 rfl
theorem q707 : (Jvm.Cond.methodLink "java/lang/StringUTF16" (71 : Nat) ({ cls := "java/lang/StringUTF16", name := "getChar", desc := "([BI)C" } : Jvm.MethodName)) ∈ lw_all := lw_g (lw_at lw_m3 61 rfl) rfl
theorem q708 : (Jvm.Cond.static ({ cls := "java/lang/StringUTF16", name := "getChar", desc := "([BI)C" } : Jvm.MethodName)) ∈ lw_all := lw_g (lw_at lw_m3 62 rfl) rfl
theorem q709 : (Jvm.Cond.code ({ cls := "java/lang/StringUTF16", name := "getChar", desc := "([BI)C" } : Jvm.MethodName) prog_34_method_5_code (2 : Nat) (Option.some Jvm.ClassFile.FieldType.char)) ∈ lw_all := lw_g (lw_at lw_m3 63 rfl) rfl
theorem q710 : (Jvm.Cond.methodLink "java/lang/StringUTF16" (123 : Nat) ({ cls := "java/lang/StringUTF16", name := "compress", desc := "([BI[BII)I" } : Jvm.MethodName)) ∈ lw_all := lw_g (lw_at lw_m3 64 rfl) rfl
theorem q711 : (Jvm.Cond.static ({ cls := "java/lang/StringUTF16", name := "compress", desc := "([BI[BII)I" } : Jvm.MethodName)) ∈ lw_all := lw_g (lw_at lw_m3 65 rfl) rfl
theorem q712 : (Jvm.Cond.code ({ cls := "java/lang/StringUTF16", name := "compress", desc := "([BI[BII)I" } : Jvm.MethodName) prog_34_method_22_code (7 : Nat) (Option.some Jvm.ClassFile.FieldType.int)) ∈ lw_all := lw_g (lw_at lw_m3 66 rfl) rfl
theorem q713 : (Jvm.Cond.methodLink "java/lang/StringUTF16" (173 : Nat) ({ cls := "java/lang/StringUTF16", name := "checkBoundsOffCount", desc := "(II[B)V" } : Jvm.MethodName)) ∈ lw_all := lw_g (lw_at lw_m3 67 rfl) rfl
theorem q714 : (Jvm.Cond.static ({ cls := "java/lang/StringUTF16", name := "checkBoundsOffCount", desc := "(II[B)V" } : Jvm.MethodName)) ∈ lw_all := lw_g (lw_at lw_m3 68 rfl) rfl
theorem q715 : (Jvm.Cond.code ({ cls := "java/lang/StringUTF16", name := "checkBoundsOffCount", desc := "(II[B)V" } : Jvm.MethodName) prog_34_method_94_code (3 : Nat) (Option.none : Option Jvm.ClassFile.FieldType)) ∈ lw_all := lw_g (lw_at lw_m3 69 rfl) rfl
theorem q716 : (Jvm.Cond.methodLink "java/lang/StringUTF16" (419 : Nat) ({ cls := "java/lang/String", name := "checkBoundsOffCount", desc := "(III)I" } : Jvm.MethodName)) ∈ lw_all := lw_g (lw_at lw_m3 70 rfl) rfl
theorem q718 : (Jvm.Cond.static ({ cls := "java/lang/StringUTF16", name := "coderFromArrayLen", desc := "([BI)B" } : Jvm.MethodName)) ∈ lw_all := lw_g (lw_at lw_m3 72 rfl) rfl
theorem q719 : (Jvm.Cond.code ({ cls := "java/lang/StringUTF16", name := "coderFromArrayLen", desc := "([BI)B" } : Jvm.MethodName) prog_34_method_15_code (2 : Nat) (Option.some Jvm.ClassFile.FieldType.byte)) ∈ lw_all := lw_g (lw_at lw_m3 73 rfl) rfl
theorem q800 : (Jvm.Cond.static ({ cls := "java/lang/StringUTF16", name := "hashCode", desc := "([B)I" } : Jvm.MethodName)) ∈ lw_all := lw_g (lw_at lw_m3 154 rfl) rfl
theorem q801 : (Jvm.Cond.code ({ cls := "java/lang/StringUTF16", name := "hashCode", desc := "([B)I" } : Jvm.MethodName) prog_34_method_39_code (1 : Nat) (Option.some Jvm.ClassFile.FieldType.int)) ∈ lw_all := lw_g (lw_at lw_m3 155 rfl) rfl
theorem q802 : (Jvm.Cond.methodLink "java/lang/StringUTF16" (220 : Nat) ({ cls := "jdk/internal/util/ArraysSupport", name := "vectorizedHashCode", desc := "(Ljava/lang/Object;IIII)I" } : Jvm.MethodName)) ∈ lw_all := lw_g (lw_at lw_m3 156 rfl) rfl
theorem q1110 : (Jvm.Cond.static ({ cls := "java/lang/StringUTF16", name := "charAt", desc := "([BI)C" } : Jvm.MethodName)) ∈ lw_all := lw_g (lw_at lw_m4 224 rfl) rfl
theorem q1111 : (Jvm.Cond.code ({ cls := "java/lang/StringUTF16", name := "charAt", desc := "([BI)C" } : Jvm.MethodName) prog_34_method_83_code (2 : Nat) (Option.some Jvm.ClassFile.FieldType.char)) ∈ lw_all := lw_g (lw_at lw_m4 225 rfl) rfl
theorem q1112 : (Jvm.Cond.methodLink "java/lang/StringUTF16" (67 : Nat) ({ cls := "java/lang/StringUTF16", name := "checkIndex", desc := "(I[B)V" } : Jvm.MethodName)) ∈ lw_all := lw_g (lw_at lw_m4 226 rfl) rfl
theorem q1113 : (Jvm.Cond.static ({ cls := "java/lang/StringUTF16", name := "checkIndex", desc := "(I[B)V" } : Jvm.MethodName)) ∈ lw_all := lw_g (lw_at lw_m4 227 rfl) rfl
theorem q1114 : (Jvm.Cond.code ({ cls := "java/lang/StringUTF16", name := "checkIndex", desc := "(I[B)V" } : Jvm.MethodName) prog_34_method_91_code (2 : Nat) (Option.none : Option Jvm.ClassFile.FieldType)) ∈ lw_all := lw_g (lw_at lw_m4 228 rfl) rfl
theorem q1115 : (Jvm.Cond.methodLink "java/lang/StringUTF16" (414 : Nat) ({ cls := "java/lang/String", name := "checkIndex", desc := "(II)V" } : Jvm.MethodName)) ∈ lw_all := lw_g (lw_at lw_m4 229 rfl) rfl
/-! java/lang/StringLatin1 -/
def RJ6 : String := "java/lang/StringLatin1"
abbrev cJ6_hashCode : ByteArray := prog_33_method_21_code
def yJ6_hashCode : MethodName := ⟨RJ6, "hashCode", "([B)I"⟩
abbrev cJ6_equals : ByteArray := prog_33_method_13_code
def yJ6_equals : MethodName := ⟨RJ6, "equals", "([B[B)Z"⟩
abbrev cJ6_charAt : ByteArray := prog_33_method_2_code
def yJ6_charAt : MethodName := ⟨RJ6, "charAt", "([BI)C"⟩

theorem q181 : (Jvm.Cond.initialized "java/lang/StringLatin1") ∈ lw_all := lw_g (lw_at lw_m1 15 rfl) rfl
theorem q759 : (Jvm.Cond.static ({ cls := "java/lang/StringLatin1", name := "hashCode", desc := "([B)I" } : Jvm.MethodName)) ∈ lw_all := lw_g (lw_at lw_m3 113 rfl) rfl
theorem q760 : (Jvm.Cond.code ({ cls := "java/lang/StringLatin1", name := "hashCode", desc := "([B)I" } : Jvm.MethodName) prog_33_method_21_code (1 : Nat) (Option.some Jvm.ClassFile.FieldType.int)) ∈ lw_all := lw_g (lw_at lw_m3 114 rfl) rfl
theorem q761 : (Jvm.Cond.methodLink "java/lang/StringLatin1" (84 : Nat) ({ cls := "jdk/internal/util/ArraysSupport", name := "vectorizedHashCode", desc := "(Ljava/lang/Object;IIII)I" } : Jvm.MethodName)) ∈ lw_all := lw_g (lw_at lw_m3 115 rfl) rfl
theorem q810 : (Jvm.Cond.static ({ cls := "java/lang/StringLatin1", name := "equals", desc := "([B[B)Z" } : Jvm.MethodName)) ∈ lw_all := lw_g (lw_at lw_m3 164 rfl) rfl
theorem q811 : (Jvm.Cond.code ({ cls := "java/lang/StringLatin1", name := "equals", desc := "([B[B)Z" } : Jvm.MethodName) prog_33_method_13_code (3 : Nat) (Option.some Jvm.ClassFile.FieldType.boolean)) ∈ lw_all := lw_g (lw_at lw_m3 165 rfl) rfl
theorem q1101 : (Jvm.Cond.static ({ cls := "java/lang/StringLatin1", name := "charAt", desc := "([BI)C" } : Jvm.MethodName)) ∈ lw_all := lw_g (lw_at lw_m4 215 rfl) rfl
theorem q1102 : (Jvm.Cond.code ({ cls := "java/lang/StringLatin1", name := "charAt", desc := "([BI)C" } : Jvm.MethodName) prog_33_method_2_code (2 : Nat) (Option.some Jvm.ClassFile.FieldType.char)) ∈ lw_all := lw_g (lw_at lw_m4 216 rfl) rfl
theorem q1103 : (Jvm.Cond.methodLink "java/lang/StringLatin1" (9 : Nat) ({ cls := "java/lang/String", name := "checkIndex", desc := "(II)V" } : Jvm.MethodName)) ∈ lw_all := lw_g (lw_at lw_m4 217 rfl) rfl
/-! jdk/internal/util/ArraysSupport -/
def RJ7 : String := "jdk/internal/util/ArraysSupport"
abbrev cJ7_vectorizedHashCode : ByteArray := prog_42_method_4_code
def yJ7_vectorizedHashCode : MethodName := ⟨RJ7, "vectorizedHashCode", "(Ljava/lang/Object;IIII)I"⟩
abbrev cJ7_signedHashCode : ByteArray := prog_42_method_5_code
def yJ7_signedHashCode : MethodName := ⟨RJ7, "signedHashCode", "(I[BII)I"⟩
abbrev cJ7_utf16hashCode : ByteArray := prog_42_method_10_code
def yJ7_utf16hashCode : MethodName := ⟨RJ7, "utf16hashCode", "(I[BII)I"⟩
abbrev cJ7_hashCode : ByteArray := prog_42_method_7_code
def yJ7_hashCode : MethodName := ⟨RJ7, "hashCode", "(I[CII)I"⟩
abbrev cJ7_hashCode_2 : ByteArray := prog_42_method_6_code
def yJ7_hashCode_2 : MethodName := ⟨RJ7, "hashCode", "(I[BII)I"⟩
abbrev cJ7_hashCode_3 : ByteArray := prog_42_method_8_code
def yJ7_hashCode_3 : MethodName := ⟨RJ7, "hashCode", "(I[SII)I"⟩
abbrev cJ7_hashCode_4 : ByteArray := prog_42_method_9_code
def yJ7_hashCode_4 : MethodName := ⟨RJ7, "hashCode", "(I[III)I"⟩

theorem q182 : (Jvm.Cond.initialized "jdk/internal/util/ArraysSupport") ∈ lw_all := lw_g (lw_at lw_m1 16 rfl) rfl
theorem q762 : (Jvm.Cond.static ({ cls := "jdk/internal/util/ArraysSupport", name := "vectorizedHashCode", desc := "(Ljava/lang/Object;IIII)I" } : Jvm.MethodName)) ∈ lw_all := lw_g (lw_at lw_m3 116 rfl) rfl
theorem q763 : (Jvm.Cond.code ({ cls := "jdk/internal/util/ArraysSupport", name := "vectorizedHashCode", desc := "(Ljava/lang/Object;IIII)I" } : Jvm.MethodName) prog_42_method_4_code (5 : Nat) (Option.some Jvm.ClassFile.FieldType.int)) ∈ lw_all := lw_g (lw_at lw_m3 117 rfl) rfl
theorem q764 : (Jvm.Cond.classLink "jdk/internal/util/ArraysSupport" (60 : Nat) "[B") ∈ lw_all := lw_g (lw_at lw_m3 118 rfl) rfl
theorem q765 : (Jvm.Cond.methodLink "jdk/internal/util/ArraysSupport" (62 : Nat) ({ cls := "jdk/internal/util/ArraysSupport", name := "signedHashCode", desc := "(I[BII)I" } : Jvm.MethodName)) ∈ lw_all := lw_g (lw_at lw_m3 119 rfl) rfl
theorem q766 : (Jvm.Cond.static ({ cls := "jdk/internal/util/ArraysSupport", name := "signedHashCode", desc := "(I[BII)I" } : Jvm.MethodName)) ∈ lw_all := lw_g (lw_at lw_m3 120 rfl) rfl
theorem q767 : (Jvm.Cond.code ({ cls := "jdk/internal/util/ArraysSupport", name := "signedHashCode", desc := "(I[BII)I" } : Jvm.MethodName) prog_42_method_5_code (6 : Nat) (Option.some Jvm.ClassFile.FieldType.int)) ∈ lw_all := lw_g (lw_at lw_m3 121 rfl) rfl
theorem q768 : (Jvm.Cond.methodLink "jdk/internal/util/ArraysSupport" (66 : Nat) ({ cls := "jdk/internal/util/ArraysSupport", name := "utf16hashCode", desc := "(I[BII)I" } : Jvm.MethodName)) ∈ lw_all := lw_g (lw_at lw_m3 122 rfl) rfl
theorem q769 : (Jvm.Cond.static ({ cls := "jdk/internal/util/ArraysSupport", name := "utf16hashCode", desc := "(I[BII)I" } : Jvm.MethodName)) ∈ lw_all := lw_g (lw_at lw_m3 123 rfl) rfl
theorem q770 : (Jvm.Cond.code ({ cls := "jdk/internal/util/ArraysSupport", name := "utf16hashCode", desc := "(I[BII)I" } : Jvm.MethodName) prog_42_method_10_code (6 : Nat) (Option.some Jvm.ClassFile.FieldType.int)) ∈ lw_all := lw_g (lw_at lw_m3 124 rfl) rfl
theorem q771 : (Jvm.Cond.fieldLink "jdk/internal/util/ArraysSupport" (106 : Nat) "jdk/internal/util/ArraysSupport" "JLA" "Ljdk/internal/access/JavaLangAccess;") ∈ lw_all := lw_g (lw_at lw_m3 125 rfl) rfl
theorem q772 : (Jvm.Cond.laysStatic "jdk/internal/util/ArraysSupport" "JLA" "Ljdk/internal/access/JavaLangAccess;") ∈ lw_tbl := lw_at lw_m3 126 rfl
theorem q773 : (Jvm.Cond.interfaceEntry "jdk/internal/util/ArraysSupport" (110 : Nat)) ∈ lw_tbl := lw_at lw_m3 127 rfl
theorem q774 : (Jvm.Cond.methodLink "jdk/internal/util/ArraysSupport" (110 : Nat) ({ cls := "jdk/internal/access/JavaLangAccess", name := "getUTF16Char", desc := "([BI)C" } : Jvm.MethodName)) ∈ lw_all := lw_g (lw_at lw_m3 128 rfl) rfl
theorem q784 : (Jvm.Cond.classLink "jdk/internal/util/ArraysSupport" (69 : Nat) "[C") ∈ lw_all := lw_g (lw_at lw_m3 138 rfl) rfl
theorem q785 : (Jvm.Cond.methodLink "jdk/internal/util/ArraysSupport" (71 : Nat) ({ cls := "jdk/internal/util/ArraysSupport", name := "hashCode", desc := "(I[CII)I" } : Jvm.MethodName)) ∈ lw_all := lw_g (lw_at lw_m3 139 rfl) rfl
theorem q786 : (Jvm.Cond.static ({ cls := "jdk/internal/util/ArraysSupport", name := "hashCode", desc := "(I[CII)I" } : Jvm.MethodName)) ∈ lw_all := lw_g (lw_at lw_m3 140 rfl) rfl
theorem q787 : (Jvm.Cond.code ({ cls := "jdk/internal/util/ArraysSupport", name := "hashCode", desc := "(I[CII)I" } : Jvm.MethodName) prog_42_method_7_code (6 : Nat) (Option.some Jvm.ClassFile.FieldType.int)) ∈ lw_all := lw_g (lw_at lw_m3 141 rfl) rfl
theorem q788 : (Jvm.Cond.methodLink "jdk/internal/util/ArraysSupport" (75 : Nat) ({ cls := "jdk/internal/util/ArraysSupport", name := "hashCode", desc := "(I[BII)I" } : Jvm.MethodName)) ∈ lw_all := lw_g (lw_at lw_m3 142 rfl) rfl
theorem q789 : (Jvm.Cond.static ({ cls := "jdk/internal/util/ArraysSupport", name := "hashCode", desc := "(I[BII)I" } : Jvm.MethodName)) ∈ lw_all := lw_g (lw_at lw_m3 143 rfl) rfl
theorem q790 : (Jvm.Cond.code ({ cls := "jdk/internal/util/ArraysSupport", name := "hashCode", desc := "(I[BII)I" } : Jvm.MethodName) prog_42_method_6_code (6 : Nat) (Option.some Jvm.ClassFile.FieldType.int)) ∈ lw_all := lw_g (lw_at lw_m3 144 rfl) rfl
theorem q791 : (Jvm.Cond.classLink "jdk/internal/util/ArraysSupport" (77 : Nat) "[S") ∈ lw_all := lw_g (lw_at lw_m3 145 rfl) rfl
theorem q792 : (Jvm.Cond.methodLink "jdk/internal/util/ArraysSupport" (79 : Nat) ({ cls := "jdk/internal/util/ArraysSupport", name := "hashCode", desc := "(I[SII)I" } : Jvm.MethodName)) ∈ lw_all := lw_g (lw_at lw_m3 146 rfl) rfl
theorem q793 : (Jvm.Cond.static ({ cls := "jdk/internal/util/ArraysSupport", name := "hashCode", desc := "(I[SII)I" } : Jvm.MethodName)) ∈ lw_all := lw_g (lw_at lw_m3 147 rfl) rfl
theorem q794 : (Jvm.Cond.code ({ cls := "jdk/internal/util/ArraysSupport", name := "hashCode", desc := "(I[SII)I" } : Jvm.MethodName) prog_42_method_8_code (6 : Nat) (Option.some Jvm.ClassFile.FieldType.int)) ∈ lw_all := lw_g (lw_at lw_m3 148 rfl) rfl
theorem q795 : (Jvm.Cond.classLink "jdk/internal/util/ArraysSupport" (82 : Nat) "[I") ∈ lw_all := lw_g (lw_at lw_m3 149 rfl) rfl
theorem q796 : (Jvm.Cond.methodLink "jdk/internal/util/ArraysSupport" (84 : Nat) ({ cls := "jdk/internal/util/ArraysSupport", name := "hashCode", desc := "(I[III)I" } : Jvm.MethodName)) ∈ lw_all := lw_g (lw_at lw_m3 150 rfl) rfl
theorem q797 : (Jvm.Cond.static ({ cls := "jdk/internal/util/ArraysSupport", name := "hashCode", desc := "(I[III)I" } : Jvm.MethodName)) ∈ lw_all := lw_g (lw_at lw_m3 151 rfl) rfl
theorem q798 : (Jvm.Cond.code ({ cls := "jdk/internal/util/ArraysSupport", name := "hashCode", desc := "(I[III)I" } : Jvm.MethodName) prog_42_method_9_code (6 : Nat) (Option.some Jvm.ClassFile.FieldType.int)) ∈ lw_all := lw_g (lw_at lw_m3 152 rfl) rfl
/-! java/lang/Math -/
def RJ8 : String := "java/lang/Math"
abbrev cJ8_max : ByteArray := prog_30_method_65_code
def yJ8_max : MethodName := ⟨RJ8, "max", "(II)I"⟩
abbrev cJ8_min : ByteArray := prog_30_method_69_code
def yJ8_min : MethodName := ⟨RJ8, "min", "(II)I"⟩

theorem q198 : (Jvm.Cond.initialized "java/lang/Math") ∈ lw_all := lw_g (lw_at lw_m1 32 rfl) rfl
theorem q1301 : (Jvm.Cond.static ({ cls := "java/lang/Math", name := "max", desc := "(II)I" } : Jvm.MethodName)) ∈ lw_all := lw_g (lw_at lw_m5 175 rfl) rfl
theorem q1302 : (Jvm.Cond.code ({ cls := "java/lang/Math", name := "max", desc := "(II)I" } : Jvm.MethodName) prog_30_method_65_code (2 : Nat) (Option.some Jvm.ClassFile.FieldType.int)) ∈ lw_all := lw_g (lw_at lw_m5 176 rfl) rfl
theorem q1406 : (Jvm.Cond.static ({ cls := "java/lang/Math", name := "min", desc := "(II)I" } : Jvm.MethodName)) ∈ lw_all := lw_g (lw_at lw_m6 40 rfl) rfl
theorem q1407 : (Jvm.Cond.code ({ cls := "java/lang/Math", name := "min", desc := "(II)I" } : Jvm.MethodName) prog_30_method_69_code (2 : Nat) (Option.some Jvm.ClassFile.FieldType.int)) ∈ lw_all := lw_g (lw_at lw_m6 41 rfl) rfl
/-! java/util/NoSuchElementException -/
def RJ9 : String := "java/util/NoSuchElementException"
def TJ9 : u_T := fun k => match k with
  | 0 => ("java/lang/Throwable", "cause", "Ljava/lang/Throwable;", false)
  | 1 => ("java/lang/Throwable", "stackTrace", "[Ljava/lang/StackTraceElement;", false)
  | 2 => ("java/lang/Throwable", "suppressedExceptions", "Ljava/util/List;", false)
  | 3 => ("java/lang/Throwable", "detailMessage", "Ljava/lang/String;", false)
  | 4 => ("java/lang/Throwable", "backtrace", "Ljava/lang/Object;", false)
  | _ => ("java/lang/Throwable", "depth", "I", false)
def tyJ9 : Nat → FieldType := fun k => match k with
  | 0 => .object "java/lang/Throwable"
  | 1 => .array (.object "java/lang/StackTraceElement")
  | 2 => .object "java/util/List"
  | 3 => .object "java/lang/String"
  | 4 => .object "java/lang/Object"
  | _ => .int
abbrev wsJ90 : List Cond := u_ws RJ9 TJ9 6
theorem nmJ9 : ∀ a, a < 6 → ∀ b, b < 6 → a ≠ b → (TJ9 a).2.1 ≠ (TJ9 b).2.1 := by decide +kernel
theorem tyJ9_ok : ∀ k, k < 6 → parseFieldDescriptor (TJ9 k).2.2.1 = some (tyJ9 k) := by decide +kernel
abbrev cJ9_init : ByteArray := prog_40_method_1_code
def yJ9_init : MethodName := ⟨RJ9, "<init>", "()V"⟩

theorem q201 : (Jvm.Cond.initialized "java/util/NoSuchElementException") ∈ lw_all := lw_g (lw_at lw_m1 35 rfl) rfl
theorem q249 : (Jvm.Cond.selects "java/util/NoSuchElementException" ({ cls := "java/lang/Throwable", name := "fillInStackTrace", desc := "()Ljava/lang/Throwable;" } : Jvm.MethodName) ({ cls := "java/lang/Throwable", name := "fillInStackTrace", desc := "()Ljava/lang/Throwable;" } : Jvm.MethodName)) ∈ lw_all := lw_g (lw_at lw_m1 83 rfl) rfl
theorem q1863 : (Jvm.Cond.instantiable "java/util/NoSuchElementException" (6 : Nat)) ∈ lw_all := lw_g (lw_at lw_m8 17 rfl) rfl
theorem q1864 : (Jvm.Cond.castable "java/util/NoSuchElementException" "java/util/NoSuchElementException") ∈ lw_tbl := lw_at lw_m8 18 rfl
theorem q1865 : (Jvm.Cond.selects "java/util/NoSuchElementException" ({ cls := "java/lang/Throwable", name := "fillInStackTrace", desc := "(I)Ljava/lang/Throwable;" } : Jvm.MethodName) ({ cls := "java/lang/Throwable", name := "fillInStackTrace", desc := "(I)Ljava/lang/Throwable;" } : Jvm.MethodName)) ∈ lw_all := lw_g (lw_at lw_m8 19 rfl) rfl
theorem q1866 : (Jvm.Cond.lays "java/util/NoSuchElementException" "java/lang/Throwable" "cause" "Ljava/lang/Throwable;") ∈ lw_all := lw_g (lw_at lw_m8 20 rfl) rfl
theorem q1867 : (Jvm.Cond.lays "java/util/NoSuchElementException" "java/lang/Throwable" "stackTrace" "[Ljava/lang/StackTraceElement;") ∈ lw_all := lw_g (lw_at lw_m8 21 rfl) rfl
theorem q1868 : (Jvm.Cond.lays "java/util/NoSuchElementException" "java/lang/Throwable" "suppressedExceptions" "Ljava/util/List;") ∈ lw_all := lw_g (lw_at lw_m8 22 rfl) rfl
theorem q1869 : (Jvm.Cond.lays "java/util/NoSuchElementException" "java/lang/Throwable" "detailMessage" "Ljava/lang/String;") ∈ lw_all := lw_g (lw_at lw_m8 23 rfl) rfl
theorem q1870 : (Jvm.Cond.lays "java/util/NoSuchElementException" "java/lang/Throwable" "backtrace" "Ljava/lang/Object;") ∈ lw_all := lw_g (lw_at lw_m8 24 rfl) rfl
theorem q1872 : (Jvm.Cond.instanceMethod ({ cls := "java/util/NoSuchElementException", name := "<init>", desc := "()V" } : Jvm.MethodName)) ∈ lw_all := lw_g (lw_at lw_m8 26 rfl) rfl
theorem q1873 : (Jvm.Cond.code ({ cls := "java/util/NoSuchElementException", name := "<init>", desc := "()V" } : Jvm.MethodName) prog_40_method_1_code (1 : Nat) (Option.none : Option Jvm.ClassFile.FieldType)) ∈ lw_all := lw_g (lw_at lw_m8 27 rfl) rfl
theorem q1874 : (Jvm.Cond.methodLink "java/util/NoSuchElementException" (1 : Nat) ({ cls := "java/lang/RuntimeException", name := "<init>", desc := "()V" } : Jvm.MethodName)) ∈ lw_all := lw_g (lw_at lw_m8 28 rfl) rfl
theorem q1881 : (Jvm.Cond.lays "java/util/NoSuchElementException" "java/lang/Throwable" "depth" "I") ∈ lw_all := lw_g (lw_at lw_m8 35 rfl) rfl
theorem q1882 : (Jvm.Cond.superclass "java/util/NoSuchElementException" "java/lang/RuntimeException") ∈ lw_all := lw_g (lw_at lw_m8 36 rfl) rfl
theorem q2811 : (Jvm.Cond.castable "java/util/NoSuchElementException" "java/lang/Object") ∈ lw_tbl := lw_at lw_m12 5 rfl
theorem in_J9 : ∀ w ∈ wsJ90, w ∈ lw_all := lw_in wsJ90 [1866, 1867, 1868, 1869, 1870, 1881] (by decide +kernel) (by decide +kernel)
/-! GoatCourtLaw -/
def RX0 : String := "GoatCourtLaw"
abbrev cX0_put : ByteArray := method_3_code
def yX0_put : MethodName := ⟨RX0, "put", "(LGoatCourt;IZ[J)I"⟩

theorem q166 : (Jvm.Cond.initialized "GoatCourtLaw") ∈ lw_all := lw_g (lw_at lw_m1 0 rfl) rfl
theorem q202 : (Jvm.Cond.classLink "GoatCourtLaw" (8 : Nat) "GoatCourt") ∈ lw_all := lw_g (lw_at lw_m1 36 rfl) rfl
theorem q204 : (Jvm.Cond.methodLink "GoatCourtLaw" (15 : Nat) ({ cls := "GoatCourt", name := "<init>", desc := "()V" } : Jvm.MethodName)) ∈ lw_all := lw_g (lw_at lw_m1 38 rfl) rfl
theorem q472 : (Jvm.Cond.methodLink "GoatCourtLaw" (19 : Nat) ({ cls := "GoatCourt", name := "feed", desc := "(IIIII)I" } : Jvm.MethodName)) ∈ lw_all := lw_g (lw_at lw_m2 66 rfl) rfl
theorem q480 : (Jvm.Cond.methodLink "GoatCourtLaw" (24 : Nat) ({ cls := "GoatCourt", name := "hill", desc := "(I)I" } : Jvm.MethodName)) ∈ lw_all := lw_g (lw_at lw_m2 74 rfl) rfl
theorem q1303 : (Jvm.Cond.methodLink "GoatCourtLaw" (29 : Nat) ({ cls := "GoatCourt", name := "fault", desc := "()I" } : Jvm.MethodName)) ∈ lw_all := lw_g (lw_at lw_m5 177 rfl) rfl
theorem q1307 : (Jvm.Cond.methodLink "GoatCourtLaw" (34 : Nat) ({ cls := "GoatCourt", name := "where", desc := "()I" } : Jvm.MethodName)) ∈ lw_all := lw_g (lw_at lw_m5 181 rfl) rfl
theorem q1311 : (Jvm.Cond.methodLink "GoatCourtLaw" (38 : Nat) ({ cls := "GoatCourt", name := "plants", desc := "(II)I" } : Jvm.MethodName)) ∈ lw_all := lw_g (lw_at lw_m5 185 rfl) rfl
theorem q1323 : (Jvm.Cond.methodLink "GoatCourtLaw" (43 : Nat) ({ cls := "GoatCourt", name := "near", desc := "(I)I" } : Jvm.MethodName)) ∈ lw_all := lw_g (lw_at lw_m5 197 rfl) rfl
theorem q1327 : (Jvm.Cond.methodLink "GoatCourtLaw" (47 : Nat) ({ cls := "GoatCourt", name := "goat", desc := "(II)I" } : Jvm.MethodName)) ∈ lw_all := lw_g (lw_at lw_m5 201 rfl) rfl
theorem q1365 : (Jvm.Cond.methodLink "GoatCourtLaw" (51 : Nat) ({ cls := "GoatCourt", name := "likes", desc := "(II)I" } : Jvm.MethodName)) ∈ lw_all := lw_g (lw_at lw_m5 239 rfl) rfl
theorem q1369 : (Jvm.Cond.methodLink "GoatCourtLaw" (55 : Nat) ({ cls := "GoatCourt", name := "clue", desc := "(II)I" } : Jvm.MethodName)) ∈ lw_all := lw_g (lw_at lw_m6 3 rfl) rfl
theorem q1389 : (Jvm.Cond.methodLink "GoatCourtLaw" (59 : Nat) ({ cls := "GoatCourt", name := "story", desc := "(III)I" } : Jvm.MethodName)) ∈ lw_all := lw_g (lw_at lw_m6 23 rfl) rfl
theorem q1408 : (Jvm.Cond.methodLink "GoatCourtLaw" (64 : Nat) ({ cls := "GoatCourt", name := "stories", desc := "(I)I" } : Jvm.MethodName)) ∈ lw_all := lw_g (lw_at lw_m6 42 rfl) rfl
theorem q1412 : (Jvm.Cond.methodLink "GoatCourtLaw" (68 : Nat) ({ cls := "GoatCourt", name := "caseOf", desc := "(II)I" } : Jvm.MethodName)) ∈ lw_all := lw_g (lw_at lw_m6 46 rfl) rfl
theorem q1424 : (Jvm.Cond.methodLink "GoatCourtLaw" (72 : Nat) ({ cls := "GoatCourt", name := "at", desc := "(III)I" } : Jvm.MethodName)) ∈ lw_all := lw_g (lw_at lw_m6 58 rfl) rfl
theorem q1516 : (Jvm.Cond.methodLink "GoatCourtLaw" (76 : Nat) ({ cls := "GoatCourt", name := "ate", desc := "(III)I" } : Jvm.MethodName)) ∈ lw_all := lw_g (lw_at lw_m6 150 rfl) rfl
theorem q1524 : (Jvm.Cond.methodLink "GoatCourtLaw" (80 : Nat) ({ cls := "GoatCourt", name := "drops", desc := "(IIII)I" } : Jvm.MethodName)) ∈ lw_all := lw_g (lw_at lw_m6 158 rfl) rfl
theorem q1533 : (Jvm.Cond.methodLink "GoatCourtLaw" (85 : Nat) ({ cls := "GoatCourt", name := "flees", desc := "(II)I" } : Jvm.MethodName)) ∈ lw_all := lw_g (lw_at lw_m6 167 rfl) rfl
theorem q1541 : (Jvm.Cond.methodLink "GoatCourtLaw" (89 : Nat) ({ cls := "GoatCourt", name := "left", desc := "(III)I" } : Jvm.MethodName)) ∈ lw_all := lw_g (lw_at lw_m6 175 rfl) rfl
theorem q1549 : (Jvm.Cond.methodLink "GoatCourtLaw" (93 : Nat) ({ cls := "GoatCourt", name := "met", desc := "(III)I" } : Jvm.MethodName)) ∈ lw_all := lw_g (lw_at lw_m6 183 rfl) rfl
theorem q1553 : (Jvm.Cond.methodLink "GoatCourtLaw" (97 : Nat) ({ cls := "GoatCourt", name := "isTrue", desc := "(II)I" } : Jvm.MethodName)) ∈ lw_all := lw_g (lw_at lw_m6 187 rfl) rfl
theorem q1572 : (Jvm.Cond.methodLink "GoatCourtLaw" (101 : Nat) ({ cls := "GoatCourt", name := "fits", desc := "()I" } : Jvm.MethodName)) ∈ lw_all := lw_g (lw_at lw_m6 206 rfl) rfl
theorem q1598 : (Jvm.Cond.methodLink "GoatCourtLaw" (105 : Nat) ({ cls := "GoatCourt", name := "fit", desc := "(I)I" } : Jvm.MethodName)) ∈ lw_all := lw_g (lw_at lw_m6 232 rfl) rfl
theorem q1602 : (Jvm.Cond.methodLink "GoatCourtLaw" (109 : Nat) ({ cls := "GoatCourt", name := "could", desc := "(II)I" } : Jvm.MethodName)) ∈ lw_all := lw_g (lw_at lw_m6 236 rfl) rfl
theorem q1614 : (Jvm.Cond.methodLink "GoatCourtLaw" (113 : Nat) ({ cls := "GoatCourt", name := "surely", desc := "(II)I" } : Jvm.MethodName)) ∈ lw_all := lw_g (lw_at lw_m7 8 rfl) rfl
theorem q1618 : (Jvm.Cond.methodLink "GoatCourtLaw" (117 : Nat) ({ cls := "GoatCourt", name := "lies", desc := "(I)I" } : Jvm.MethodName)) ∈ lw_all := lw_g (lw_at lw_m7 12 rfl) rfl
theorem q1622 : (Jvm.Cond.methodLink "GoatCourtLaw" (121 : Nat) ({ cls := "GoatCourt", name := "falseOnes", desc := "()I" } : Jvm.MethodName)) ∈ lw_all := lw_g (lw_at lw_m7 16 rfl) rfl
theorem q1632 : (Jvm.Cond.methodLink "GoatCourtLaw" (125 : Nat) ({ cls := "GoatCourt", name := "odds", desc := "(I)I" } : Jvm.MethodName)) ∈ lw_all := lw_g (lw_at lw_m7 26 rfl) rfl
theorem q1640 : (Jvm.Cond.methodLink "GoatCourtLaw" (129 : Nat) ({ cls := "GoatCourt", name := "likeliest", desc := "()I" } : Jvm.MethodName)) ∈ lw_all := lw_g (lw_at lw_m7 34 rfl) rfl
theorem q1644 : (Jvm.Cond.methodLink "GoatCourtLaw" (133 : Nat) ({ cls := "GoatCourt", name := "proved", desc := "(III)I" } : Jvm.MethodName)) ∈ lw_all := lw_g (lw_at lw_m7 38 rfl) rfl
theorem q1648 : (Jvm.Cond.methodLink "GoatCourtLaw" (137 : Nat) ({ cls := "GoatCourt", name := "ask", desc := "()I" } : Jvm.MethodName)) ∈ lw_all := lw_g (lw_at lw_m7 42 rfl) rfl
theorem q1661 : (Jvm.Cond.methodLink "GoatCourtLaw" (141 : Nat) ({ cls := "GoatCourt", name := "askMost", desc := "()I" } : Jvm.MethodName)) ∈ lw_all := lw_g (lw_at lw_m7 55 rfl) rfl
theorem q1665 : (Jvm.Cond.methodLink "GoatCourtLaw" (145 : Nat) ({ cls := "GoatCourt", name := "led", desc := "(IIII)I" } : Jvm.MethodName)) ∈ lw_all := lw_g (lw_at lw_m7 59 rfl) rfl
theorem q1694 : (Jvm.Cond.methodLink "GoatCourtLaw" (149 : Nat) ({ cls := "GoatCourt", name := "ledAt", desc := "(IIIII)I" } : Jvm.MethodName)) ∈ lw_all := lw_g (lw_at lw_m7 88 rfl) rfl
theorem q1698 : (Jvm.Cond.methodLink "GoatCourtLaw" (153 : Nat) ({ cls := "GoatCourt", name := "scared", desc := "(IIII)I" } : Jvm.MethodName)) ∈ lw_all := lw_g (lw_at lw_m7 92 rfl) rfl
theorem q1702 : (Jvm.Cond.methodLink "GoatCourtLaw" (157 : Nat) ({ cls := "GoatCourt", name := "follows", desc := "(I)I" } : Jvm.MethodName)) ∈ lw_all := lw_g (lw_at lw_m7 96 rfl) rfl
theorem q1731 : (Jvm.Cond.methodLink "GoatCourtLaw" (161 : Nat) ({ cls := "GoatCourt", name := "step", desc := "()I" } : Jvm.MethodName)) ∈ lw_all := lw_g (lw_at lw_m7 125 rfl) rfl
theorem q1740 : (Jvm.Cond.methodLink "GoatCourtLaw" (165 : Nat) ({ cls := "GoatCourt", name := "needs", desc := "(I)I" } : Jvm.MethodName)) ∈ lw_all := lw_g (lw_at lw_m7 134 rfl) rfl
theorem q1744 : (Jvm.Cond.methodLink "GoatCourtLaw" (169 : Nat) ({ cls := "GoatCourt", name := "enough", desc := "(I)I" } : Jvm.MethodName)) ∈ lw_all := lw_g (lw_at lw_m7 138 rfl) rfl
theorem q1748 : (Jvm.Cond.methodLink "GoatCourtLaw" (173 : Nat) ({ cls := "GoatCourt", name := "cheese", desc := "(I)I" } : Jvm.MethodName)) ∈ lw_all := lw_g (lw_at lw_m7 142 rfl) rfl
theorem q1760 : (Jvm.Cond.methodLink "GoatCourtLaw" (177 : Nat) ({ cls := "GoatCourt", name := "cheeseOf", desc := "(I)I" } : Jvm.MethodName)) ∈ lw_all := lw_g (lw_at lw_m7 154 rfl) rfl
theorem q1764 : (Jvm.Cond.methodLink "GoatCourtLaw" (181 : Nat) ({ cls := "GoatCourt", name := "appeals", desc := "()J" } : Jvm.MethodName)) ∈ lw_all := lw_g (lw_at lw_m7 158 rfl) rfl
theorem q1784 : (Jvm.Cond.methodLink "GoatCourtLaw" (186 : Nat) ({ cls := "GoatCourt", name := "appealAt", desc := "(I)I" } : Jvm.MethodName)) ∈ lw_all := lw_g (lw_at lw_m7 178 rfl) rfl
theorem q1792 : (Jvm.Cond.methodLink "GoatCourtLaw" (190 : Nat) ({ cls := "GoatCourt", name := "salt", desc := "(IIZ)Z" } : Jvm.MethodName)) ∈ lw_all := lw_g (lw_at lw_m7 186 rfl) rfl
theorem q1822 : (Jvm.Cond.methodLink "GoatCourtLaw" (195 : Nat) ({ cls := "GoatCourt", name := "dog", desc := "(IIZ)Z" } : Jvm.MethodName)) ∈ lw_all := lw_g (lw_at lw_m7 216 rfl) rfl
theorem q1826 : (Jvm.Cond.methodLink "GoatCourtLaw" (199 : Nat) ({ cls := "GoatCourt", name := "hedge", desc := "(IZ)Z" } : Jvm.MethodName)) ∈ lw_all := lw_g (lw_at lw_m7 220 rfl) rfl
theorem q1830 : (Jvm.Cond.methodLink "GoatCourtLaw" (204 : Nat) ({ cls := "GoatCourt", name := "hear", desc := "(IZ)Z" } : Jvm.MethodName)) ∈ lw_all := lw_g (lw_at lw_m7 224 rfl) rfl
theorem q1834 : (Jvm.Cond.methodLink "GoatCourtLaw" (208 : Nat) ({ cls := "GoatCourt", name := "undo", desc := "()Z" } : Jvm.MethodName)) ∈ lw_all := lw_g (lw_at lw_m7 228 rfl) rfl
theorem q1838 : (Jvm.Cond.methodLink "GoatCourtLaw" (213 : Nat) ({ cls := "GoatCourt", name := "mark", desc := "()I" } : Jvm.MethodName)) ∈ lw_all := lw_g (lw_at lw_m7 232 rfl) rfl
theorem q1842 : (Jvm.Cond.methodLink "GoatCourtLaw" (217 : Nat) ({ cls := "GoatCourt", name := "back", desc := "(I)Z" } : Jvm.MethodName)) ∈ lw_all := lw_g (lw_at lw_m7 236 rfl) rfl
theorem q1846 : (Jvm.Cond.methodLink "GoatCourtLaw" (231 : Nat) ({ cls := "GoatCourt", name := "size", desc := "(I)I" } : Jvm.MethodName)) ∈ lw_all := lw_g (lw_at lw_m8 0 rfl) rfl
theorem q1850 : (Jvm.Cond.methodLink "GoatCourtLaw" (235 : Nat) ({ cls := "GoatCourt", name := "trouble", desc := "()I" } : Jvm.MethodName)) ∈ lw_all := lw_g (lw_at lw_m8 4 rfl) rfl
theorem q1854 : (Jvm.Cond.methodLink "GoatCourtLaw" (222 : Nat) ({ cls := "GoatCourtLaw", name := "put", desc := "(LGoatCourt;IZ[J)I" } : Jvm.MethodName)) ∈ lw_all := lw_g (lw_at lw_m8 8 rfl) rfl
theorem q1855 : (Jvm.Cond.static ({ cls := "GoatCourtLaw", name := "put", desc := "(LGoatCourt;IZ[J)I" } : Jvm.MethodName)) ∈ lw_all := lw_g (lw_at lw_m8 9 rfl) rfl
theorem q1856 : (Jvm.Cond.codeWith ({ cls := "GoatCourtLaw", name := "put", desc := "(LGoatCourt;IZ[J)I" } : Jvm.MethodName) method_3_code (5 : Nat) (Option.some Jvm.ClassFile.FieldType.int) [((0 : Nat), (10 : Nat), (13 : Nat), (13 : Nat))]) ∈ lw_all := lw_g (lw_at lw_m8 10 rfl) rfl
theorem q1857 : (Jvm.Cond.classLink "GoatCourtLaw" (13 : Nat) "java/util/NoSuchElementException") ∈ lw_all := lw_g (lw_at lw_m8 11 rfl) rfl
theorem q1858 : (Jvm.Cond.methodLink "GoatCourtLaw" (7 : Nat) ({ cls := "GoatCourt", name := "put", desc := "(IZ)I" } : Jvm.MethodName)) ∈ lw_all := lw_g (lw_at lw_m8 12 rfl) rfl
theorem q1883 : (Jvm.Cond.classLink "GoatCourtLaw" (16 : Nat) "GoatCourtModel") ∈ lw_all := lw_g (lw_at lw_m8 37 rfl) rfl
theorem q1885 : (Jvm.Cond.methodLink "GoatCourtLaw" (18 : Nat) ({ cls := "GoatCourtModel", name := "<init>", desc := "()V" } : Jvm.MethodName)) ∈ lw_all := lw_g (lw_at lw_m8 39 rfl) rfl
theorem q2007 : (Jvm.Cond.methodLink "GoatCourtLaw" (228 : Nat) ({ cls := "GoatCourtModel", name := "thrown", desc := "()I" } : Jvm.MethodName)) ∈ lw_all := lw_g (lw_at lw_m8 161 rfl) rfl
theorem q2011 : (Jvm.Cond.methodLink "GoatCourtLaw" (23 : Nat) ({ cls := "GoatCourtModel", name := "feed", desc := "(IIIII)I" } : Jvm.MethodName)) ∈ lw_all := lw_g (lw_at lw_m8 165 rfl) rfl
theorem q2015 : (Jvm.Cond.methodLink "GoatCourtLaw" (28 : Nat) ({ cls := "GoatCourtModel", name := "hill", desc := "(I)I" } : Jvm.MethodName)) ∈ lw_all := lw_g (lw_at lw_m8 169 rfl) rfl
theorem q2383 : (Jvm.Cond.methodLink "GoatCourtLaw" (33 : Nat) ({ cls := "GoatCourtModel", name := "fault", desc := "()I" } : Jvm.MethodName)) ∈ lw_all := lw_g (lw_at lw_m10 57 rfl) rfl
theorem q2387 : (Jvm.Cond.methodLink "GoatCourtLaw" (37 : Nat) ({ cls := "GoatCourtModel", name := "where", desc := "()I" } : Jvm.MethodName)) ∈ lw_all := lw_g (lw_at lw_m10 61 rfl) rfl
theorem q2391 : (Jvm.Cond.methodLink "GoatCourtLaw" (42 : Nat) ({ cls := "GoatCourtModel", name := "plants", desc := "(II)I" } : Jvm.MethodName)) ∈ lw_all := lw_g (lw_at lw_m10 65 rfl) rfl
theorem q2403 : (Jvm.Cond.methodLink "GoatCourtLaw" (46 : Nat) ({ cls := "GoatCourtModel", name := "near", desc := "(I)I" } : Jvm.MethodName)) ∈ lw_all := lw_g (lw_at lw_m10 77 rfl) rfl
theorem q2407 : (Jvm.Cond.methodLink "GoatCourtLaw" (50 : Nat) ({ cls := "GoatCourtModel", name := "goat", desc := "(II)I" } : Jvm.MethodName)) ∈ lw_all := lw_g (lw_at lw_m10 81 rfl) rfl
theorem q2419 : (Jvm.Cond.methodLink "GoatCourtLaw" (54 : Nat) ({ cls := "GoatCourtModel", name := "likes", desc := "(II)I" } : Jvm.MethodName)) ∈ lw_all := lw_g (lw_at lw_m10 93 rfl) rfl
theorem q2423 : (Jvm.Cond.methodLink "GoatCourtLaw" (58 : Nat) ({ cls := "GoatCourtModel", name := "clue", desc := "(II)I" } : Jvm.MethodName)) ∈ lw_all := lw_g (lw_at lw_m10 97 rfl) rfl
theorem q2431 : (Jvm.Cond.methodLink "GoatCourtLaw" (63 : Nat) ({ cls := "GoatCourtModel", name := "story", desc := "(III)I" } : Jvm.MethodName)) ∈ lw_all := lw_g (lw_at lw_m10 105 rfl) rfl
theorem q2447 : (Jvm.Cond.methodLink "GoatCourtLaw" (67 : Nat) ({ cls := "GoatCourtModel", name := "stories", desc := "(I)I" } : Jvm.MethodName)) ∈ lw_all := lw_g (lw_at lw_m10 121 rfl) rfl
theorem q2451 : (Jvm.Cond.methodLink "GoatCourtLaw" (71 : Nat) ({ cls := "GoatCourtModel", name := "caseOf", desc := "(II)I" } : Jvm.MethodName)) ∈ lw_all := lw_g (lw_at lw_m10 125 rfl) rfl
theorem q2463 : (Jvm.Cond.methodLink "GoatCourtLaw" (75 : Nat) ({ cls := "GoatCourtModel", name := "at", desc := "(III)I" } : Jvm.MethodName)) ∈ lw_all := lw_g (lw_at lw_m10 137 rfl) rfl
theorem q2505 : (Jvm.Cond.methodLink "GoatCourtLaw" (79 : Nat) ({ cls := "GoatCourtModel", name := "ate", desc := "(III)I" } : Jvm.MethodName)) ∈ lw_all := lw_g (lw_at lw_m10 179 rfl) rfl
theorem q2513 : (Jvm.Cond.methodLink "GoatCourtLaw" (84 : Nat) ({ cls := "GoatCourtModel", name := "drops", desc := "(IIII)I" } : Jvm.MethodName)) ∈ lw_all := lw_g (lw_at lw_m10 187 rfl) rfl
theorem q2521 : (Jvm.Cond.methodLink "GoatCourtLaw" (88 : Nat) ({ cls := "GoatCourtModel", name := "flees", desc := "(II)I" } : Jvm.MethodName)) ∈ lw_all := lw_g (lw_at lw_m10 195 rfl) rfl
theorem q2525 : (Jvm.Cond.methodLink "GoatCourtLaw" (92 : Nat) ({ cls := "GoatCourtModel", name := "left", desc := "(III)I" } : Jvm.MethodName)) ∈ lw_all := lw_g (lw_at lw_m10 199 rfl) rfl
theorem q2529 : (Jvm.Cond.methodLink "GoatCourtLaw" (96 : Nat) ({ cls := "GoatCourtModel", name := "met", desc := "(III)I" } : Jvm.MethodName)) ∈ lw_all := lw_g (lw_at lw_m10 203 rfl) rfl
theorem q2533 : (Jvm.Cond.methodLink "GoatCourtLaw" (100 : Nat) ({ cls := "GoatCourtModel", name := "isTrue", desc := "(II)I" } : Jvm.MethodName)) ∈ lw_all := lw_g (lw_at lw_m10 207 rfl) rfl
theorem q2541 : (Jvm.Cond.methodLink "GoatCourtLaw" (104 : Nat) ({ cls := "GoatCourtModel", name := "fits", desc := "()I" } : Jvm.MethodName)) ∈ lw_all := lw_g (lw_at lw_m10 215 rfl) rfl
theorem q2561 : (Jvm.Cond.methodLink "GoatCourtLaw" (108 : Nat) ({ cls := "GoatCourtModel", name := "fit", desc := "(I)I" } : Jvm.MethodName)) ∈ lw_all := lw_g (lw_at lw_m10 235 rfl) rfl
theorem q2565 : (Jvm.Cond.methodLink "GoatCourtLaw" (112 : Nat) ({ cls := "GoatCourtModel", name := "could", desc := "(II)I" } : Jvm.MethodName)) ∈ lw_all := lw_g (lw_at lw_m10 239 rfl) rfl
theorem q2577 : (Jvm.Cond.methodLink "GoatCourtLaw" (116 : Nat) ({ cls := "GoatCourtModel", name := "surely", desc := "(II)I" } : Jvm.MethodName)) ∈ lw_all := lw_g (lw_at lw_m11 11 rfl) rfl
theorem q2581 : (Jvm.Cond.methodLink "GoatCourtLaw" (120 : Nat) ({ cls := "GoatCourtModel", name := "lies", desc := "(I)I" } : Jvm.MethodName)) ∈ lw_all := lw_g (lw_at lw_m11 15 rfl) rfl
theorem q2585 : (Jvm.Cond.methodLink "GoatCourtLaw" (124 : Nat) ({ cls := "GoatCourtModel", name := "falseOnes", desc := "()I" } : Jvm.MethodName)) ∈ lw_all := lw_g (lw_at lw_m11 19 rfl) rfl
theorem q2593 : (Jvm.Cond.methodLink "GoatCourtLaw" (128 : Nat) ({ cls := "GoatCourtModel", name := "odds", desc := "(I)I" } : Jvm.MethodName)) ∈ lw_all := lw_g (lw_at lw_m11 27 rfl) rfl
theorem q2601 : (Jvm.Cond.methodLink "GoatCourtLaw" (132 : Nat) ({ cls := "GoatCourtModel", name := "likeliest", desc := "()I" } : Jvm.MethodName)) ∈ lw_all := lw_g (lw_at lw_m11 35 rfl) rfl
theorem q2605 : (Jvm.Cond.methodLink "GoatCourtLaw" (136 : Nat) ({ cls := "GoatCourtModel", name := "proved", desc := "(III)I" } : Jvm.MethodName)) ∈ lw_all := lw_g (lw_at lw_m11 39 rfl) rfl
theorem q2609 : (Jvm.Cond.methodLink "GoatCourtLaw" (140 : Nat) ({ cls := "GoatCourtModel", name := "ask", desc := "()I" } : Jvm.MethodName)) ∈ lw_all := lw_g (lw_at lw_m11 43 rfl) rfl
theorem q2617 : (Jvm.Cond.methodLink "GoatCourtLaw" (144 : Nat) ({ cls := "GoatCourtModel", name := "askMost", desc := "()I" } : Jvm.MethodName)) ∈ lw_all := lw_g (lw_at lw_m11 51 rfl) rfl
theorem q2621 : (Jvm.Cond.methodLink "GoatCourtLaw" (148 : Nat) ({ cls := "GoatCourtModel", name := "led", desc := "(IIII)I" } : Jvm.MethodName)) ∈ lw_all := lw_g (lw_at lw_m11 55 rfl) rfl
theorem q2645 : (Jvm.Cond.methodLink "GoatCourtLaw" (152 : Nat) ({ cls := "GoatCourtModel", name := "ledAt", desc := "(IIIII)I" } : Jvm.MethodName)) ∈ lw_all := lw_g (lw_at lw_m11 79 rfl) rfl
theorem q2649 : (Jvm.Cond.methodLink "GoatCourtLaw" (156 : Nat) ({ cls := "GoatCourtModel", name := "scared", desc := "(IIII)I" } : Jvm.MethodName)) ∈ lw_all := lw_g (lw_at lw_m11 83 rfl) rfl
theorem q2653 : (Jvm.Cond.methodLink "GoatCourtLaw" (160 : Nat) ({ cls := "GoatCourtModel", name := "follows", desc := "(I)I" } : Jvm.MethodName)) ∈ lw_all := lw_g (lw_at lw_m11 87 rfl) rfl
theorem q2669 : (Jvm.Cond.methodLink "GoatCourtLaw" (164 : Nat) ({ cls := "GoatCourtModel", name := "step", desc := "()I" } : Jvm.MethodName)) ∈ lw_all := lw_g (lw_at lw_m11 103 rfl) rfl
theorem q2673 : (Jvm.Cond.methodLink "GoatCourtLaw" (168 : Nat) ({ cls := "GoatCourtModel", name := "needs", desc := "(I)I" } : Jvm.MethodName)) ∈ lw_all := lw_g (lw_at lw_m11 107 rfl) rfl
theorem q2677 : (Jvm.Cond.methodLink "GoatCourtLaw" (172 : Nat) ({ cls := "GoatCourtModel", name := "enough", desc := "(I)I" } : Jvm.MethodName)) ∈ lw_all := lw_g (lw_at lw_m11 111 rfl) rfl
theorem q2681 : (Jvm.Cond.methodLink "GoatCourtLaw" (176 : Nat) ({ cls := "GoatCourtModel", name := "cheese", desc := "(I)I" } : Jvm.MethodName)) ∈ lw_all := lw_g (lw_at lw_m11 115 rfl) rfl
theorem q2693 : (Jvm.Cond.methodLink "GoatCourtLaw" (180 : Nat) ({ cls := "GoatCourtModel", name := "cheeseOf", desc := "(I)I" } : Jvm.MethodName)) ∈ lw_all := lw_g (lw_at lw_m11 127 rfl) rfl
theorem q2697 : (Jvm.Cond.methodLink "GoatCourtLaw" (185 : Nat) ({ cls := "GoatCourtModel", name := "appeals", desc := "()J" } : Jvm.MethodName)) ∈ lw_all := lw_g (lw_at lw_m11 131 rfl) rfl
theorem q2719 : (Jvm.Cond.methodLink "GoatCourtLaw" (189 : Nat) ({ cls := "GoatCourtModel", name := "appealAt", desc := "(I)I" } : Jvm.MethodName)) ∈ lw_all := lw_g (lw_at lw_m11 153 rfl) rfl
theorem q2723 : (Jvm.Cond.methodLink "GoatCourtLaw" (194 : Nat) ({ cls := "GoatCourtModel", name := "salt", desc := "(IIZ)Z" } : Jvm.MethodName)) ∈ lw_all := lw_g (lw_at lw_m11 157 rfl) rfl
theorem q2747 : (Jvm.Cond.methodLink "GoatCourtLaw" (198 : Nat) ({ cls := "GoatCourtModel", name := "dog", desc := "(IIZ)Z" } : Jvm.MethodName)) ∈ lw_all := lw_g (lw_at lw_m11 181 rfl) rfl
theorem q2751 : (Jvm.Cond.methodLink "GoatCourtLaw" (203 : Nat) ({ cls := "GoatCourtModel", name := "hedge", desc := "(IZ)Z" } : Jvm.MethodName)) ∈ lw_all := lw_g (lw_at lw_m11 185 rfl) rfl
theorem q2755 : (Jvm.Cond.methodLink "GoatCourtLaw" (207 : Nat) ({ cls := "GoatCourtModel", name := "hear", desc := "(IZ)Z" } : Jvm.MethodName)) ∈ lw_all := lw_g (lw_at lw_m11 189 rfl) rfl
theorem q2759 : (Jvm.Cond.methodLink "GoatCourtLaw" (212 : Nat) ({ cls := "GoatCourtModel", name := "undo", desc := "()Z" } : Jvm.MethodName)) ∈ lw_all := lw_g (lw_at lw_m11 193 rfl) rfl
theorem q2763 : (Jvm.Cond.methodLink "GoatCourtLaw" (216 : Nat) ({ cls := "GoatCourtModel", name := "mark", desc := "()I" } : Jvm.MethodName)) ∈ lw_all := lw_g (lw_at lw_m11 197 rfl) rfl
theorem q2767 : (Jvm.Cond.methodLink "GoatCourtLaw" (221 : Nat) ({ cls := "GoatCourtModel", name := "back", desc := "(I)Z" } : Jvm.MethodName)) ∈ lw_all := lw_g (lw_at lw_m11 201 rfl) rfl
theorem q2771 : (Jvm.Cond.methodLink "GoatCourtLaw" (227 : Nat) ({ cls := "GoatCourtModel", name := "put", desc := "(IZ)I" } : Jvm.MethodName)) ∈ lw_all := lw_g (lw_at lw_m11 205 rfl) rfl
theorem q2775 : (Jvm.Cond.methodLink "GoatCourtLaw" (234 : Nat) ({ cls := "GoatCourtModel", name := "size", desc := "(I)I" } : Jvm.MethodName)) ∈ lw_all := lw_g (lw_at lw_m11 209 rfl) rfl
theorem q2779 : (Jvm.Cond.methodLink "GoatCourtLaw" (238 : Nat) ({ cls := "GoatCourtModel", name := "trouble", desc := "()I" } : Jvm.MethodName)) ∈ lw_all := lw_g (lw_at lw_m11 213 rfl) rfl
/-! GoatCourt -/
def RX1 : String := "GoatCourt"
def TX1 : u_T := fun k => match k with
  | 0 => ("GoatCourt", "tape", "[B", true)
  | 1 => ("GoatCourt", "taped", "I", false)
  | 2 => ("GoatCourt", "reader", "LGoatCourt$Reader;", true)
  | 3 => ("GoatCourt", "hill", "LGoatCourt$Hill;", false)
  | 4 => ("GoatCourt", "trouble", "I", false)
  | 5 => ("GoatCourt", "fault", "I", false)
  | 6 => ("GoatCourt", "where", "I", false)
  | 7 => ("GoatCourt", "markMany", "I", false)
  | 8 => ("GoatCourt", "undoMany", "I", false)
  | 9 => ("GoatCourt", "ground", "LGoatCourt$Ground;", true)
  | 10 => ("GoatCourt", "was", "LGoatCourt$Ground;", true)
  | 11 => ("GoatCourt", "trial", "LGoatCourt$Ground;", true)
  | 12 => ("GoatCourt", "day", "LGoatCourt$Day;", true)
  | 13 => ("GoatCourt", "orders", "LGoatCourt$Orders;", true)
  | 14 => ("GoatCourt", "undone", "[LGoatCourt$Ground;", true)
  | 15 => ("GoatCourt", "marks", "[LGoatCourt$Ground;", true)
  | 16 => ("GoatCourt", "truth", "[I", true)
  | 17 => ("GoatCourt", "fitting", "[I", true)
  | 18 => ("GoatCourt", "fitMany", "I", false)
  | 19 => ("GoatCourt", "asked", "I", false)
  | 20 => ("GoatCourt", "askedMost", "I", false)
  | 21 => ("GoatCourt", "counts", "[I", true)
  | _ => ("GoatCourt", "lures", "[I", true)
def tyX1 : Nat → FieldType := fun k => match k with
  | 0 => .array .byte
  | 1 => .int
  | 2 => .object "GoatCourt$Reader"
  | 3 => .object "GoatCourt$Hill"
  | 4 => .int
  | 5 => .int
  | 6 => .int
  | 7 => .int
  | 8 => .int
  | 9 => .object "GoatCourt$Ground"
  | 10 => .object "GoatCourt$Ground"
  | 11 => .object "GoatCourt$Ground"
  | 12 => .object "GoatCourt$Day"
  | 13 => .object "GoatCourt$Orders"
  | 14 => .array (.object "GoatCourt$Ground")
  | 15 => .array (.object "GoatCourt$Ground")
  | 16 => .array .int
  | 17 => .array .int
  | 18 => .int
  | 19 => .int
  | 20 => .int
  | 21 => .array .int
  | _ => .array .int
abbrev wsX10 : List Cond := u_ws RX1 TX1 23
theorem nmX1 : ∀ a, a < 23 → ∀ b, b < 23 → a ≠ b → (TX1 a).2.1 ≠ (TX1 b).2.1 := by decide +kernel
theorem tyX1_ok : ∀ k, k < 23 → parseFieldDescriptor (TX1 k).2.2.1 = some (tyX1 k) := by decide +kernel
abbrev cX1_init : ByteArray := prog_1_method_5_code
def yX1_init : MethodName := ⟨RX1, "<init>", "()V"⟩
abbrev cX1_feed : ByteArray := prog_1_method_9_code
def yX1_feed : MethodName := ⟨RX1, "feed", "(IIIII)I"⟩
abbrev cX1_bytes : ByteArray := prog_1_method_10_code
def yX1_bytes : MethodName := ⟨RX1, "bytes", "(I)V"⟩
abbrev cX1_hill : ByteArray := prog_1_method_11_code
def yX1_hill : MethodName := ⟨RX1, "hill", "(I)I"⟩
abbrev cX1_anew : ByteArray := prog_1_method_6_code
def yX1_anew : MethodName := ⟨RX1, "anew", "()V"⟩
abbrev cX1_in : ByteArray := prog_1_method_1_code
def yX1_in : MethodName := ⟨RX1, "in", "(III)Z"⟩
abbrev cX1_no : ByteArray := prog_1_method_7_code
def yX1_no : MethodName := ⟨RX1, "no", "(I)I"⟩
abbrev cX1_has : ByteArray := prog_1_method_2_code
def yX1_has : MethodName := ⟨RX1, "has", "(II)Z"⟩
abbrev cX1_fault : ByteArray := prog_1_method_12_code
def yX1_fault : MethodName := ⟨RX1, "fault", "()I"⟩
abbrev cX1_where : ByteArray := prog_1_method_13_code
def yX1_where : MethodName := ⟨RX1, "where", "()I"⟩
abbrev cX1_plants : ByteArray := prog_1_method_22_code
def yX1_plants : MethodName := ⟨RX1, "plants", "(II)I"⟩
abbrev cX1_isPlace : ByteArray := prog_1_method_14_code
def yX1_isPlace : MethodName := ⟨RX1, "isPlace", "(I)Z"⟩
abbrev cX1_isPlant : ByteArray := prog_1_method_15_code
def yX1_isPlant : MethodName := ⟨RX1, "isPlant", "(I)Z"⟩
abbrev cX1_near : ByteArray := prog_1_method_23_code
def yX1_near : MethodName := ⟨RX1, "near", "(I)I"⟩
abbrev cX1_goat : ByteArray := prog_1_method_24_code
def yX1_goat : MethodName := ⟨RX1, "goat", "(II)I"⟩
abbrev cX1_isGoat : ByteArray := prog_1_method_17_code
def yX1_isGoat : MethodName := ⟨RX1, "isGoat", "(I)Z"⟩
abbrev cX1_cluesOf : ByteArray := prog_1_method_25_code
def yX1_cluesOf : MethodName := ⟨RX1, "cluesOf", "(I)I"⟩
abbrev cX1_likes : ByteArray := prog_1_method_26_code
def yX1_likes : MethodName := ⟨RX1, "likes", "(II)I"⟩
abbrev cX1_clue : ByteArray := prog_1_method_27_code
def yX1_clue : MethodName := ⟨RX1, "clue", "(II)I"⟩
abbrev cX1_isClue : ByteArray := prog_1_method_19_code
def yX1_isClue : MethodName := ⟨RX1, "isClue", "(I)Z"⟩
abbrev cX1_story : ByteArray := prog_1_method_28_code
def yX1_story : MethodName := ⟨RX1, "story", "(III)I"⟩
abbrev cX1_isPerson : ByteArray := prog_1_method_16_code
def yX1_isPerson : MethodName := ⟨RX1, "isPerson", "(I)Z"⟩
abbrev cX1_isHour : ByteArray := prog_1_method_21_code
def yX1_isHour : MethodName := ⟨RX1, "isHour", "(I)Z"⟩
abbrev cX1_stories : ByteArray := prog_1_method_29_code
def yX1_stories : MethodName := ⟨RX1, "stories", "(I)I"⟩
abbrev cX1_caseOf : ByteArray := prog_1_method_31_code
def yX1_caseOf : MethodName := ⟨RX1, "caseOf", "(II)I"⟩
abbrev cX1_isCase : ByteArray := prog_1_method_18_code
def yX1_isCase : MethodName := ⟨RX1, "isCase", "(I)Z"⟩
abbrev cX1_at : ByteArray := prog_1_method_32_code
def yX1_at : MethodName := ⟨RX1, "at", "(III)I"⟩
abbrev cX1_run : ByteArray := prog_1_method_30_code
def yX1_run : MethodName := ⟨RX1, "run", "(I)V"⟩
abbrev cX1_ate : ByteArray := prog_1_method_33_code
def yX1_ate : MethodName := ⟨RX1, "ate", "(III)I"⟩
abbrev cX1_drops : ByteArray := prog_1_method_34_code
def yX1_drops : MethodName := ⟨RX1, "drops", "(IIII)I"⟩
abbrev cX1_flees : ByteArray := prog_1_method_35_code
def yX1_flees : MethodName := ⟨RX1, "flees", "(II)I"⟩
abbrev cX1_left : ByteArray := prog_1_method_36_code
def yX1_left : MethodName := ⟨RX1, "left", "(III)I"⟩
abbrev cX1_met : ByteArray := prog_1_method_37_code
def yX1_met : MethodName := ⟨RX1, "met", "(III)I"⟩
abbrev cX1_isTrue : ByteArray := prog_1_method_38_code
def yX1_isTrue : MethodName := ⟨RX1, "isTrue", "(II)I"⟩
abbrev cX1_fits : ByteArray := prog_1_method_42_code
def yX1_fits : MethodName := ⟨RX1, "fits", "()I"⟩
abbrev cX1_layHeard : ByteArray := prog_1_method_41_code
def yX1_layHeard : MethodName := ⟨RX1, "layHeard", "()V"⟩
abbrev cX1_layTruth : ByteArray := prog_1_method_39_code
def yX1_layTruth : MethodName := ⟨RX1, "layTruth", "()V"⟩
abbrev cX1_layFits : ByteArray := prog_1_method_40_code
def yX1_layFits : MethodName := ⟨RX1, "layFits", "(I)V"⟩
abbrev cX1_fit : ByteArray := prog_1_method_43_code
def yX1_fit : MethodName := ⟨RX1, "fit", "(I)I"⟩
abbrev cX1_could : ByteArray := prog_1_method_46_code
def yX1_could : MethodName := ⟨RX1, "could", "(II)I"⟩
abbrev cX1_hourWhy : ByteArray := prog_1_method_45_code
def yX1_hourWhy : MethodName := ⟨RX1, "hourWhy", "(II)I"⟩
abbrev cX1_couldBe : ByteArray := prog_1_method_44_code
def yX1_couldBe : MethodName := ⟨RX1, "couldBe", "(II)I"⟩
abbrev cX1_surely : ByteArray := prog_1_method_47_code
def yX1_surely : MethodName := ⟨RX1, "surely", "(II)I"⟩
abbrev cX1_lies : ByteArray := prog_1_method_48_code
def yX1_lies : MethodName := ⟨RX1, "lies", "(I)I"⟩
abbrev cX1_falseOnes : ByteArray := prog_1_method_49_code
def yX1_falseOnes : MethodName := ⟨RX1, "falseOnes", "()I"⟩
abbrev cX1_isFewer : ByteArray := prog_1_method_4_code
def yX1_isFewer : MethodName := ⟨RX1, "isFewer", "(II)Z"⟩
abbrev cX1_ones : ByteArray := prog_1_method_3_code
def yX1_ones : MethodName := ⟨RX1, "ones", "(I)I"⟩
abbrev cX1_odds : ByteArray := prog_1_method_51_code
def yX1_odds : MethodName := ⟨RX1, "odds", "(I)I"⟩
abbrev cX1_oddsOf : ByteArray := prog_1_method_50_code
def yX1_oddsOf : MethodName := ⟨RX1, "oddsOf", "(I)I"⟩
abbrev cX1_likeliest : ByteArray := prog_1_method_52_code
def yX1_likeliest : MethodName := ⟨RX1, "likeliest", "()I"⟩
abbrev cX1_proved : ByteArray := prog_1_method_53_code
def yX1_proved : MethodName := ⟨RX1, "proved", "(III)I"⟩
abbrev cX1_ask : ByteArray := prog_1_method_56_code
def yX1_ask : MethodName := ⟨RX1, "ask", "()I"⟩
abbrev cX1_askWhy : ByteArray := prog_1_method_54_code
def yX1_askWhy : MethodName := ⟨RX1, "askWhy", "()I"⟩
abbrev cX1_tryAsk : ByteArray := prog_1_method_55_code
def yX1_tryAsk : MethodName := ⟨RX1, "tryAsk", "(II)V"⟩
abbrev cX1_askMost : ByteArray := prog_1_method_57_code
def yX1_askMost : MethodName := ⟨RX1, "askMost", "()I"⟩
abbrev cX1_led : ByteArray := prog_1_method_62_code
def yX1_led : MethodName := ⟨RX1, "led", "(IIII)I"⟩
abbrev cX1_luredWhy : ByteArray := prog_1_method_61_code
def yX1_luredWhy : MethodName := ⟨RX1, "luredWhy", "(IIII)I"⟩
abbrev cX1_lured : ByteArray := prog_1_method_60_code
def yX1_lured : MethodName := ⟨RX1, "lured", "(IIIIZ)I"⟩
abbrev cX1_comes : ByteArray := prog_1_method_58_code
def yX1_comes : MethodName := ⟨RX1, "comes", "(IIII)Z"⟩
abbrev cX1_lure : ByteArray := prog_1_method_59_code
def yX1_lure : MethodName := ⟨RX1, "lure", "(IZ)V"⟩
abbrev cX1_ledAt : ByteArray := prog_1_method_63_code
def yX1_ledAt : MethodName := ⟨RX1, "ledAt", "(IIIII)I"⟩
abbrev cX1_scared : ByteArray := prog_1_method_64_code
def yX1_scared : MethodName := ⟨RX1, "scared", "(IIII)I"⟩
abbrev cX1_follows : ByteArray := prog_1_method_67_code
def yX1_follows : MethodName := ⟨RX1, "follows", "(I)I"⟩
abbrev cX1_isFact : ByteArray := prog_1_method_20_code
def yX1_isFact : MethodName := ⟨RX1, "isFact", "(I)Z"⟩
abbrev cX1_allRules : ByteArray := prog_1_method_65_code
def yX1_allRules : MethodName := ⟨RX1, "allRules", "()I"⟩
abbrev cX1_doesFollow : ByteArray := prog_1_method_66_code
def yX1_doesFollow : MethodName := ⟨RX1, "doesFollow", "(III)Z"⟩
abbrev cX1_step : ByteArray := prog_1_method_69_code
def yX1_step : MethodName := ⟨RX1, "step", "()I"⟩
abbrev cX1_isRight : ByteArray := prog_1_method_68_code
def yX1_isRight : MethodName := ⟨RX1, "isRight", "(II)Z"⟩
abbrev cX1_needs : ByteArray := prog_1_method_70_code
def yX1_needs : MethodName := ⟨RX1, "needs", "(I)I"⟩
abbrev cX1_enough : ByteArray := prog_1_method_71_code
def yX1_enough : MethodName := ⟨RX1, "enough", "(I)I"⟩
abbrev cX1_cheese : ByteArray := prog_1_method_74_code
def yX1_cheese : MethodName := ⟨RX1, "cheese", "(I)I"⟩
abbrev cX1_cheeseWhy : ByteArray := prog_1_method_72_code
def yX1_cheeseWhy : MethodName := ⟨RX1, "cheeseWhy", "(I)I"⟩
abbrev cX1_isCheese : ByteArray := prog_1_method_73_code
def yX1_isCheese : MethodName := ⟨RX1, "isCheese", "(I)Z"⟩
abbrev cX1_cheeseOf : ByteArray := prog_1_method_75_code
def yX1_cheeseOf : MethodName := ⟨RX1, "cheeseOf", "(I)I"⟩
abbrev cX1_appeals : ByteArray := prog_1_method_76_code
def yX1_appeals : MethodName := ⟨RX1, "appeals", "()J"⟩
abbrev cX1_appealAt : ByteArray := prog_1_method_77_code
def yX1_appealAt : MethodName := ⟨RX1, "appealAt", "(I)I"⟩
abbrev cX1_salt : ByteArray := prog_1_method_81_code
def yX1_salt : MethodName := ⟨RX1, "salt", "(IIZ)Z"⟩
abbrev cX1_puts : ByteArray := prog_1_method_80_code
def yX1_puts : MethodName := ⟨RX1, "puts", "(IIZZ)Z"⟩
abbrev cX1_yes : ByteArray := prog_1_method_8_code
def yX1_yes : MethodName := ⟨RX1, "yes", "(I)Z"⟩
abbrev cX1_note : ByteArray := prog_1_method_78_code
def yX1_note : MethodName := ⟨RX1, "note", "()V"⟩
abbrev cX1_done : ByteArray := prog_1_method_79_code
def yX1_done : MethodName := ⟨RX1, "done", "()Z"⟩
abbrev cX1_dog : ByteArray := prog_1_method_82_code
def yX1_dog : MethodName := ⟨RX1, "dog", "(IIZ)Z"⟩
abbrev cX1_hedge : ByteArray := prog_1_method_83_code
def yX1_hedge : MethodName := ⟨RX1, "hedge", "(IZ)Z"⟩
abbrev cX1_hear : ByteArray := prog_1_method_84_code
def yX1_hear : MethodName := ⟨RX1, "hear", "(IZ)Z"⟩
abbrev cX1_undo : ByteArray := prog_1_method_85_code
def yX1_undo : MethodName := ⟨RX1, "undo", "()Z"⟩
abbrev cX1_mark : ByteArray := prog_1_method_86_code
def yX1_mark : MethodName := ⟨RX1, "mark", "()I"⟩
abbrev cX1_back : ByteArray := prog_1_method_87_code
def yX1_back : MethodName := ⟨RX1, "back", "(I)Z"⟩
abbrev cX1_size : ByteArray := prog_1_method_89_code
def yX1_size : MethodName := ⟨RX1, "size", "(I)I"⟩
abbrev cX1_trouble : ByteArray := prog_1_method_90_code
def yX1_trouble : MethodName := ⟨RX1, "trouble", "()I"⟩
abbrev cX1_put : ByteArray := prog_1_method_88_code
def yX1_put : MethodName := ⟨RX1, "put", "(IZ)I"⟩

theorem q167 : (Jvm.Cond.initialized "GoatCourt") ∈ lw_all := lw_g (lw_at lw_m1 1 rfl) rfl
theorem q203 : (Jvm.Cond.instantiable "GoatCourt" (23 : Nat)) ∈ lw_all := lw_g (lw_at lw_m1 37 rfl) rfl
theorem q205 : (Jvm.Cond.instanceMethod ({ cls := "GoatCourt", name := "<init>", desc := "()V" } : Jvm.MethodName)) ∈ lw_all := lw_g (lw_at lw_m1 39 rfl) rfl
theorem q206 : (Jvm.Cond.code ({ cls := "GoatCourt", name := "<init>", desc := "()V" } : Jvm.MethodName) prog_1_method_5_code (2 : Nat) (Option.none : Option Jvm.ClassFile.FieldType)) ∈ lw_all := lw_g (lw_at lw_m1 40 rfl) rfl
theorem q207 : (Jvm.Cond.methodLink "GoatCourt" (7 : Nat) ({ cls := "java/lang/Object", name := "<init>", desc := "()V" } : Jvm.MethodName)) ∈ lw_all := lw_g (lw_at lw_m1 41 rfl) rfl
theorem q210 : (Jvm.Cond.classLink "GoatCourt" (17 : Nat) "GoatCourt$Reader") ∈ lw_all := lw_g (lw_at lw_m1 44 rfl) rfl
theorem q212 : (Jvm.Cond.methodLink "GoatCourt" (19 : Nat) ({ cls := "GoatCourt$Reader", name := "<init>", desc := "([B)V" } : Jvm.MethodName)) ∈ lw_all := lw_g (lw_at lw_m1 46 rfl) rfl
theorem q269 : (Jvm.Cond.fieldLink "GoatCourt" (110 : Nat) "GoatCourt$Refused" "fault" "I") ∈ lw_all := lw_g (lw_at lw_m1 103 rfl) rfl
theorem q271 : (Jvm.Cond.fieldLink "GoatCourt" (111 : Nat) "GoatCourt$Refused" "place" "I") ∈ lw_all := lw_g (lw_at lw_m1 105 rfl) rfl
theorem q322 : (Jvm.Cond.classLink "GoatCourt" (30 : Nat) "GoatCourt$Ground") ∈ lw_all := lw_g (lw_at lw_m1 156 rfl) rfl
theorem q324 : (Jvm.Cond.methodLinkNest "GoatCourt" (32 : Nat) ({ cls := "GoatCourt$Ground", name := "<init>", desc := "()V" } : Jvm.MethodName) "GoatCourt") ∈ lw_tbl := lw_at lw_m1 158 rfl
theorem q332 : (Jvm.Cond.fieldLink "GoatCourt" (453 : Nat) "GoatCourt$Ground" "hedges" "I") ∈ lw_all := lw_g (lw_at lw_m1 166 rfl) rfl
theorem q334 : (Jvm.Cond.fieldLink "GoatCourt" (200 : Nat) "GoatCourt$Ground" "heard" "I") ∈ lw_all := lw_g (lw_at lw_m1 168 rfl) rfl
theorem q345 : (Jvm.Cond.classLink "GoatCourt" (43 : Nat) "GoatCourt$Day") ∈ lw_all := lw_g (lw_at lw_m1 179 rfl) rfl
theorem q347 : (Jvm.Cond.methodLinkNest "GoatCourt" (45 : Nat) ({ cls := "GoatCourt$Day", name := "<init>", desc := "()V" } : Jvm.MethodName) "GoatCourt") ∈ lw_tbl := lw_at lw_m1 181 rfl
theorem q382 : (Jvm.Cond.classLink "GoatCourt" (50 : Nat) "GoatCourt$Orders") ∈ lw_all := lw_g (lw_at lw_m1 216 rfl) rfl
theorem q384 : (Jvm.Cond.methodLinkNest "GoatCourt" (52 : Nat) ({ cls := "GoatCourt$Orders", name := "<init>", desc := "()V" } : Jvm.MethodName) "GoatCourt") ∈ lw_tbl := lw_at lw_m1 218 rfl
theorem q402 : (Jvm.Cond.fieldLink "GoatCourt" (13 : Nat) "GoatCourt" "tape" "[B") ∈ lw_all := lw_g (lw_at lw_m1 236 rfl) rfl
theorem q403 : (Jvm.Cond.fieldLink "GoatCourt" (83 : Nat) "GoatCourt" "taped" "I") ∈ lw_all := lw_g (lw_at lw_m1 237 rfl) rfl
theorem q404 : (Jvm.Cond.fieldLink "GoatCourt" (22 : Nat) "GoatCourt" "reader" "LGoatCourt$Reader;") ∈ lw_all := lw_g (lw_at lw_m1 238 rfl) rfl
theorem q405 : (Jvm.Cond.fieldLink "GoatCourt" (104 : Nat) "GoatCourt" "hill" "LGoatCourt$Hill;") ∈ lw_all := lw_g (lw_at lw_m1 239 rfl) rfl
theorem q406 : (Jvm.Cond.fieldLink "GoatCourt" (77 : Nat) "GoatCourt" "trouble" "I") ∈ lw_all := lw_g (lw_at lw_m2 0 rfl) rfl
theorem q407 : (Jvm.Cond.fieldLink "GoatCourt" (97 : Nat) "GoatCourt" "fault" "I") ∈ lw_all := lw_g (lw_at lw_m2 1 rfl) rfl
theorem q408 : (Jvm.Cond.fieldLink "GoatCourt" (26 : Nat) "GoatCourt" "where" "I") ∈ lw_all := lw_g (lw_at lw_m2 2 rfl) rfl
theorem q409 : (Jvm.Cond.fieldLink "GoatCourt" (121 : Nat) "GoatCourt" "markMany" "I") ∈ lw_all := lw_g (lw_at lw_m2 3 rfl) rfl
theorem q410 : (Jvm.Cond.fieldLink "GoatCourt" (118 : Nat) "GoatCourt" "undoMany" "I") ∈ lw_all := lw_g (lw_at lw_m2 4 rfl) rfl
theorem q411 : (Jvm.Cond.fieldLink "GoatCourt" (33 : Nat) "GoatCourt" "ground" "LGoatCourt$Ground;") ∈ lw_all := lw_g (lw_at lw_m2 5 rfl) rfl
theorem q412 : (Jvm.Cond.fieldLink "GoatCourt" (37 : Nat) "GoatCourt" "was" "LGoatCourt$Ground;") ∈ lw_all := lw_g (lw_at lw_m2 6 rfl) rfl
theorem q413 : (Jvm.Cond.fieldLink "GoatCourt" (40 : Nat) "GoatCourt" "trial" "LGoatCourt$Ground;") ∈ lw_all := lw_g (lw_at lw_m2 7 rfl) rfl
theorem q414 : (Jvm.Cond.fieldLink "GoatCourt" (46 : Nat) "GoatCourt" "day" "LGoatCourt$Day;") ∈ lw_all := lw_g (lw_at lw_m2 8 rfl) rfl
theorem q415 : (Jvm.Cond.fieldLink "GoatCourt" (53 : Nat) "GoatCourt" "orders" "LGoatCourt$Orders;") ∈ lw_all := lw_g (lw_at lw_m2 9 rfl) rfl
theorem q416 : (Jvm.Cond.fieldLink "GoatCourt" (57 : Nat) "GoatCourt" "undone" "[LGoatCourt$Ground;") ∈ lw_all := lw_g (lw_at lw_m2 10 rfl) rfl
theorem q417 : (Jvm.Cond.fieldLink "GoatCourt" (61 : Nat) "GoatCourt" "marks" "[LGoatCourt$Ground;") ∈ lw_all := lw_g (lw_at lw_m2 11 rfl) rfl
theorem q418 : (Jvm.Cond.fieldLink "GoatCourt" (64 : Nat) "GoatCourt" "truth" "[I") ∈ lw_all := lw_g (lw_at lw_m2 12 rfl) rfl
theorem q419 : (Jvm.Cond.fieldLink "GoatCourt" (68 : Nat) "GoatCourt" "fitting" "[I") ∈ lw_all := lw_g (lw_at lw_m2 13 rfl) rfl
theorem q420 : (Jvm.Cond.fieldLink "GoatCourt" (287 : Nat) "GoatCourt" "fitMany" "I") ∈ lw_all := lw_g (lw_at lw_m2 14 rfl) rfl
theorem q421 : (Jvm.Cond.fieldLink "GoatCourt" (323 : Nat) "GoatCourt" "asked" "I") ∈ lw_all := lw_g (lw_at lw_m2 15 rfl) rfl
theorem q422 : (Jvm.Cond.fieldLink "GoatCourt" (311 : Nat) "GoatCourt" "askedMost" "I") ∈ lw_all := lw_g (lw_at lw_m2 16 rfl) rfl
theorem q423 : (Jvm.Cond.fieldLink "GoatCourt" (71 : Nat) "GoatCourt" "counts" "[I") ∈ lw_all := lw_g (lw_at lw_m2 17 rfl) rfl
theorem q424 : (Jvm.Cond.fieldLink "GoatCourt" (74 : Nat) "GoatCourt" "lures" "[I") ∈ lw_all := lw_g (lw_at lw_m2 18 rfl) rfl
theorem q425 : (Jvm.Cond.laysFinal "GoatCourt" "GoatCourt" "tape" "[B") ∈ lw_all := lw_g (lw_at lw_m2 19 rfl) rfl
theorem q426 : (Jvm.Cond.soleField "GoatCourt" "tape") ∈ lw_all := lw_g (lw_at lw_m2 20 rfl) rfl
theorem q427 : (Jvm.Cond.lays "GoatCourt" "GoatCourt" "taped" "I") ∈ lw_all := lw_g (lw_at lw_m2 21 rfl) rfl
theorem q428 : (Jvm.Cond.soleField "GoatCourt" "taped") ∈ lw_all := lw_g (lw_at lw_m2 22 rfl) rfl
theorem q429 : (Jvm.Cond.laysFinal "GoatCourt" "GoatCourt" "reader" "LGoatCourt$Reader;") ∈ lw_all := lw_g (lw_at lw_m2 23 rfl) rfl
theorem q430 : (Jvm.Cond.soleField "GoatCourt" "reader") ∈ lw_all := lw_g (lw_at lw_m2 24 rfl) rfl
theorem q431 : (Jvm.Cond.lays "GoatCourt" "GoatCourt" "hill" "LGoatCourt$Hill;") ∈ lw_all := lw_g (lw_at lw_m2 25 rfl) rfl
theorem q432 : (Jvm.Cond.soleField "GoatCourt" "hill") ∈ lw_all := lw_g (lw_at lw_m2 26 rfl) rfl
theorem q433 : (Jvm.Cond.lays "GoatCourt" "GoatCourt" "trouble" "I") ∈ lw_all := lw_g (lw_at lw_m2 27 rfl) rfl
theorem q434 : (Jvm.Cond.soleField "GoatCourt" "trouble") ∈ lw_all := lw_g (lw_at lw_m2 28 rfl) rfl
theorem q435 : (Jvm.Cond.lays "GoatCourt" "GoatCourt" "fault" "I") ∈ lw_all := lw_g (lw_at lw_m2 29 rfl) rfl
theorem q436 : (Jvm.Cond.soleField "GoatCourt" "fault") ∈ lw_all := lw_g (lw_at lw_m2 30 rfl) rfl
theorem q437 : (Jvm.Cond.lays "GoatCourt" "GoatCourt" "where" "I") ∈ lw_all := lw_g (lw_at lw_m2 31 rfl) rfl
theorem q438 : (Jvm.Cond.soleField "GoatCourt" "where") ∈ lw_all := lw_g (lw_at lw_m2 32 rfl) rfl
theorem q439 : (Jvm.Cond.lays "GoatCourt" "GoatCourt" "markMany" "I") ∈ lw_all := lw_g (lw_at lw_m2 33 rfl) rfl
theorem q440 : (Jvm.Cond.soleField "GoatCourt" "markMany") ∈ lw_all := lw_g (lw_at lw_m2 34 rfl) rfl
theorem q441 : (Jvm.Cond.lays "GoatCourt" "GoatCourt" "undoMany" "I") ∈ lw_all := lw_g (lw_at lw_m2 35 rfl) rfl
theorem q442 : (Jvm.Cond.soleField "GoatCourt" "undoMany") ∈ lw_all := lw_g (lw_at lw_m2 36 rfl) rfl
theorem q443 : (Jvm.Cond.laysFinal "GoatCourt" "GoatCourt" "ground" "LGoatCourt$Ground;") ∈ lw_all := lw_g (lw_at lw_m2 37 rfl) rfl
theorem q444 : (Jvm.Cond.soleField "GoatCourt" "ground") ∈ lw_all := lw_g (lw_at lw_m2 38 rfl) rfl
theorem q445 : (Jvm.Cond.laysFinal "GoatCourt" "GoatCourt" "was" "LGoatCourt$Ground;") ∈ lw_all := lw_g (lw_at lw_m2 39 rfl) rfl
theorem q446 : (Jvm.Cond.soleField "GoatCourt" "was") ∈ lw_all := lw_g (lw_at lw_m2 40 rfl) rfl
theorem q447 : (Jvm.Cond.laysFinal "GoatCourt" "GoatCourt" "trial" "LGoatCourt$Ground;") ∈ lw_all := lw_g (lw_at lw_m2 41 rfl) rfl
theorem q448 : (Jvm.Cond.soleField "GoatCourt" "trial") ∈ lw_all := lw_g (lw_at lw_m2 42 rfl) rfl
theorem q449 : (Jvm.Cond.laysFinal "GoatCourt" "GoatCourt" "day" "LGoatCourt$Day;") ∈ lw_all := lw_g (lw_at lw_m2 43 rfl) rfl
theorem q450 : (Jvm.Cond.soleField "GoatCourt" "day") ∈ lw_all := lw_g (lw_at lw_m2 44 rfl) rfl
theorem q451 : (Jvm.Cond.laysFinal "GoatCourt" "GoatCourt" "orders" "LGoatCourt$Orders;") ∈ lw_all := lw_g (lw_at lw_m2 45 rfl) rfl
theorem q452 : (Jvm.Cond.soleField "GoatCourt" "orders") ∈ lw_all := lw_g (lw_at lw_m2 46 rfl) rfl
theorem q453 : (Jvm.Cond.laysFinal "GoatCourt" "GoatCourt" "undone" "[LGoatCourt$Ground;") ∈ lw_all := lw_g (lw_at lw_m2 47 rfl) rfl
theorem q454 : (Jvm.Cond.soleField "GoatCourt" "undone") ∈ lw_all := lw_g (lw_at lw_m2 48 rfl) rfl
theorem q455 : (Jvm.Cond.laysFinal "GoatCourt" "GoatCourt" "marks" "[LGoatCourt$Ground;") ∈ lw_all := lw_g (lw_at lw_m2 49 rfl) rfl
theorem q456 : (Jvm.Cond.soleField "GoatCourt" "marks") ∈ lw_all := lw_g (lw_at lw_m2 50 rfl) rfl
theorem q457 : (Jvm.Cond.laysFinal "GoatCourt" "GoatCourt" "truth" "[I") ∈ lw_all := lw_g (lw_at lw_m2 51 rfl) rfl
theorem q458 : (Jvm.Cond.soleField "GoatCourt" "truth") ∈ lw_all := lw_g (lw_at lw_m2 52 rfl) rfl
theorem q459 : (Jvm.Cond.laysFinal "GoatCourt" "GoatCourt" "fitting" "[I") ∈ lw_all := lw_g (lw_at lw_m2 53 rfl) rfl
theorem q460 : (Jvm.Cond.soleField "GoatCourt" "fitting") ∈ lw_all := lw_g (lw_at lw_m2 54 rfl) rfl
theorem q461 : (Jvm.Cond.lays "GoatCourt" "GoatCourt" "fitMany" "I") ∈ lw_all := lw_g (lw_at lw_m2 55 rfl) rfl
theorem q462 : (Jvm.Cond.soleField "GoatCourt" "fitMany") ∈ lw_all := lw_g (lw_at lw_m2 56 rfl) rfl
theorem q463 : (Jvm.Cond.lays "GoatCourt" "GoatCourt" "asked" "I") ∈ lw_all := lw_g (lw_at lw_m2 57 rfl) rfl
theorem q464 : (Jvm.Cond.soleField "GoatCourt" "asked") ∈ lw_all := lw_g (lw_at lw_m2 58 rfl) rfl
theorem q465 : (Jvm.Cond.lays "GoatCourt" "GoatCourt" "askedMost" "I") ∈ lw_all := lw_g (lw_at lw_m2 59 rfl) rfl
theorem q466 : (Jvm.Cond.soleField "GoatCourt" "askedMost") ∈ lw_all := lw_g (lw_at lw_m2 60 rfl) rfl
theorem q467 : (Jvm.Cond.laysFinal "GoatCourt" "GoatCourt" "counts" "[I") ∈ lw_all := lw_g (lw_at lw_m2 61 rfl) rfl
theorem q468 : (Jvm.Cond.soleField "GoatCourt" "counts") ∈ lw_all := lw_g (lw_at lw_m2 62 rfl) rfl
theorem q469 : (Jvm.Cond.laysFinal "GoatCourt" "GoatCourt" "lures" "[I") ∈ lw_all := lw_g (lw_at lw_m2 63 rfl) rfl
theorem q470 : (Jvm.Cond.soleField "GoatCourt" "lures") ∈ lw_all := lw_g (lw_at lw_m2 64 rfl) rfl
theorem q471 : (Jvm.Cond.superclass "GoatCourt" "java/lang/Object") ∈ lw_all := lw_g (lw_at lw_m2 65 rfl) rfl
theorem q473 : (Jvm.Cond.instanceMethod ({ cls := "GoatCourt", name := "feed", desc := "(IIIII)I" } : Jvm.MethodName)) ∈ lw_all := lw_g (lw_at lw_m2 67 rfl) rfl
theorem q474 : (Jvm.Cond.selects "GoatCourt" ({ cls := "GoatCourt", name := "feed", desc := "(IIIII)I" } : Jvm.MethodName) ({ cls := "GoatCourt", name := "feed", desc := "(IIIII)I" } : Jvm.MethodName)) ∈ lw_all := lw_g (lw_at lw_m2 68 rfl) rfl
theorem q475 : (Jvm.Cond.code ({ cls := "GoatCourt", name := "feed", desc := "(IIIII)I" } : Jvm.MethodName) prog_1_method_9_code (6 : Nat) (Option.some Jvm.ClassFile.FieldType.int)) ∈ lw_all := lw_g (lw_at lw_m2 69 rfl) rfl
theorem q476 : (Jvm.Cond.methodLink "GoatCourt" (86 : Nat) ({ cls := "GoatCourt", name := "bytes", desc := "(I)V" } : Jvm.MethodName)) ∈ lw_all := lw_g (lw_at lw_m2 70 rfl) rfl
theorem q477 : (Jvm.Cond.privateMethod ({ cls := "GoatCourt", name := "bytes", desc := "(I)V" } : Jvm.MethodName)) ∈ lw_tbl := lw_at lw_m2 71 rfl
theorem q478 : (Jvm.Cond.instanceMethod ({ cls := "GoatCourt", name := "bytes", desc := "(I)V" } : Jvm.MethodName)) ∈ lw_all := lw_g (lw_at lw_m2 72 rfl) rfl
theorem q479 : (Jvm.Cond.code ({ cls := "GoatCourt", name := "bytes", desc := "(I)V" } : Jvm.MethodName) prog_1_method_10_code (3 : Nat) (Option.none : Option Jvm.ClassFile.FieldType)) ∈ lw_all := lw_g (lw_at lw_m2 73 rfl) rfl
theorem q481 : (Jvm.Cond.instanceMethod ({ cls := "GoatCourt", name := "hill", desc := "(I)I" } : Jvm.MethodName)) ∈ lw_all := lw_g (lw_at lw_m2 75 rfl) rfl
theorem q482 : (Jvm.Cond.selects "GoatCourt" ({ cls := "GoatCourt", name := "hill", desc := "(I)I" } : Jvm.MethodName) ({ cls := "GoatCourt", name := "hill", desc := "(I)I" } : Jvm.MethodName)) ∈ lw_all := lw_g (lw_at lw_m2 76 rfl) rfl
theorem q483 : (Jvm.Cond.codeWith ({ cls := "GoatCourt", name := "hill", desc := "(I)I" } : Jvm.MethodName) prog_1_method_11_code (3 : Nat) (Option.some Jvm.ClassFile.FieldType.int) [((32 : Nat), (44 : Nat), (47 : Nat), (108 : Nat))]) ∈ lw_all := lw_g (lw_at lw_m2 77 rfl) rfl
theorem q484 : (Jvm.Cond.classLink "GoatCourt" (108 : Nat) "GoatCourt$Refused") ∈ lw_all := lw_g (lw_at lw_m2 78 rfl) rfl
theorem q485 : (Jvm.Cond.methodLink "GoatCourt" (80 : Nat) ({ cls := "GoatCourt", name := "anew", desc := "()V" } : Jvm.MethodName)) ∈ lw_all := lw_g (lw_at lw_m2 79 rfl) rfl
theorem q486 : (Jvm.Cond.privateMethod ({ cls := "GoatCourt", name := "anew", desc := "()V" } : Jvm.MethodName)) ∈ lw_tbl := lw_at lw_m2 80 rfl
theorem q487 : (Jvm.Cond.instanceMethod ({ cls := "GoatCourt", name := "anew", desc := "()V" } : Jvm.MethodName)) ∈ lw_all := lw_g (lw_at lw_m2 81 rfl) rfl
theorem q488 : (Jvm.Cond.code ({ cls := "GoatCourt", name := "anew", desc := "()V" } : Jvm.MethodName) prog_1_method_6_code (1 : Nat) (Option.none : Option Jvm.ClassFile.FieldType)) ∈ lw_all := lw_g (lw_at lw_m2 82 rfl) rfl
theorem q489 : (Jvm.Cond.methodLink "GoatCourt" (90 : Nat) ({ cls := "GoatCourt", name := "in", desc := "(III)Z" } : Jvm.MethodName)) ∈ lw_all := lw_g (lw_at lw_m2 83 rfl) rfl
theorem q490 : (Jvm.Cond.static ({ cls := "GoatCourt", name := "in", desc := "(III)Z" } : Jvm.MethodName)) ∈ lw_all := lw_g (lw_at lw_m2 84 rfl) rfl
theorem q491 : (Jvm.Cond.code ({ cls := "GoatCourt", name := "in", desc := "(III)Z" } : Jvm.MethodName) prog_1_method_1_code (3 : Nat) (Option.some Jvm.ClassFile.FieldType.boolean)) ∈ lw_all := lw_g (lw_at lw_m2 85 rfl) rfl
theorem q492 : (Jvm.Cond.methodLink "GoatCourt" (94 : Nat) ({ cls := "GoatCourt", name := "no", desc := "(I)I" } : Jvm.MethodName)) ∈ lw_all := lw_g (lw_at lw_m2 86 rfl) rfl
theorem q493 : (Jvm.Cond.privateMethod ({ cls := "GoatCourt", name := "no", desc := "(I)I" } : Jvm.MethodName)) ∈ lw_tbl := lw_at lw_m2 87 rfl
theorem q494 : (Jvm.Cond.instanceMethod ({ cls := "GoatCourt", name := "no", desc := "(I)I" } : Jvm.MethodName)) ∈ lw_all := lw_g (lw_at lw_m2 88 rfl) rfl
theorem q495 : (Jvm.Cond.code ({ cls := "GoatCourt", name := "no", desc := "(I)I" } : Jvm.MethodName) prog_1_method_7_code (2 : Nat) (Option.some Jvm.ClassFile.FieldType.int)) ∈ lw_all := lw_g (lw_at lw_m2 89 rfl) rfl
theorem q496 : (Jvm.Cond.methodLink "GoatCourt" (100 : Nat) ({ cls := "GoatCourt$Reader", name := "read", desc := "(I)LGoatCourt$Hill;" } : Jvm.MethodName)) ∈ lw_all := lw_g (lw_at lw_m2 90 rfl) rfl
theorem q522 : (Jvm.Cond.fieldLink "GoatCourt" (158 : Nat) "GoatCourt$Hill" "places" "[LGoatCourt$Place;") ∈ lw_all := lw_g (lw_at lw_m2 116 rfl) rfl
theorem q530 : (Jvm.Cond.fieldLink "GoatCourt" (396 : Nat) "GoatCourt$Hill" "steps" "[I") ∈ lw_all := lw_g (lw_at lw_m2 124 rfl) rfl
theorem q533 : (Jvm.Cond.fieldLink "GoatCourt" (405 : Nat) "GoatCourt$Hill" "told" "[I") ∈ lw_all := lw_g (lw_at lw_m2 127 rfl) rfl
theorem q536 : (Jvm.Cond.fieldLink "GoatCourt" (235 : Nat) "GoatCourt$Hill" "people" "[LGoatCourt$Person;") ∈ lw_all := lw_g (lw_at lw_m2 130 rfl) rfl
theorem q540 : (Jvm.Cond.fieldLink "GoatCourt" (172 : Nat) "GoatCourt$Hill" "goats" "[LGoatCourt$Goat;") ∈ lw_all := lw_g (lw_at lw_m2 134 rfl) rfl
theorem q544 : (Jvm.Cond.fieldLink "GoatCourt" (207 : Nat) "GoatCourt$Hill" "clues" "[LGoatCourt$Clue;") ∈ lw_all := lw_g (lw_at lw_m2 138 rfl) rfl
theorem q548 : (Jvm.Cond.fieldLink "GoatCourt" (371 : Nat) "GoatCourt$Hill" "facts" "[LGoatCourt$Fact;") ∈ lw_all := lw_g (lw_at lw_m2 142 rfl) rfl
theorem q551 : (Jvm.Cond.fieldLink "GoatCourt" (381 : Nat) "GoatCourt$Hill" "rules" "[LGoatCourt$Rule;") ∈ lw_all := lw_g (lw_at lw_m2 145 rfl) rfl
theorem q557 : (Jvm.Cond.fieldLink "GoatCourt" (148 : Nat) "GoatCourt$Hill" "hours" "I") ∈ lw_all := lw_g (lw_at lw_m2 151 rfl) rfl
theorem q558 : (Jvm.Cond.fieldLink "GoatCourt" (133 : Nat) "GoatCourt$Hill" "plants" "I") ∈ lw_all := lw_g (lw_at lw_m2 152 rfl) rfl
theorem q562 : (Jvm.Cond.fieldLink "GoatCourt" (130 : Nat) "GoatCourt$Hill" "placeMany" "I") ∈ lw_all := lw_g (lw_at lw_m2 156 rfl) rfl
theorem q566 : (Jvm.Cond.fieldLink "GoatCourt" (450 : Nat) "GoatCourt$Hill" "pathMany" "I") ∈ lw_all := lw_g (lw_at lw_m2 160 rfl) rfl
theorem q569 : (Jvm.Cond.fieldLink "GoatCourt" (136 : Nat) "GoatCourt$Hill" "personMany" "I") ∈ lw_all := lw_g (lw_at lw_m2 163 rfl) rfl
theorem q574 : (Jvm.Cond.fieldLink "GoatCourt" (139 : Nat) "GoatCourt$Hill" "goatMany" "I") ∈ lw_all := lw_g (lw_at lw_m2 168 rfl) rfl
theorem q579 : (Jvm.Cond.fieldLink "GoatCourt" (142 : Nat) "GoatCourt$Hill" "clueMany" "I") ∈ lw_all := lw_g (lw_at lw_m2 173 rfl) rfl
theorem q582 : (Jvm.Cond.fieldLink "GoatCourt" (145 : Nat) "GoatCourt$Hill" "factMany" "I") ∈ lw_all := lw_g (lw_at lw_m2 176 rfl) rfl
theorem q586 : (Jvm.Cond.fieldLink "GoatCourt" (353 : Nat) "GoatCourt$Hill" "ruleMany" "I") ∈ lw_all := lw_g (lw_at lw_m2 180 rfl) rfl
theorem q588 : (Jvm.Cond.fieldLink "GoatCourt" (393 : Nat) "GoatCourt$Hill" "stepMany" "I") ∈ lw_all := lw_g (lw_at lw_m2 182 rfl) rfl
theorem q592 : (Jvm.Cond.fieldLink "GoatCourt" (421 : Nat) "GoatCourt$Hill" "courtMany" "I") ∈ lw_all := lw_g (lw_at lw_m2 186 rfl) rfl
theorem q594 : (Jvm.Cond.fieldLink "GoatCourt" (402 : Nat) "GoatCourt$Hill" "hasCheese" "Z") ∈ lw_all := lw_g (lw_at lw_m2 188 rfl) rfl
theorem q885 : (Jvm.Cond.fieldLink "GoatCourt" (162 : Nat) "GoatCourt$Place" "plants" "[I") ∈ lw_all := lw_g (lw_at lw_m3 239 rfl) rfl
theorem q887 : (Jvm.Cond.fieldLink "GoatCourt" (166 : Nat) "GoatCourt$Place" "near" "I") ∈ lw_all := lw_g (lw_at lw_m4 1 rfl) rfl
theorem q894 : (Jvm.Cond.fieldLink "GoatCourt" (185 : Nat) "GoatCourt$Goat" "number" "I") ∈ lw_all := lw_g (lw_at lw_m4 8 rfl) rfl
theorem q953 : (Jvm.Cond.fieldLink "GoatCourt" (239 : Nat) "GoatCourt$Person" "many" "I") ∈ lw_all := lw_g (lw_at lw_m4 67 rfl) rfl
theorem q1004 : (Jvm.Cond.fieldLink "GoatCourt" (219 : Nat) "GoatCourt$Goat" "order" "[I") ∈ lw_all := lw_g (lw_at lw_m4 118 rfl) rfl
theorem q1007 : (Jvm.Cond.fieldLink "GoatCourt" (216 : Nat) "GoatCourt$Goat" "likes" "I") ∈ lw_all := lw_g (lw_at lw_m4 121 rfl) rfl
theorem q1010 : (Jvm.Cond.fieldLink "GoatCourt" (188 : Nat) "GoatCourt$Goat" "begins" "I") ∈ lw_all := lw_g (lw_at lw_m4 124 rfl) rfl
theorem q1012 : (Jvm.Cond.fieldLink "GoatCourt" (191 : Nat) "GoatCourt$Goat" "trust" "I") ∈ lw_all := lw_g (lw_at lw_m4 126 rfl) rfl
theorem q1015 : (Jvm.Cond.fieldLink "GoatCourt" (194 : Nat) "GoatCourt$Goat" "fears" "I") ∈ lw_all := lw_g (lw_at lw_m4 129 rfl) rfl
theorem q1117 : (Jvm.Cond.static ({ cls := "GoatCourt", name := "has", desc := "(II)Z" } : Jvm.MethodName)) ∈ lw_all := lw_g (lw_at lw_m4 231 rfl) rfl
theorem q1118 : (Jvm.Cond.code ({ cls := "GoatCourt", name := "has", desc := "(II)Z" } : Jvm.MethodName) prog_1_method_2_code (2 : Nat) (Option.some Jvm.ClassFile.FieldType.boolean)) ∈ lw_all := lw_g (lw_at lw_m4 232 rfl) rfl
theorem q1151 : (Jvm.Cond.fieldLink "GoatCourt" (211 : Nat) "GoatCourt$Clue" "goat" "I") ∈ lw_all := lw_g (lw_at lw_m5 25 rfl) rfl
theorem q1159 : (Jvm.Cond.fieldLink "GoatCourt" (228 : Nat) "GoatCourt$Clue" "place" "I") ∈ lw_all := lw_g (lw_at lw_m5 33 rfl) rfl
theorem q1167 : (Jvm.Cond.fieldLink "GoatCourt" (229 : Nat) "GoatCourt$Clue" "what" "I") ∈ lw_all := lw_g (lw_at lw_m5 41 rfl) rfl
theorem q1211 : (Jvm.Cond.fieldLink "GoatCourt" (375 : Nat) "GoatCourt$Fact" "holds" "Z") ∈ lw_all := lw_g (lw_at lw_m5 85 rfl) rfl
theorem q1239 : (Jvm.Cond.fieldLink "GoatCourt" (385 : Nat) "GoatCourt$Rule" "head" "I") ∈ lw_all := lw_g (lw_at lw_m5 113 rfl) rfl
theorem q1292 : (Jvm.Cond.methodLink "GoatCourt" (114 : Nat) ({ cls := "GoatCourt$Ground", name := "begin", desc := "(LGoatCourt$Hill;)V" } : Jvm.MethodName)) ∈ lw_all := lw_g (lw_at lw_m5 166 rfl) rfl
theorem q1296 : (Jvm.Cond.methodLink "GoatCourt" (124 : Nat) ({ cls := "GoatCourt$Hill", name := "cases", desc := "()I" } : Jvm.MethodName)) ∈ lw_all := lw_g (lw_at lw_m5 170 rfl) rfl
theorem q1304 : (Jvm.Cond.instanceMethod ({ cls := "GoatCourt", name := "fault", desc := "()I" } : Jvm.MethodName)) ∈ lw_all := lw_g (lw_at lw_m5 178 rfl) rfl
theorem q1305 : (Jvm.Cond.selects "GoatCourt" ({ cls := "GoatCourt", name := "fault", desc := "()I" } : Jvm.MethodName) ({ cls := "GoatCourt", name := "fault", desc := "()I" } : Jvm.MethodName)) ∈ lw_all := lw_g (lw_at lw_m5 179 rfl) rfl
theorem q1306 : (Jvm.Cond.code ({ cls := "GoatCourt", name := "fault", desc := "()I" } : Jvm.MethodName) prog_1_method_12_code (1 : Nat) (Option.some Jvm.ClassFile.FieldType.int)) ∈ lw_all := lw_g (lw_at lw_m5 180 rfl) rfl
theorem q1308 : (Jvm.Cond.instanceMethod ({ cls := "GoatCourt", name := "where", desc := "()I" } : Jvm.MethodName)) ∈ lw_all := lw_g (lw_at lw_m5 182 rfl) rfl
theorem q1309 : (Jvm.Cond.selects "GoatCourt" ({ cls := "GoatCourt", name := "where", desc := "()I" } : Jvm.MethodName) ({ cls := "GoatCourt", name := "where", desc := "()I" } : Jvm.MethodName)) ∈ lw_all := lw_g (lw_at lw_m5 183 rfl) rfl
theorem q1310 : (Jvm.Cond.code ({ cls := "GoatCourt", name := "where", desc := "()I" } : Jvm.MethodName) prog_1_method_13_code (1 : Nat) (Option.some Jvm.ClassFile.FieldType.int)) ∈ lw_all := lw_g (lw_at lw_m5 184 rfl) rfl
theorem q1312 : (Jvm.Cond.instanceMethod ({ cls := "GoatCourt", name := "plants", desc := "(II)I" } : Jvm.MethodName)) ∈ lw_all := lw_g (lw_at lw_m5 186 rfl) rfl
theorem q1313 : (Jvm.Cond.selects "GoatCourt" ({ cls := "GoatCourt", name := "plants", desc := "(II)I" } : Jvm.MethodName) ({ cls := "GoatCourt", name := "plants", desc := "(II)I" } : Jvm.MethodName)) ∈ lw_all := lw_g (lw_at lw_m5 187 rfl) rfl
theorem q1314 : (Jvm.Cond.code ({ cls := "GoatCourt", name := "plants", desc := "(II)I" } : Jvm.MethodName) prog_1_method_22_code (3 : Nat) (Option.some Jvm.ClassFile.FieldType.int)) ∈ lw_all := lw_g (lw_at lw_m5 188 rfl) rfl
theorem q1315 : (Jvm.Cond.methodLink "GoatCourt" (151 : Nat) ({ cls := "GoatCourt", name := "isPlace", desc := "(I)Z" } : Jvm.MethodName)) ∈ lw_all := lw_g (lw_at lw_m5 189 rfl) rfl
theorem q1316 : (Jvm.Cond.privateMethod ({ cls := "GoatCourt", name := "isPlace", desc := "(I)Z" } : Jvm.MethodName)) ∈ lw_tbl := lw_at lw_m5 190 rfl
theorem q1317 : (Jvm.Cond.instanceMethod ({ cls := "GoatCourt", name := "isPlace", desc := "(I)Z" } : Jvm.MethodName)) ∈ lw_all := lw_g (lw_at lw_m5 191 rfl) rfl
theorem q1318 : (Jvm.Cond.code ({ cls := "GoatCourt", name := "isPlace", desc := "(I)Z" } : Jvm.MethodName) prog_1_method_14_code (2 : Nat) (Option.some Jvm.ClassFile.FieldType.boolean)) ∈ lw_all := lw_g (lw_at lw_m5 192 rfl) rfl
theorem q1319 : (Jvm.Cond.methodLink "GoatCourt" (155 : Nat) ({ cls := "GoatCourt", name := "isPlant", desc := "(I)Z" } : Jvm.MethodName)) ∈ lw_all := lw_g (lw_at lw_m5 193 rfl) rfl
theorem q1320 : (Jvm.Cond.privateMethod ({ cls := "GoatCourt", name := "isPlant", desc := "(I)Z" } : Jvm.MethodName)) ∈ lw_tbl := lw_at lw_m5 194 rfl
theorem q1321 : (Jvm.Cond.instanceMethod ({ cls := "GoatCourt", name := "isPlant", desc := "(I)Z" } : Jvm.MethodName)) ∈ lw_all := lw_g (lw_at lw_m5 195 rfl) rfl
theorem q1322 : (Jvm.Cond.code ({ cls := "GoatCourt", name := "isPlant", desc := "(I)Z" } : Jvm.MethodName) prog_1_method_15_code (2 : Nat) (Option.some Jvm.ClassFile.FieldType.boolean)) ∈ lw_all := lw_g (lw_at lw_m5 196 rfl) rfl
theorem q1324 : (Jvm.Cond.instanceMethod ({ cls := "GoatCourt", name := "near", desc := "(I)I" } : Jvm.MethodName)) ∈ lw_all := lw_g (lw_at lw_m5 198 rfl) rfl
theorem q1325 : (Jvm.Cond.selects "GoatCourt" ({ cls := "GoatCourt", name := "near", desc := "(I)I" } : Jvm.MethodName) ({ cls := "GoatCourt", name := "near", desc := "(I)I" } : Jvm.MethodName)) ∈ lw_all := lw_g (lw_at lw_m5 199 rfl) rfl
theorem q1326 : (Jvm.Cond.code ({ cls := "GoatCourt", name := "near", desc := "(I)I" } : Jvm.MethodName) prog_1_method_23_code (2 : Nat) (Option.some Jvm.ClassFile.FieldType.int)) ∈ lw_all := lw_g (lw_at lw_m5 200 rfl) rfl
theorem q1328 : (Jvm.Cond.instanceMethod ({ cls := "GoatCourt", name := "goat", desc := "(II)I" } : Jvm.MethodName)) ∈ lw_all := lw_g (lw_at lw_m5 202 rfl) rfl
theorem q1329 : (Jvm.Cond.selects "GoatCourt" ({ cls := "GoatCourt", name := "goat", desc := "(II)I" } : Jvm.MethodName) ({ cls := "GoatCourt", name := "goat", desc := "(II)I" } : Jvm.MethodName)) ∈ lw_all := lw_g (lw_at lw_m5 203 rfl) rfl
theorem q1330 : (Jvm.Cond.code ({ cls := "GoatCourt", name := "goat", desc := "(II)I" } : Jvm.MethodName) prog_1_method_24_code (4 : Nat) (Option.some Jvm.ClassFile.FieldType.int)) ∈ lw_all := lw_g (lw_at lw_m5 204 rfl) rfl
theorem q1331 : (Jvm.Cond.methodLink "GoatCourt" (169 : Nat) ({ cls := "GoatCourt", name := "isGoat", desc := "(I)Z" } : Jvm.MethodName)) ∈ lw_all := lw_g (lw_at lw_m5 205 rfl) rfl
theorem q1332 : (Jvm.Cond.privateMethod ({ cls := "GoatCourt", name := "isGoat", desc := "(I)Z" } : Jvm.MethodName)) ∈ lw_tbl := lw_at lw_m5 206 rfl
theorem q1333 : (Jvm.Cond.instanceMethod ({ cls := "GoatCourt", name := "isGoat", desc := "(I)Z" } : Jvm.MethodName)) ∈ lw_all := lw_g (lw_at lw_m5 207 rfl) rfl
theorem q1334 : (Jvm.Cond.code ({ cls := "GoatCourt", name := "isGoat", desc := "(I)Z" } : Jvm.MethodName) prog_1_method_17_code (2 : Nat) (Option.some Jvm.ClassFile.FieldType.boolean)) ∈ lw_all := lw_g (lw_at lw_m5 208 rfl) rfl
theorem q1335 : (Jvm.Cond.methodLink "GoatCourt" (176 : Nat) ({ cls := "GoatCourt$Goat", name := "kind", desc := "()I" } : Jvm.MethodName)) ∈ lw_all := lw_g (lw_at lw_m5 209 rfl) rfl
theorem q1350 : (Jvm.Cond.methodLink "GoatCourt" (181 : Nat) ({ cls := "GoatCourt$Goat", name := "mother", desc := "()LGoatCourt$Goat;" } : Jvm.MethodName)) ∈ lw_all := lw_g (lw_at lw_m5 224 rfl) rfl
theorem q1360 : (Jvm.Cond.methodLink "GoatCourt" (197 : Nat) ({ cls := "GoatCourt", name := "cluesOf", desc := "(I)I" } : Jvm.MethodName)) ∈ lw_all := lw_g (lw_at lw_m5 234 rfl) rfl
theorem q1361 : (Jvm.Cond.privateMethod ({ cls := "GoatCourt", name := "cluesOf", desc := "(I)I" } : Jvm.MethodName)) ∈ lw_tbl := lw_at lw_m5 235 rfl
theorem q1362 : (Jvm.Cond.instanceMethod ({ cls := "GoatCourt", name := "cluesOf", desc := "(I)I" } : Jvm.MethodName)) ∈ lw_all := lw_g (lw_at lw_m5 236 rfl) rfl
theorem q1363 : (Jvm.Cond.code ({ cls := "GoatCourt", name := "cluesOf", desc := "(I)I" } : Jvm.MethodName) prog_1_method_25_code (4 : Nat) (Option.some Jvm.ClassFile.FieldType.int)) ∈ lw_all := lw_g (lw_at lw_m5 237 rfl) rfl
theorem q1364 : (Jvm.Cond.methodLink "GoatCourt" (203 : Nat) ({ cls := "GoatCourt", name := "has", desc := "(II)Z" } : Jvm.MethodName)) ∈ lw_all := lw_g (lw_at lw_m5 238 rfl) rfl
theorem q1366 : (Jvm.Cond.instanceMethod ({ cls := "GoatCourt", name := "likes", desc := "(II)I" } : Jvm.MethodName)) ∈ lw_all := lw_g (lw_at lw_m6 0 rfl) rfl
theorem q1367 : (Jvm.Cond.selects "GoatCourt" ({ cls := "GoatCourt", name := "likes", desc := "(II)I" } : Jvm.MethodName) ({ cls := "GoatCourt", name := "likes", desc := "(II)I" } : Jvm.MethodName)) ∈ lw_all := lw_g (lw_at lw_m6 1 rfl) rfl
theorem q1368 : (Jvm.Cond.code ({ cls := "GoatCourt", name := "likes", desc := "(II)I" } : Jvm.MethodName) prog_1_method_26_code (3 : Nat) (Option.some Jvm.ClassFile.FieldType.int)) ∈ lw_all := lw_g (lw_at lw_m6 2 rfl) rfl
theorem q1370 : (Jvm.Cond.instanceMethod ({ cls := "GoatCourt", name := "clue", desc := "(II)I" } : Jvm.MethodName)) ∈ lw_all := lw_g (lw_at lw_m6 4 rfl) rfl
theorem q1371 : (Jvm.Cond.selects "GoatCourt" ({ cls := "GoatCourt", name := "clue", desc := "(II)I" } : Jvm.MethodName) ({ cls := "GoatCourt", name := "clue", desc := "(II)I" } : Jvm.MethodName)) ∈ lw_all := lw_g (lw_at lw_m6 5 rfl) rfl
theorem q1372 : (Jvm.Cond.code ({ cls := "GoatCourt", name := "clue", desc := "(II)I" } : Jvm.MethodName) prog_1_method_27_code (4 : Nat) (Option.some Jvm.ClassFile.FieldType.int)) ∈ lw_all := lw_g (lw_at lw_m6 6 rfl) rfl
theorem q1373 : (Jvm.Cond.methodLink "GoatCourt" (222 : Nat) ({ cls := "GoatCourt", name := "isClue", desc := "(I)Z" } : Jvm.MethodName)) ∈ lw_all := lw_g (lw_at lw_m6 7 rfl) rfl
theorem q1374 : (Jvm.Cond.privateMethod ({ cls := "GoatCourt", name := "isClue", desc := "(I)Z" } : Jvm.MethodName)) ∈ lw_tbl := lw_at lw_m6 8 rfl
theorem q1375 : (Jvm.Cond.instanceMethod ({ cls := "GoatCourt", name := "isClue", desc := "(I)Z" } : Jvm.MethodName)) ∈ lw_all := lw_g (lw_at lw_m6 9 rfl) rfl
theorem q1376 : (Jvm.Cond.code ({ cls := "GoatCourt", name := "isClue", desc := "(I)Z" } : Jvm.MethodName) prog_1_method_19_code (2 : Nat) (Option.some Jvm.ClassFile.FieldType.boolean)) ∈ lw_all := lw_g (lw_at lw_m6 10 rfl) rfl
theorem q1377 : (Jvm.Cond.methodLink "GoatCourt" (225 : Nat) ({ cls := "GoatCourt$Clue", name := "sort", desc := "()I" } : Jvm.MethodName)) ∈ lw_all := lw_g (lw_at lw_m6 11 rfl) rfl
theorem q1390 : (Jvm.Cond.instanceMethod ({ cls := "GoatCourt", name := "story", desc := "(III)I" } : Jvm.MethodName)) ∈ lw_all := lw_g (lw_at lw_m6 24 rfl) rfl
theorem q1391 : (Jvm.Cond.selects "GoatCourt" ({ cls := "GoatCourt", name := "story", desc := "(III)I" } : Jvm.MethodName) ({ cls := "GoatCourt", name := "story", desc := "(III)I" } : Jvm.MethodName)) ∈ lw_all := lw_g (lw_at lw_m6 25 rfl) rfl
theorem q1392 : (Jvm.Cond.code ({ cls := "GoatCourt", name := "story", desc := "(III)I" } : Jvm.MethodName) prog_1_method_28_code (4 : Nat) (Option.some Jvm.ClassFile.FieldType.int)) ∈ lw_all := lw_g (lw_at lw_m6 26 rfl) rfl
theorem q1393 : (Jvm.Cond.methodLink "GoatCourt" (232 : Nat) ({ cls := "GoatCourt", name := "isPerson", desc := "(I)Z" } : Jvm.MethodName)) ∈ lw_all := lw_g (lw_at lw_m6 27 rfl) rfl
theorem q1394 : (Jvm.Cond.privateMethod ({ cls := "GoatCourt", name := "isPerson", desc := "(I)Z" } : Jvm.MethodName)) ∈ lw_tbl := lw_at lw_m6 28 rfl
theorem q1395 : (Jvm.Cond.instanceMethod ({ cls := "GoatCourt", name := "isPerson", desc := "(I)Z" } : Jvm.MethodName)) ∈ lw_all := lw_g (lw_at lw_m6 29 rfl) rfl
theorem q1396 : (Jvm.Cond.code ({ cls := "GoatCourt", name := "isPerson", desc := "(I)Z" } : Jvm.MethodName) prog_1_method_16_code (2 : Nat) (Option.some Jvm.ClassFile.FieldType.boolean)) ∈ lw_all := lw_g (lw_at lw_m6 30 rfl) rfl
theorem q1397 : (Jvm.Cond.methodLink "GoatCourt" (244 : Nat) ({ cls := "GoatCourt", name := "isHour", desc := "(I)Z" } : Jvm.MethodName)) ∈ lw_all := lw_g (lw_at lw_m6 31 rfl) rfl
theorem q1398 : (Jvm.Cond.privateMethod ({ cls := "GoatCourt", name := "isHour", desc := "(I)Z" } : Jvm.MethodName)) ∈ lw_tbl := lw_at lw_m6 32 rfl
theorem q1399 : (Jvm.Cond.instanceMethod ({ cls := "GoatCourt", name := "isHour", desc := "(I)Z" } : Jvm.MethodName)) ∈ lw_all := lw_g (lw_at lw_m6 33 rfl) rfl
theorem q1400 : (Jvm.Cond.code ({ cls := "GoatCourt", name := "isHour", desc := "(I)Z" } : Jvm.MethodName) prog_1_method_21_code (2 : Nat) (Option.some Jvm.ClassFile.FieldType.boolean)) ∈ lw_all := lw_g (lw_at lw_m6 34 rfl) rfl
theorem q1401 : (Jvm.Cond.methodLink "GoatCourt" (247 : Nat) ({ cls := "GoatCourt$Person", name := "at", desc := "(II)I" } : Jvm.MethodName)) ∈ lw_all := lw_g (lw_at lw_m6 35 rfl) rfl
theorem q1409 : (Jvm.Cond.instanceMethod ({ cls := "GoatCourt", name := "stories", desc := "(I)I" } : Jvm.MethodName)) ∈ lw_all := lw_g (lw_at lw_m6 43 rfl) rfl
theorem q1410 : (Jvm.Cond.selects "GoatCourt" ({ cls := "GoatCourt", name := "stories", desc := "(I)I" } : Jvm.MethodName) ({ cls := "GoatCourt", name := "stories", desc := "(I)I" } : Jvm.MethodName)) ∈ lw_all := lw_g (lw_at lw_m6 44 rfl) rfl
theorem q1411 : (Jvm.Cond.code ({ cls := "GoatCourt", name := "stories", desc := "(I)I" } : Jvm.MethodName) prog_1_method_29_code (2 : Nat) (Option.some Jvm.ClassFile.FieldType.int)) ∈ lw_all := lw_g (lw_at lw_m6 45 rfl) rfl
theorem q1413 : (Jvm.Cond.instanceMethod ({ cls := "GoatCourt", name := "caseOf", desc := "(II)I" } : Jvm.MethodName)) ∈ lw_all := lw_g (lw_at lw_m6 47 rfl) rfl
theorem q1414 : (Jvm.Cond.selects "GoatCourt" ({ cls := "GoatCourt", name := "caseOf", desc := "(II)I" } : Jvm.MethodName) ({ cls := "GoatCourt", name := "caseOf", desc := "(II)I" } : Jvm.MethodName)) ∈ lw_all := lw_g (lw_at lw_m6 48 rfl) rfl
theorem q1415 : (Jvm.Cond.code ({ cls := "GoatCourt", name := "caseOf", desc := "(II)I" } : Jvm.MethodName) prog_1_method_31_code (3 : Nat) (Option.some Jvm.ClassFile.FieldType.int)) ∈ lw_all := lw_g (lw_at lw_m6 49 rfl) rfl
theorem q1416 : (Jvm.Cond.methodLink "GoatCourt" (255 : Nat) ({ cls := "GoatCourt", name := "isCase", desc := "(I)Z" } : Jvm.MethodName)) ∈ lw_all := lw_g (lw_at lw_m6 50 rfl) rfl
theorem q1417 : (Jvm.Cond.privateMethod ({ cls := "GoatCourt", name := "isCase", desc := "(I)Z" } : Jvm.MethodName)) ∈ lw_tbl := lw_at lw_m6 51 rfl
theorem q1418 : (Jvm.Cond.instanceMethod ({ cls := "GoatCourt", name := "isCase", desc := "(I)Z" } : Jvm.MethodName)) ∈ lw_all := lw_g (lw_at lw_m6 52 rfl) rfl
theorem q1419 : (Jvm.Cond.code ({ cls := "GoatCourt", name := "isCase", desc := "(I)Z" } : Jvm.MethodName) prog_1_method_18_code (2 : Nat) (Option.some Jvm.ClassFile.FieldType.boolean)) ∈ lw_all := lw_g (lw_at lw_m6 53 rfl) rfl
theorem q1420 : (Jvm.Cond.methodLink "GoatCourt" (258 : Nat) ({ cls := "GoatCourt$Hill", name := "storyOf", desc := "(II)I" } : Jvm.MethodName)) ∈ lw_all := lw_g (lw_at lw_m6 54 rfl) rfl
theorem q1425 : (Jvm.Cond.instanceMethod ({ cls := "GoatCourt", name := "at", desc := "(III)I" } : Jvm.MethodName)) ∈ lw_all := lw_g (lw_at lw_m6 59 rfl) rfl
theorem q1426 : (Jvm.Cond.selects "GoatCourt" ({ cls := "GoatCourt", name := "at", desc := "(III)I" } : Jvm.MethodName) ({ cls := "GoatCourt", name := "at", desc := "(III)I" } : Jvm.MethodName)) ∈ lw_all := lw_g (lw_at lw_m6 60 rfl) rfl
theorem q1427 : (Jvm.Cond.code ({ cls := "GoatCourt", name := "at", desc := "(III)I" } : Jvm.MethodName) prog_1_method_32_code (4 : Nat) (Option.some Jvm.ClassFile.FieldType.int)) ∈ lw_all := lw_g (lw_at lw_m6 61 rfl) rfl
theorem q1428 : (Jvm.Cond.methodLink "GoatCourt" (261 : Nat) ({ cls := "GoatCourt", name := "run", desc := "(I)V" } : Jvm.MethodName)) ∈ lw_all := lw_g (lw_at lw_m6 62 rfl) rfl
theorem q1429 : (Jvm.Cond.privateMethod ({ cls := "GoatCourt", name := "run", desc := "(I)V" } : Jvm.MethodName)) ∈ lw_tbl := lw_at lw_m6 63 rfl
theorem q1430 : (Jvm.Cond.instanceMethod ({ cls := "GoatCourt", name := "run", desc := "(I)V" } : Jvm.MethodName)) ∈ lw_all := lw_g (lw_at lw_m6 64 rfl) rfl
theorem q1431 : (Jvm.Cond.code ({ cls := "GoatCourt", name := "run", desc := "(I)V" } : Jvm.MethodName) prog_1_method_30_code (2 : Nat) (Option.none : Option Jvm.ClassFile.FieldType)) ∈ lw_all := lw_g (lw_at lw_m6 65 rfl) rfl
theorem q1432 : (Jvm.Cond.methodLink "GoatCourt" (251 : Nat) ({ cls := "GoatCourt$Day", name := "run", desc := "(LGoatCourt$Hill;LGoatCourt$Ground;I)V" } : Jvm.MethodName)) ∈ lw_all := lw_g (lw_at lw_m6 66 rfl) rfl
theorem q1512 : (Jvm.Cond.methodLink "GoatCourt" (263 : Nat) ({ cls := "GoatCourt$Day", name := "at", desc := "(II)I" } : Jvm.MethodName)) ∈ lw_all := lw_g (lw_at lw_m6 146 rfl) rfl
theorem q1517 : (Jvm.Cond.instanceMethod ({ cls := "GoatCourt", name := "ate", desc := "(III)I" } : Jvm.MethodName)) ∈ lw_all := lw_g (lw_at lw_m6 151 rfl) rfl
theorem q1518 : (Jvm.Cond.selects "GoatCourt" ({ cls := "GoatCourt", name := "ate", desc := "(III)I" } : Jvm.MethodName) ({ cls := "GoatCourt", name := "ate", desc := "(III)I" } : Jvm.MethodName)) ∈ lw_all := lw_g (lw_at lw_m6 152 rfl) rfl
theorem q1519 : (Jvm.Cond.code ({ cls := "GoatCourt", name := "ate", desc := "(III)I" } : Jvm.MethodName) prog_1_method_33_code (4 : Nat) (Option.some Jvm.ClassFile.FieldType.int)) ∈ lw_all := lw_g (lw_at lw_m6 153 rfl) rfl
theorem q1520 : (Jvm.Cond.methodLink "GoatCourt" (264 : Nat) ({ cls := "GoatCourt$Day", name := "ate", desc := "(II)I" } : Jvm.MethodName)) ∈ lw_all := lw_g (lw_at lw_m6 154 rfl) rfl
theorem q1525 : (Jvm.Cond.instanceMethod ({ cls := "GoatCourt", name := "drops", desc := "(IIII)I" } : Jvm.MethodName)) ∈ lw_all := lw_g (lw_at lw_m6 159 rfl) rfl
theorem q1526 : (Jvm.Cond.selects "GoatCourt" ({ cls := "GoatCourt", name := "drops", desc := "(IIII)I" } : Jvm.MethodName) ({ cls := "GoatCourt", name := "drops", desc := "(IIII)I" } : Jvm.MethodName)) ∈ lw_all := lw_g (lw_at lw_m6 160 rfl) rfl
theorem q1527 : (Jvm.Cond.code ({ cls := "GoatCourt", name := "drops", desc := "(IIII)I" } : Jvm.MethodName) prog_1_method_34_code (5 : Nat) (Option.some Jvm.ClassFile.FieldType.int)) ∈ lw_all := lw_g (lw_at lw_m6 161 rfl) rfl
theorem q1528 : (Jvm.Cond.methodLink "GoatCourt" (267 : Nat) ({ cls := "GoatCourt$Day", name := "drops", desc := "(III)I" } : Jvm.MethodName)) ∈ lw_all := lw_g (lw_at lw_m6 162 rfl) rfl
theorem q1534 : (Jvm.Cond.instanceMethod ({ cls := "GoatCourt", name := "flees", desc := "(II)I" } : Jvm.MethodName)) ∈ lw_all := lw_g (lw_at lw_m6 168 rfl) rfl
theorem q1535 : (Jvm.Cond.selects "GoatCourt" ({ cls := "GoatCourt", name := "flees", desc := "(II)I" } : Jvm.MethodName) ({ cls := "GoatCourt", name := "flees", desc := "(II)I" } : Jvm.MethodName)) ∈ lw_all := lw_g (lw_at lw_m6 169 rfl) rfl
theorem q1536 : (Jvm.Cond.code ({ cls := "GoatCourt", name := "flees", desc := "(II)I" } : Jvm.MethodName) prog_1_method_35_code (3 : Nat) (Option.some Jvm.ClassFile.FieldType.int)) ∈ lw_all := lw_g (lw_at lw_m6 170 rfl) rfl
theorem q1537 : (Jvm.Cond.methodLink "GoatCourt" (271 : Nat) ({ cls := "GoatCourt$Day", name := "flees", desc := "(I)I" } : Jvm.MethodName)) ∈ lw_all := lw_g (lw_at lw_m6 171 rfl) rfl
theorem q1542 : (Jvm.Cond.instanceMethod ({ cls := "GoatCourt", name := "left", desc := "(III)I" } : Jvm.MethodName)) ∈ lw_all := lw_g (lw_at lw_m6 176 rfl) rfl
theorem q1543 : (Jvm.Cond.selects "GoatCourt" ({ cls := "GoatCourt", name := "left", desc := "(III)I" } : Jvm.MethodName) ({ cls := "GoatCourt", name := "left", desc := "(III)I" } : Jvm.MethodName)) ∈ lw_all := lw_g (lw_at lw_m6 177 rfl) rfl
theorem q1544 : (Jvm.Cond.code ({ cls := "GoatCourt", name := "left", desc := "(III)I" } : Jvm.MethodName) prog_1_method_36_code (4 : Nat) (Option.some Jvm.ClassFile.FieldType.int)) ∈ lw_all := lw_g (lw_at lw_m6 178 rfl) rfl
theorem q1545 : (Jvm.Cond.methodLink "GoatCourt" (274 : Nat) ({ cls := "GoatCourt$Day", name := "left", desc := "(II)I" } : Jvm.MethodName)) ∈ lw_all := lw_g (lw_at lw_m6 179 rfl) rfl
theorem q1550 : (Jvm.Cond.instanceMethod ({ cls := "GoatCourt", name := "met", desc := "(III)I" } : Jvm.MethodName)) ∈ lw_all := lw_g (lw_at lw_m6 184 rfl) rfl
theorem q1551 : (Jvm.Cond.selects "GoatCourt" ({ cls := "GoatCourt", name := "met", desc := "(III)I" } : Jvm.MethodName) ({ cls := "GoatCourt", name := "met", desc := "(III)I" } : Jvm.MethodName)) ∈ lw_all := lw_g (lw_at lw_m6 185 rfl) rfl
theorem q1552 : (Jvm.Cond.code ({ cls := "GoatCourt", name := "met", desc := "(III)I" } : Jvm.MethodName) prog_1_method_37_code (7 : Nat) (Option.some Jvm.ClassFile.FieldType.int)) ∈ lw_all := lw_g (lw_at lw_m6 186 rfl) rfl
theorem q1554 : (Jvm.Cond.instanceMethod ({ cls := "GoatCourt", name := "isTrue", desc := "(II)I" } : Jvm.MethodName)) ∈ lw_all := lw_g (lw_at lw_m6 188 rfl) rfl
theorem q1555 : (Jvm.Cond.selects "GoatCourt" ({ cls := "GoatCourt", name := "isTrue", desc := "(II)I" } : Jvm.MethodName) ({ cls := "GoatCourt", name := "isTrue", desc := "(II)I" } : Jvm.MethodName)) ∈ lw_all := lw_g (lw_at lw_m6 189 rfl) rfl
theorem q1556 : (Jvm.Cond.code ({ cls := "GoatCourt", name := "isTrue", desc := "(II)I" } : Jvm.MethodName) prog_1_method_38_code (3 : Nat) (Option.some Jvm.ClassFile.FieldType.int)) ∈ lw_all := lw_g (lw_at lw_m6 190 rfl) rfl
theorem q1557 : (Jvm.Cond.methodLink "GoatCourt" (277 : Nat) ({ cls := "GoatCourt$Clue", name := "isTrue", desc := "(LGoatCourt$Day;)Z" } : Jvm.MethodName)) ∈ lw_all := lw_g (lw_at lw_m6 191 rfl) rfl
theorem q1573 : (Jvm.Cond.instanceMethod ({ cls := "GoatCourt", name := "fits", desc := "()I" } : Jvm.MethodName)) ∈ lw_all := lw_g (lw_at lw_m6 207 rfl) rfl
theorem q1574 : (Jvm.Cond.selects "GoatCourt" ({ cls := "GoatCourt", name := "fits", desc := "()I" } : Jvm.MethodName) ({ cls := "GoatCourt", name := "fits", desc := "()I" } : Jvm.MethodName)) ∈ lw_all := lw_g (lw_at lw_m6 208 rfl) rfl
theorem q1575 : (Jvm.Cond.code ({ cls := "GoatCourt", name := "fits", desc := "()I" } : Jvm.MethodName) prog_1_method_42_code (1 : Nat) (Option.some Jvm.ClassFile.FieldType.int)) ∈ lw_all := lw_g (lw_at lw_m6 209 rfl) rfl
theorem q1576 : (Jvm.Cond.methodLink "GoatCourt" (296 : Nat) ({ cls := "GoatCourt", name := "layHeard", desc := "()V" } : Jvm.MethodName)) ∈ lw_all := lw_g (lw_at lw_m6 210 rfl) rfl
theorem q1577 : (Jvm.Cond.privateMethod ({ cls := "GoatCourt", name := "layHeard", desc := "()V" } : Jvm.MethodName)) ∈ lw_tbl := lw_at lw_m6 211 rfl
theorem q1578 : (Jvm.Cond.instanceMethod ({ cls := "GoatCourt", name := "layHeard", desc := "()V" } : Jvm.MethodName)) ∈ lw_all := lw_g (lw_at lw_m6 212 rfl) rfl
theorem q1579 : (Jvm.Cond.code ({ cls := "GoatCourt", name := "layHeard", desc := "()V" } : Jvm.MethodName) prog_1_method_41_code (1 : Nat) (Option.none : Option Jvm.ClassFile.FieldType)) ∈ lw_all := lw_g (lw_at lw_m6 213 rfl) rfl
theorem q1580 : (Jvm.Cond.methodLink "GoatCourt" (290 : Nat) ({ cls := "GoatCourt", name := "layTruth", desc := "()V" } : Jvm.MethodName)) ∈ lw_all := lw_g (lw_at lw_m6 214 rfl) rfl
theorem q1581 : (Jvm.Cond.privateMethod ({ cls := "GoatCourt", name := "layTruth", desc := "()V" } : Jvm.MethodName)) ∈ lw_tbl := lw_at lw_m6 215 rfl
theorem q1582 : (Jvm.Cond.instanceMethod ({ cls := "GoatCourt", name := "layTruth", desc := "()V" } : Jvm.MethodName)) ∈ lw_all := lw_g (lw_at lw_m6 216 rfl) rfl
theorem q1583 : (Jvm.Cond.code ({ cls := "GoatCourt", name := "layTruth", desc := "()V" } : Jvm.MethodName) prog_1_method_39_code (2 : Nat) (Option.none : Option Jvm.ClassFile.FieldType)) ∈ lw_all := lw_g (lw_at lw_m6 217 rfl) rfl
theorem q1584 : (Jvm.Cond.methodLink "GoatCourt" (281 : Nat) ({ cls := "GoatCourt$Day", name := "trueGoats", desc := "()I" } : Jvm.MethodName)) ∈ lw_all := lw_g (lw_at lw_m6 218 rfl) rfl
theorem q1593 : (Jvm.Cond.methodLink "GoatCourt" (293 : Nat) ({ cls := "GoatCourt", name := "layFits", desc := "(I)V" } : Jvm.MethodName)) ∈ lw_all := lw_g (lw_at lw_m6 227 rfl) rfl
theorem q1594 : (Jvm.Cond.privateMethod ({ cls := "GoatCourt", name := "layFits", desc := "(I)V" } : Jvm.MethodName)) ∈ lw_tbl := lw_at lw_m6 228 rfl
theorem q1595 : (Jvm.Cond.instanceMethod ({ cls := "GoatCourt", name := "layFits", desc := "(I)V" } : Jvm.MethodName)) ∈ lw_all := lw_g (lw_at lw_m6 229 rfl) rfl
theorem q1596 : (Jvm.Cond.code ({ cls := "GoatCourt", name := "layFits", desc := "(I)V" } : Jvm.MethodName) prog_1_method_40_code (4 : Nat) (Option.none : Option Jvm.ClassFile.FieldType)) ∈ lw_all := lw_g (lw_at lw_m6 230 rfl) rfl
theorem q1597 : (Jvm.Cond.methodLink "GoatCourt" (284 : Nat) ({ cls := "GoatCourt$Hill", name := "clueGoats", desc := "()I" } : Jvm.MethodName)) ∈ lw_all := lw_g (lw_at lw_m6 231 rfl) rfl
theorem q1599 : (Jvm.Cond.instanceMethod ({ cls := "GoatCourt", name := "fit", desc := "(I)I" } : Jvm.MethodName)) ∈ lw_all := lw_g (lw_at lw_m6 233 rfl) rfl
theorem q1600 : (Jvm.Cond.selects "GoatCourt" ({ cls := "GoatCourt", name := "fit", desc := "(I)I" } : Jvm.MethodName) ({ cls := "GoatCourt", name := "fit", desc := "(I)I" } : Jvm.MethodName)) ∈ lw_all := lw_g (lw_at lw_m6 234 rfl) rfl
theorem q1601 : (Jvm.Cond.code ({ cls := "GoatCourt", name := "fit", desc := "(I)I" } : Jvm.MethodName) prog_1_method_43_code (2 : Nat) (Option.some Jvm.ClassFile.FieldType.int)) ∈ lw_all := lw_g (lw_at lw_m6 235 rfl) rfl
theorem q1603 : (Jvm.Cond.instanceMethod ({ cls := "GoatCourt", name := "could", desc := "(II)I" } : Jvm.MethodName)) ∈ lw_all := lw_g (lw_at lw_m6 237 rfl) rfl
theorem q1604 : (Jvm.Cond.selects "GoatCourt" ({ cls := "GoatCourt", name := "could", desc := "(II)I" } : Jvm.MethodName) ({ cls := "GoatCourt", name := "could", desc := "(II)I" } : Jvm.MethodName)) ∈ lw_all := lw_g (lw_at lw_m6 238 rfl) rfl
theorem q1605 : (Jvm.Cond.code ({ cls := "GoatCourt", name := "could", desc := "(II)I" } : Jvm.MethodName) prog_1_method_46_code (4 : Nat) (Option.some Jvm.ClassFile.FieldType.int)) ∈ lw_all := lw_g (lw_at lw_m6 239 rfl) rfl
theorem q1606 : (Jvm.Cond.methodLink "GoatCourt" (299 : Nat) ({ cls := "GoatCourt", name := "hourWhy", desc := "(II)I" } : Jvm.MethodName)) ∈ lw_all := lw_g (lw_at lw_m7 0 rfl) rfl
theorem q1607 : (Jvm.Cond.privateMethod ({ cls := "GoatCourt", name := "hourWhy", desc := "(II)I" } : Jvm.MethodName)) ∈ lw_tbl := lw_at lw_m7 1 rfl
theorem q1608 : (Jvm.Cond.instanceMethod ({ cls := "GoatCourt", name := "hourWhy", desc := "(II)I" } : Jvm.MethodName)) ∈ lw_all := lw_g (lw_at lw_m7 2 rfl) rfl
theorem q1609 : (Jvm.Cond.code ({ cls := "GoatCourt", name := "hourWhy", desc := "(II)I" } : Jvm.MethodName) prog_1_method_45_code (3 : Nat) (Option.some Jvm.ClassFile.FieldType.int)) ∈ lw_all := lw_g (lw_at lw_m7 3 rfl) rfl
theorem q1610 : (Jvm.Cond.methodLink "GoatCourt" (302 : Nat) ({ cls := "GoatCourt", name := "couldBe", desc := "(II)I" } : Jvm.MethodName)) ∈ lw_all := lw_g (lw_at lw_m7 4 rfl) rfl
theorem q1611 : (Jvm.Cond.privateMethod ({ cls := "GoatCourt", name := "couldBe", desc := "(II)I" } : Jvm.MethodName)) ∈ lw_tbl := lw_at lw_m7 5 rfl
theorem q1612 : (Jvm.Cond.instanceMethod ({ cls := "GoatCourt", name := "couldBe", desc := "(II)I" } : Jvm.MethodName)) ∈ lw_all := lw_g (lw_at lw_m7 6 rfl) rfl
theorem q1613 : (Jvm.Cond.code ({ cls := "GoatCourt", name := "couldBe", desc := "(II)I" } : Jvm.MethodName) prog_1_method_44_code (6 : Nat) (Option.some Jvm.ClassFile.FieldType.int)) ∈ lw_all := lw_g (lw_at lw_m7 7 rfl) rfl
theorem q1615 : (Jvm.Cond.instanceMethod ({ cls := "GoatCourt", name := "surely", desc := "(II)I" } : Jvm.MethodName)) ∈ lw_all := lw_g (lw_at lw_m7 9 rfl) rfl
theorem q1616 : (Jvm.Cond.selects "GoatCourt" ({ cls := "GoatCourt", name := "surely", desc := "(II)I" } : Jvm.MethodName) ({ cls := "GoatCourt", name := "surely", desc := "(II)I" } : Jvm.MethodName)) ∈ lw_all := lw_g (lw_at lw_m7 10 rfl) rfl
theorem q1617 : (Jvm.Cond.code ({ cls := "GoatCourt", name := "surely", desc := "(II)I" } : Jvm.MethodName) prog_1_method_47_code (6 : Nat) (Option.some Jvm.ClassFile.FieldType.int)) ∈ lw_all := lw_g (lw_at lw_m7 11 rfl) rfl
theorem q1619 : (Jvm.Cond.instanceMethod ({ cls := "GoatCourt", name := "lies", desc := "(I)I" } : Jvm.MethodName)) ∈ lw_all := lw_g (lw_at lw_m7 13 rfl) rfl
theorem q1620 : (Jvm.Cond.selects "GoatCourt" ({ cls := "GoatCourt", name := "lies", desc := "(I)I" } : Jvm.MethodName) ({ cls := "GoatCourt", name := "lies", desc := "(I)I" } : Jvm.MethodName)) ∈ lw_all := lw_g (lw_at lw_m7 14 rfl) rfl
theorem q1621 : (Jvm.Cond.code ({ cls := "GoatCourt", name := "lies", desc := "(I)I" } : Jvm.MethodName) prog_1_method_48_code (4 : Nat) (Option.some Jvm.ClassFile.FieldType.int)) ∈ lw_all := lw_g (lw_at lw_m7 15 rfl) rfl
theorem q1623 : (Jvm.Cond.instanceMethod ({ cls := "GoatCourt", name := "falseOnes", desc := "()I" } : Jvm.MethodName)) ∈ lw_all := lw_g (lw_at lw_m7 17 rfl) rfl
theorem q1624 : (Jvm.Cond.selects "GoatCourt" ({ cls := "GoatCourt", name := "falseOnes", desc := "()I" } : Jvm.MethodName) ({ cls := "GoatCourt", name := "falseOnes", desc := "()I" } : Jvm.MethodName)) ∈ lw_all := lw_g (lw_at lw_m7 18 rfl) rfl
theorem q1625 : (Jvm.Cond.code ({ cls := "GoatCourt", name := "falseOnes", desc := "()I" } : Jvm.MethodName) prog_1_method_49_code (4 : Nat) (Option.some Jvm.ClassFile.FieldType.int)) ∈ lw_all := lw_g (lw_at lw_m7 19 rfl) rfl
theorem q1626 : (Jvm.Cond.methodLink "GoatCourt" (305 : Nat) ({ cls := "GoatCourt", name := "isFewer", desc := "(II)Z" } : Jvm.MethodName)) ∈ lw_all := lw_g (lw_at lw_m7 20 rfl) rfl
theorem q1627 : (Jvm.Cond.static ({ cls := "GoatCourt", name := "isFewer", desc := "(II)Z" } : Jvm.MethodName)) ∈ lw_all := lw_g (lw_at lw_m7 21 rfl) rfl
theorem q1628 : (Jvm.Cond.code ({ cls := "GoatCourt", name := "isFewer", desc := "(II)Z" } : Jvm.MethodName) prog_1_method_4_code (2 : Nat) (Option.some Jvm.ClassFile.FieldType.boolean)) ∈ lw_all := lw_g (lw_at lw_m7 22 rfl) rfl
theorem q1629 : (Jvm.Cond.methodLink "GoatCourt" (1 : Nat) ({ cls := "GoatCourt", name := "ones", desc := "(I)I" } : Jvm.MethodName)) ∈ lw_all := lw_g (lw_at lw_m7 23 rfl) rfl
theorem q1630 : (Jvm.Cond.static ({ cls := "GoatCourt", name := "ones", desc := "(I)I" } : Jvm.MethodName)) ∈ lw_all := lw_g (lw_at lw_m7 24 rfl) rfl
theorem q1631 : (Jvm.Cond.code ({ cls := "GoatCourt", name := "ones", desc := "(I)I" } : Jvm.MethodName) prog_1_method_3_code (3 : Nat) (Option.some Jvm.ClassFile.FieldType.int)) ∈ lw_all := lw_g (lw_at lw_m7 25 rfl) rfl
theorem q1633 : (Jvm.Cond.instanceMethod ({ cls := "GoatCourt", name := "odds", desc := "(I)I" } : Jvm.MethodName)) ∈ lw_all := lw_g (lw_at lw_m7 27 rfl) rfl
theorem q1634 : (Jvm.Cond.selects "GoatCourt" ({ cls := "GoatCourt", name := "odds", desc := "(I)I" } : Jvm.MethodName) ({ cls := "GoatCourt", name := "odds", desc := "(I)I" } : Jvm.MethodName)) ∈ lw_all := lw_g (lw_at lw_m7 28 rfl) rfl
theorem q1635 : (Jvm.Cond.code ({ cls := "GoatCourt", name := "odds", desc := "(I)I" } : Jvm.MethodName) prog_1_method_51_code (2 : Nat) (Option.some Jvm.ClassFile.FieldType.int)) ∈ lw_all := lw_g (lw_at lw_m7 29 rfl) rfl
theorem q1636 : (Jvm.Cond.methodLink "GoatCourt" (308 : Nat) ({ cls := "GoatCourt", name := "oddsOf", desc := "(I)I" } : Jvm.MethodName)) ∈ lw_all := lw_g (lw_at lw_m7 30 rfl) rfl
theorem q1637 : (Jvm.Cond.privateMethod ({ cls := "GoatCourt", name := "oddsOf", desc := "(I)I" } : Jvm.MethodName)) ∈ lw_tbl := lw_at lw_m7 31 rfl
theorem q1638 : (Jvm.Cond.instanceMethod ({ cls := "GoatCourt", name := "oddsOf", desc := "(I)I" } : Jvm.MethodName)) ∈ lw_all := lw_g (lw_at lw_m7 32 rfl) rfl
theorem q1639 : (Jvm.Cond.code ({ cls := "GoatCourt", name := "oddsOf", desc := "(I)I" } : Jvm.MethodName) prog_1_method_50_code (5 : Nat) (Option.some Jvm.ClassFile.FieldType.int)) ∈ lw_all := lw_g (lw_at lw_m7 33 rfl) rfl
theorem q1641 : (Jvm.Cond.instanceMethod ({ cls := "GoatCourt", name := "likeliest", desc := "()I" } : Jvm.MethodName)) ∈ lw_all := lw_g (lw_at lw_m7 35 rfl) rfl
theorem q1642 : (Jvm.Cond.selects "GoatCourt" ({ cls := "GoatCourt", name := "likeliest", desc := "()I" } : Jvm.MethodName) ({ cls := "GoatCourt", name := "likeliest", desc := "()I" } : Jvm.MethodName)) ∈ lw_all := lw_g (lw_at lw_m7 36 rfl) rfl
theorem q1643 : (Jvm.Cond.code ({ cls := "GoatCourt", name := "likeliest", desc := "()I" } : Jvm.MethodName) prog_1_method_52_code (3 : Nat) (Option.some Jvm.ClassFile.FieldType.int)) ∈ lw_all := lw_g (lw_at lw_m7 37 rfl) rfl
theorem q1645 : (Jvm.Cond.instanceMethod ({ cls := "GoatCourt", name := "proved", desc := "(III)I" } : Jvm.MethodName)) ∈ lw_all := lw_g (lw_at lw_m7 39 rfl) rfl
theorem q1646 : (Jvm.Cond.selects "GoatCourt" ({ cls := "GoatCourt", name := "proved", desc := "(III)I" } : Jvm.MethodName) ({ cls := "GoatCourt", name := "proved", desc := "(III)I" } : Jvm.MethodName)) ∈ lw_all := lw_g (lw_at lw_m7 40 rfl) rfl
theorem q1647 : (Jvm.Cond.code ({ cls := "GoatCourt", name := "proved", desc := "(III)I" } : Jvm.MethodName) prog_1_method_53_code (6 : Nat) (Option.some Jvm.ClassFile.FieldType.int)) ∈ lw_all := lw_g (lw_at lw_m7 41 rfl) rfl
theorem q1649 : (Jvm.Cond.instanceMethod ({ cls := "GoatCourt", name := "ask", desc := "()I" } : Jvm.MethodName)) ∈ lw_all := lw_g (lw_at lw_m7 43 rfl) rfl
theorem q1650 : (Jvm.Cond.selects "GoatCourt" ({ cls := "GoatCourt", name := "ask", desc := "()I" } : Jvm.MethodName) ({ cls := "GoatCourt", name := "ask", desc := "()I" } : Jvm.MethodName)) ∈ lw_all := lw_g (lw_at lw_m7 44 rfl) rfl
theorem q1651 : (Jvm.Cond.code ({ cls := "GoatCourt", name := "ask", desc := "()I" } : Jvm.MethodName) prog_1_method_56_code (2 : Nat) (Option.some Jvm.ClassFile.FieldType.int)) ∈ lw_all := lw_g (lw_at lw_m7 45 rfl) rfl
theorem q1652 : (Jvm.Cond.methodLink "GoatCourt" (326 : Nat) ({ cls := "GoatCourt", name := "askWhy", desc := "()I" } : Jvm.MethodName)) ∈ lw_all := lw_g (lw_at lw_m7 46 rfl) rfl
theorem q1653 : (Jvm.Cond.privateMethod ({ cls := "GoatCourt", name := "askWhy", desc := "()I" } : Jvm.MethodName)) ∈ lw_tbl := lw_at lw_m7 47 rfl
theorem q1654 : (Jvm.Cond.instanceMethod ({ cls := "GoatCourt", name := "askWhy", desc := "()I" } : Jvm.MethodName)) ∈ lw_all := lw_g (lw_at lw_m7 48 rfl) rfl
theorem q1655 : (Jvm.Cond.code ({ cls := "GoatCourt", name := "askWhy", desc := "()I" } : Jvm.MethodName) prog_1_method_54_code (3 : Nat) (Option.some Jvm.ClassFile.FieldType.int)) ∈ lw_all := lw_g (lw_at lw_m7 49 rfl) rfl
theorem q1656 : (Jvm.Cond.methodLink "GoatCourt" (314 : Nat) ({ cls := "GoatCourt", name := "tryAsk", desc := "(II)V" } : Jvm.MethodName)) ∈ lw_all := lw_g (lw_at lw_m7 50 rfl) rfl
theorem q1657 : (Jvm.Cond.privateMethod ({ cls := "GoatCourt", name := "tryAsk", desc := "(II)V" } : Jvm.MethodName)) ∈ lw_tbl := lw_at lw_m7 51 rfl
theorem q1658 : (Jvm.Cond.instanceMethod ({ cls := "GoatCourt", name := "tryAsk", desc := "(II)V" } : Jvm.MethodName)) ∈ lw_all := lw_g (lw_at lw_m7 52 rfl) rfl
theorem q1659 : (Jvm.Cond.code ({ cls := "GoatCourt", name := "tryAsk", desc := "(II)V" } : Jvm.MethodName) prog_1_method_55_code (5 : Nat) (Option.none : Option Jvm.ClassFile.FieldType)) ∈ lw_all := lw_g (lw_at lw_m7 53 rfl) rfl
theorem q1660 : (Jvm.Cond.methodLink "GoatCourt" (318 : Nat) ({ cls := "java/lang/Math", name := "max", desc := "(II)I" } : Jvm.MethodName)) ∈ lw_all := lw_g (lw_at lw_m7 54 rfl) rfl
theorem q1662 : (Jvm.Cond.instanceMethod ({ cls := "GoatCourt", name := "askMost", desc := "()I" } : Jvm.MethodName)) ∈ lw_all := lw_g (lw_at lw_m7 56 rfl) rfl
theorem q1663 : (Jvm.Cond.selects "GoatCourt" ({ cls := "GoatCourt", name := "askMost", desc := "()I" } : Jvm.MethodName) ({ cls := "GoatCourt", name := "askMost", desc := "()I" } : Jvm.MethodName)) ∈ lw_all := lw_g (lw_at lw_m7 57 rfl) rfl
theorem q1664 : (Jvm.Cond.code ({ cls := "GoatCourt", name := "askMost", desc := "()I" } : Jvm.MethodName) prog_1_method_57_code (2 : Nat) (Option.some Jvm.ClassFile.FieldType.int)) ∈ lw_all := lw_g (lw_at lw_m7 58 rfl) rfl
theorem q1666 : (Jvm.Cond.instanceMethod ({ cls := "GoatCourt", name := "led", desc := "(IIII)I" } : Jvm.MethodName)) ∈ lw_all := lw_g (lw_at lw_m7 60 rfl) rfl
theorem q1667 : (Jvm.Cond.selects "GoatCourt" ({ cls := "GoatCourt", name := "led", desc := "(IIII)I" } : Jvm.MethodName) ({ cls := "GoatCourt", name := "led", desc := "(IIII)I" } : Jvm.MethodName)) ∈ lw_all := lw_g (lw_at lw_m7 61 rfl) rfl
theorem q1668 : (Jvm.Cond.code ({ cls := "GoatCourt", name := "led", desc := "(IIII)I" } : Jvm.MethodName) prog_1_method_62_code (6 : Nat) (Option.some Jvm.ClassFile.FieldType.int)) ∈ lw_all := lw_g (lw_at lw_m7 62 rfl) rfl
theorem q1669 : (Jvm.Cond.methodLink "GoatCourt" (345 : Nat) ({ cls := "GoatCourt", name := "luredWhy", desc := "(IIII)I" } : Jvm.MethodName)) ∈ lw_all := lw_g (lw_at lw_m7 63 rfl) rfl
theorem q1670 : (Jvm.Cond.privateMethod ({ cls := "GoatCourt", name := "luredWhy", desc := "(IIII)I" } : Jvm.MethodName)) ∈ lw_tbl := lw_at lw_m7 64 rfl
theorem q1671 : (Jvm.Cond.instanceMethod ({ cls := "GoatCourt", name := "luredWhy", desc := "(IIII)I" } : Jvm.MethodName)) ∈ lw_all := lw_g (lw_at lw_m7 65 rfl) rfl
theorem q1672 : (Jvm.Cond.code ({ cls := "GoatCourt", name := "luredWhy", desc := "(IIII)I" } : Jvm.MethodName) prog_1_method_61_code (5 : Nat) (Option.some Jvm.ClassFile.FieldType.int)) ∈ lw_all := lw_g (lw_at lw_m7 66 rfl) rfl
theorem q1673 : (Jvm.Cond.methodLink "GoatCourt" (349 : Nat) ({ cls := "GoatCourt", name := "lured", desc := "(IIIIZ)I" } : Jvm.MethodName)) ∈ lw_all := lw_g (lw_at lw_m7 67 rfl) rfl
theorem q1674 : (Jvm.Cond.privateMethod ({ cls := "GoatCourt", name := "lured", desc := "(IIIIZ)I" } : Jvm.MethodName)) ∈ lw_tbl := lw_at lw_m7 68 rfl
theorem q1675 : (Jvm.Cond.instanceMethod ({ cls := "GoatCourt", name := "lured", desc := "(IIIIZ)I" } : Jvm.MethodName)) ∈ lw_all := lw_g (lw_at lw_m7 69 rfl) rfl
theorem q1676 : (Jvm.Cond.code ({ cls := "GoatCourt", name := "lured", desc := "(IIIIZ)I" } : Jvm.MethodName) prog_1_method_60_code (7 : Nat) (Option.some Jvm.ClassFile.FieldType.int)) ∈ lw_all := lw_g (lw_at lw_m7 70 rfl) rfl
theorem q1677 : (Jvm.Cond.methodLink "GoatCourt" (333 : Nat) ({ cls := "GoatCourt$Ground", name := "become", desc := "(LGoatCourt$Ground;)V" } : Jvm.MethodName)) ∈ lw_all := lw_g (lw_at lw_m7 71 rfl) rfl
theorem q1682 : (Jvm.Cond.methodLink "GoatCourt" (337 : Nat) ({ cls := "GoatCourt", name := "comes", desc := "(IIII)Z" } : Jvm.MethodName)) ∈ lw_all := lw_g (lw_at lw_m7 76 rfl) rfl
theorem q1683 : (Jvm.Cond.privateMethod ({ cls := "GoatCourt", name := "comes", desc := "(IIII)Z" } : Jvm.MethodName)) ∈ lw_tbl := lw_at lw_m7 77 rfl
theorem q1684 : (Jvm.Cond.instanceMethod ({ cls := "GoatCourt", name := "comes", desc := "(IIII)Z" } : Jvm.MethodName)) ∈ lw_all := lw_g (lw_at lw_m7 78 rfl) rfl
theorem q1685 : (Jvm.Cond.code ({ cls := "GoatCourt", name := "comes", desc := "(IIII)Z" } : Jvm.MethodName) prog_1_method_58_code (5 : Nat) (Option.some Jvm.ClassFile.FieldType.boolean)) ∈ lw_all := lw_g (lw_at lw_m7 79 rfl) rfl
theorem q1686 : (Jvm.Cond.methodLink "GoatCourt" (341 : Nat) ({ cls := "GoatCourt", name := "lure", desc := "(IZ)V" } : Jvm.MethodName)) ∈ lw_all := lw_g (lw_at lw_m7 80 rfl) rfl
theorem q1687 : (Jvm.Cond.privateMethod ({ cls := "GoatCourt", name := "lure", desc := "(IZ)V" } : Jvm.MethodName)) ∈ lw_tbl := lw_at lw_m7 81 rfl
theorem q1688 : (Jvm.Cond.instanceMethod ({ cls := "GoatCourt", name := "lure", desc := "(IZ)V" } : Jvm.MethodName)) ∈ lw_all := lw_g (lw_at lw_m7 82 rfl) rfl
theorem q1689 : (Jvm.Cond.code ({ cls := "GoatCourt", name := "lure", desc := "(IZ)V" } : Jvm.MethodName) prog_1_method_59_code (3 : Nat) (Option.none : Option Jvm.ClassFile.FieldType)) ∈ lw_all := lw_g (lw_at lw_m7 83 rfl) rfl
theorem q1690 : (Jvm.Cond.methodLink "GoatCourt" (329 : Nat) ({ cls := "GoatCourt$Ground", name := "add", desc := "(IIZ)V" } : Jvm.MethodName)) ∈ lw_all := lw_g (lw_at lw_m7 84 rfl) rfl
theorem q1695 : (Jvm.Cond.instanceMethod ({ cls := "GoatCourt", name := "ledAt", desc := "(IIIII)I" } : Jvm.MethodName)) ∈ lw_all := lw_g (lw_at lw_m7 89 rfl) rfl
theorem q1696 : (Jvm.Cond.selects "GoatCourt" ({ cls := "GoatCourt", name := "ledAt", desc := "(IIIII)I" } : Jvm.MethodName) ({ cls := "GoatCourt", name := "ledAt", desc := "(IIIII)I" } : Jvm.MethodName)) ∈ lw_all := lw_g (lw_at lw_m7 90 rfl) rfl
theorem q1697 : (Jvm.Cond.code ({ cls := "GoatCourt", name := "ledAt", desc := "(IIIII)I" } : Jvm.MethodName) prog_1_method_63_code (8 : Nat) (Option.some Jvm.ClassFile.FieldType.int)) ∈ lw_all := lw_g (lw_at lw_m7 91 rfl) rfl
theorem q1699 : (Jvm.Cond.instanceMethod ({ cls := "GoatCourt", name := "scared", desc := "(IIII)I" } : Jvm.MethodName)) ∈ lw_all := lw_g (lw_at lw_m7 93 rfl) rfl
theorem q1700 : (Jvm.Cond.selects "GoatCourt" ({ cls := "GoatCourt", name := "scared", desc := "(IIII)I" } : Jvm.MethodName) ({ cls := "GoatCourt", name := "scared", desc := "(IIII)I" } : Jvm.MethodName)) ∈ lw_all := lw_g (lw_at lw_m7 94 rfl) rfl
theorem q1701 : (Jvm.Cond.code ({ cls := "GoatCourt", name := "scared", desc := "(IIII)I" } : Jvm.MethodName) prog_1_method_64_code (6 : Nat) (Option.some Jvm.ClassFile.FieldType.int)) ∈ lw_all := lw_g (lw_at lw_m7 95 rfl) rfl
theorem q1703 : (Jvm.Cond.instanceMethod ({ cls := "GoatCourt", name := "follows", desc := "(I)I" } : Jvm.MethodName)) ∈ lw_all := lw_g (lw_at lw_m7 97 rfl) rfl
theorem q1704 : (Jvm.Cond.selects "GoatCourt" ({ cls := "GoatCourt", name := "follows", desc := "(I)I" } : Jvm.MethodName) ({ cls := "GoatCourt", name := "follows", desc := "(I)I" } : Jvm.MethodName)) ∈ lw_all := lw_g (lw_at lw_m7 98 rfl) rfl
theorem q1705 : (Jvm.Cond.code ({ cls := "GoatCourt", name := "follows", desc := "(I)I" } : Jvm.MethodName) prog_1_method_67_code (2 : Nat) (Option.some Jvm.ClassFile.FieldType.int)) ∈ lw_all := lw_g (lw_at lw_m7 99 rfl) rfl
theorem q1706 : (Jvm.Cond.methodLink "GoatCourt" (359 : Nat) ({ cls := "GoatCourt", name := "isFact", desc := "(I)Z" } : Jvm.MethodName)) ∈ lw_all := lw_g (lw_at lw_m7 100 rfl) rfl
theorem q1707 : (Jvm.Cond.privateMethod ({ cls := "GoatCourt", name := "isFact", desc := "(I)Z" } : Jvm.MethodName)) ∈ lw_tbl := lw_at lw_m7 101 rfl
theorem q1708 : (Jvm.Cond.instanceMethod ({ cls := "GoatCourt", name := "isFact", desc := "(I)Z" } : Jvm.MethodName)) ∈ lw_all := lw_g (lw_at lw_m7 102 rfl) rfl
theorem q1709 : (Jvm.Cond.code ({ cls := "GoatCourt", name := "isFact", desc := "(I)Z" } : Jvm.MethodName) prog_1_method_20_code (2 : Nat) (Option.some Jvm.ClassFile.FieldType.boolean)) ∈ lw_all := lw_g (lw_at lw_m7 103 rfl) rfl
theorem q1710 : (Jvm.Cond.methodLink "GoatCourt" (362 : Nat) ({ cls := "GoatCourt$Hill", name := "holding", desc := "()I" } : Jvm.MethodName)) ∈ lw_all := lw_g (lw_at lw_m7 104 rfl) rfl
theorem q1714 : (Jvm.Cond.methodLink "GoatCourt" (365 : Nat) ({ cls := "GoatCourt", name := "allRules", desc := "()I" } : Jvm.MethodName)) ∈ lw_all := lw_g (lw_at lw_m7 108 rfl) rfl
theorem q1715 : (Jvm.Cond.privateMethod ({ cls := "GoatCourt", name := "allRules", desc := "()I" } : Jvm.MethodName)) ∈ lw_tbl := lw_at lw_m7 109 rfl
theorem q1716 : (Jvm.Cond.instanceMethod ({ cls := "GoatCourt", name := "allRules", desc := "()I" } : Jvm.MethodName)) ∈ lw_all := lw_g (lw_at lw_m7 110 rfl) rfl
theorem q1717 : (Jvm.Cond.code ({ cls := "GoatCourt", name := "allRules", desc := "()I" } : Jvm.MethodName) prog_1_method_65_code (1 : Nat) (Option.some Jvm.ClassFile.FieldType.int)) ∈ lw_all := lw_g (lw_at lw_m7 111 rfl) rfl
theorem q1718 : (Jvm.Cond.methodLink "GoatCourt" (368 : Nat) ({ cls := "GoatCourt", name := "doesFollow", desc := "(III)Z" } : Jvm.MethodName)) ∈ lw_all := lw_g (lw_at lw_m7 112 rfl) rfl
theorem q1719 : (Jvm.Cond.privateMethod ({ cls := "GoatCourt", name := "doesFollow", desc := "(III)Z" } : Jvm.MethodName)) ∈ lw_tbl := lw_at lw_m7 113 rfl
theorem q1720 : (Jvm.Cond.instanceMethod ({ cls := "GoatCourt", name := "doesFollow", desc := "(III)Z" } : Jvm.MethodName)) ∈ lw_all := lw_g (lw_at lw_m7 114 rfl) rfl
theorem q1721 : (Jvm.Cond.code ({ cls := "GoatCourt", name := "doesFollow", desc := "(III)Z" } : Jvm.MethodName) prog_1_method_66_code (4 : Nat) (Option.some Jvm.ClassFile.FieldType.boolean)) ∈ lw_all := lw_g (lw_at lw_m7 115 rfl) rfl
theorem q1722 : (Jvm.Cond.methodLink "GoatCourt" (356 : Nat) ({ cls := "GoatCourt$Hill", name := "closure", desc := "(II)I" } : Jvm.MethodName)) ∈ lw_all := lw_g (lw_at lw_m7 116 rfl) rfl
theorem q1732 : (Jvm.Cond.instanceMethod ({ cls := "GoatCourt", name := "step", desc := "()I" } : Jvm.MethodName)) ∈ lw_all := lw_g (lw_at lw_m7 126 rfl) rfl
theorem q1733 : (Jvm.Cond.selects "GoatCourt" ({ cls := "GoatCourt", name := "step", desc := "()I" } : Jvm.MethodName) ({ cls := "GoatCourt", name := "step", desc := "()I" } : Jvm.MethodName)) ∈ lw_all := lw_g (lw_at lw_m7 127 rfl) rfl
theorem q1734 : (Jvm.Cond.code ({ cls := "GoatCourt", name := "step", desc := "()I" } : Jvm.MethodName) prog_1_method_69_code (3 : Nat) (Option.some Jvm.ClassFile.FieldType.int)) ∈ lw_all := lw_g (lw_at lw_m7 128 rfl) rfl
theorem q1735 : (Jvm.Cond.methodLink "GoatCourt" (399 : Nat) ({ cls := "GoatCourt", name := "isRight", desc := "(II)Z" } : Jvm.MethodName)) ∈ lw_all := lw_g (lw_at lw_m7 129 rfl) rfl
theorem q1736 : (Jvm.Cond.privateMethod ({ cls := "GoatCourt", name := "isRight", desc := "(II)Z" } : Jvm.MethodName)) ∈ lw_tbl := lw_at lw_m7 130 rfl
theorem q1737 : (Jvm.Cond.instanceMethod ({ cls := "GoatCourt", name := "isRight", desc := "(II)Z" } : Jvm.MethodName)) ∈ lw_all := lw_g (lw_at lw_m7 131 rfl) rfl
theorem q1738 : (Jvm.Cond.code ({ cls := "GoatCourt", name := "isRight", desc := "(II)Z" } : Jvm.MethodName) prog_1_method_68_code (5 : Nat) (Option.some Jvm.ClassFile.FieldType.boolean)) ∈ lw_all := lw_g (lw_at lw_m7 132 rfl) rfl
theorem q1739 : (Jvm.Cond.methodLink "GoatCourt" (390 : Nat) ({ cls := "GoatCourt$Rule", name := "follows", desc := "(I)Z" } : Jvm.MethodName)) ∈ lw_all := lw_g (lw_at lw_m7 133 rfl) rfl
theorem q1741 : (Jvm.Cond.instanceMethod ({ cls := "GoatCourt", name := "needs", desc := "(I)I" } : Jvm.MethodName)) ∈ lw_all := lw_g (lw_at lw_m7 135 rfl) rfl
theorem q1742 : (Jvm.Cond.selects "GoatCourt" ({ cls := "GoatCourt", name := "needs", desc := "(I)I" } : Jvm.MethodName) ({ cls := "GoatCourt", name := "needs", desc := "(I)I" } : Jvm.MethodName)) ∈ lw_all := lw_g (lw_at lw_m7 136 rfl) rfl
theorem q1743 : (Jvm.Cond.code ({ cls := "GoatCourt", name := "needs", desc := "(I)I" } : Jvm.MethodName) prog_1_method_70_code (4 : Nat) (Option.some Jvm.ClassFile.FieldType.int)) ∈ lw_all := lw_g (lw_at lw_m7 137 rfl) rfl
theorem q1745 : (Jvm.Cond.instanceMethod ({ cls := "GoatCourt", name := "enough", desc := "(I)I" } : Jvm.MethodName)) ∈ lw_all := lw_g (lw_at lw_m7 139 rfl) rfl
theorem q1746 : (Jvm.Cond.selects "GoatCourt" ({ cls := "GoatCourt", name := "enough", desc := "(I)I" } : Jvm.MethodName) ({ cls := "GoatCourt", name := "enough", desc := "(I)I" } : Jvm.MethodName)) ∈ lw_all := lw_g (lw_at lw_m7 140 rfl) rfl
theorem q1747 : (Jvm.Cond.code ({ cls := "GoatCourt", name := "enough", desc := "(I)I" } : Jvm.MethodName) prog_1_method_71_code (5 : Nat) (Option.some Jvm.ClassFile.FieldType.int)) ∈ lw_all := lw_g (lw_at lw_m7 141 rfl) rfl
theorem q1749 : (Jvm.Cond.instanceMethod ({ cls := "GoatCourt", name := "cheese", desc := "(I)I" } : Jvm.MethodName)) ∈ lw_all := lw_g (lw_at lw_m7 143 rfl) rfl
theorem q1750 : (Jvm.Cond.selects "GoatCourt" ({ cls := "GoatCourt", name := "cheese", desc := "(I)I" } : Jvm.MethodName) ({ cls := "GoatCourt", name := "cheese", desc := "(I)I" } : Jvm.MethodName)) ∈ lw_all := lw_g (lw_at lw_m7 144 rfl) rfl
theorem q1751 : (Jvm.Cond.code ({ cls := "GoatCourt", name := "cheese", desc := "(I)I" } : Jvm.MethodName) prog_1_method_74_code (5 : Nat) (Option.some Jvm.ClassFile.FieldType.int)) ∈ lw_all := lw_g (lw_at lw_m7 145 rfl) rfl
theorem q1752 : (Jvm.Cond.methodLink "GoatCourt" (408 : Nat) ({ cls := "GoatCourt", name := "cheeseWhy", desc := "(I)I" } : Jvm.MethodName)) ∈ lw_all := lw_g (lw_at lw_m7 146 rfl) rfl
theorem q1753 : (Jvm.Cond.privateMethod ({ cls := "GoatCourt", name := "cheeseWhy", desc := "(I)I" } : Jvm.MethodName)) ∈ lw_tbl := lw_at lw_m7 147 rfl
theorem q1754 : (Jvm.Cond.instanceMethod ({ cls := "GoatCourt", name := "cheeseWhy", desc := "(I)I" } : Jvm.MethodName)) ∈ lw_all := lw_g (lw_at lw_m7 148 rfl) rfl
theorem q1755 : (Jvm.Cond.code ({ cls := "GoatCourt", name := "cheeseWhy", desc := "(I)I" } : Jvm.MethodName) prog_1_method_72_code (2 : Nat) (Option.some Jvm.ClassFile.FieldType.int)) ∈ lw_all := lw_g (lw_at lw_m7 149 rfl) rfl
theorem q1756 : (Jvm.Cond.methodLink "GoatCourt" (411 : Nat) ({ cls := "GoatCourt", name := "isCheese", desc := "(I)Z" } : Jvm.MethodName)) ∈ lw_all := lw_g (lw_at lw_m7 150 rfl) rfl
theorem q1757 : (Jvm.Cond.privateMethod ({ cls := "GoatCourt", name := "isCheese", desc := "(I)Z" } : Jvm.MethodName)) ∈ lw_tbl := lw_at lw_m7 151 rfl
theorem q1758 : (Jvm.Cond.instanceMethod ({ cls := "GoatCourt", name := "isCheese", desc := "(I)Z" } : Jvm.MethodName)) ∈ lw_all := lw_g (lw_at lw_m7 152 rfl) rfl
theorem q1759 : (Jvm.Cond.code ({ cls := "GoatCourt", name := "isCheese", desc := "(I)Z" } : Jvm.MethodName) prog_1_method_73_code (6 : Nat) (Option.some Jvm.ClassFile.FieldType.boolean)) ∈ lw_all := lw_g (lw_at lw_m7 153 rfl) rfl
theorem q1761 : (Jvm.Cond.instanceMethod ({ cls := "GoatCourt", name := "cheeseOf", desc := "(I)I" } : Jvm.MethodName)) ∈ lw_all := lw_g (lw_at lw_m7 155 rfl) rfl
theorem q1762 : (Jvm.Cond.selects "GoatCourt" ({ cls := "GoatCourt", name := "cheeseOf", desc := "(I)I" } : Jvm.MethodName) ({ cls := "GoatCourt", name := "cheeseOf", desc := "(I)I" } : Jvm.MethodName)) ∈ lw_all := lw_g (lw_at lw_m7 156 rfl) rfl
theorem q1763 : (Jvm.Cond.code ({ cls := "GoatCourt", name := "cheeseOf", desc := "(I)I" } : Jvm.MethodName) prog_1_method_75_code (4 : Nat) (Option.some Jvm.ClassFile.FieldType.int)) ∈ lw_all := lw_g (lw_at lw_m7 157 rfl) rfl
theorem q1765 : (Jvm.Cond.instanceMethod ({ cls := "GoatCourt", name := "appeals", desc := "()J" } : Jvm.MethodName)) ∈ lw_all := lw_g (lw_at lw_m7 159 rfl) rfl
theorem q1766 : (Jvm.Cond.selects "GoatCourt" ({ cls := "GoatCourt", name := "appeals", desc := "()J" } : Jvm.MethodName) ({ cls := "GoatCourt", name := "appeals", desc := "()J" } : Jvm.MethodName)) ∈ lw_all := lw_g (lw_at lw_m7 160 rfl) rfl
theorem q1767 : (Jvm.Cond.code ({ cls := "GoatCourt", name := "appeals", desc := "()J" } : Jvm.MethodName) prog_1_method_76_code (1 : Nat) (Option.some Jvm.ClassFile.FieldType.long)) ∈ lw_all := lw_g (lw_at lw_m7 161 rfl) rfl
theorem q1768 : (Jvm.Cond.methodLink "GoatCourt" (414 : Nat) ({ cls := "GoatCourt$Orders", name := "lay", desc := "(LGoatCourt$Hill;)V" } : Jvm.MethodName)) ∈ lw_all := lw_g (lw_at lw_m7 162 rfl) rfl
theorem q1780 : (Jvm.Cond.methodLink "GoatCourt" (417 : Nat) ({ cls := "GoatCourt$Orders", name := "least", desc := "()J" } : Jvm.MethodName)) ∈ lw_all := lw_g (lw_at lw_m7 174 rfl) rfl
theorem q1785 : (Jvm.Cond.instanceMethod ({ cls := "GoatCourt", name := "appealAt", desc := "(I)I" } : Jvm.MethodName)) ∈ lw_all := lw_g (lw_at lw_m7 179 rfl) rfl
theorem q1786 : (Jvm.Cond.selects "GoatCourt" ({ cls := "GoatCourt", name := "appealAt", desc := "(I)I" } : Jvm.MethodName) ({ cls := "GoatCourt", name := "appealAt", desc := "(I)I" } : Jvm.MethodName)) ∈ lw_all := lw_g (lw_at lw_m7 180 rfl) rfl
theorem q1787 : (Jvm.Cond.code ({ cls := "GoatCourt", name := "appealAt", desc := "(I)I" } : Jvm.MethodName) prog_1_method_77_code (2 : Nat) (Option.some Jvm.ClassFile.FieldType.int)) ∈ lw_all := lw_g (lw_at lw_m7 181 rfl) rfl
theorem q1788 : (Jvm.Cond.methodLink "GoatCourt" (424 : Nat) ({ cls := "GoatCourt$Orders", name := "at", desc := "(I)I" } : Jvm.MethodName)) ∈ lw_all := lw_g (lw_at lw_m7 182 rfl) rfl
theorem q1793 : (Jvm.Cond.instanceMethod ({ cls := "GoatCourt", name := "salt", desc := "(IIZ)Z" } : Jvm.MethodName)) ∈ lw_all := lw_g (lw_at lw_m7 187 rfl) rfl
theorem q1794 : (Jvm.Cond.selects "GoatCourt" ({ cls := "GoatCourt", name := "salt", desc := "(IIZ)Z" } : Jvm.MethodName) ({ cls := "GoatCourt", name := "salt", desc := "(IIZ)Z" } : Jvm.MethodName)) ∈ lw_all := lw_g (lw_at lw_m7 188 rfl) rfl
theorem q1795 : (Jvm.Cond.code ({ cls := "GoatCourt", name := "salt", desc := "(IIZ)Z" } : Jvm.MethodName) prog_1_method_81_code (4 : Nat) (Option.some Jvm.ClassFile.FieldType.boolean)) ∈ lw_all := lw_g (lw_at lw_m7 189 rfl) rfl
theorem q1796 : (Jvm.Cond.methodLink "GoatCourt" (446 : Nat) ({ cls := "GoatCourt", name := "puts", desc := "(IIZZ)Z" } : Jvm.MethodName)) ∈ lw_all := lw_g (lw_at lw_m7 190 rfl) rfl
theorem q1797 : (Jvm.Cond.privateMethod ({ cls := "GoatCourt", name := "puts", desc := "(IIZZ)Z" } : Jvm.MethodName)) ∈ lw_tbl := lw_at lw_m7 191 rfl
theorem q1798 : (Jvm.Cond.instanceMethod ({ cls := "GoatCourt", name := "puts", desc := "(IIZZ)Z" } : Jvm.MethodName)) ∈ lw_all := lw_g (lw_at lw_m7 192 rfl) rfl
theorem q1799 : (Jvm.Cond.code ({ cls := "GoatCourt", name := "puts", desc := "(IIZZ)Z" } : Jvm.MethodName) prog_1_method_80_code (6 : Nat) (Option.some Jvm.ClassFile.FieldType.boolean)) ∈ lw_all := lw_g (lw_at lw_m7 193 rfl) rfl
theorem q1800 : (Jvm.Cond.methodLink "GoatCourt" (426 : Nat) ({ cls := "GoatCourt$Ground", name := "isPut", desc := "(IIZ)Z" } : Jvm.MethodName)) ∈ lw_all := lw_g (lw_at lw_m7 194 rfl) rfl
theorem q1801 : (Jvm.Cond.methodLink "GoatCourt" (430 : Nat) ({ cls := "GoatCourt$Ground", name := "many", desc := "(Z)I" } : Jvm.MethodName)) ∈ lw_all := lw_g (lw_at lw_m7 195 rfl) rfl
theorem q1806 : (Jvm.Cond.methodLink "GoatCourt" (433 : Nat) ({ cls := "GoatCourt", name := "yes", desc := "(I)Z" } : Jvm.MethodName)) ∈ lw_all := lw_g (lw_at lw_m7 200 rfl) rfl
theorem q1807 : (Jvm.Cond.privateMethod ({ cls := "GoatCourt", name := "yes", desc := "(I)Z" } : Jvm.MethodName)) ∈ lw_tbl := lw_at lw_m7 201 rfl
theorem q1808 : (Jvm.Cond.instanceMethod ({ cls := "GoatCourt", name := "yes", desc := "(I)Z" } : Jvm.MethodName)) ∈ lw_all := lw_g (lw_at lw_m7 202 rfl) rfl
theorem q1809 : (Jvm.Cond.code ({ cls := "GoatCourt", name := "yes", desc := "(I)Z" } : Jvm.MethodName) prog_1_method_8_code (2 : Nat) (Option.some Jvm.ClassFile.FieldType.boolean)) ∈ lw_all := lw_g (lw_at lw_m7 203 rfl) rfl
theorem q1810 : (Jvm.Cond.methodLink "GoatCourt" (436 : Nat) ({ cls := "GoatCourt", name := "note", desc := "()V" } : Jvm.MethodName)) ∈ lw_all := lw_g (lw_at lw_m7 204 rfl) rfl
theorem q1811 : (Jvm.Cond.privateMethod ({ cls := "GoatCourt", name := "note", desc := "()V" } : Jvm.MethodName)) ∈ lw_tbl := lw_at lw_m7 205 rfl
theorem q1812 : (Jvm.Cond.instanceMethod ({ cls := "GoatCourt", name := "note", desc := "()V" } : Jvm.MethodName)) ∈ lw_all := lw_g (lw_at lw_m7 206 rfl) rfl
theorem q1813 : (Jvm.Cond.code ({ cls := "GoatCourt", name := "note", desc := "()V" } : Jvm.MethodName) prog_1_method_78_code (1 : Nat) (Option.none : Option Jvm.ClassFile.FieldType)) ∈ lw_all := lw_g (lw_at lw_m7 207 rfl) rfl
theorem q1814 : (Jvm.Cond.methodLink "GoatCourt" (439 : Nat) ({ cls := "GoatCourt$Ground", name := "change", desc := "(IIZ)V" } : Jvm.MethodName)) ∈ lw_all := lw_g (lw_at lw_m7 208 rfl) rfl
theorem q1818 : (Jvm.Cond.methodLink "GoatCourt" (442 : Nat) ({ cls := "GoatCourt", name := "done", desc := "()Z" } : Jvm.MethodName)) ∈ lw_all := lw_g (lw_at lw_m7 212 rfl) rfl
theorem q1819 : (Jvm.Cond.privateMethod ({ cls := "GoatCourt", name := "done", desc := "()Z" } : Jvm.MethodName)) ∈ lw_tbl := lw_at lw_m7 213 rfl
theorem q1820 : (Jvm.Cond.instanceMethod ({ cls := "GoatCourt", name := "done", desc := "()Z" } : Jvm.MethodName)) ∈ lw_all := lw_g (lw_at lw_m7 214 rfl) rfl
theorem q1821 : (Jvm.Cond.code ({ cls := "GoatCourt", name := "done", desc := "()Z" } : Jvm.MethodName) prog_1_method_79_code (3 : Nat) (Option.some Jvm.ClassFile.FieldType.boolean)) ∈ lw_all := lw_g (lw_at lw_m7 215 rfl) rfl
theorem q1823 : (Jvm.Cond.instanceMethod ({ cls := "GoatCourt", name := "dog", desc := "(IIZ)Z" } : Jvm.MethodName)) ∈ lw_all := lw_g (lw_at lw_m7 217 rfl) rfl
theorem q1824 : (Jvm.Cond.selects "GoatCourt" ({ cls := "GoatCourt", name := "dog", desc := "(IIZ)Z" } : Jvm.MethodName) ({ cls := "GoatCourt", name := "dog", desc := "(IIZ)Z" } : Jvm.MethodName)) ∈ lw_all := lw_g (lw_at lw_m7 218 rfl) rfl
theorem q1825 : (Jvm.Cond.code ({ cls := "GoatCourt", name := "dog", desc := "(IIZ)Z" } : Jvm.MethodName) prog_1_method_82_code (4 : Nat) (Option.some Jvm.ClassFile.FieldType.boolean)) ∈ lw_all := lw_g (lw_at lw_m7 219 rfl) rfl
theorem q1827 : (Jvm.Cond.instanceMethod ({ cls := "GoatCourt", name := "hedge", desc := "(IZ)Z" } : Jvm.MethodName)) ∈ lw_all := lw_g (lw_at lw_m7 221 rfl) rfl
theorem q1828 : (Jvm.Cond.selects "GoatCourt" ({ cls := "GoatCourt", name := "hedge", desc := "(IZ)Z" } : Jvm.MethodName) ({ cls := "GoatCourt", name := "hedge", desc := "(IZ)Z" } : Jvm.MethodName)) ∈ lw_all := lw_g (lw_at lw_m7 222 rfl) rfl
theorem q1829 : (Jvm.Cond.code ({ cls := "GoatCourt", name := "hedge", desc := "(IZ)Z" } : Jvm.MethodName) prog_1_method_83_code (3 : Nat) (Option.some Jvm.ClassFile.FieldType.boolean)) ∈ lw_all := lw_g (lw_at lw_m7 223 rfl) rfl
theorem q1831 : (Jvm.Cond.instanceMethod ({ cls := "GoatCourt", name := "hear", desc := "(IZ)Z" } : Jvm.MethodName)) ∈ lw_all := lw_g (lw_at lw_m7 225 rfl) rfl
theorem q1832 : (Jvm.Cond.selects "GoatCourt" ({ cls := "GoatCourt", name := "hear", desc := "(IZ)Z" } : Jvm.MethodName) ({ cls := "GoatCourt", name := "hear", desc := "(IZ)Z" } : Jvm.MethodName)) ∈ lw_all := lw_g (lw_at lw_m7 226 rfl) rfl
theorem q1833 : (Jvm.Cond.code ({ cls := "GoatCourt", name := "hear", desc := "(IZ)Z" } : Jvm.MethodName) prog_1_method_84_code (3 : Nat) (Option.some Jvm.ClassFile.FieldType.boolean)) ∈ lw_all := lw_g (lw_at lw_m7 227 rfl) rfl
theorem q1835 : (Jvm.Cond.instanceMethod ({ cls := "GoatCourt", name := "undo", desc := "()Z" } : Jvm.MethodName)) ∈ lw_all := lw_g (lw_at lw_m7 229 rfl) rfl
theorem q1836 : (Jvm.Cond.selects "GoatCourt" ({ cls := "GoatCourt", name := "undo", desc := "()Z" } : Jvm.MethodName) ({ cls := "GoatCourt", name := "undo", desc := "()Z" } : Jvm.MethodName)) ∈ lw_all := lw_g (lw_at lw_m7 230 rfl) rfl
theorem q1837 : (Jvm.Cond.code ({ cls := "GoatCourt", name := "undo", desc := "()Z" } : Jvm.MethodName) prog_1_method_85_code (1 : Nat) (Option.some Jvm.ClassFile.FieldType.boolean)) ∈ lw_all := lw_g (lw_at lw_m7 231 rfl) rfl
theorem q1839 : (Jvm.Cond.instanceMethod ({ cls := "GoatCourt", name := "mark", desc := "()I" } : Jvm.MethodName)) ∈ lw_all := lw_g (lw_at lw_m7 233 rfl) rfl
theorem q1840 : (Jvm.Cond.selects "GoatCourt" ({ cls := "GoatCourt", name := "mark", desc := "()I" } : Jvm.MethodName) ({ cls := "GoatCourt", name := "mark", desc := "()I" } : Jvm.MethodName)) ∈ lw_all := lw_g (lw_at lw_m7 234 rfl) rfl
theorem q1841 : (Jvm.Cond.code ({ cls := "GoatCourt", name := "mark", desc := "()I" } : Jvm.MethodName) prog_1_method_86_code (1 : Nat) (Option.some Jvm.ClassFile.FieldType.int)) ∈ lw_all := lw_g (lw_at lw_m7 235 rfl) rfl
theorem q1843 : (Jvm.Cond.instanceMethod ({ cls := "GoatCourt", name := "back", desc := "(I)Z" } : Jvm.MethodName)) ∈ lw_all := lw_g (lw_at lw_m7 237 rfl) rfl
theorem q1844 : (Jvm.Cond.selects "GoatCourt" ({ cls := "GoatCourt", name := "back", desc := "(I)Z" } : Jvm.MethodName) ({ cls := "GoatCourt", name := "back", desc := "(I)Z" } : Jvm.MethodName)) ∈ lw_all := lw_g (lw_at lw_m7 238 rfl) rfl
theorem q1845 : (Jvm.Cond.code ({ cls := "GoatCourt", name := "back", desc := "(I)Z" } : Jvm.MethodName) prog_1_method_87_code (2 : Nat) (Option.some Jvm.ClassFile.FieldType.boolean)) ∈ lw_all := lw_g (lw_at lw_m7 239 rfl) rfl
theorem q1847 : (Jvm.Cond.instanceMethod ({ cls := "GoatCourt", name := "size", desc := "(I)I" } : Jvm.MethodName)) ∈ lw_all := lw_g (lw_at lw_m8 1 rfl) rfl
theorem q1848 : (Jvm.Cond.selects "GoatCourt" ({ cls := "GoatCourt", name := "size", desc := "(I)I" } : Jvm.MethodName) ({ cls := "GoatCourt", name := "size", desc := "(I)I" } : Jvm.MethodName)) ∈ lw_all := lw_g (lw_at lw_m8 2 rfl) rfl
theorem q1849 : (Jvm.Cond.code ({ cls := "GoatCourt", name := "size", desc := "(I)I" } : Jvm.MethodName) prog_1_method_89_code (2 : Nat) (Option.some Jvm.ClassFile.FieldType.int)) ∈ lw_all := lw_g (lw_at lw_m8 3 rfl) rfl
theorem q1851 : (Jvm.Cond.instanceMethod ({ cls := "GoatCourt", name := "trouble", desc := "()I" } : Jvm.MethodName)) ∈ lw_all := lw_g (lw_at lw_m8 5 rfl) rfl
theorem q1852 : (Jvm.Cond.selects "GoatCourt" ({ cls := "GoatCourt", name := "trouble", desc := "()I" } : Jvm.MethodName) ({ cls := "GoatCourt", name := "trouble", desc := "()I" } : Jvm.MethodName)) ∈ lw_all := lw_g (lw_at lw_m8 6 rfl) rfl
theorem q1853 : (Jvm.Cond.code ({ cls := "GoatCourt", name := "trouble", desc := "()I" } : Jvm.MethodName) prog_1_method_90_code (1 : Nat) (Option.some Jvm.ClassFile.FieldType.int)) ∈ lw_all := lw_g (lw_at lw_m8 7 rfl) rfl
theorem q1859 : (Jvm.Cond.instanceMethod ({ cls := "GoatCourt", name := "put", desc := "(IZ)I" } : Jvm.MethodName)) ∈ lw_all := lw_g (lw_at lw_m8 13 rfl) rfl
theorem q1860 : (Jvm.Cond.selects "GoatCourt" ({ cls := "GoatCourt", name := "put", desc := "(IZ)I" } : Jvm.MethodName) ({ cls := "GoatCourt", name := "put", desc := "(IZ)I" } : Jvm.MethodName)) ∈ lw_all := lw_g (lw_at lw_m8 14 rfl) rfl
theorem q1861 : (Jvm.Cond.code ({ cls := "GoatCourt", name := "put", desc := "(IZ)I" } : Jvm.MethodName) prog_1_method_88_code (5 : Nat) (Option.some Jvm.ClassFile.FieldType.int)) ∈ lw_all := lw_g (lw_at lw_m8 15 rfl) rfl
theorem q1862 : (Jvm.Cond.classLink "GoatCourt" (456 : Nat) "java/util/NoSuchElementException") ∈ lw_all := lw_g (lw_at lw_m8 16 rfl) rfl
theorem q1871 : (Jvm.Cond.methodLink "GoatCourt" (458 : Nat) ({ cls := "java/util/NoSuchElementException", name := "<init>", desc := "()V" } : Jvm.MethodName)) ∈ lw_all := lw_g (lw_at lw_m8 25 rfl) rfl
theorem q2788 : (Jvm.Cond.castable "GoatCourt" "java/lang/Object") ∈ lw_tbl := lw_at lw_m11 222 rfl
theorem in_X1 : ∀ w ∈ wsX10, w ∈ lw_all := lw_in wsX10 [425, 427, 429, 431, 433, 435, 437, 439, 441, 443, 445, 447, 449, 451, 453, 455, 457, 459, 461, 463, 465, 467, 469] (by decide +kernel) (by decide +kernel)
/-! GoatCourt$Place -/
def RX10 : String := "GoatCourt$Place"
def TX10 : u_T := fun k => match k with
  | 0 => ("GoatCourt$Named", "name", "Ljava/lang/String;", true)
  | 1 => ("GoatCourt$Named", "number", "I", true)
  | 2 => ("GoatCourt$Place", "plants", "[I", true)
  | _ => ("GoatCourt$Place", "near", "I", false)
def tyX10 : Nat → FieldType := fun k => match k with
  | 0 => .object "java/lang/String"
  | 1 => .int
  | 2 => .array .int
  | _ => .int
abbrev wsX100 : List Cond := u_ws RX10 TX10 4
theorem nmX10 : ∀ a, a < 4 → ∀ b, b < 4 → a ≠ b → (TX10 a).2.1 ≠ (TX10 b).2.1 := by decide +kernel
theorem tyX10_ok : ∀ k, k < 4 → parseFieldDescriptor (TX10 k).2.2.1 = some (tyX10 k) := by decide +kernel
abbrev cX10_init : ByteArray := prog_15_method_1_code
def yX10_init : MethodName := ⟨RX10, "<init>", "(Ljava/lang/String;I)V"⟩

theorem q184 : (Jvm.Cond.initialized "GoatCourt$Place") ∈ lw_all := lw_g (lw_at lw_m1 18 rfl) rfl
theorem q858 : (Jvm.Cond.instantiable "GoatCourt$Place" (4 : Nat)) ∈ lw_all := lw_g (lw_at lw_m3 212 rfl) rfl
theorem q877 : (Jvm.Cond.instanceMethod ({ cls := "GoatCourt$Place", name := "<init>", desc := "(Ljava/lang/String;I)V" } : Jvm.MethodName)) ∈ lw_all := lw_g (lw_at lw_m3 231 rfl) rfl
theorem q878 : (Jvm.Cond.code ({ cls := "GoatCourt$Place", name := "<init>", desc := "(Ljava/lang/String;I)V" } : Jvm.MethodName) prog_15_method_1_code (3 : Nat) (Option.none : Option Jvm.ClassFile.FieldType)) ∈ lw_all := lw_g (lw_at lw_m3 232 rfl) rfl
theorem q879 : (Jvm.Cond.methodLink "GoatCourt$Place" (3 : Nat) ({ cls := "GoatCourt$Named", name := "<init>", desc := "(Ljava/lang/String;I)V" } : Jvm.MethodName)) ∈ lw_all := lw_g (lw_at lw_m3 233 rfl) rfl
theorem q883 : (Jvm.Cond.fieldLink "GoatCourt$Place" (9 : Nat) "GoatCourt$Place" "plants" "[I") ∈ lw_all := lw_g (lw_at lw_m3 237 rfl) rfl
theorem q896 : (Jvm.Cond.sameField "GoatCourt$Place" "GoatCourt$Named" "number" "I") ∈ lw_all := lw_g (lw_at lw_m4 10 rfl) rfl
theorem q902 : (Jvm.Cond.laysFinal "GoatCourt$Place" "GoatCourt$Place" "plants" "[I") ∈ lw_all := lw_g (lw_at lw_m4 16 rfl) rfl
theorem q903 : (Jvm.Cond.soleField "GoatCourt$Place" "plants") ∈ lw_all := lw_g (lw_at lw_m4 17 rfl) rfl
theorem q904 : (Jvm.Cond.lays "GoatCourt$Place" "GoatCourt$Place" "near" "I") ∈ lw_all := lw_g (lw_at lw_m4 18 rfl) rfl
theorem q905 : (Jvm.Cond.soleField "GoatCourt$Place" "near") ∈ lw_all := lw_g (lw_at lw_m4 19 rfl) rfl
theorem q906 : (Jvm.Cond.laysFinal "GoatCourt$Place" "GoatCourt$Named" "name" "Ljava/lang/String;") ∈ lw_all := lw_g (lw_at lw_m4 20 rfl) rfl
theorem q908 : (Jvm.Cond.laysFinal "GoatCourt$Place" "GoatCourt$Named" "number" "I") ∈ lw_all := lw_g (lw_at lw_m4 22 rfl) rfl
theorem q910 : (Jvm.Cond.superclass "GoatCourt$Place" "GoatCourt$Named") ∈ lw_all := lw_g (lw_at lw_m4 24 rfl) rfl
theorem q2798 : (Jvm.Cond.castable "GoatCourt$Place" "java/lang/Object") ∈ lw_tbl := lw_at lw_m11 232 rfl
theorem in_X10 : ∀ w ∈ wsX100, w ∈ lw_all := lw_in wsX100 [906, 908, 902, 904] (by decide +kernel) (by decide +kernel)
/-! GoatCourt$Person -/
def RX11 : String := "GoatCourt$Person"
def TX11 : u_T := fun k => match k with
  | 0 => ("GoatCourt$Named", "name", "Ljava/lang/String;", true)
  | 1 => ("GoatCourt$Named", "number", "I", true)
  | 2 => ("GoatCourt$Person", "stories", "[I", true)
  | 3 => ("GoatCourt$Person", "sizes", "[I", true)
  | _ => ("GoatCourt$Person", "many", "I", false)
def tyX11 : Nat → FieldType := fun k => match k with
  | 0 => .object "java/lang/String"
  | 1 => .int
  | 2 => .array .int
  | 3 => .array .int
  | _ => .int
abbrev wsX110 : List Cond := u_ws RX11 TX11 5
theorem nmX11 : ∀ a, a < 5 → ∀ b, b < 5 → a ≠ b → (TX11 a).2.1 ≠ (TX11 b).2.1 := by decide +kernel
theorem tyX11_ok : ∀ k, k < 5 → parseFieldDescriptor (TX11 k).2.2.1 = some (tyX11 k) := by decide +kernel
abbrev cX11_init : ByteArray := prog_14_method_1_code
def yX11_init : MethodName := ⟨RX11, "<init>", "(Ljava/lang/String;I)V"⟩
abbrev cX11_begin : ByteArray := prog_14_method_2_code
def yX11_begin : MethodName := ⟨RX11, "begin", "()V"⟩
abbrev cX11_size : ByteArray := prog_14_method_3_code
def yX11_size : MethodName := ⟨RX11, "size", "()I"⟩
abbrev cX11_add : ByteArray := prog_14_method_4_code
def yX11_add : MethodName := ⟨RX11, "add", "(I)V"⟩
abbrev cX11_at : ByteArray := prog_14_method_5_code
def yX11_at : MethodName := ⟨RX11, "at", "(II)I"⟩

theorem q185 : (Jvm.Cond.initialized "GoatCourt$Person") ∈ lw_all := lw_g (lw_at lw_m1 19 rfl) rfl
theorem q898 : (Jvm.Cond.sameField "GoatCourt$Person" "GoatCourt$Named" "number" "I") ∈ lw_all := lw_g (lw_at lw_m4 12 rfl) rfl
theorem q944 : (Jvm.Cond.instantiable "GoatCourt$Person" (5 : Nat)) ∈ lw_all := lw_g (lw_at lw_m4 58 rfl) rfl
theorem q946 : (Jvm.Cond.instanceMethod ({ cls := "GoatCourt$Person", name := "<init>", desc := "(Ljava/lang/String;I)V" } : Jvm.MethodName)) ∈ lw_all := lw_g (lw_at lw_m4 60 rfl) rfl
theorem q947 : (Jvm.Cond.code ({ cls := "GoatCourt$Person", name := "<init>", desc := "(Ljava/lang/String;I)V" } : Jvm.MethodName) prog_14_method_1_code (3 : Nat) (Option.none : Option Jvm.ClassFile.FieldType)) ∈ lw_all := lw_g (lw_at lw_m4 61 rfl) rfl
theorem q948 : (Jvm.Cond.methodLink "GoatCourt$Person" (3 : Nat) ({ cls := "GoatCourt$Named", name := "<init>", desc := "(Ljava/lang/String;I)V" } : Jvm.MethodName)) ∈ lw_all := lw_g (lw_at lw_m4 62 rfl) rfl
theorem q949 : (Jvm.Cond.fieldLink "GoatCourt$Person" (9 : Nat) "GoatCourt$Person" "stories" "[I") ∈ lw_all := lw_g (lw_at lw_m4 63 rfl) rfl
theorem q950 : (Jvm.Cond.fieldLink "GoatCourt$Person" (15 : Nat) "GoatCourt$Person" "sizes" "[I") ∈ lw_all := lw_g (lw_at lw_m4 64 rfl) rfl
theorem q951 : (Jvm.Cond.fieldLink "GoatCourt$Person" (18 : Nat) "GoatCourt$Person" "many" "I") ∈ lw_all := lw_g (lw_at lw_m4 65 rfl) rfl
theorem q955 : (Jvm.Cond.laysFinal "GoatCourt$Person" "GoatCourt$Person" "stories" "[I") ∈ lw_all := lw_g (lw_at lw_m4 69 rfl) rfl
theorem q956 : (Jvm.Cond.soleField "GoatCourt$Person" "stories") ∈ lw_all := lw_g (lw_at lw_m4 70 rfl) rfl
theorem q957 : (Jvm.Cond.laysFinal "GoatCourt$Person" "GoatCourt$Person" "sizes" "[I") ∈ lw_all := lw_g (lw_at lw_m4 71 rfl) rfl
theorem q958 : (Jvm.Cond.soleField "GoatCourt$Person" "sizes") ∈ lw_all := lw_g (lw_at lw_m4 72 rfl) rfl
theorem q959 : (Jvm.Cond.lays "GoatCourt$Person" "GoatCourt$Person" "many" "I") ∈ lw_all := lw_g (lw_at lw_m4 73 rfl) rfl
theorem q960 : (Jvm.Cond.soleField "GoatCourt$Person" "many") ∈ lw_all := lw_g (lw_at lw_m4 74 rfl) rfl
theorem q961 : (Jvm.Cond.laysFinal "GoatCourt$Person" "GoatCourt$Named" "name" "Ljava/lang/String;") ∈ lw_all := lw_g (lw_at lw_m4 75 rfl) rfl
theorem q962 : (Jvm.Cond.laysFinal "GoatCourt$Person" "GoatCourt$Named" "number" "I") ∈ lw_all := lw_g (lw_at lw_m4 76 rfl) rfl
theorem q963 : (Jvm.Cond.superclass "GoatCourt$Person" "GoatCourt$Named") ∈ lw_all := lw_g (lw_at lw_m4 77 rfl) rfl
theorem q973 : (Jvm.Cond.instanceMethod ({ cls := "GoatCourt$Person", name := "begin", desc := "()V" } : Jvm.MethodName)) ∈ lw_all := lw_g (lw_at lw_m4 87 rfl) rfl
theorem q974 : (Jvm.Cond.selects "GoatCourt$Person" ({ cls := "GoatCourt$Person", name := "begin", desc := "()V" } : Jvm.MethodName) ({ cls := "GoatCourt$Person", name := "begin", desc := "()V" } : Jvm.MethodName)) ∈ lw_all := lw_g (lw_at lw_m4 88 rfl) rfl
theorem q975 : (Jvm.Cond.code ({ cls := "GoatCourt$Person", name := "begin", desc := "()V" } : Jvm.MethodName) prog_14_method_2_code (1 : Nat) (Option.none : Option Jvm.ClassFile.FieldType)) ∈ lw_all := lw_g (lw_at lw_m4 89 rfl) rfl
theorem q977 : (Jvm.Cond.instanceMethod ({ cls := "GoatCourt$Person", name := "size", desc := "()I" } : Jvm.MethodName)) ∈ lw_all := lw_g (lw_at lw_m4 91 rfl) rfl
theorem q978 : (Jvm.Cond.selects "GoatCourt$Person" ({ cls := "GoatCourt$Person", name := "size", desc := "()I" } : Jvm.MethodName) ({ cls := "GoatCourt$Person", name := "size", desc := "()I" } : Jvm.MethodName)) ∈ lw_all := lw_g (lw_at lw_m4 92 rfl) rfl
theorem q979 : (Jvm.Cond.code ({ cls := "GoatCourt$Person", name := "size", desc := "()I" } : Jvm.MethodName) prog_14_method_3_code (1 : Nat) (Option.some Jvm.ClassFile.FieldType.int)) ∈ lw_all := lw_g (lw_at lw_m4 93 rfl) rfl
theorem q981 : (Jvm.Cond.instanceMethod ({ cls := "GoatCourt$Person", name := "add", desc := "(I)V" } : Jvm.MethodName)) ∈ lw_all := lw_g (lw_at lw_m4 95 rfl) rfl
theorem q982 : (Jvm.Cond.selects "GoatCourt$Person" ({ cls := "GoatCourt$Person", name := "add", desc := "(I)V" } : Jvm.MethodName) ({ cls := "GoatCourt$Person", name := "add", desc := "(I)V" } : Jvm.MethodName)) ∈ lw_all := lw_g (lw_at lw_m4 96 rfl) rfl
theorem q983 : (Jvm.Cond.code ({ cls := "GoatCourt$Person", name := "add", desc := "(I)V" } : Jvm.MethodName) prog_14_method_4_code (2 : Nat) (Option.none : Option Jvm.ClassFile.FieldType)) ∈ lw_all := lw_g (lw_at lw_m4 97 rfl) rfl
theorem q1402 : (Jvm.Cond.instanceMethod ({ cls := "GoatCourt$Person", name := "at", desc := "(II)I" } : Jvm.MethodName)) ∈ lw_all := lw_g (lw_at lw_m6 36 rfl) rfl
theorem q1403 : (Jvm.Cond.selects "GoatCourt$Person" ({ cls := "GoatCourt$Person", name := "at", desc := "(II)I" } : Jvm.MethodName) ({ cls := "GoatCourt$Person", name := "at", desc := "(II)I" } : Jvm.MethodName)) ∈ lw_all := lw_g (lw_at lw_m6 37 rfl) rfl
theorem q1404 : (Jvm.Cond.code ({ cls := "GoatCourt$Person", name := "at", desc := "(II)I" } : Jvm.MethodName) prog_14_method_5_code (3 : Nat) (Option.some Jvm.ClassFile.FieldType.int)) ∈ lw_all := lw_g (lw_at lw_m6 38 rfl) rfl
theorem q1405 : (Jvm.Cond.methodLink "GoatCourt$Person" (22 : Nat) ({ cls := "java/lang/Math", name := "min", desc := "(II)I" } : Jvm.MethodName)) ∈ lw_all := lw_g (lw_at lw_m6 39 rfl) rfl
theorem q2799 : (Jvm.Cond.castable "GoatCourt$Person" "java/lang/Object") ∈ lw_tbl := lw_at lw_m11 233 rfl
theorem in_X11 : ∀ w ∈ wsX110, w ∈ lw_all := lw_in wsX110 [961, 962, 955, 957, 959] (by decide +kernel) (by decide +kernel)
/-! GoatCourt$Goat -/
def RX12 : String := "GoatCourt$Goat"
abbrev cX12_init : ByteArray := prog_8_method_1_code
def yX12_init : MethodName := ⟨RX12, "<init>", "(Ljava/lang/String;I)V"⟩
abbrev cX12_mother : ByteArray := prog_8_method_5_code
def yX12_mother : MethodName := ⟨RX12, "mother", "()LGoatCourt$Goat;"⟩
abbrev cX12_fearsAt : ByteArray := prog_8_method_3_code
def yX12_fearsAt : MethodName := ⟨RX12, "fearsAt", "(IZ)Z"⟩
abbrev cX12_rank : ByteArray := prog_8_method_6_code
def yX12_rank : MethodName := ⟨RX12, "rank", "([II)I"⟩
abbrev cX12_bites : ByteArray := prog_8_method_4_code
def yX12_bites : MethodName := ⟨RX12, "bites", "()I"⟩

theorem q186 : (Jvm.Cond.initialized "GoatCourt$Goat") ∈ lw_all := lw_g (lw_at lw_m1 20 rfl) rfl
theorem q893 : (Jvm.Cond.sameField "GoatCourt$Goat" "GoatCourt$Named" "number" "I") ∈ lw_all := lw_g (lw_at lw_m4 7 rfl) rfl
theorem q999 : (Jvm.Cond.instanceMethod ({ cls := "GoatCourt$Goat", name := "<init>", desc := "(Ljava/lang/String;I)V" } : Jvm.MethodName)) ∈ lw_all := lw_g (lw_at lw_m4 113 rfl) rfl
theorem q1000 : (Jvm.Cond.code ({ cls := "GoatCourt$Goat", name := "<init>", desc := "(Ljava/lang/String;I)V" } : Jvm.MethodName) prog_8_method_1_code (3 : Nat) (Option.none : Option Jvm.ClassFile.FieldType)) ∈ lw_all := lw_g (lw_at lw_m4 114 rfl) rfl
theorem q1001 : (Jvm.Cond.methodLink "GoatCourt$Goat" (3 : Nat) ({ cls := "GoatCourt$Named", name := "<init>", desc := "(Ljava/lang/String;I)V" } : Jvm.MethodName)) ∈ lw_all := lw_g (lw_at lw_m4 115 rfl) rfl
theorem q1002 : (Jvm.Cond.fieldLink "GoatCourt$Goat" (9 : Nat) "GoatCourt$Goat" "order" "[I") ∈ lw_all := lw_g (lw_at lw_m4 116 rfl) rfl
theorem q1006 : (Jvm.Cond.fieldLink "GoatCourt$Goat" (19 : Nat) "GoatCourt$Goat" "likes" "I") ∈ lw_all := lw_g (lw_at lw_m4 120 rfl) rfl
theorem q1014 : (Jvm.Cond.fieldLink "GoatCourt$Goat" (15 : Nat) "GoatCourt$Goat" "fears" "I") ∈ lw_all := lw_g (lw_at lw_m4 128 rfl) rfl
theorem q1018 : (Jvm.Cond.soleField "GoatCourt$Goat" "order") ∈ lw_all := lw_g (lw_at lw_m4 132 rfl) rfl
theorem q1020 : (Jvm.Cond.soleField "GoatCourt$Goat" "likes") ∈ lw_all := lw_g (lw_at lw_m4 134 rfl) rfl
theorem q1022 : (Jvm.Cond.soleField "GoatCourt$Goat" "begins") ∈ lw_all := lw_g (lw_at lw_m4 136 rfl) rfl
theorem q1024 : (Jvm.Cond.soleField "GoatCourt$Goat" "trust") ∈ lw_all := lw_g (lw_at lw_m4 138 rfl) rfl
theorem q1026 : (Jvm.Cond.soleField "GoatCourt$Goat" "fears") ∈ lw_all := lw_g (lw_at lw_m4 140 rfl) rfl
theorem q1336 : (Jvm.Cond.declares ({ cls := "GoatCourt$Goat", name := "kind", desc := "()I" } : Jvm.MethodName)) ∈ lw_tbl := lw_at lw_m5 210 rfl
theorem q1337 : (Jvm.Cond.sameMethod "GoatCourt$Goat" "GoatCourt$Goat" "kind" "()I") ∈ lw_all := lw_g (lw_at lw_m5 211 rfl) rfl
theorem q1351 : (Jvm.Cond.instanceMethod ({ cls := "GoatCourt$Goat", name := "mother", desc := "()LGoatCourt$Goat;" } : Jvm.MethodName)) ∈ lw_all := lw_g (lw_at lw_m5 225 rfl) rfl
theorem q1352 : (Jvm.Cond.sameMethod "GoatCourt$Goat" "GoatCourt$Goat" "mother" "()LGoatCourt$Goat;") ∈ lw_all := lw_g (lw_at lw_m5 226 rfl) rfl
theorem q1359 : (Jvm.Cond.code ({ cls := "GoatCourt$Goat", name := "mother", desc := "()LGoatCourt$Goat;" } : Jvm.MethodName) prog_8_method_5_code (1 : Nat) (Option.some (Jvm.ClassFile.FieldType.object "GoatCourt$Goat"))) ∈ lw_all := lw_g (lw_at lw_m5 233 rfl) rfl
theorem q1474 : (Jvm.Cond.instanceMethod ({ cls := "GoatCourt$Goat", name := "fearsAt", desc := "(IZ)Z" } : Jvm.MethodName)) ∈ lw_all := lw_g (lw_at lw_m6 108 rfl) rfl
theorem q1475 : (Jvm.Cond.sameMethod "GoatCourt$Goat" "GoatCourt$Goat" "fearsAt" "(IZ)Z") ∈ lw_all := lw_g (lw_at lw_m6 109 rfl) rfl
theorem q1484 : (Jvm.Cond.code ({ cls := "GoatCourt$Goat", name := "fearsAt", desc := "(IZ)Z" } : Jvm.MethodName) prog_8_method_3_code (3 : Nat) (Option.some Jvm.ClassFile.FieldType.boolean)) ∈ lw_all := lw_g (lw_at lw_m6 118 rfl) rfl
theorem q1490 : (Jvm.Cond.instanceMethod ({ cls := "GoatCourt$Goat", name := "rank", desc := "([II)I" } : Jvm.MethodName)) ∈ lw_all := lw_g (lw_at lw_m6 124 rfl) rfl
theorem q1491 : (Jvm.Cond.sameMethod "GoatCourt$Goat" "GoatCourt$Goat" "rank" "([II)I") ∈ lw_all := lw_g (lw_at lw_m6 125 rfl) rfl
theorem q1496 : (Jvm.Cond.code ({ cls := "GoatCourt$Goat", name := "rank", desc := "([II)I" } : Jvm.MethodName) prog_8_method_6_code (4 : Nat) (Option.some Jvm.ClassFile.FieldType.int)) ∈ lw_all := lw_g (lw_at lw_m6 130 rfl) rfl
theorem q1502 : (Jvm.Cond.instanceMethod ({ cls := "GoatCourt$Goat", name := "bites", desc := "()I" } : Jvm.MethodName)) ∈ lw_all := lw_g (lw_at lw_m6 136 rfl) rfl
theorem q1503 : (Jvm.Cond.sameMethod "GoatCourt$Goat" "GoatCourt$Goat" "bites" "()I") ∈ lw_all := lw_g (lw_at lw_m6 137 rfl) rfl
theorem q1510 : (Jvm.Cond.code ({ cls := "GoatCourt$Goat", name := "bites", desc := "()I" } : Jvm.MethodName) prog_8_method_4_code (1 : Nat) (Option.some Jvm.ClassFile.FieldType.int)) ∈ lw_all := lw_g (lw_at lw_m6 144 rfl) rfl
/-! GoatCourt$Plain -/
def RX13 : String := "GoatCourt$Plain"
def TX13 : u_T := fun k => match k with
  | 0 => ("GoatCourt$Goat", "order", "[I", true)
  | 1 => ("GoatCourt$Goat", "likes", "I", false)
  | 2 => ("GoatCourt$Goat", "begins", "I", false)
  | 3 => ("GoatCourt$Goat", "trust", "I", false)
  | 4 => ("GoatCourt$Goat", "fears", "I", false)
  | 5 => ("GoatCourt$Named", "name", "Ljava/lang/String;", true)
  | _ => ("GoatCourt$Named", "number", "I", true)
def tyX13 : Nat → FieldType := fun k => match k with
  | 0 => .array .int
  | 1 => .int
  | 2 => .int
  | 3 => .int
  | 4 => .int
  | 5 => .object "java/lang/String"
  | _ => .int
abbrev wsX130 : List Cond := u_ws RX13 TX13 7
theorem nmX13 : ∀ a, a < 7 → ∀ b, b < 7 → a ≠ b → (TX13 a).2.1 ≠ (TX13 b).2.1 := by decide +kernel
theorem tyX13_ok : ∀ k, k < 7 → parseFieldDescriptor (TX13 k).2.2.1 = some (tyX13 k) := by decide +kernel
abbrev cX13_init : ByteArray := prog_16_method_1_code
def yX13_init : MethodName := ⟨RX13, "<init>", "(Ljava/lang/String;I)V"⟩
abbrev cX13_kind : ByteArray := prog_16_method_2_code
def yX13_kind : MethodName := ⟨RX13, "kind", "()I"⟩

theorem q187 : (Jvm.Cond.initialized "GoatCourt$Plain") ∈ lw_all := lw_g (lw_at lw_m1 21 rfl) rfl
theorem q994 : (Jvm.Cond.instantiable "GoatCourt$Plain" (7 : Nat)) ∈ lw_all := lw_g (lw_at lw_m4 108 rfl) rfl
theorem q996 : (Jvm.Cond.instanceMethod ({ cls := "GoatCourt$Plain", name := "<init>", desc := "(Ljava/lang/String;I)V" } : Jvm.MethodName)) ∈ lw_all := lw_g (lw_at lw_m4 110 rfl) rfl
theorem q997 : (Jvm.Cond.code ({ cls := "GoatCourt$Plain", name := "<init>", desc := "(Ljava/lang/String;I)V" } : Jvm.MethodName) prog_16_method_1_code (3 : Nat) (Option.none : Option Jvm.ClassFile.FieldType)) ∈ lw_all := lw_g (lw_at lw_m4 111 rfl) rfl
theorem q998 : (Jvm.Cond.methodLink "GoatCourt$Plain" (1 : Nat) ({ cls := "GoatCourt$Goat", name := "<init>", desc := "(Ljava/lang/String;I)V" } : Jvm.MethodName)) ∈ lw_all := lw_g (lw_at lw_m4 112 rfl) rfl
theorem q1017 : (Jvm.Cond.laysFinal "GoatCourt$Plain" "GoatCourt$Goat" "order" "[I") ∈ lw_all := lw_g (lw_at lw_m4 131 rfl) rfl
theorem q1019 : (Jvm.Cond.lays "GoatCourt$Plain" "GoatCourt$Goat" "likes" "I") ∈ lw_all := lw_g (lw_at lw_m4 133 rfl) rfl
theorem q1021 : (Jvm.Cond.lays "GoatCourt$Plain" "GoatCourt$Goat" "begins" "I") ∈ lw_all := lw_g (lw_at lw_m4 135 rfl) rfl
theorem q1023 : (Jvm.Cond.lays "GoatCourt$Plain" "GoatCourt$Goat" "trust" "I") ∈ lw_all := lw_g (lw_at lw_m4 137 rfl) rfl
theorem q1025 : (Jvm.Cond.lays "GoatCourt$Plain" "GoatCourt$Goat" "fears" "I") ∈ lw_all := lw_g (lw_at lw_m4 139 rfl) rfl
theorem q1027 : (Jvm.Cond.laysFinal "GoatCourt$Plain" "GoatCourt$Named" "name" "Ljava/lang/String;") ∈ lw_all := lw_g (lw_at lw_m4 141 rfl) rfl
theorem q1028 : (Jvm.Cond.laysFinal "GoatCourt$Plain" "GoatCourt$Named" "number" "I") ∈ lw_all := lw_g (lw_at lw_m4 142 rfl) rfl
theorem q1029 : (Jvm.Cond.superclass "GoatCourt$Plain" "GoatCourt$Goat") ∈ lw_all := lw_g (lw_at lw_m4 143 rfl) rfl
theorem q1344 : (Jvm.Cond.selects "GoatCourt$Plain" ({ cls := "GoatCourt$Goat", name := "kind", desc := "()I" } : Jvm.MethodName) ({ cls := "GoatCourt$Plain", name := "kind", desc := "()I" } : Jvm.MethodName)) ∈ lw_all := lw_g (lw_at lw_m5 218 rfl) rfl
theorem q1345 : (Jvm.Cond.instanceMethod ({ cls := "GoatCourt$Plain", name := "kind", desc := "()I" } : Jvm.MethodName)) ∈ lw_all := lw_g (lw_at lw_m5 219 rfl) rfl
theorem q1346 : (Jvm.Cond.code ({ cls := "GoatCourt$Plain", name := "kind", desc := "()I" } : Jvm.MethodName) prog_16_method_2_code (1 : Nat) (Option.some Jvm.ClassFile.FieldType.int)) ∈ lw_all := lw_g (lw_at lw_m5 220 rfl) rfl
theorem q1357 : (Jvm.Cond.selects "GoatCourt$Plain" ({ cls := "GoatCourt$Goat", name := "mother", desc := "()LGoatCourt$Goat;" } : Jvm.MethodName) ({ cls := "GoatCourt$Goat", name := "mother", desc := "()LGoatCourt$Goat;" } : Jvm.MethodName)) ∈ lw_all := lw_g (lw_at lw_m5 231 rfl) rfl
theorem q1480 : (Jvm.Cond.selects "GoatCourt$Plain" ({ cls := "GoatCourt$Goat", name := "fearsAt", desc := "(IZ)Z" } : Jvm.MethodName) ({ cls := "GoatCourt$Goat", name := "fearsAt", desc := "(IZ)Z" } : Jvm.MethodName)) ∈ lw_all := lw_g (lw_at lw_m6 114 rfl) rfl
theorem q1494 : (Jvm.Cond.selects "GoatCourt$Plain" ({ cls := "GoatCourt$Goat", name := "rank", desc := "([II)I" } : Jvm.MethodName) ({ cls := "GoatCourt$Goat", name := "rank", desc := "([II)I" } : Jvm.MethodName)) ∈ lw_all := lw_g (lw_at lw_m6 128 rfl) rfl
theorem q1508 : (Jvm.Cond.selects "GoatCourt$Plain" ({ cls := "GoatCourt$Goat", name := "bites", desc := "()I" } : Jvm.MethodName) ({ cls := "GoatCourt$Goat", name := "bites", desc := "()I" } : Jvm.MethodName)) ∈ lw_all := lw_g (lw_at lw_m6 142 rfl) rfl
theorem q2786 : (Jvm.Cond.castable "GoatCourt$Plain" "GoatCourt$Goat") ∈ lw_tbl := lw_at lw_m11 220 rfl
theorem q2800 : (Jvm.Cond.castable "GoatCourt$Plain" "java/lang/Object") ∈ lw_tbl := lw_at lw_m11 234 rfl
theorem in_X13 : ∀ w ∈ wsX130, w ∈ lw_all := lw_in wsX130 [1017, 1019, 1021, 1023, 1025, 1027, 1028] (by decide +kernel) (by decide +kernel)
/-! GoatCourt$Shy -/
def RX14 : String := "GoatCourt$Shy"
def TX14 : u_T := fun k => match k with
  | 0 => ("GoatCourt$Goat", "order", "[I", true)
  | 1 => ("GoatCourt$Goat", "likes", "I", false)
  | 2 => ("GoatCourt$Goat", "begins", "I", false)
  | 3 => ("GoatCourt$Goat", "trust", "I", false)
  | 4 => ("GoatCourt$Goat", "fears", "I", false)
  | 5 => ("GoatCourt$Named", "name", "Ljava/lang/String;", true)
  | _ => ("GoatCourt$Named", "number", "I", true)
def tyX14 : Nat → FieldType := fun k => match k with
  | 0 => .array .int
  | 1 => .int
  | 2 => .int
  | 3 => .int
  | 4 => .int
  | 5 => .object "java/lang/String"
  | _ => .int
abbrev wsX140 : List Cond := u_ws RX14 TX14 7
theorem nmX14 : ∀ a, a < 7 → ∀ b, b < 7 → a ≠ b → (TX14 a).2.1 ≠ (TX14 b).2.1 := by decide +kernel
theorem tyX14_ok : ∀ k, k < 7 → parseFieldDescriptor (TX14 k).2.2.1 = some (tyX14 k) := by decide +kernel
abbrev cX14_init : ByteArray := prog_22_method_1_code
def yX14_init : MethodName := ⟨RX14, "<init>", "(Ljava/lang/String;I)V"⟩
abbrev cX14_kind : ByteArray := prog_22_method_2_code
def yX14_kind : MethodName := ⟨RX14, "kind", "()I"⟩
abbrev cX14_fearsAt : ByteArray := prog_22_method_3_code
def yX14_fearsAt : MethodName := ⟨RX14, "fearsAt", "(IZ)Z"⟩

theorem q188 : (Jvm.Cond.initialized "GoatCourt$Shy") ∈ lw_all := lw_g (lw_at lw_m1 22 rfl) rfl
theorem q1032 : (Jvm.Cond.instantiable "GoatCourt$Shy" (7 : Nat)) ∈ lw_all := lw_g (lw_at lw_m4 146 rfl) rfl
theorem q1034 : (Jvm.Cond.instanceMethod ({ cls := "GoatCourt$Shy", name := "<init>", desc := "(Ljava/lang/String;I)V" } : Jvm.MethodName)) ∈ lw_all := lw_g (lw_at lw_m4 148 rfl) rfl
theorem q1035 : (Jvm.Cond.code ({ cls := "GoatCourt$Shy", name := "<init>", desc := "(Ljava/lang/String;I)V" } : Jvm.MethodName) prog_22_method_1_code (3 : Nat) (Option.none : Option Jvm.ClassFile.FieldType)) ∈ lw_all := lw_g (lw_at lw_m4 149 rfl) rfl
theorem q1036 : (Jvm.Cond.methodLink "GoatCourt$Shy" (1 : Nat) ({ cls := "GoatCourt$Goat", name := "<init>", desc := "(Ljava/lang/String;I)V" } : Jvm.MethodName)) ∈ lw_all := lw_g (lw_at lw_m4 150 rfl) rfl
theorem q1037 : (Jvm.Cond.laysFinal "GoatCourt$Shy" "GoatCourt$Goat" "order" "[I") ∈ lw_all := lw_g (lw_at lw_m4 151 rfl) rfl
theorem q1038 : (Jvm.Cond.lays "GoatCourt$Shy" "GoatCourt$Goat" "likes" "I") ∈ lw_all := lw_g (lw_at lw_m4 152 rfl) rfl
theorem q1039 : (Jvm.Cond.lays "GoatCourt$Shy" "GoatCourt$Goat" "begins" "I") ∈ lw_all := lw_g (lw_at lw_m4 153 rfl) rfl
theorem q1040 : (Jvm.Cond.lays "GoatCourt$Shy" "GoatCourt$Goat" "trust" "I") ∈ lw_all := lw_g (lw_at lw_m4 154 rfl) rfl
theorem q1041 : (Jvm.Cond.lays "GoatCourt$Shy" "GoatCourt$Goat" "fears" "I") ∈ lw_all := lw_g (lw_at lw_m4 155 rfl) rfl
theorem q1042 : (Jvm.Cond.laysFinal "GoatCourt$Shy" "GoatCourt$Named" "name" "Ljava/lang/String;") ∈ lw_all := lw_g (lw_at lw_m4 156 rfl) rfl
theorem q1043 : (Jvm.Cond.laysFinal "GoatCourt$Shy" "GoatCourt$Named" "number" "I") ∈ lw_all := lw_g (lw_at lw_m4 157 rfl) rfl
theorem q1044 : (Jvm.Cond.superclass "GoatCourt$Shy" "GoatCourt$Goat") ∈ lw_all := lw_g (lw_at lw_m4 158 rfl) rfl
theorem q1347 : (Jvm.Cond.selects "GoatCourt$Shy" ({ cls := "GoatCourt$Goat", name := "kind", desc := "()I" } : Jvm.MethodName) ({ cls := "GoatCourt$Shy", name := "kind", desc := "()I" } : Jvm.MethodName)) ∈ lw_all := lw_g (lw_at lw_m5 221 rfl) rfl
theorem q1348 : (Jvm.Cond.instanceMethod ({ cls := "GoatCourt$Shy", name := "kind", desc := "()I" } : Jvm.MethodName)) ∈ lw_all := lw_g (lw_at lw_m5 222 rfl) rfl
theorem q1349 : (Jvm.Cond.code ({ cls := "GoatCourt$Shy", name := "kind", desc := "()I" } : Jvm.MethodName) prog_22_method_2_code (1 : Nat) (Option.some Jvm.ClassFile.FieldType.int)) ∈ lw_all := lw_g (lw_at lw_m5 223 rfl) rfl
theorem q1358 : (Jvm.Cond.selects "GoatCourt$Shy" ({ cls := "GoatCourt$Goat", name := "mother", desc := "()LGoatCourt$Goat;" } : Jvm.MethodName) ({ cls := "GoatCourt$Goat", name := "mother", desc := "()LGoatCourt$Goat;" } : Jvm.MethodName)) ∈ lw_all := lw_g (lw_at lw_m5 232 rfl) rfl
theorem q1481 : (Jvm.Cond.selects "GoatCourt$Shy" ({ cls := "GoatCourt$Goat", name := "fearsAt", desc := "(IZ)Z" } : Jvm.MethodName) ({ cls := "GoatCourt$Shy", name := "fearsAt", desc := "(IZ)Z" } : Jvm.MethodName)) ∈ lw_all := lw_g (lw_at lw_m6 115 rfl) rfl
theorem q1482 : (Jvm.Cond.instanceMethod ({ cls := "GoatCourt$Shy", name := "fearsAt", desc := "(IZ)Z" } : Jvm.MethodName)) ∈ lw_all := lw_g (lw_at lw_m6 116 rfl) rfl
theorem q1483 : (Jvm.Cond.code ({ cls := "GoatCourt$Shy", name := "fearsAt", desc := "(IZ)Z" } : Jvm.MethodName) prog_22_method_3_code (3 : Nat) (Option.some Jvm.ClassFile.FieldType.boolean)) ∈ lw_all := lw_g (lw_at lw_m6 117 rfl) rfl
theorem q1495 : (Jvm.Cond.selects "GoatCourt$Shy" ({ cls := "GoatCourt$Goat", name := "rank", desc := "([II)I" } : Jvm.MethodName) ({ cls := "GoatCourt$Goat", name := "rank", desc := "([II)I" } : Jvm.MethodName)) ∈ lw_all := lw_g (lw_at lw_m6 129 rfl) rfl
theorem q1509 : (Jvm.Cond.selects "GoatCourt$Shy" ({ cls := "GoatCourt$Goat", name := "bites", desc := "()I" } : Jvm.MethodName) ({ cls := "GoatCourt$Goat", name := "bites", desc := "()I" } : Jvm.MethodName)) ∈ lw_all := lw_g (lw_at lw_m6 143 rfl) rfl
theorem q2787 : (Jvm.Cond.castable "GoatCourt$Shy" "GoatCourt$Goat") ∈ lw_tbl := lw_at lw_m11 221 rfl
theorem q2801 : (Jvm.Cond.castable "GoatCourt$Shy" "java/lang/Object") ∈ lw_tbl := lw_at lw_m11 235 rfl
theorem in_X14 : ∀ w ∈ wsX140, w ∈ lw_all := lw_in wsX140 [1037, 1038, 1039, 1040, 1041, 1042, 1043] (by decide +kernel) (by decide +kernel)
/-! GoatCourt$Billy -/
def RX15 : String := "GoatCourt$Billy"
def TX15 : u_T := fun k => match k with
  | 0 => ("GoatCourt$Goat", "order", "[I", true)
  | 1 => ("GoatCourt$Goat", "likes", "I", false)
  | 2 => ("GoatCourt$Goat", "begins", "I", false)
  | 3 => ("GoatCourt$Goat", "trust", "I", false)
  | 4 => ("GoatCourt$Goat", "fears", "I", false)
  | 5 => ("GoatCourt$Named", "name", "Ljava/lang/String;", true)
  | _ => ("GoatCourt$Named", "number", "I", true)
def tyX15 : Nat → FieldType := fun k => match k with
  | 0 => .array .int
  | 1 => .int
  | 2 => .int
  | 3 => .int
  | 4 => .int
  | 5 => .object "java/lang/String"
  | _ => .int
abbrev wsX150 : List Cond := u_ws RX15 TX15 7
theorem nmX15 : ∀ a, a < 7 → ∀ b, b < 7 → a ≠ b → (TX15 a).2.1 ≠ (TX15 b).2.1 := by decide +kernel
theorem tyX15_ok : ∀ k, k < 7 → parseFieldDescriptor (TX15 k).2.2.1 = some (tyX15 k) := by decide +kernel
abbrev cX15_init : ByteArray := prog_2_method_1_code
def yX15_init : MethodName := ⟨RX15, "<init>", "(Ljava/lang/String;I)V"⟩
abbrev cX15_kind : ByteArray := prog_2_method_2_code
def yX15_kind : MethodName := ⟨RX15, "kind", "()I"⟩
abbrev cX15_fearsAt : ByteArray := prog_2_method_3_code
def yX15_fearsAt : MethodName := ⟨RX15, "fearsAt", "(IZ)Z"⟩
abbrev cX15_bites : ByteArray := prog_2_method_4_code
def yX15_bites : MethodName := ⟨RX15, "bites", "()I"⟩

theorem q189 : (Jvm.Cond.initialized "GoatCourt$Billy") ∈ lw_all := lw_g (lw_at lw_m1 23 rfl) rfl
theorem q1047 : (Jvm.Cond.instantiable "GoatCourt$Billy" (7 : Nat)) ∈ lw_all := lw_g (lw_at lw_m4 161 rfl) rfl
theorem q1049 : (Jvm.Cond.instanceMethod ({ cls := "GoatCourt$Billy", name := "<init>", desc := "(Ljava/lang/String;I)V" } : Jvm.MethodName)) ∈ lw_all := lw_g (lw_at lw_m4 163 rfl) rfl
theorem q1050 : (Jvm.Cond.code ({ cls := "GoatCourt$Billy", name := "<init>", desc := "(Ljava/lang/String;I)V" } : Jvm.MethodName) prog_2_method_1_code (3 : Nat) (Option.none : Option Jvm.ClassFile.FieldType)) ∈ lw_all := lw_g (lw_at lw_m4 164 rfl) rfl
theorem q1051 : (Jvm.Cond.methodLink "GoatCourt$Billy" (1 : Nat) ({ cls := "GoatCourt$Goat", name := "<init>", desc := "(Ljava/lang/String;I)V" } : Jvm.MethodName)) ∈ lw_all := lw_g (lw_at lw_m4 165 rfl) rfl
theorem q1052 : (Jvm.Cond.laysFinal "GoatCourt$Billy" "GoatCourt$Goat" "order" "[I") ∈ lw_all := lw_g (lw_at lw_m4 166 rfl) rfl
theorem q1053 : (Jvm.Cond.lays "GoatCourt$Billy" "GoatCourt$Goat" "likes" "I") ∈ lw_all := lw_g (lw_at lw_m4 167 rfl) rfl
theorem q1054 : (Jvm.Cond.lays "GoatCourt$Billy" "GoatCourt$Goat" "begins" "I") ∈ lw_all := lw_g (lw_at lw_m4 168 rfl) rfl
theorem q1055 : (Jvm.Cond.lays "GoatCourt$Billy" "GoatCourt$Goat" "trust" "I") ∈ lw_all := lw_g (lw_at lw_m4 169 rfl) rfl
theorem q1056 : (Jvm.Cond.lays "GoatCourt$Billy" "GoatCourt$Goat" "fears" "I") ∈ lw_all := lw_g (lw_at lw_m4 170 rfl) rfl
theorem q1057 : (Jvm.Cond.laysFinal "GoatCourt$Billy" "GoatCourt$Named" "name" "Ljava/lang/String;") ∈ lw_all := lw_g (lw_at lw_m4 171 rfl) rfl
theorem q1058 : (Jvm.Cond.laysFinal "GoatCourt$Billy" "GoatCourt$Named" "number" "I") ∈ lw_all := lw_g (lw_at lw_m4 172 rfl) rfl
theorem q1059 : (Jvm.Cond.superclass "GoatCourt$Billy" "GoatCourt$Goat") ∈ lw_all := lw_g (lw_at lw_m4 173 rfl) rfl
theorem q1338 : (Jvm.Cond.selects "GoatCourt$Billy" ({ cls := "GoatCourt$Goat", name := "kind", desc := "()I" } : Jvm.MethodName) ({ cls := "GoatCourt$Billy", name := "kind", desc := "()I" } : Jvm.MethodName)) ∈ lw_all := lw_g (lw_at lw_m5 212 rfl) rfl
theorem q1339 : (Jvm.Cond.instanceMethod ({ cls := "GoatCourt$Billy", name := "kind", desc := "()I" } : Jvm.MethodName)) ∈ lw_all := lw_g (lw_at lw_m5 213 rfl) rfl
theorem q1340 : (Jvm.Cond.code ({ cls := "GoatCourt$Billy", name := "kind", desc := "()I" } : Jvm.MethodName) prog_2_method_2_code (1 : Nat) (Option.some Jvm.ClassFile.FieldType.int)) ∈ lw_all := lw_g (lw_at lw_m5 214 rfl) rfl
theorem q1353 : (Jvm.Cond.selects "GoatCourt$Billy" ({ cls := "GoatCourt$Goat", name := "mother", desc := "()LGoatCourt$Goat;" } : Jvm.MethodName) ({ cls := "GoatCourt$Goat", name := "mother", desc := "()LGoatCourt$Goat;" } : Jvm.MethodName)) ∈ lw_all := lw_g (lw_at lw_m5 227 rfl) rfl
theorem q1476 : (Jvm.Cond.selects "GoatCourt$Billy" ({ cls := "GoatCourt$Goat", name := "fearsAt", desc := "(IZ)Z" } : Jvm.MethodName) ({ cls := "GoatCourt$Billy", name := "fearsAt", desc := "(IZ)Z" } : Jvm.MethodName)) ∈ lw_all := lw_g (lw_at lw_m6 110 rfl) rfl
theorem q1477 : (Jvm.Cond.instanceMethod ({ cls := "GoatCourt$Billy", name := "fearsAt", desc := "(IZ)Z" } : Jvm.MethodName)) ∈ lw_all := lw_g (lw_at lw_m6 111 rfl) rfl
theorem q1478 : (Jvm.Cond.code ({ cls := "GoatCourt$Billy", name := "fearsAt", desc := "(IZ)Z" } : Jvm.MethodName) prog_2_method_3_code (3 : Nat) (Option.some Jvm.ClassFile.FieldType.boolean)) ∈ lw_all := lw_g (lw_at lw_m6 112 rfl) rfl
theorem q1492 : (Jvm.Cond.selects "GoatCourt$Billy" ({ cls := "GoatCourt$Goat", name := "rank", desc := "([II)I" } : Jvm.MethodName) ({ cls := "GoatCourt$Goat", name := "rank", desc := "([II)I" } : Jvm.MethodName)) ∈ lw_all := lw_g (lw_at lw_m6 126 rfl) rfl
theorem q1504 : (Jvm.Cond.selects "GoatCourt$Billy" ({ cls := "GoatCourt$Goat", name := "bites", desc := "()I" } : Jvm.MethodName) ({ cls := "GoatCourt$Billy", name := "bites", desc := "()I" } : Jvm.MethodName)) ∈ lw_all := lw_g (lw_at lw_m6 138 rfl) rfl
theorem q1505 : (Jvm.Cond.instanceMethod ({ cls := "GoatCourt$Billy", name := "bites", desc := "()I" } : Jvm.MethodName)) ∈ lw_all := lw_g (lw_at lw_m6 139 rfl) rfl
theorem q1506 : (Jvm.Cond.code ({ cls := "GoatCourt$Billy", name := "bites", desc := "()I" } : Jvm.MethodName) prog_2_method_4_code (1 : Nat) (Option.some Jvm.ClassFile.FieldType.int)) ∈ lw_all := lw_g (lw_at lw_m6 140 rfl) rfl
theorem q2784 : (Jvm.Cond.castable "GoatCourt$Billy" "GoatCourt$Goat") ∈ lw_tbl := lw_at lw_m11 218 rfl
theorem q2802 : (Jvm.Cond.castable "GoatCourt$Billy" "java/lang/Object") ∈ lw_tbl := lw_at lw_m11 236 rfl
theorem in_X15 : ∀ w ∈ wsX150, w ∈ lw_all := lw_in wsX150 [1052, 1053, 1054, 1055, 1056, 1057, 1058] (by decide +kernel) (by decide +kernel)
/-! GoatCourt$Kid -/
def RX16 : String := "GoatCourt$Kid"
def TX16 : u_T := fun k => match k with
  | 0 => ("GoatCourt$Goat", "order", "[I", true)
  | 1 => ("GoatCourt$Goat", "likes", "I", false)
  | 2 => ("GoatCourt$Goat", "begins", "I", false)
  | 3 => ("GoatCourt$Goat", "trust", "I", false)
  | 4 => ("GoatCourt$Goat", "fears", "I", false)
  | 5 => ("GoatCourt$Named", "name", "Ljava/lang/String;", true)
  | 6 => ("GoatCourt$Named", "number", "I", true)
  | _ => ("GoatCourt$Kid", "mother", "LGoatCourt$Goat;", true)
def tyX16 : Nat → FieldType := fun k => match k with
  | 0 => .array .int
  | 1 => .int
  | 2 => .int
  | 3 => .int
  | 4 => .int
  | 5 => .object "java/lang/String"
  | 6 => .int
  | _ => .object "GoatCourt$Goat"
abbrev wsX160 : List Cond := u_ws RX16 TX16 8
theorem nmX16 : ∀ a, a < 8 → ∀ b, b < 8 → a ≠ b → (TX16 a).2.1 ≠ (TX16 b).2.1 := by decide +kernel
theorem tyX16_ok : ∀ k, k < 8 → parseFieldDescriptor (TX16 k).2.2.1 = some (tyX16 k) := by decide +kernel
abbrev cX16_init : ByteArray := prog_11_method_1_code
def yX16_init : MethodName := ⟨RX16, "<init>", "(Ljava/lang/String;ILGoatCourt$Goat;)V"⟩
abbrev cX16_kind : ByteArray := prog_11_method_2_code
def yX16_kind : MethodName := ⟨RX16, "kind", "()I"⟩
abbrev cX16_mother : ByteArray := prog_11_method_3_code
def yX16_mother : MethodName := ⟨RX16, "mother", "()LGoatCourt$Goat;"⟩

theorem q190 : (Jvm.Cond.initialized "GoatCourt$Kid") ∈ lw_all := lw_g (lw_at lw_m1 24 rfl) rfl
theorem q1062 : (Jvm.Cond.instantiable "GoatCourt$Kid" (8 : Nat)) ∈ lw_all := lw_g (lw_at lw_m4 176 rfl) rfl
theorem q1069 : (Jvm.Cond.instanceMethod ({ cls := "GoatCourt$Kid", name := "<init>", desc := "(Ljava/lang/String;ILGoatCourt$Goat;)V" } : Jvm.MethodName)) ∈ lw_all := lw_g (lw_at lw_m4 183 rfl) rfl
theorem q1070 : (Jvm.Cond.code ({ cls := "GoatCourt$Kid", name := "<init>", desc := "(Ljava/lang/String;ILGoatCourt$Goat;)V" } : Jvm.MethodName) prog_11_method_1_code (4 : Nat) (Option.none : Option Jvm.ClassFile.FieldType)) ∈ lw_all := lw_g (lw_at lw_m4 184 rfl) rfl
theorem q1071 : (Jvm.Cond.methodLink "GoatCourt$Kid" (1 : Nat) ({ cls := "GoatCourt$Goat", name := "<init>", desc := "(Ljava/lang/String;I)V" } : Jvm.MethodName)) ∈ lw_all := lw_g (lw_at lw_m4 185 rfl) rfl
theorem q1072 : (Jvm.Cond.fieldLink "GoatCourt$Kid" (7 : Nat) "GoatCourt$Kid" "mother" "LGoatCourt$Goat;") ∈ lw_all := lw_g (lw_at lw_m4 186 rfl) rfl
theorem q1073 : (Jvm.Cond.laysFinal "GoatCourt$Kid" "GoatCourt$Kid" "mother" "LGoatCourt$Goat;") ∈ lw_all := lw_g (lw_at lw_m4 187 rfl) rfl
theorem q1074 : (Jvm.Cond.soleField "GoatCourt$Kid" "mother") ∈ lw_all := lw_g (lw_at lw_m4 188 rfl) rfl
theorem q1075 : (Jvm.Cond.laysFinal "GoatCourt$Kid" "GoatCourt$Goat" "order" "[I") ∈ lw_all := lw_g (lw_at lw_m4 189 rfl) rfl
theorem q1076 : (Jvm.Cond.lays "GoatCourt$Kid" "GoatCourt$Goat" "likes" "I") ∈ lw_all := lw_g (lw_at lw_m4 190 rfl) rfl
theorem q1077 : (Jvm.Cond.lays "GoatCourt$Kid" "GoatCourt$Goat" "begins" "I") ∈ lw_all := lw_g (lw_at lw_m4 191 rfl) rfl
theorem q1078 : (Jvm.Cond.lays "GoatCourt$Kid" "GoatCourt$Goat" "trust" "I") ∈ lw_all := lw_g (lw_at lw_m4 192 rfl) rfl
theorem q1079 : (Jvm.Cond.lays "GoatCourt$Kid" "GoatCourt$Goat" "fears" "I") ∈ lw_all := lw_g (lw_at lw_m4 193 rfl) rfl
theorem q1080 : (Jvm.Cond.laysFinal "GoatCourt$Kid" "GoatCourt$Named" "name" "Ljava/lang/String;") ∈ lw_all := lw_g (lw_at lw_m4 194 rfl) rfl
theorem q1081 : (Jvm.Cond.laysFinal "GoatCourt$Kid" "GoatCourt$Named" "number" "I") ∈ lw_all := lw_g (lw_at lw_m4 195 rfl) rfl
theorem q1082 : (Jvm.Cond.superclass "GoatCourt$Kid" "GoatCourt$Goat") ∈ lw_all := lw_g (lw_at lw_m4 196 rfl) rfl
theorem q1341 : (Jvm.Cond.selects "GoatCourt$Kid" ({ cls := "GoatCourt$Goat", name := "kind", desc := "()I" } : Jvm.MethodName) ({ cls := "GoatCourt$Kid", name := "kind", desc := "()I" } : Jvm.MethodName)) ∈ lw_all := lw_g (lw_at lw_m5 215 rfl) rfl
theorem q1342 : (Jvm.Cond.instanceMethod ({ cls := "GoatCourt$Kid", name := "kind", desc := "()I" } : Jvm.MethodName)) ∈ lw_all := lw_g (lw_at lw_m5 216 rfl) rfl
theorem q1343 : (Jvm.Cond.code ({ cls := "GoatCourt$Kid", name := "kind", desc := "()I" } : Jvm.MethodName) prog_11_method_2_code (1 : Nat) (Option.some Jvm.ClassFile.FieldType.int)) ∈ lw_all := lw_g (lw_at lw_m5 217 rfl) rfl
theorem q1354 : (Jvm.Cond.selects "GoatCourt$Kid" ({ cls := "GoatCourt$Goat", name := "mother", desc := "()LGoatCourt$Goat;" } : Jvm.MethodName) ({ cls := "GoatCourt$Kid", name := "mother", desc := "()LGoatCourt$Goat;" } : Jvm.MethodName)) ∈ lw_all := lw_g (lw_at lw_m5 228 rfl) rfl
theorem q1355 : (Jvm.Cond.instanceMethod ({ cls := "GoatCourt$Kid", name := "mother", desc := "()LGoatCourt$Goat;" } : Jvm.MethodName)) ∈ lw_all := lw_g (lw_at lw_m5 229 rfl) rfl
theorem q1356 : (Jvm.Cond.code ({ cls := "GoatCourt$Kid", name := "mother", desc := "()LGoatCourt$Goat;" } : Jvm.MethodName) prog_11_method_3_code (1 : Nat) (Option.some (Jvm.ClassFile.FieldType.object "GoatCourt$Goat"))) ∈ lw_all := lw_g (lw_at lw_m5 230 rfl) rfl
theorem q1479 : (Jvm.Cond.selects "GoatCourt$Kid" ({ cls := "GoatCourt$Goat", name := "fearsAt", desc := "(IZ)Z" } : Jvm.MethodName) ({ cls := "GoatCourt$Goat", name := "fearsAt", desc := "(IZ)Z" } : Jvm.MethodName)) ∈ lw_all := lw_g (lw_at lw_m6 113 rfl) rfl
theorem q1493 : (Jvm.Cond.selects "GoatCourt$Kid" ({ cls := "GoatCourt$Goat", name := "rank", desc := "([II)I" } : Jvm.MethodName) ({ cls := "GoatCourt$Goat", name := "rank", desc := "([II)I" } : Jvm.MethodName)) ∈ lw_all := lw_g (lw_at lw_m6 127 rfl) rfl
theorem q1507 : (Jvm.Cond.selects "GoatCourt$Kid" ({ cls := "GoatCourt$Goat", name := "bites", desc := "()I" } : Jvm.MethodName) ({ cls := "GoatCourt$Goat", name := "bites", desc := "()I" } : Jvm.MethodName)) ∈ lw_all := lw_g (lw_at lw_m6 141 rfl) rfl
theorem q2785 : (Jvm.Cond.castable "GoatCourt$Kid" "GoatCourt$Goat") ∈ lw_tbl := lw_at lw_m11 219 rfl
theorem q2803 : (Jvm.Cond.castable "GoatCourt$Kid" "java/lang/Object") ∈ lw_tbl := lw_at lw_m11 237 rfl
theorem in_X16 : ∀ w ∈ wsX160, w ∈ lw_all := lw_in wsX160 [1075, 1076, 1077, 1078, 1079, 1080, 1081, 1073] (by decide +kernel) (by decide +kernel)
/-! GoatCourt$Clue -/
def RX17 : String := "GoatCourt$Clue"
abbrev cX17_init : ByteArray := prog_3_method_1_code
def yX17_init : MethodName := ⟨RX17, "<init>", "(III)V"⟩

theorem q191 : (Jvm.Cond.initialized "GoatCourt$Clue") ∈ lw_all := lw_g (lw_at lw_m1 25 rfl) rfl
theorem q1139 : (Jvm.Cond.instanceMethod ({ cls := "GoatCourt$Clue", name := "<init>", desc := "(III)V" } : Jvm.MethodName)) ∈ lw_all := lw_g (lw_at lw_m5 13 rfl) rfl
theorem q1140 : (Jvm.Cond.code ({ cls := "GoatCourt$Clue", name := "<init>", desc := "(III)V" } : Jvm.MethodName) prog_3_method_1_code (4 : Nat) (Option.none : Option Jvm.ClassFile.FieldType)) ∈ lw_all := lw_g (lw_at lw_m5 14 rfl) rfl
theorem q1141 : (Jvm.Cond.methodLink "GoatCourt$Clue" (1 : Nat) ({ cls := "java/lang/Object", name := "<init>", desc := "()V" } : Jvm.MethodName)) ∈ lw_all := lw_g (lw_at lw_m5 15 rfl) rfl
theorem q1142 : (Jvm.Cond.fieldLink "GoatCourt$Clue" (7 : Nat) "GoatCourt$Clue" "goat" "I") ∈ lw_all := lw_g (lw_at lw_m5 16 rfl) rfl
theorem q1152 : (Jvm.Cond.fieldLink "GoatCourt$Clue" (13 : Nat) "GoatCourt$Clue" "place" "I") ∈ lw_all := lw_g (lw_at lw_m5 26 rfl) rfl
theorem q1160 : (Jvm.Cond.fieldLink "GoatCourt$Clue" (16 : Nat) "GoatCourt$Clue" "what" "I") ∈ lw_all := lw_g (lw_at lw_m5 34 rfl) rfl
theorem q1169 : (Jvm.Cond.soleField "GoatCourt$Clue" "goat") ∈ lw_all := lw_g (lw_at lw_m5 43 rfl) rfl
theorem q1171 : (Jvm.Cond.soleField "GoatCourt$Clue" "place") ∈ lw_all := lw_g (lw_at lw_m5 45 rfl) rfl
theorem q1173 : (Jvm.Cond.soleField "GoatCourt$Clue" "what") ∈ lw_all := lw_g (lw_at lw_m5 47 rfl) rfl
theorem q1378 : (Jvm.Cond.declares ({ cls := "GoatCourt$Clue", name := "sort", desc := "()I" } : Jvm.MethodName)) ∈ lw_tbl := lw_at lw_m6 12 rfl
theorem q1379 : (Jvm.Cond.sameMethod "GoatCourt$Clue" "GoatCourt$Clue" "sort" "()I") ∈ lw_all := lw_g (lw_at lw_m6 13 rfl) rfl
theorem q1558 : (Jvm.Cond.declares ({ cls := "GoatCourt$Clue", name := "isTrue", desc := "(LGoatCourt$Day;)Z" } : Jvm.MethodName)) ∈ lw_tbl := lw_at lw_m6 192 rfl
theorem q1559 : (Jvm.Cond.sameMethod "GoatCourt$Clue" "GoatCourt$Clue" "isTrue" "(LGoatCourt$Day;)Z") ∈ lw_all := lw_g (lw_at lw_m6 193 rfl) rfl
/-! GoatCourt$Found -/
def RX18 : String := "GoatCourt$Found"
def TX18 : u_T := fun k => match k with
  | 0 => ("GoatCourt$Clue", "goat", "I", true)
  | 1 => ("GoatCourt$Clue", "place", "I", true)
  | _ => ("GoatCourt$Clue", "what", "I", true)
def tyX18 : Nat → FieldType := fun k => match k with
  | 0 => .int
  | 1 => .int
  | _ => .int
abbrev wsX180 : List Cond := u_ws RX18 TX18 3
theorem nmX18 : ∀ a, a < 3 → ∀ b, b < 3 → a ≠ b → (TX18 a).2.1 ≠ (TX18 b).2.1 := by decide +kernel
theorem tyX18_ok : ∀ k, k < 3 → parseFieldDescriptor (TX18 k).2.2.1 = some (tyX18 k) := by decide +kernel
abbrev cX18_init : ByteArray := prog_7_method_1_code
def yX18_init : MethodName := ⟨RX18, "<init>", "(III)V"⟩
abbrev cX18_sort : ByteArray := prog_7_method_2_code
def yX18_sort : MethodName := ⟨RX18, "sort", "()I"⟩
abbrev cX18_isTrue : ByteArray := prog_7_method_3_code
def yX18_isTrue : MethodName := ⟨RX18, "isTrue", "(LGoatCourt$Day;)Z"⟩

theorem q192 : (Jvm.Cond.initialized "GoatCourt$Found") ∈ lw_all := lw_g (lw_at lw_m1 26 rfl) rfl
theorem q1134 : (Jvm.Cond.instantiable "GoatCourt$Found" (3 : Nat)) ∈ lw_all := lw_g (lw_at lw_m5 8 rfl) rfl
theorem q1136 : (Jvm.Cond.instanceMethod ({ cls := "GoatCourt$Found", name := "<init>", desc := "(III)V" } : Jvm.MethodName)) ∈ lw_all := lw_g (lw_at lw_m5 10 rfl) rfl
theorem q1137 : (Jvm.Cond.code ({ cls := "GoatCourt$Found", name := "<init>", desc := "(III)V" } : Jvm.MethodName) prog_7_method_1_code (4 : Nat) (Option.none : Option Jvm.ClassFile.FieldType)) ∈ lw_all := lw_g (lw_at lw_m5 11 rfl) rfl
theorem q1138 : (Jvm.Cond.methodLink "GoatCourt$Found" (1 : Nat) ({ cls := "GoatCourt$Clue", name := "<init>", desc := "(III)V" } : Jvm.MethodName)) ∈ lw_all := lw_g (lw_at lw_m5 12 rfl) rfl
theorem q1143 : (Jvm.Cond.fieldLink "GoatCourt$Found" (7 : Nat) "GoatCourt$Found" "goat" "I") ∈ lw_all := lw_g (lw_at lw_m5 17 rfl) rfl
theorem q1144 : (Jvm.Cond.sameField "GoatCourt$Found" "GoatCourt$Clue" "goat" "I") ∈ lw_all := lw_g (lw_at lw_m5 18 rfl) rfl
theorem q1153 : (Jvm.Cond.fieldLink "GoatCourt$Found" (16 : Nat) "GoatCourt$Found" "place" "I") ∈ lw_all := lw_g (lw_at lw_m5 27 rfl) rfl
theorem q1154 : (Jvm.Cond.sameField "GoatCourt$Found" "GoatCourt$Clue" "place" "I") ∈ lw_all := lw_g (lw_at lw_m5 28 rfl) rfl
theorem q1161 : (Jvm.Cond.fieldLink "GoatCourt$Found" (13 : Nat) "GoatCourt$Found" "what" "I") ∈ lw_all := lw_g (lw_at lw_m5 35 rfl) rfl
theorem q1162 : (Jvm.Cond.sameField "GoatCourt$Found" "GoatCourt$Clue" "what" "I") ∈ lw_all := lw_g (lw_at lw_m5 36 rfl) rfl
theorem q1168 : (Jvm.Cond.laysFinal "GoatCourt$Found" "GoatCourt$Clue" "goat" "I") ∈ lw_all := lw_g (lw_at lw_m5 42 rfl) rfl
theorem q1170 : (Jvm.Cond.laysFinal "GoatCourt$Found" "GoatCourt$Clue" "place" "I") ∈ lw_all := lw_g (lw_at lw_m5 44 rfl) rfl
theorem q1172 : (Jvm.Cond.laysFinal "GoatCourt$Found" "GoatCourt$Clue" "what" "I") ∈ lw_all := lw_g (lw_at lw_m5 46 rfl) rfl
theorem q1174 : (Jvm.Cond.superclass "GoatCourt$Found" "GoatCourt$Clue") ∈ lw_all := lw_g (lw_at lw_m5 48 rfl) rfl
theorem q1380 : (Jvm.Cond.selects "GoatCourt$Found" ({ cls := "GoatCourt$Clue", name := "sort", desc := "()I" } : Jvm.MethodName) ({ cls := "GoatCourt$Found", name := "sort", desc := "()I" } : Jvm.MethodName)) ∈ lw_all := lw_g (lw_at lw_m6 14 rfl) rfl
theorem q1381 : (Jvm.Cond.instanceMethod ({ cls := "GoatCourt$Found", name := "sort", desc := "()I" } : Jvm.MethodName)) ∈ lw_all := lw_g (lw_at lw_m6 15 rfl) rfl
theorem q1382 : (Jvm.Cond.code ({ cls := "GoatCourt$Found", name := "sort", desc := "()I" } : Jvm.MethodName) prog_7_method_2_code (1 : Nat) (Option.some Jvm.ClassFile.FieldType.int)) ∈ lw_all := lw_g (lw_at lw_m6 16 rfl) rfl
theorem q1560 : (Jvm.Cond.selects "GoatCourt$Found" ({ cls := "GoatCourt$Clue", name := "isTrue", desc := "(LGoatCourt$Day;)Z" } : Jvm.MethodName) ({ cls := "GoatCourt$Found", name := "isTrue", desc := "(LGoatCourt$Day;)Z" } : Jvm.MethodName)) ∈ lw_all := lw_g (lw_at lw_m6 194 rfl) rfl
theorem q1561 : (Jvm.Cond.instanceMethod ({ cls := "GoatCourt$Found", name := "isTrue", desc := "(LGoatCourt$Day;)Z" } : Jvm.MethodName)) ∈ lw_all := lw_g (lw_at lw_m6 195 rfl) rfl
theorem q1562 : (Jvm.Cond.code ({ cls := "GoatCourt$Found", name := "isTrue", desc := "(LGoatCourt$Day;)Z" } : Jvm.MethodName) prog_7_method_3_code (2 : Nat) (Option.some Jvm.ClassFile.FieldType.boolean)) ∈ lw_all := lw_g (lw_at lw_m6 196 rfl) rfl
theorem q1563 : (Jvm.Cond.methodLink "GoatCourt$Found" (19 : Nat) ({ cls := "GoatCourt$Day", name := "drops", desc := "(III)I" } : Jvm.MethodName)) ∈ lw_all := lw_g (lw_at lw_m6 197 rfl) rfl
theorem q2804 : (Jvm.Cond.castable "GoatCourt$Found" "java/lang/Object") ∈ lw_tbl := lw_at lw_m11 238 rfl
theorem q2813 : (Jvm.Cond.castable "GoatCourt$Found" "GoatCourt$Clue") ∈ lw_tbl := lw_at lw_m12 7 rfl
theorem in_X18 : ∀ w ∈ wsX180, w ∈ lw_all := lw_in wsX180 [1168, 1170, 1172] (by decide +kernel) (by decide +kernel)
/-! GoatCourt$SeenThere -/
def RX19 : String := "GoatCourt$SeenThere"
def TX19 : u_T := fun k => match k with
  | 0 => ("GoatCourt$Clue", "goat", "I", true)
  | 1 => ("GoatCourt$Clue", "place", "I", true)
  | _ => ("GoatCourt$Clue", "what", "I", true)
def tyX19 : Nat → FieldType := fun k => match k with
  | 0 => .int
  | 1 => .int
  | _ => .int
abbrev wsX190 : List Cond := u_ws RX19 TX19 3
theorem nmX19 : ∀ a, a < 3 → ∀ b, b < 3 → a ≠ b → (TX19 a).2.1 ≠ (TX19 b).2.1 := by decide +kernel
theorem tyX19_ok : ∀ k, k < 3 → parseFieldDescriptor (TX19 k).2.2.1 = some (tyX19 k) := by decide +kernel
abbrev cX19_init : ByteArray := prog_20_method_1_code
def yX19_init : MethodName := ⟨RX19, "<init>", "(III)V"⟩
abbrev cX19_sort : ByteArray := prog_20_method_2_code
def yX19_sort : MethodName := ⟨RX19, "sort", "()I"⟩
abbrev cX19_isTrue : ByteArray := prog_20_method_3_code
def yX19_isTrue : MethodName := ⟨RX19, "isTrue", "(LGoatCourt$Day;)Z"⟩

theorem q193 : (Jvm.Cond.initialized "GoatCourt$SeenThere") ∈ lw_all := lw_g (lw_at lw_m1 27 rfl) rfl
theorem q1145 : (Jvm.Cond.fieldLink "GoatCourt$SeenThere" (7 : Nat) "GoatCourt$SeenThere" "goat" "I") ∈ lw_all := lw_g (lw_at lw_m5 19 rfl) rfl
theorem q1146 : (Jvm.Cond.sameField "GoatCourt$SeenThere" "GoatCourt$Clue" "goat" "I") ∈ lw_all := lw_g (lw_at lw_m5 20 rfl) rfl
theorem q1155 : (Jvm.Cond.fieldLink "GoatCourt$SeenThere" (22 : Nat) "GoatCourt$SeenThere" "place" "I") ∈ lw_all := lw_g (lw_at lw_m5 29 rfl) rfl
theorem q1156 : (Jvm.Cond.sameField "GoatCourt$SeenThere" "GoatCourt$Clue" "place" "I") ∈ lw_all := lw_g (lw_at lw_m5 30 rfl) rfl
theorem q1163 : (Jvm.Cond.fieldLink "GoatCourt$SeenThere" (13 : Nat) "GoatCourt$SeenThere" "what" "I") ∈ lw_all := lw_g (lw_at lw_m5 37 rfl) rfl
theorem q1164 : (Jvm.Cond.sameField "GoatCourt$SeenThere" "GoatCourt$Clue" "what" "I") ∈ lw_all := lw_g (lw_at lw_m5 38 rfl) rfl
theorem q1176 : (Jvm.Cond.instantiable "GoatCourt$SeenThere" (3 : Nat)) ∈ lw_all := lw_g (lw_at lw_m5 50 rfl) rfl
theorem q1182 : (Jvm.Cond.instanceMethod ({ cls := "GoatCourt$SeenThere", name := "<init>", desc := "(III)V" } : Jvm.MethodName)) ∈ lw_all := lw_g (lw_at lw_m5 56 rfl) rfl
theorem q1183 : (Jvm.Cond.code ({ cls := "GoatCourt$SeenThere", name := "<init>", desc := "(III)V" } : Jvm.MethodName) prog_20_method_1_code (4 : Nat) (Option.none : Option Jvm.ClassFile.FieldType)) ∈ lw_all := lw_g (lw_at lw_m5 57 rfl) rfl
theorem q1184 : (Jvm.Cond.methodLink "GoatCourt$SeenThere" (1 : Nat) ({ cls := "GoatCourt$Clue", name := "<init>", desc := "(III)V" } : Jvm.MethodName)) ∈ lw_all := lw_g (lw_at lw_m5 58 rfl) rfl
theorem q1185 : (Jvm.Cond.laysFinal "GoatCourt$SeenThere" "GoatCourt$Clue" "goat" "I") ∈ lw_all := lw_g (lw_at lw_m5 59 rfl) rfl
theorem q1186 : (Jvm.Cond.laysFinal "GoatCourt$SeenThere" "GoatCourt$Clue" "place" "I") ∈ lw_all := lw_g (lw_at lw_m5 60 rfl) rfl
theorem q1187 : (Jvm.Cond.laysFinal "GoatCourt$SeenThere" "GoatCourt$Clue" "what" "I") ∈ lw_all := lw_g (lw_at lw_m5 61 rfl) rfl
theorem q1188 : (Jvm.Cond.superclass "GoatCourt$SeenThere" "GoatCourt$Clue") ∈ lw_all := lw_g (lw_at lw_m5 62 rfl) rfl
theorem q1383 : (Jvm.Cond.selects "GoatCourt$SeenThere" ({ cls := "GoatCourt$Clue", name := "sort", desc := "()I" } : Jvm.MethodName) ({ cls := "GoatCourt$SeenThere", name := "sort", desc := "()I" } : Jvm.MethodName)) ∈ lw_all := lw_g (lw_at lw_m6 17 rfl) rfl
theorem q1384 : (Jvm.Cond.instanceMethod ({ cls := "GoatCourt$SeenThere", name := "sort", desc := "()I" } : Jvm.MethodName)) ∈ lw_all := lw_g (lw_at lw_m6 18 rfl) rfl
theorem q1385 : (Jvm.Cond.code ({ cls := "GoatCourt$SeenThere", name := "sort", desc := "()I" } : Jvm.MethodName) prog_20_method_2_code (1 : Nat) (Option.some Jvm.ClassFile.FieldType.int)) ∈ lw_all := lw_g (lw_at lw_m6 19 rfl) rfl
theorem q1564 : (Jvm.Cond.selects "GoatCourt$SeenThere" ({ cls := "GoatCourt$Clue", name := "isTrue", desc := "(LGoatCourt$Day;)Z" } : Jvm.MethodName) ({ cls := "GoatCourt$SeenThere", name := "isTrue", desc := "(LGoatCourt$Day;)Z" } : Jvm.MethodName)) ∈ lw_all := lw_g (lw_at lw_m6 198 rfl) rfl
theorem q1565 : (Jvm.Cond.instanceMethod ({ cls := "GoatCourt$SeenThere", name := "isTrue", desc := "(LGoatCourt$Day;)Z" } : Jvm.MethodName)) ∈ lw_all := lw_g (lw_at lw_m6 199 rfl) rfl
theorem q1566 : (Jvm.Cond.code ({ cls := "GoatCourt$SeenThere", name := "isTrue", desc := "(LGoatCourt$Day;)Z" } : Jvm.MethodName) prog_20_method_3_code (2 : Nat) (Option.some Jvm.ClassFile.FieldType.boolean)) ∈ lw_all := lw_g (lw_at lw_m6 200 rfl) rfl
theorem q1567 : (Jvm.Cond.methodLink "GoatCourt$SeenThere" (16 : Nat) ({ cls := "GoatCourt$Day", name := "at", desc := "(II)I" } : Jvm.MethodName)) ∈ lw_all := lw_g (lw_at lw_m6 201 rfl) rfl
theorem q2805 : (Jvm.Cond.castable "GoatCourt$SeenThere" "java/lang/Object") ∈ lw_tbl := lw_at lw_m11 239 rfl
theorem q2814 : (Jvm.Cond.castable "GoatCourt$SeenThere" "GoatCourt$Clue") ∈ lw_tbl := lw_at lw_m12 8 rfl
theorem in_X19 : ∀ w ∈ wsX190, w ∈ lw_all := lw_in wsX190 [1185, 1186, 1187] (by decide +kernel) (by decide +kernel)
/-! GoatCourt$Reader -/
def RX2 : String := "GoatCourt$Reader"
def TX2 : u_T := fun k => match k with
  | 0 => ("GoatCourt$Reader", "wrong", "LGoatCourt$Refused;", true)
  | 1 => ("GoatCourt$Reader", "text", "[B", true)
  | 2 => ("GoatCourt$Reader", "letters", "[C", true)
  | 3 => ("GoatCourt$Reader", "size", "I", false)
  | 4 => ("GoatCourt$Reader", "end", "I", false)
  | 5 => ("GoatCourt$Reader", "token", "I", false)
  | 6 => ("GoatCourt$Reader", "at", "I", false)
  | 7 => ("GoatCourt$Reader", "whole", "I", false)
  | 8 => ("GoatCourt$Reader", "word", "Ljava/lang/String;", false)
  | _ => ("GoatCourt$Reader", "hill", "LGoatCourt$Hill;", false)
def tyX2 : Nat → FieldType := fun k => match k with
  | 0 => .object "GoatCourt$Refused"
  | 1 => .array .byte
  | 2 => .array .char
  | 3 => .int
  | 4 => .int
  | 5 => .int
  | 6 => .int
  | 7 => .int
  | 8 => .object "java/lang/String"
  | _ => .object "GoatCourt$Hill"
abbrev wsX20 : List Cond := u_ws RX2 TX2 10
theorem nmX2 : ∀ a, a < 10 → ∀ b, b < 10 → a ≠ b → (TX2 a).2.1 ≠ (TX2 b).2.1 := by decide +kernel
theorem tyX2_ok : ∀ k, k < 10 → parseFieldDescriptor (TX2 k).2.2.1 = some (tyX2 k) := by decide +kernel
abbrev cX2_init : ByteArray := prog_17_method_1_code
def yX2_init : MethodName := ⟨RX2, "<init>", "([B)V"⟩
abbrev cX2_read : ByteArray := prog_17_method_26_code
def yX2_read : MethodName := ⟨RX2, "read", "(I)LGoatCourt$Hill;"⟩
abbrev cX2_next : ByteArray := prog_17_method_6_code
def yX2_next : MethodName := ⟨RX2, "next", "()V"⟩
abbrev cX2_see : ByteArray := prog_17_method_3_code
def yX2_see : MethodName := ⟨RX2, "see", "(I)I"⟩
abbrev cX2_isSmall : ByteArray := prog_17_method_4_code
def yX2_isSmall : MethodName := ⟨RX2, "isSmall", "(I)Z"⟩
abbrev cX2_isDigit : ByteArray := prog_17_method_5_code
def yX2_isDigit : MethodName := ⟨RX2, "isDigit", "(I)Z"⟩
abbrev cX2_line : ByteArray := prog_17_method_27_code
def yX2_line : MethodName := ⟨RX2, "line", "()V"⟩
abbrev cX2_fail : ByteArray := prog_17_method_2_code
def yX2_fail : MethodName := ⟨RX2, "fail", "(I)LGoatCourt$Refused;"⟩
abbrev cX2_hillLine : ByteArray := prog_17_method_28_code
def yX2_hillLine : MethodName := ⟨RX2, "hillLine", "()V"⟩
abbrev cX2_after : ByteArray := prog_17_method_20_code
def yX2_after : MethodName := ⟨RX2, "after", "(Ljava/lang/String;II)I"⟩
abbrev cX2_must : ByteArray := prog_17_method_8_code
def yX2_must : MethodName := ⟨RX2, "must", "(Ljava/lang/String;)V"⟩
abbrev cX2_takes : ByteArray := prog_17_method_7_code
def yX2_takes : MethodName := ⟨RX2, "takes", "(Ljava/lang/String;)Z"⟩
abbrev cX2_number : ByteArray := prog_17_method_19_code
def yX2_number : MethodName := ⟨RX2, "number", "(II)I"⟩
abbrev cX2_placeLine : ByteArray := prog_17_method_29_code
def yX2_placeLine : MethodName := ⟨RX2, "placeLine", "()V"⟩
abbrev cX2_begins : ByteArray := prog_17_method_24_code
def yX2_begins : MethodName := ⟨RX2, "begins", "(Z)V"⟩
abbrev cX2_newName : ByteArray := prog_17_method_11_code
def yX2_newName : MethodName := ⟨RX2, "newName", "()Ljava/lang/String;"⟩
abbrev cX2_mustName : ByteArray := prog_17_method_10_code
def yX2_mustName : MethodName := ⟨RX2, "mustName", "()V"⟩
abbrev cX2_numbers : ByteArray := prog_17_method_22_code
def yX2_numbers : MethodName := ⟨RX2, "numbers", "([II)V"⟩
abbrev cX2_comma : ByteArray := prog_17_method_9_code
def yX2_comma : MethodName := ⟨RX2, "comma", "()Z"⟩
abbrev cX2_path : ByteArray := prog_17_method_30_code
def yX2_path : MethodName := ⟨RX2, "path", "()V"⟩
abbrev cX2_place : ByteArray := prog_17_method_14_code
def yX2_place : MethodName := ⟨RX2, "place", "()LGoatCourt$Place;"⟩
abbrev cX2_placeHere : ByteArray := prog_17_method_13_code
def yX2_placeHere : MethodName := ⟨RX2, "placeHere", "()LGoatCourt$Place;"⟩
abbrev cX2_found : ByteArray := prog_17_method_12_code
def yX2_found : MethodName := ⟨RX2, "found", "()LGoatCourt$Named;"⟩
abbrev cX2_person : ByteArray := prog_17_method_31_code
def yX2_person : MethodName := ⟨RX2, "person", "()V"⟩
abbrev cX2_story : ByteArray := prog_17_method_32_code
def yX2_story : MethodName := ⟨RX2, "story", "()V"⟩
abbrev cX2_personHere : ByteArray := prog_17_method_15_code
def yX2_personHere : MethodName := ⟨RX2, "personHere", "()LGoatCourt$Person;"⟩
abbrev cX2_goatLine : ByteArray := prog_17_method_35_code
def yX2_goatLine : MethodName := ⟨RX2, "goatLine", "()V"⟩
abbrev cX2_goatOf : ByteArray := prog_17_method_33_code
def yX2_goatOf : MethodName := ⟨RX2, "goatOf", "(Ljava/lang/String;I)LGoatCourt$Goat;"⟩
abbrev cX2_goat : ByteArray := prog_17_method_16_code
def yX2_goat : MethodName := ⟨RX2, "goat", "()LGoatCourt$Goat;"⟩
abbrev cX2_order : ByteArray := prog_17_method_34_code
def yX2_order : MethodName := ⟨RX2, "order", "(LGoatCourt$Goat;)V"⟩
abbrev cX2_fears : ByteArray := prog_17_method_36_code
def yX2_fears : MethodName := ⟨RX2, "fears", "()V"⟩
abbrev cX2_clue : ByteArray := prog_17_method_37_code
def yX2_clue : MethodName := ⟨RX2, "clue", "()V"⟩
abbrev cX2_plant : ByteArray := prog_17_method_23_code
def yX2_plant : MethodName := ⟨RX2, "plant", "()I"⟩
abbrev cX2_hour : ByteArray := prog_17_method_21_code
def yX2_hour : MethodName := ⟨RX2, "hour", "()I"⟩
abbrev cX2_factLine : ByteArray := prog_17_method_38_code
def yX2_factLine : MethodName := ⟨RX2, "factLine", "()V"⟩
abbrev cX2_holds : ByteArray := prog_17_method_39_code
def yX2_holds : MethodName := ⟨RX2, "holds", "()V"⟩
abbrev cX2_factHere : ByteArray := prog_17_method_17_code
def yX2_factHere : MethodName := ⟨RX2, "factHere", "()LGoatCourt$Fact;"⟩
abbrev cX2_rule : ByteArray := prog_17_method_40_code
def yX2_rule : MethodName := ⟨RX2, "rule", "()V"⟩
abbrev cX2_fact : ByteArray := prog_17_method_18_code
def yX2_fact : MethodName := ⟨RX2, "fact", "()LGoatCourt$Fact;"⟩
abbrev cX2_proof : ByteArray := prog_17_method_41_code
def yX2_proof : MethodName := ⟨RX2, "proof", "()V"⟩
abbrev cX2_beginsOnce : ByteArray := prog_17_method_25_code
def yX2_beginsOnce : MethodName := ⟨RX2, "beginsOnce", "(Z)V"⟩
abbrev cX2_court : ByteArray := prog_17_method_42_code
def yX2_court : MethodName := ⟨RX2, "court", "()V"⟩
abbrev cX2_cheese : ByteArray := prog_17_method_43_code
def yX2_cheese : MethodName := ⟨RX2, "cheese", "()V"⟩

theorem q168 : (Jvm.Cond.initialized "GoatCourt$Reader") ∈ lw_all := lw_g (lw_at lw_m1 2 rfl) rfl
theorem q211 : (Jvm.Cond.instantiable "GoatCourt$Reader" (10 : Nat)) ∈ lw_all := lw_g (lw_at lw_m1 45 rfl) rfl
theorem q213 : (Jvm.Cond.instanceMethod ({ cls := "GoatCourt$Reader", name := "<init>", desc := "([B)V" } : Jvm.MethodName)) ∈ lw_all := lw_g (lw_at lw_m1 47 rfl) rfl
theorem q214 : (Jvm.Cond.code ({ cls := "GoatCourt$Reader", name := "<init>", desc := "([B)V" } : Jvm.MethodName) prog_17_method_1_code (2 : Nat) (Option.none : Option Jvm.ClassFile.FieldType)) ∈ lw_all := lw_g (lw_at lw_m1 48 rfl) rfl
theorem q215 : (Jvm.Cond.methodLink "GoatCourt$Reader" (3 : Nat) ({ cls := "java/lang/Object", name := "<init>", desc := "()V" } : Jvm.MethodName)) ∈ lw_all := lw_g (lw_at lw_m1 49 rfl) rfl
theorem q216 : (Jvm.Cond.classLink "GoatCourt$Reader" (9 : Nat) "GoatCourt$Refused") ∈ lw_all := lw_g (lw_at lw_m1 50 rfl) rfl
theorem q256 : (Jvm.Cond.methodLink "GoatCourt$Reader" (11 : Nat) ({ cls := "GoatCourt$Refused", name := "<init>", desc := "()V" } : Jvm.MethodName)) ∈ lw_all := lw_g (lw_at lw_m1 90 rfl) rfl
theorem q290 : (Jvm.Cond.fieldLink "GoatCourt$Reader" (12 : Nat) "GoatCourt$Reader" "wrong" "LGoatCourt$Refused;") ∈ lw_all := lw_g (lw_at lw_m1 124 rfl) rfl
theorem q291 : (Jvm.Cond.fieldLink "GoatCourt$Reader" (22 : Nat) "GoatCourt$Reader" "text" "[B") ∈ lw_all := lw_g (lw_at lw_m1 125 rfl) rfl
theorem q292 : (Jvm.Cond.fieldLink "GoatCourt$Reader" (18 : Nat) "GoatCourt$Reader" "letters" "[C") ∈ lw_all := lw_g (lw_at lw_m1 126 rfl) rfl
theorem q293 : (Jvm.Cond.fieldLink "GoatCourt$Reader" (33 : Nat) "GoatCourt$Reader" "size" "I") ∈ lw_all := lw_g (lw_at lw_m1 127 rfl) rfl
theorem q294 : (Jvm.Cond.fieldLink "GoatCourt$Reader" (40 : Nat) "GoatCourt$Reader" "end" "I") ∈ lw_all := lw_g (lw_at lw_m1 128 rfl) rfl
theorem q295 : (Jvm.Cond.fieldLink "GoatCourt$Reader" (47 : Nat) "GoatCourt$Reader" "token" "I") ∈ lw_all := lw_g (lw_at lw_m1 129 rfl) rfl
theorem q296 : (Jvm.Cond.fieldLink "GoatCourt$Reader" (26 : Nat) "GoatCourt$Reader" "at" "I") ∈ lw_all := lw_g (lw_at lw_m1 130 rfl) rfl
theorem q297 : (Jvm.Cond.fieldLink "GoatCourt$Reader" (68 : Nat) "GoatCourt$Reader" "whole" "I") ∈ lw_all := lw_g (lw_at lw_m1 131 rfl) rfl
theorem q298 : (Jvm.Cond.fieldLink "GoatCourt$Reader" (61 : Nat) "GoatCourt$Reader" "word" "Ljava/lang/String;") ∈ lw_all := lw_g (lw_at lw_m1 132 rfl) rfl
theorem q299 : (Jvm.Cond.fieldLink "GoatCourt$Reader" (127 : Nat) "GoatCourt$Reader" "hill" "LGoatCourt$Hill;") ∈ lw_all := lw_g (lw_at lw_m1 133 rfl) rfl
theorem q300 : (Jvm.Cond.laysFinal "GoatCourt$Reader" "GoatCourt$Reader" "wrong" "LGoatCourt$Refused;") ∈ lw_all := lw_g (lw_at lw_m1 134 rfl) rfl
theorem q301 : (Jvm.Cond.soleField "GoatCourt$Reader" "wrong") ∈ lw_all := lw_g (lw_at lw_m1 135 rfl) rfl
theorem q302 : (Jvm.Cond.laysFinal "GoatCourt$Reader" "GoatCourt$Reader" "text" "[B") ∈ lw_all := lw_g (lw_at lw_m1 136 rfl) rfl
theorem q303 : (Jvm.Cond.soleField "GoatCourt$Reader" "text") ∈ lw_all := lw_g (lw_at lw_m1 137 rfl) rfl
theorem q304 : (Jvm.Cond.laysFinal "GoatCourt$Reader" "GoatCourt$Reader" "letters" "[C") ∈ lw_all := lw_g (lw_at lw_m1 138 rfl) rfl
theorem q305 : (Jvm.Cond.soleField "GoatCourt$Reader" "letters") ∈ lw_all := lw_g (lw_at lw_m1 139 rfl) rfl
theorem q306 : (Jvm.Cond.lays "GoatCourt$Reader" "GoatCourt$Reader" "size" "I") ∈ lw_all := lw_g (lw_at lw_m1 140 rfl) rfl
theorem q307 : (Jvm.Cond.soleField "GoatCourt$Reader" "size") ∈ lw_all := lw_g (lw_at lw_m1 141 rfl) rfl
theorem q308 : (Jvm.Cond.lays "GoatCourt$Reader" "GoatCourt$Reader" "end" "I") ∈ lw_all := lw_g (lw_at lw_m1 142 rfl) rfl
theorem q309 : (Jvm.Cond.soleField "GoatCourt$Reader" "end") ∈ lw_all := lw_g (lw_at lw_m1 143 rfl) rfl
theorem q310 : (Jvm.Cond.lays "GoatCourt$Reader" "GoatCourt$Reader" "token" "I") ∈ lw_all := lw_g (lw_at lw_m1 144 rfl) rfl
theorem q311 : (Jvm.Cond.soleField "GoatCourt$Reader" "token") ∈ lw_all := lw_g (lw_at lw_m1 145 rfl) rfl
theorem q312 : (Jvm.Cond.lays "GoatCourt$Reader" "GoatCourt$Reader" "at" "I") ∈ lw_all := lw_g (lw_at lw_m1 146 rfl) rfl
theorem q313 : (Jvm.Cond.soleField "GoatCourt$Reader" "at") ∈ lw_all := lw_g (lw_at lw_m1 147 rfl) rfl
theorem q314 : (Jvm.Cond.lays "GoatCourt$Reader" "GoatCourt$Reader" "whole" "I") ∈ lw_all := lw_g (lw_at lw_m1 148 rfl) rfl
theorem q315 : (Jvm.Cond.soleField "GoatCourt$Reader" "whole") ∈ lw_all := lw_g (lw_at lw_m1 149 rfl) rfl
theorem q316 : (Jvm.Cond.lays "GoatCourt$Reader" "GoatCourt$Reader" "word" "Ljava/lang/String;") ∈ lw_all := lw_g (lw_at lw_m1 150 rfl) rfl
theorem q317 : (Jvm.Cond.soleField "GoatCourt$Reader" "word") ∈ lw_all := lw_g (lw_at lw_m1 151 rfl) rfl
theorem q318 : (Jvm.Cond.lays "GoatCourt$Reader" "GoatCourt$Reader" "hill" "LGoatCourt$Hill;") ∈ lw_all := lw_g (lw_at lw_m1 152 rfl) rfl
theorem q319 : (Jvm.Cond.soleField "GoatCourt$Reader" "hill") ∈ lw_all := lw_g (lw_at lw_m1 153 rfl) rfl
theorem q320 : (Jvm.Cond.superclass "GoatCourt$Reader" "java/lang/Object") ∈ lw_all := lw_g (lw_at lw_m1 154 rfl) rfl
theorem q497 : (Jvm.Cond.instanceMethod ({ cls := "GoatCourt$Reader", name := "read", desc := "(I)LGoatCourt$Hill;" } : Jvm.MethodName)) ∈ lw_all := lw_g (lw_at lw_m2 91 rfl) rfl
theorem q498 : (Jvm.Cond.selects "GoatCourt$Reader" ({ cls := "GoatCourt$Reader", name := "read", desc := "(I)LGoatCourt$Hill;" } : Jvm.MethodName) ({ cls := "GoatCourt$Reader", name := "read", desc := "(I)LGoatCourt$Hill;" } : Jvm.MethodName)) ∈ lw_all := lw_g (lw_at lw_m2 92 rfl) rfl
theorem q499 : (Jvm.Cond.code ({ cls := "GoatCourt$Reader", name := "read", desc := "(I)LGoatCourt$Hill;" } : Jvm.MethodName) prog_17_method_26_code (2 : Nat) (Option.some (Jvm.ClassFile.FieldType.object "GoatCourt$Hill"))) ∈ lw_all := lw_g (lw_at lw_m2 93 rfl) rfl
theorem q500 : (Jvm.Cond.classLink "GoatCourt$Reader" (131 : Nat) "GoatCourt$Hill") ∈ lw_all := lw_g (lw_at lw_m2 94 rfl) rfl
theorem q502 : (Jvm.Cond.methodLinkNest "GoatCourt$Reader" (180 : Nat) ({ cls := "GoatCourt$Hill", name := "<init>", desc := "()V" } : Jvm.MethodName) "GoatCourt") ∈ lw_tbl := lw_at lw_m2 96 rfl
theorem q523 : (Jvm.Cond.fieldLink "GoatCourt$Reader" (244 : Nat) "GoatCourt$Hill" "places" "[LGoatCourt$Place;") ∈ lw_all := lw_g (lw_at lw_m2 117 rfl) rfl
theorem q525 : (Jvm.Cond.fieldLink "GoatCourt$Reader" (257 : Nat) "GoatCourt$Hill" "pathOne" "[I") ∈ lw_all := lw_g (lw_at lw_m2 119 rfl) rfl
theorem q527 : (Jvm.Cond.fieldLink "GoatCourt$Reader" (260 : Nat) "GoatCourt$Hill" "pathOther" "[I") ∈ lw_all := lw_g (lw_at lw_m2 121 rfl) rfl
theorem q529 : (Jvm.Cond.fieldLink "GoatCourt$Reader" (417 : Nat) "GoatCourt$Hill" "steps" "[I") ∈ lw_all := lw_g (lw_at lw_m2 123 rfl) rfl
theorem q532 : (Jvm.Cond.fieldLink "GoatCourt$Reader" (441 : Nat) "GoatCourt$Hill" "told" "[I") ∈ lw_all := lw_g (lw_at lw_m2 126 rfl) rfl
theorem q537 : (Jvm.Cond.fieldLink "GoatCourt$Reader" (269 : Nat) "GoatCourt$Hill" "people" "[LGoatCourt$Person;") ∈ lw_all := lw_g (lw_at lw_m2 131 rfl) rfl
theorem q541 : (Jvm.Cond.fieldLink "GoatCourt$Reader" (343 : Nat) "GoatCourt$Hill" "goats" "[LGoatCourt$Goat;") ∈ lw_all := lw_g (lw_at lw_m2 135 rfl) rfl
theorem q545 : (Jvm.Cond.fieldLink "GoatCourt$Reader" (374 : Nat) "GoatCourt$Hill" "clues" "[LGoatCourt$Clue;") ∈ lw_all := lw_g (lw_at lw_m2 139 rfl) rfl
theorem q547 : (Jvm.Cond.fieldLink "GoatCourt$Reader" (381 : Nat) "GoatCourt$Hill" "facts" "[LGoatCourt$Fact;") ∈ lw_all := lw_g (lw_at lw_m2 141 rfl) rfl
theorem q550 : (Jvm.Cond.fieldLink "GoatCourt$Reader" (407 : Nat) "GoatCourt$Hill" "rules" "[LGoatCourt$Rule;") ∈ lw_all := lw_g (lw_at lw_m2 144 rfl) rfl
theorem q554 : (Jvm.Cond.fieldLink "GoatCourt$Reader" (434 : Nat) "GoatCourt$Hill" "courts" "[LGoatCourt$Court;") ∈ lw_all := lw_g (lw_at lw_m2 148 rfl) rfl
theorem q556 : (Jvm.Cond.fieldLink "GoatCourt$Reader" (163 : Nat) "GoatCourt$Hill" "hours" "I") ∈ lw_all := lw_g (lw_at lw_m2 150 rfl) rfl
theorem q559 : (Jvm.Cond.fieldLink "GoatCourt$Reader" (166 : Nat) "GoatCourt$Hill" "plants" "I") ∈ lw_all := lw_g (lw_at lw_m2 153 rfl) rfl
theorem q563 : (Jvm.Cond.fieldLink "GoatCourt$Reader" (184 : Nat) "GoatCourt$Hill" "placeMany" "I") ∈ lw_all := lw_g (lw_at lw_m2 157 rfl) rfl
theorem q565 : (Jvm.Cond.fieldLink "GoatCourt$Reader" (248 : Nat) "GoatCourt$Hill" "pathMany" "I") ∈ lw_all := lw_g (lw_at lw_m2 159 rfl) rfl
theorem q570 : (Jvm.Cond.fieldLink "GoatCourt$Reader" (266 : Nat) "GoatCourt$Hill" "personMany" "I") ∈ lw_all := lw_g (lw_at lw_m2 164 rfl) rfl
theorem q575 : (Jvm.Cond.fieldLink "GoatCourt$Reader" (325 : Nat) "GoatCourt$Hill" "goatMany" "I") ∈ lw_all := lw_g (lw_at lw_m2 169 rfl) rfl
theorem q576 : (Jvm.Cond.fieldLink "GoatCourt$Reader" (347 : Nat) "GoatCourt$Hill" "fearMany" "I") ∈ lw_all := lw_g (lw_at lw_m2 170 rfl) rfl
theorem q580 : (Jvm.Cond.fieldLink "GoatCourt$Reader" (353 : Nat) "GoatCourt$Hill" "clueMany" "I") ∈ lw_all := lw_g (lw_at lw_m2 174 rfl) rfl
theorem q583 : (Jvm.Cond.fieldLink "GoatCourt$Reader" (378 : Nat) "GoatCourt$Hill" "factMany" "I") ∈ lw_all := lw_g (lw_at lw_m2 177 rfl) rfl
theorem q585 : (Jvm.Cond.fieldLink "GoatCourt$Reader" (389 : Nat) "GoatCourt$Hill" "ruleMany" "I") ∈ lw_all := lw_g (lw_at lw_m2 179 rfl) rfl
theorem q587 : (Jvm.Cond.fieldLink "GoatCourt$Reader" (411 : Nat) "GoatCourt$Hill" "stepMany" "I") ∈ lw_all := lw_g (lw_at lw_m2 181 rfl) rfl
theorem q591 : (Jvm.Cond.fieldLink "GoatCourt$Reader" (420 : Nat) "GoatCourt$Hill" "courtMany" "I") ∈ lw_all := lw_g (lw_at lw_m2 185 rfl) rfl
theorem q593 : (Jvm.Cond.fieldLink "GoatCourt$Reader" (438 : Nat) "GoatCourt$Hill" "hasCheese" "Z") ∈ lw_all := lw_g (lw_at lw_m2 187 rfl) rfl
theorem q644 : (Jvm.Cond.methodLink "GoatCourt$Reader" (75 : Nat) ({ cls := "GoatCourt$Reader", name := "next", desc := "()V" } : Jvm.MethodName)) ∈ lw_all := lw_g (lw_at lw_m2 238 rfl) rfl
theorem q645 : (Jvm.Cond.privateMethod ({ cls := "GoatCourt$Reader", name := "next", desc := "()V" } : Jvm.MethodName)) ∈ lw_tbl := lw_at lw_m2 239 rfl
theorem q646 : (Jvm.Cond.instanceMethod ({ cls := "GoatCourt$Reader", name := "next", desc := "()V" } : Jvm.MethodName)) ∈ lw_all := lw_g (lw_at lw_m3 0 rfl) rfl
theorem q647 : (Jvm.Cond.code ({ cls := "GoatCourt$Reader", name := "next", desc := "()V" } : Jvm.MethodName) prog_17_method_6_code (3 : Nat) (Option.none : Option Jvm.ClassFile.FieldType)) ∈ lw_all := lw_g (lw_at lw_m3 1 rfl) rfl
theorem q648 : (Jvm.Cond.methodLink "GoatCourt$Reader" (43 : Nat) ({ cls := "GoatCourt$Reader", name := "see", desc := "(I)I" } : Jvm.MethodName)) ∈ lw_all := lw_g (lw_at lw_m3 2 rfl) rfl
theorem q649 : (Jvm.Cond.privateMethod ({ cls := "GoatCourt$Reader", name := "see", desc := "(I)I" } : Jvm.MethodName)) ∈ lw_tbl := lw_at lw_m3 3 rfl
theorem q650 : (Jvm.Cond.instanceMethod ({ cls := "GoatCourt$Reader", name := "see", desc := "(I)I" } : Jvm.MethodName)) ∈ lw_all := lw_g (lw_at lw_m3 4 rfl) rfl
theorem q651 : (Jvm.Cond.code ({ cls := "GoatCourt$Reader", name := "see", desc := "(I)I" } : Jvm.MethodName) prog_17_method_3_code (2 : Nat) (Option.some Jvm.ClassFile.FieldType.int)) ∈ lw_all := lw_g (lw_at lw_m3 5 rfl) rfl
theorem q652 : (Jvm.Cond.methodLink "GoatCourt$Reader" (50 : Nat) ({ cls := "GoatCourt$Reader", name := "isSmall", desc := "(I)Z" } : Jvm.MethodName)) ∈ lw_all := lw_g (lw_at lw_m3 6 rfl) rfl
theorem q653 : (Jvm.Cond.static ({ cls := "GoatCourt$Reader", name := "isSmall", desc := "(I)Z" } : Jvm.MethodName)) ∈ lw_all := lw_g (lw_at lw_m3 7 rfl) rfl
theorem q654 : (Jvm.Cond.code ({ cls := "GoatCourt$Reader", name := "isSmall", desc := "(I)Z" } : Jvm.MethodName) prog_17_method_4_code (1 : Nat) (Option.some Jvm.ClassFile.FieldType.boolean)) ∈ lw_all := lw_g (lw_at lw_m3 8 rfl) rfl
theorem q655 : (Jvm.Cond.methodLinkNest "GoatCourt$Reader" (36 : Nat) ({ cls := "GoatCourt", name := "in", desc := "(III)Z" } : Jvm.MethodName) "GoatCourt") ∈ lw_tbl := lw_at lw_m3 9 rfl
theorem q656 : (Jvm.Cond.classLink "GoatCourt$Reader" (54 : Nat) "java/lang/String") ∈ lw_all := lw_g (lw_at lw_m3 10 rfl) rfl
theorem q658 : (Jvm.Cond.methodLink "GoatCourt$Reader" (56 : Nat) ({ cls := "java/lang/String", name := "<init>", desc := "([CII)V" } : Jvm.MethodName)) ∈ lw_all := lw_g (lw_at lw_m3 12 rfl) rfl
theorem q734 : (Jvm.Cond.stringRef "GoatCourt$Reader" (59 : Nat) "") ∈ lw_tbl := lw_at lw_m3 88 rfl
theorem q735 : (Jvm.Cond.methodLink "GoatCourt$Reader" (65 : Nat) ({ cls := "GoatCourt$Reader", name := "isDigit", desc := "(I)Z" } : Jvm.MethodName)) ∈ lw_all := lw_g (lw_at lw_m3 89 rfl) rfl
theorem q736 : (Jvm.Cond.static ({ cls := "GoatCourt$Reader", name := "isDigit", desc := "(I)Z" } : Jvm.MethodName)) ∈ lw_all := lw_g (lw_at lw_m3 90 rfl) rfl
theorem q737 : (Jvm.Cond.code ({ cls := "GoatCourt$Reader", name := "isDigit", desc := "(I)Z" } : Jvm.MethodName) prog_17_method_5_code (1 : Nat) (Option.some Jvm.ClassFile.FieldType.boolean)) ∈ lw_all := lw_g (lw_at lw_m3 91 rfl) rfl
theorem q738 : (Jvm.Cond.methodLink "GoatCourt$Reader" (181 : Nat) ({ cls := "GoatCourt$Reader", name := "line", desc := "()V" } : Jvm.MethodName)) ∈ lw_all := lw_g (lw_at lw_m3 92 rfl) rfl
theorem q739 : (Jvm.Cond.privateMethod ({ cls := "GoatCourt$Reader", name := "line", desc := "()V" } : Jvm.MethodName)) ∈ lw_tbl := lw_at lw_m3 93 rfl
theorem q740 : (Jvm.Cond.instanceMethod ({ cls := "GoatCourt$Reader", name := "line", desc := "()V" } : Jvm.MethodName)) ∈ lw_all := lw_g (lw_at lw_m3 94 rfl) rfl
theorem q741 : (Jvm.Cond.code ({ cls := "GoatCourt$Reader", name := "line", desc := "()V" } : Jvm.MethodName) prog_17_method_27_code (3 : Nat) (Option.none : Option Jvm.ClassFile.FieldType)) ∈ lw_all := lw_g (lw_at lw_m3 95 rfl) rfl
theorem q742 : (Jvm.Cond.methodLink "GoatCourt$Reader" (82 : Nat) ({ cls := "GoatCourt$Reader", name := "fail", desc := "(I)LGoatCourt$Refused;" } : Jvm.MethodName)) ∈ lw_all := lw_g (lw_at lw_m3 96 rfl) rfl
theorem q743 : (Jvm.Cond.privateMethod ({ cls := "GoatCourt$Reader", name := "fail", desc := "(I)LGoatCourt$Refused;" } : Jvm.MethodName)) ∈ lw_tbl := lw_at lw_m3 97 rfl
theorem q744 : (Jvm.Cond.instanceMethod ({ cls := "GoatCourt$Reader", name := "fail", desc := "(I)LGoatCourt$Refused;" } : Jvm.MethodName)) ∈ lw_all := lw_g (lw_at lw_m3 98 rfl) rfl
theorem q745 : (Jvm.Cond.code ({ cls := "GoatCourt$Reader", name := "fail", desc := "(I)LGoatCourt$Refused;" } : Jvm.MethodName) prog_17_method_2_code (2 : Nat) (Option.some (Jvm.ClassFile.FieldType.object "GoatCourt$Refused"))) ∈ lw_all := lw_g (lw_at lw_m3 99 rfl) rfl
theorem q746 : (Jvm.Cond.methodLink "GoatCourt$Reader" (30 : Nat) ({ cls := "GoatCourt$Refused", name := "at", desc := "(II)LGoatCourt$Refused;" } : Jvm.MethodName)) ∈ lw_all := lw_g (lw_at lw_m3 100 rfl) rfl
theorem q750 : (Jvm.Cond.methodLink "GoatCourt$Reader" (86 : Nat) ({ cls := "java/lang/String", name := "hashCode", desc := "()I" } : Jvm.MethodName)) ∈ lw_all := lw_g (lw_at lw_m3 104 rfl) rfl
theorem q803 : (Jvm.Cond.stringRef "GoatCourt$Reader" (90 : Nat) "hill") ∈ lw_tbl := lw_at lw_m3 157 rfl
theorem q804 : (Jvm.Cond.methodLink "GoatCourt$Reader" (71 : Nat) ({ cls := "java/lang/String", name := "equals", desc := "(Ljava/lang/Object;)Z" } : Jvm.MethodName)) ∈ lw_all := lw_g (lw_at lw_m3 158 rfl) rfl
theorem q812 : (Jvm.Cond.stringRef "GoatCourt$Reader" (92 : Nat) "place") ∈ lw_tbl := lw_at lw_m3 166 rfl
theorem q813 : (Jvm.Cond.stringRef "GoatCourt$Reader" (94 : Nat) "path") ∈ lw_tbl := lw_at lw_m3 167 rfl
theorem q814 : (Jvm.Cond.stringRef "GoatCourt$Reader" (96 : Nat) "person") ∈ lw_tbl := lw_at lw_m3 168 rfl
theorem q815 : (Jvm.Cond.stringRef "GoatCourt$Reader" (98 : Nat) "story") ∈ lw_tbl := lw_at lw_m3 169 rfl
theorem q816 : (Jvm.Cond.stringRef "GoatCourt$Reader" (100 : Nat) "goat") ∈ lw_tbl := lw_at lw_m3 170 rfl
theorem q817 : (Jvm.Cond.stringRef "GoatCourt$Reader" (102 : Nat) "fears") ∈ lw_tbl := lw_at lw_m3 171 rfl
theorem q818 : (Jvm.Cond.stringRef "GoatCourt$Reader" (104 : Nat) "found") ∈ lw_tbl := lw_at lw_m3 172 rfl
theorem q819 : (Jvm.Cond.stringRef "GoatCourt$Reader" (106 : Nat) "seen") ∈ lw_tbl := lw_at lw_m3 173 rfl
theorem q820 : (Jvm.Cond.stringRef "GoatCourt$Reader" (108 : Nat) "shied") ∈ lw_tbl := lw_at lw_m3 174 rfl
theorem q821 : (Jvm.Cond.stringRef "GoatCourt$Reader" (110 : Nat) "fact") ∈ lw_tbl := lw_at lw_m3 175 rfl
theorem q822 : (Jvm.Cond.stringRef "GoatCourt$Reader" (112 : Nat) "holds") ∈ lw_tbl := lw_at lw_m3 176 rfl
theorem q823 : (Jvm.Cond.stringRef "GoatCourt$Reader" (114 : Nat) "rule") ∈ lw_tbl := lw_at lw_m3 177 rfl
theorem q824 : (Jvm.Cond.stringRef "GoatCourt$Reader" (116 : Nat) "proof") ∈ lw_tbl := lw_at lw_m3 178 rfl
theorem q825 : (Jvm.Cond.stringRef "GoatCourt$Reader" (118 : Nat) "court") ∈ lw_tbl := lw_at lw_m3 179 rfl
theorem q826 : (Jvm.Cond.stringRef "GoatCourt$Reader" (120 : Nat) "cheese") ∈ lw_tbl := lw_at lw_m3 180 rfl
theorem q827 : (Jvm.Cond.methodLink "GoatCourt$Reader" (187 : Nat) ({ cls := "GoatCourt$Reader", name := "hillLine", desc := "()V" } : Jvm.MethodName)) ∈ lw_all := lw_g (lw_at lw_m3 181 rfl) rfl
theorem q828 : (Jvm.Cond.privateMethod ({ cls := "GoatCourt$Reader", name := "hillLine", desc := "()V" } : Jvm.MethodName)) ∈ lw_tbl := lw_at lw_m3 182 rfl
theorem q829 : (Jvm.Cond.instanceMethod ({ cls := "GoatCourt$Reader", name := "hillLine", desc := "()V" } : Jvm.MethodName)) ∈ lw_all := lw_g (lw_at lw_m3 183 rfl) rfl
theorem q830 : (Jvm.Cond.code ({ cls := "GoatCourt$Reader", name := "hillLine", desc := "()V" } : Jvm.MethodName) prog_17_method_28_code (2 : Nat) (Option.none : Option Jvm.ClassFile.FieldType)) ∈ lw_all := lw_g (lw_at lw_m3 184 rfl) rfl
theorem q831 : (Jvm.Cond.stringRef "GoatCourt$Reader" (220 : Nat) "hours") ∈ lw_tbl := lw_at lw_m3 185 rfl
theorem q832 : (Jvm.Cond.methodLink "GoatCourt$Reader" (221 : Nat) ({ cls := "GoatCourt$Reader", name := "after", desc := "(Ljava/lang/String;II)I" } : Jvm.MethodName)) ∈ lw_all := lw_g (lw_at lw_m3 186 rfl) rfl
theorem q833 : (Jvm.Cond.privateMethod ({ cls := "GoatCourt$Reader", name := "after", desc := "(Ljava/lang/String;II)I" } : Jvm.MethodName)) ∈ lw_tbl := lw_at lw_m3 187 rfl
theorem q834 : (Jvm.Cond.instanceMethod ({ cls := "GoatCourt$Reader", name := "after", desc := "(Ljava/lang/String;II)I" } : Jvm.MethodName)) ∈ lw_all := lw_g (lw_at lw_m3 188 rfl) rfl
theorem q835 : (Jvm.Cond.code ({ cls := "GoatCourt$Reader", name := "after", desc := "(Ljava/lang/String;II)I" } : Jvm.MethodName) prog_17_method_20_code (4 : Nat) (Option.some Jvm.ClassFile.FieldType.int)) ∈ lw_all := lw_g (lw_at lw_m3 189 rfl) rfl
theorem q836 : (Jvm.Cond.methodLink "GoatCourt$Reader" (155 : Nat) ({ cls := "GoatCourt$Reader", name := "must", desc := "(Ljava/lang/String;)V" } : Jvm.MethodName)) ∈ lw_all := lw_g (lw_at lw_m3 190 rfl) rfl
theorem q837 : (Jvm.Cond.privateMethod ({ cls := "GoatCourt$Reader", name := "must", desc := "(Ljava/lang/String;)V" } : Jvm.MethodName)) ∈ lw_tbl := lw_at lw_m3 191 rfl
theorem q838 : (Jvm.Cond.instanceMethod ({ cls := "GoatCourt$Reader", name := "must", desc := "(Ljava/lang/String;)V" } : Jvm.MethodName)) ∈ lw_all := lw_g (lw_at lw_m3 192 rfl) rfl
theorem q839 : (Jvm.Cond.code ({ cls := "GoatCourt$Reader", name := "must", desc := "(Ljava/lang/String;)V" } : Jvm.MethodName) prog_17_method_8_code (2 : Nat) (Option.none : Option Jvm.ClassFile.FieldType)) ∈ lw_all := lw_g (lw_at lw_m3 193 rfl) rfl
theorem q840 : (Jvm.Cond.methodLink "GoatCourt$Reader" (78 : Nat) ({ cls := "GoatCourt$Reader", name := "takes", desc := "(Ljava/lang/String;)Z" } : Jvm.MethodName)) ∈ lw_all := lw_g (lw_at lw_m3 194 rfl) rfl
theorem q841 : (Jvm.Cond.privateMethod ({ cls := "GoatCourt$Reader", name := "takes", desc := "(Ljava/lang/String;)Z" } : Jvm.MethodName)) ∈ lw_tbl := lw_at lw_m3 195 rfl
theorem q842 : (Jvm.Cond.instanceMethod ({ cls := "GoatCourt$Reader", name := "takes", desc := "(Ljava/lang/String;)Z" } : Jvm.MethodName)) ∈ lw_all := lw_g (lw_at lw_m3 196 rfl) rfl
theorem q843 : (Jvm.Cond.code ({ cls := "GoatCourt$Reader", name := "takes", desc := "(Ljava/lang/String;)Z" } : Jvm.MethodName) prog_17_method_7_code (2 : Nat) (Option.some Jvm.ClassFile.FieldType.boolean)) ∈ lw_all := lw_g (lw_at lw_m3 197 rfl) rfl
theorem q844 : (Jvm.Cond.methodLink "GoatCourt$Reader" (159 : Nat) ({ cls := "GoatCourt$Reader", name := "number", desc := "(II)I" } : Jvm.MethodName)) ∈ lw_all := lw_g (lw_at lw_m3 198 rfl) rfl
theorem q845 : (Jvm.Cond.privateMethod ({ cls := "GoatCourt$Reader", name := "number", desc := "(II)I" } : Jvm.MethodName)) ∈ lw_tbl := lw_at lw_m3 199 rfl
theorem q846 : (Jvm.Cond.instanceMethod ({ cls := "GoatCourt$Reader", name := "number", desc := "(II)I" } : Jvm.MethodName)) ∈ lw_all := lw_g (lw_at lw_m3 200 rfl) rfl
theorem q847 : (Jvm.Cond.code ({ cls := "GoatCourt$Reader", name := "number", desc := "(II)I" } : Jvm.MethodName) prog_17_method_19_code (4 : Nat) (Option.some Jvm.ClassFile.FieldType.int)) ∈ lw_all := lw_g (lw_at lw_m3 201 rfl) rfl
theorem q848 : (Jvm.Cond.stringRef "GoatCourt$Reader" (225 : Nat) "plants") ∈ lw_tbl := lw_at lw_m3 202 rfl
theorem q849 : (Jvm.Cond.methodLink "GoatCourt$Reader" (190 : Nat) ({ cls := "GoatCourt$Reader", name := "placeLine", desc := "()V" } : Jvm.MethodName)) ∈ lw_all := lw_g (lw_at lw_m3 203 rfl) rfl
theorem q850 : (Jvm.Cond.privateMethod ({ cls := "GoatCourt$Reader", name := "placeLine", desc := "()V" } : Jvm.MethodName)) ∈ lw_tbl := lw_at lw_m3 204 rfl
theorem q851 : (Jvm.Cond.instanceMethod ({ cls := "GoatCourt$Reader", name := "placeLine", desc := "()V" } : Jvm.MethodName)) ∈ lw_all := lw_g (lw_at lw_m3 205 rfl) rfl
theorem q852 : (Jvm.Cond.code ({ cls := "GoatCourt$Reader", name := "placeLine", desc := "()V" } : Jvm.MethodName) prog_17_method_29_code (2 : Nat) (Option.none : Option Jvm.ClassFile.FieldType)) ∈ lw_all := lw_g (lw_at lw_m3 206 rfl) rfl
theorem q853 : (Jvm.Cond.methodLink "GoatCourt$Reader" (226 : Nat) ({ cls := "GoatCourt$Reader", name := "begins", desc := "(Z)V" } : Jvm.MethodName)) ∈ lw_all := lw_g (lw_at lw_m3 207 rfl) rfl
theorem q854 : (Jvm.Cond.privateMethod ({ cls := "GoatCourt$Reader", name := "begins", desc := "(Z)V" } : Jvm.MethodName)) ∈ lw_tbl := lw_at lw_m3 208 rfl
theorem q855 : (Jvm.Cond.instanceMethod ({ cls := "GoatCourt$Reader", name := "begins", desc := "(Z)V" } : Jvm.MethodName)) ∈ lw_all := lw_g (lw_at lw_m3 209 rfl) rfl
theorem q856 : (Jvm.Cond.code ({ cls := "GoatCourt$Reader", name := "begins", desc := "(Z)V" } : Jvm.MethodName) prog_17_method_24_code (2 : Nat) (Option.none : Option Jvm.ClassFile.FieldType)) ∈ lw_all := lw_g (lw_at lw_m3 210 rfl) rfl
theorem q857 : (Jvm.Cond.classLink "GoatCourt$Reader" (139 : Nat) "GoatCourt$Place") ∈ lw_all := lw_g (lw_at lw_m3 211 rfl) rfl
theorem q859 : (Jvm.Cond.methodLink "GoatCourt$Reader" (230 : Nat) ({ cls := "GoatCourt$Reader", name := "newName", desc := "()Ljava/lang/String;" } : Jvm.MethodName)) ∈ lw_all := lw_g (lw_at lw_m3 213 rfl) rfl
theorem q860 : (Jvm.Cond.privateMethod ({ cls := "GoatCourt$Reader", name := "newName", desc := "()Ljava/lang/String;" } : Jvm.MethodName)) ∈ lw_tbl := lw_at lw_m3 214 rfl
theorem q861 : (Jvm.Cond.instanceMethod ({ cls := "GoatCourt$Reader", name := "newName", desc := "()Ljava/lang/String;" } : Jvm.MethodName)) ∈ lw_all := lw_g (lw_at lw_m3 215 rfl) rfl
theorem q862 : (Jvm.Cond.code ({ cls := "GoatCourt$Reader", name := "newName", desc := "()Ljava/lang/String;" } : Jvm.MethodName) prog_17_method_11_code (2 : Nat) (Option.some (Jvm.ClassFile.FieldType.object "java/lang/String"))) ∈ lw_all := lw_g (lw_at lw_m3 216 rfl) rfl
theorem q863 : (Jvm.Cond.methodLink "GoatCourt$Reader" (124 : Nat) ({ cls := "GoatCourt$Reader", name := "mustName", desc := "()V" } : Jvm.MethodName)) ∈ lw_all := lw_g (lw_at lw_m3 217 rfl) rfl
theorem q864 : (Jvm.Cond.privateMethod ({ cls := "GoatCourt$Reader", name := "mustName", desc := "()V" } : Jvm.MethodName)) ∈ lw_tbl := lw_at lw_m3 218 rfl
theorem q865 : (Jvm.Cond.instanceMethod ({ cls := "GoatCourt$Reader", name := "mustName", desc := "()V" } : Jvm.MethodName)) ∈ lw_all := lw_g (lw_at lw_m3 219 rfl) rfl
theorem q866 : (Jvm.Cond.code ({ cls := "GoatCourt$Reader", name := "mustName", desc := "()V" } : Jvm.MethodName) prog_17_method_10_code (3 : Nat) (Option.none : Option Jvm.ClassFile.FieldType)) ∈ lw_all := lw_g (lw_at lw_m3 220 rfl) rfl
theorem q867 : (Jvm.Cond.stringRef "GoatCourt$Reader" (122 : Nat) "if") ∈ lw_tbl := lw_at lw_m3 221 rfl
theorem q868 : (Jvm.Cond.methodLink "GoatCourt$Reader" (130 : Nat) ({ cls := "GoatCourt$Hill", name := "find", desc := "(Ljava/lang/String;)LGoatCourt$Named;" } : Jvm.MethodName)) ∈ lw_all := lw_g (lw_at lw_m3 222 rfl) rfl
theorem q876 : (Jvm.Cond.methodLink "GoatCourt$Reader" (234 : Nat) ({ cls := "GoatCourt$Place", name := "<init>", desc := "(Ljava/lang/String;I)V" } : Jvm.MethodName)) ∈ lw_all := lw_g (lw_at lw_m3 230 rfl) rfl
theorem q886 : (Jvm.Cond.fieldLink "GoatCourt$Reader" (237 : Nat) "GoatCourt$Place" "plants" "[I") ∈ lw_all := lw_g (lw_at lw_m4 0 rfl) rfl
theorem q888 : (Jvm.Cond.fieldLink "GoatCourt$Reader" (263 : Nat) "GoatCourt$Place" "near" "I") ∈ lw_all := lw_g (lw_at lw_m4 2 rfl) rfl
theorem q895 : (Jvm.Cond.fieldLink "GoatCourt$Reader" (253 : Nat) "GoatCourt$Place" "number" "I") ∈ lw_all := lw_g (lw_at lw_m4 9 rfl) rfl
theorem q897 : (Jvm.Cond.fieldLink "GoatCourt$Reader" (352 : Nat) "GoatCourt$Person" "number" "I") ∈ lw_all := lw_g (lw_at lw_m4 11 rfl) rfl
theorem q899 : (Jvm.Cond.fieldLink "GoatCourt$Reader" (356 : Nat) "GoatCourt$Goat" "number" "I") ∈ lw_all := lw_g (lw_at lw_m4 13 rfl) rfl
theorem q900 : (Jvm.Cond.fieldLink "GoatCourt$Reader" (397 : Nat) "GoatCourt$Fact" "number" "I") ∈ lw_all := lw_g (lw_at lw_m4 14 rfl) rfl
theorem q911 : (Jvm.Cond.methodLink "GoatCourt$Reader" (240 : Nat) ({ cls := "GoatCourt$Reader", name := "numbers", desc := "([II)V" } : Jvm.MethodName)) ∈ lw_all := lw_g (lw_at lw_m4 25 rfl) rfl
theorem q912 : (Jvm.Cond.privateMethod ({ cls := "GoatCourt$Reader", name := "numbers", desc := "([II)V" } : Jvm.MethodName)) ∈ lw_tbl := lw_at lw_m4 26 rfl
theorem q913 : (Jvm.Cond.instanceMethod ({ cls := "GoatCourt$Reader", name := "numbers", desc := "([II)V" } : Jvm.MethodName)) ∈ lw_all := lw_g (lw_at lw_m4 27 rfl) rfl
theorem q914 : (Jvm.Cond.code ({ cls := "GoatCourt$Reader", name := "numbers", desc := "([II)V" } : Jvm.MethodName) prog_17_method_22_code (4 : Nat) (Option.none : Option Jvm.ClassFile.FieldType)) ∈ lw_all := lw_g (lw_at lw_m4 28 rfl) rfl
theorem q915 : (Jvm.Cond.methodLink "GoatCourt$Reader" (169 : Nat) ({ cls := "GoatCourt$Reader", name := "comma", desc := "()Z" } : Jvm.MethodName)) ∈ lw_all := lw_g (lw_at lw_m4 29 rfl) rfl
theorem q916 : (Jvm.Cond.privateMethod ({ cls := "GoatCourt$Reader", name := "comma", desc := "()Z" } : Jvm.MethodName)) ∈ lw_tbl := lw_at lw_m4 30 rfl
theorem q917 : (Jvm.Cond.instanceMethod ({ cls := "GoatCourt$Reader", name := "comma", desc := "()Z" } : Jvm.MethodName)) ∈ lw_all := lw_g (lw_at lw_m4 31 rfl) rfl
theorem q918 : (Jvm.Cond.code ({ cls := "GoatCourt$Reader", name := "comma", desc := "()Z" } : Jvm.MethodName) prog_17_method_9_code (1 : Nat) (Option.some Jvm.ClassFile.FieldType.boolean)) ∈ lw_all := lw_g (lw_at lw_m4 32 rfl) rfl
theorem q919 : (Jvm.Cond.methodLink "GoatCourt$Reader" (193 : Nat) ({ cls := "GoatCourt$Reader", name := "path", desc := "()V" } : Jvm.MethodName)) ∈ lw_all := lw_g (lw_at lw_m4 33 rfl) rfl
theorem q920 : (Jvm.Cond.privateMethod ({ cls := "GoatCourt$Reader", name := "path", desc := "()V" } : Jvm.MethodName)) ∈ lw_tbl := lw_at lw_m4 34 rfl
theorem q921 : (Jvm.Cond.instanceMethod ({ cls := "GoatCourt$Reader", name := "path", desc := "()V" } : Jvm.MethodName)) ∈ lw_all := lw_g (lw_at lw_m4 35 rfl) rfl
theorem q922 : (Jvm.Cond.code ({ cls := "GoatCourt$Reader", name := "path", desc := "()V" } : Jvm.MethodName) prog_17_method_30_code (3 : Nat) (Option.none : Option Jvm.ClassFile.FieldType)) ∈ lw_all := lw_g (lw_at lw_m4 36 rfl) rfl
theorem q923 : (Jvm.Cond.methodLink "GoatCourt$Reader" (251 : Nat) ({ cls := "GoatCourt$Reader", name := "place", desc := "()LGoatCourt$Place;" } : Jvm.MethodName)) ∈ lw_all := lw_g (lw_at lw_m4 37 rfl) rfl
theorem q924 : (Jvm.Cond.privateMethod ({ cls := "GoatCourt$Reader", name := "place", desc := "()LGoatCourt$Place;" } : Jvm.MethodName)) ∈ lw_tbl := lw_at lw_m4 38 rfl
theorem q925 : (Jvm.Cond.instanceMethod ({ cls := "GoatCourt$Reader", name := "place", desc := "()LGoatCourt$Place;" } : Jvm.MethodName)) ∈ lw_all := lw_g (lw_at lw_m4 39 rfl) rfl
theorem q926 : (Jvm.Cond.code ({ cls := "GoatCourt$Reader", name := "place", desc := "()LGoatCourt$Place;" } : Jvm.MethodName) prog_17_method_14_code (2 : Nat) (Option.some (Jvm.ClassFile.FieldType.object "GoatCourt$Place"))) ∈ lw_all := lw_g (lw_at lw_m4 40 rfl) rfl
theorem q927 : (Jvm.Cond.methodLink "GoatCourt$Reader" (141 : Nat) ({ cls := "GoatCourt$Reader", name := "placeHere", desc := "()LGoatCourt$Place;" } : Jvm.MethodName)) ∈ lw_all := lw_g (lw_at lw_m4 41 rfl) rfl
theorem q928 : (Jvm.Cond.privateMethod ({ cls := "GoatCourt$Reader", name := "placeHere", desc := "()LGoatCourt$Place;" } : Jvm.MethodName)) ∈ lw_tbl := lw_at lw_m4 42 rfl
theorem q929 : (Jvm.Cond.instanceMethod ({ cls := "GoatCourt$Reader", name := "placeHere", desc := "()LGoatCourt$Place;" } : Jvm.MethodName)) ∈ lw_all := lw_g (lw_at lw_m4 43 rfl) rfl
theorem q930 : (Jvm.Cond.code ({ cls := "GoatCourt$Reader", name := "placeHere", desc := "()LGoatCourt$Place;" } : Jvm.MethodName) prog_17_method_13_code (2 : Nat) (Option.some (Jvm.ClassFile.FieldType.object "GoatCourt$Place"))) ∈ lw_all := lw_g (lw_at lw_m4 44 rfl) rfl
theorem q931 : (Jvm.Cond.methodLink "GoatCourt$Reader" (136 : Nat) ({ cls := "GoatCourt$Reader", name := "found", desc := "()LGoatCourt$Named;" } : Jvm.MethodName)) ∈ lw_all := lw_g (lw_at lw_m4 45 rfl) rfl
theorem q932 : (Jvm.Cond.privateMethod ({ cls := "GoatCourt$Reader", name := "found", desc := "()LGoatCourt$Named;" } : Jvm.MethodName)) ∈ lw_tbl := lw_at lw_m4 46 rfl
theorem q933 : (Jvm.Cond.instanceMethod ({ cls := "GoatCourt$Reader", name := "found", desc := "()LGoatCourt$Named;" } : Jvm.MethodName)) ∈ lw_all := lw_g (lw_at lw_m4 47 rfl) rfl
theorem q934 : (Jvm.Cond.code ({ cls := "GoatCourt$Reader", name := "found", desc := "()LGoatCourt$Named;" } : Jvm.MethodName) prog_17_method_12_code (1 : Nat) (Option.some (Jvm.ClassFile.FieldType.object "GoatCourt$Named"))) ∈ lw_all := lw_g (lw_at lw_m4 48 rfl) rfl
theorem q935 : (Jvm.Cond.methodLink "GoatCourt$Reader" (255 : Nat) ({ cls := "GoatCourt$Hill", name := "path", desc := "(II)I" } : Jvm.MethodName)) ∈ lw_all := lw_g (lw_at lw_m4 49 rfl) rfl
theorem q939 : (Jvm.Cond.methodLink "GoatCourt$Reader" (195 : Nat) ({ cls := "GoatCourt$Reader", name := "person", desc := "()V" } : Jvm.MethodName)) ∈ lw_all := lw_g (lw_at lw_m4 53 rfl) rfl
theorem q940 : (Jvm.Cond.privateMethod ({ cls := "GoatCourt$Reader", name := "person", desc := "()V" } : Jvm.MethodName)) ∈ lw_tbl := lw_at lw_m4 54 rfl
theorem q941 : (Jvm.Cond.instanceMethod ({ cls := "GoatCourt$Reader", name := "person", desc := "()V" } : Jvm.MethodName)) ∈ lw_all := lw_g (lw_at lw_m4 55 rfl) rfl
theorem q942 : (Jvm.Cond.code ({ cls := "GoatCourt$Reader", name := "person", desc := "()V" } : Jvm.MethodName) prog_17_method_31_code (1 : Nat) (Option.none : Option Jvm.ClassFile.FieldType)) ∈ lw_all := lw_g (lw_at lw_m4 56 rfl) rfl
theorem q943 : (Jvm.Cond.classLink "GoatCourt$Reader" (145 : Nat) "GoatCourt$Person") ∈ lw_all := lw_g (lw_at lw_m4 57 rfl) rfl
theorem q945 : (Jvm.Cond.methodLink "GoatCourt$Reader" (273 : Nat) ({ cls := "GoatCourt$Person", name := "<init>", desc := "(Ljava/lang/String;I)V" } : Jvm.MethodName)) ∈ lw_all := lw_g (lw_at lw_m4 59 rfl) rfl
theorem q954 : (Jvm.Cond.fieldLink "GoatCourt$Reader" (278 : Nat) "GoatCourt$Person" "many" "I") ∈ lw_all := lw_g (lw_at lw_m4 68 rfl) rfl
theorem q964 : (Jvm.Cond.methodLink "GoatCourt$Reader" (197 : Nat) ({ cls := "GoatCourt$Reader", name := "story", desc := "()V" } : Jvm.MethodName)) ∈ lw_all := lw_g (lw_at lw_m4 78 rfl) rfl
theorem q965 : (Jvm.Cond.privateMethod ({ cls := "GoatCourt$Reader", name := "story", desc := "()V" } : Jvm.MethodName)) ∈ lw_tbl := lw_at lw_m4 79 rfl
theorem q966 : (Jvm.Cond.instanceMethod ({ cls := "GoatCourt$Reader", name := "story", desc := "()V" } : Jvm.MethodName)) ∈ lw_all := lw_g (lw_at lw_m4 80 rfl) rfl
theorem q967 : (Jvm.Cond.code ({ cls := "GoatCourt$Reader", name := "story", desc := "()V" } : Jvm.MethodName) prog_17_method_32_code (4 : Nat) (Option.none : Option Jvm.ClassFile.FieldType)) ∈ lw_all := lw_g (lw_at lw_m4 81 rfl) rfl
theorem q968 : (Jvm.Cond.methodLink "GoatCourt$Reader" (274 : Nat) ({ cls := "GoatCourt$Reader", name := "personHere", desc := "()LGoatCourt$Person;" } : Jvm.MethodName)) ∈ lw_all := lw_g (lw_at lw_m4 82 rfl) rfl
theorem q969 : (Jvm.Cond.privateMethod ({ cls := "GoatCourt$Reader", name := "personHere", desc := "()LGoatCourt$Person;" } : Jvm.MethodName)) ∈ lw_tbl := lw_at lw_m4 83 rfl
theorem q970 : (Jvm.Cond.instanceMethod ({ cls := "GoatCourt$Reader", name := "personHere", desc := "()LGoatCourt$Person;" } : Jvm.MethodName)) ∈ lw_all := lw_g (lw_at lw_m4 84 rfl) rfl
theorem q971 : (Jvm.Cond.code ({ cls := "GoatCourt$Reader", name := "personHere", desc := "()LGoatCourt$Person;" } : Jvm.MethodName) prog_17_method_15_code (2 : Nat) (Option.some (Jvm.ClassFile.FieldType.object "GoatCourt$Person"))) ∈ lw_all := lw_g (lw_at lw_m4 85 rfl) rfl
theorem q972 : (Jvm.Cond.methodLink "GoatCourt$Reader" (281 : Nat) ({ cls := "GoatCourt$Person", name := "begin", desc := "()V" } : Jvm.MethodName)) ∈ lw_all := lw_g (lw_at lw_m4 86 rfl) rfl
theorem q976 : (Jvm.Cond.methodLink "GoatCourt$Reader" (284 : Nat) ({ cls := "GoatCourt$Person", name := "size", desc := "()I" } : Jvm.MethodName)) ∈ lw_all := lw_g (lw_at lw_m4 90 rfl) rfl
theorem q980 : (Jvm.Cond.methodLink "GoatCourt$Reader" (286 : Nat) ({ cls := "GoatCourt$Person", name := "add", desc := "(I)V" } : Jvm.MethodName)) ∈ lw_all := lw_g (lw_at lw_m4 94 rfl) rfl
theorem q984 : (Jvm.Cond.methodLink "GoatCourt$Reader" (199 : Nat) ({ cls := "GoatCourt$Reader", name := "goatLine", desc := "()V" } : Jvm.MethodName)) ∈ lw_all := lw_g (lw_at lw_m4 98 rfl) rfl
theorem q985 : (Jvm.Cond.privateMethod ({ cls := "GoatCourt$Reader", name := "goatLine", desc := "()V" } : Jvm.MethodName)) ∈ lw_tbl := lw_at lw_m4 99 rfl
theorem q986 : (Jvm.Cond.instanceMethod ({ cls := "GoatCourt$Reader", name := "goatLine", desc := "()V" } : Jvm.MethodName)) ∈ lw_all := lw_g (lw_at lw_m4 100 rfl) rfl
theorem q987 : (Jvm.Cond.code ({ cls := "GoatCourt$Reader", name := "goatLine", desc := "()V" } : Jvm.MethodName) prog_17_method_35_code (2 : Nat) (Option.none : Option Jvm.ClassFile.FieldType)) ∈ lw_all := lw_g (lw_at lw_m4 101 rfl) rfl
theorem q988 : (Jvm.Cond.methodLink "GoatCourt$Reader" (328 : Nat) ({ cls := "GoatCourt$Reader", name := "goatOf", desc := "(Ljava/lang/String;I)LGoatCourt$Goat;" } : Jvm.MethodName)) ∈ lw_all := lw_g (lw_at lw_m4 102 rfl) rfl
theorem q989 : (Jvm.Cond.privateMethod ({ cls := "GoatCourt$Reader", name := "goatOf", desc := "(Ljava/lang/String;I)LGoatCourt$Goat;" } : Jvm.MethodName)) ∈ lw_tbl := lw_at lw_m4 103 rfl
theorem q990 : (Jvm.Cond.instanceMethod ({ cls := "GoatCourt$Reader", name := "goatOf", desc := "(Ljava/lang/String;I)LGoatCourt$Goat;" } : Jvm.MethodName)) ∈ lw_all := lw_g (lw_at lw_m4 104 rfl) rfl
theorem q991 : (Jvm.Cond.code ({ cls := "GoatCourt$Reader", name := "goatOf", desc := "(Ljava/lang/String;I)LGoatCourt$Goat;" } : Jvm.MethodName) prog_17_method_33_code (3 : Nat) (Option.some (Jvm.ClassFile.FieldType.object "GoatCourt$Goat"))) ∈ lw_all := lw_g (lw_at lw_m4 105 rfl) rfl
theorem q992 : (Jvm.Cond.stringRef "GoatCourt$Reader" (290 : Nat) "plain") ∈ lw_tbl := lw_at lw_m4 106 rfl
theorem q993 : (Jvm.Cond.classLink "GoatCourt$Reader" (292 : Nat) "GoatCourt$Plain") ∈ lw_all := lw_g (lw_at lw_m4 107 rfl) rfl
theorem q995 : (Jvm.Cond.methodLink "GoatCourt$Reader" (294 : Nat) ({ cls := "GoatCourt$Plain", name := "<init>", desc := "(Ljava/lang/String;I)V" } : Jvm.MethodName)) ∈ lw_all := lw_g (lw_at lw_m4 109 rfl) rfl
theorem q1005 : (Jvm.Cond.fieldLink "GoatCourt$Reader" (319 : Nat) "GoatCourt$Goat" "order" "[I") ∈ lw_all := lw_g (lw_at lw_m4 119 rfl) rfl
theorem q1008 : (Jvm.Cond.fieldLink "GoatCourt$Reader" (322 : Nat) "GoatCourt$Goat" "likes" "I") ∈ lw_all := lw_g (lw_at lw_m4 122 rfl) rfl
theorem q1011 : (Jvm.Cond.fieldLink "GoatCourt$Reader" (337 : Nat) "GoatCourt$Goat" "begins" "I") ∈ lw_all := lw_g (lw_at lw_m4 125 rfl) rfl
theorem q1013 : (Jvm.Cond.fieldLink "GoatCourt$Reader" (341 : Nat) "GoatCourt$Goat" "trust" "I") ∈ lw_all := lw_g (lw_at lw_m4 127 rfl) rfl
theorem q1016 : (Jvm.Cond.fieldLink "GoatCourt$Reader" (350 : Nat) "GoatCourt$Goat" "fears" "I") ∈ lw_all := lw_g (lw_at lw_m4 130 rfl) rfl
theorem q1030 : (Jvm.Cond.stringRef "GoatCourt$Reader" (295 : Nat) "shy") ∈ lw_tbl := lw_at lw_m4 144 rfl
theorem q1031 : (Jvm.Cond.classLink "GoatCourt$Reader" (297 : Nat) "GoatCourt$Shy") ∈ lw_all := lw_g (lw_at lw_m4 145 rfl) rfl
theorem q1033 : (Jvm.Cond.methodLink "GoatCourt$Reader" (299 : Nat) ({ cls := "GoatCourt$Shy", name := "<init>", desc := "(Ljava/lang/String;I)V" } : Jvm.MethodName)) ∈ lw_all := lw_g (lw_at lw_m4 147 rfl) rfl
theorem q1045 : (Jvm.Cond.stringRef "GoatCourt$Reader" (300 : Nat) "billy") ∈ lw_tbl := lw_at lw_m4 159 rfl
theorem q1046 : (Jvm.Cond.classLink "GoatCourt$Reader" (302 : Nat) "GoatCourt$Billy") ∈ lw_all := lw_g (lw_at lw_m4 160 rfl) rfl
theorem q1048 : (Jvm.Cond.methodLink "GoatCourt$Reader" (304 : Nat) ({ cls := "GoatCourt$Billy", name := "<init>", desc := "(Ljava/lang/String;I)V" } : Jvm.MethodName)) ∈ lw_all := lw_g (lw_at lw_m4 162 rfl) rfl
theorem q1060 : (Jvm.Cond.stringRef "GoatCourt$Reader" (305 : Nat) "kid") ∈ lw_tbl := lw_at lw_m4 174 rfl
theorem q1061 : (Jvm.Cond.classLink "GoatCourt$Reader" (307 : Nat) "GoatCourt$Kid") ∈ lw_all := lw_g (lw_at lw_m4 175 rfl) rfl
theorem q1063 : (Jvm.Cond.methodLink "GoatCourt$Reader" (309 : Nat) ({ cls := "GoatCourt$Reader", name := "goat", desc := "()LGoatCourt$Goat;" } : Jvm.MethodName)) ∈ lw_all := lw_g (lw_at lw_m4 177 rfl) rfl
theorem q1064 : (Jvm.Cond.privateMethod ({ cls := "GoatCourt$Reader", name := "goat", desc := "()LGoatCourt$Goat;" } : Jvm.MethodName)) ∈ lw_tbl := lw_at lw_m4 178 rfl
theorem q1065 : (Jvm.Cond.instanceMethod ({ cls := "GoatCourt$Reader", name := "goat", desc := "()LGoatCourt$Goat;" } : Jvm.MethodName)) ∈ lw_all := lw_g (lw_at lw_m4 179 rfl) rfl
theorem q1066 : (Jvm.Cond.code ({ cls := "GoatCourt$Reader", name := "goat", desc := "()LGoatCourt$Goat;" } : Jvm.MethodName) prog_17_method_16_code (2 : Nat) (Option.some (Jvm.ClassFile.FieldType.object "GoatCourt$Goat"))) ∈ lw_all := lw_g (lw_at lw_m4 180 rfl) rfl
theorem q1067 : (Jvm.Cond.classLink "GoatCourt$Reader" (147 : Nat) "GoatCourt$Goat") ∈ lw_all := lw_g (lw_at lw_m4 181 rfl) rfl
theorem q1068 : (Jvm.Cond.methodLink "GoatCourt$Reader" (312 : Nat) ({ cls := "GoatCourt$Kid", name := "<init>", desc := "(Ljava/lang/String;ILGoatCourt$Goat;)V" } : Jvm.MethodName)) ∈ lw_all := lw_g (lw_at lw_m4 182 rfl) rfl
theorem q1083 : (Jvm.Cond.stringRef "GoatCourt$Reader" (332 : Nat) "likes") ∈ lw_tbl := lw_at lw_m4 197 rfl
theorem q1084 : (Jvm.Cond.methodLink "GoatCourt$Reader" (333 : Nat) ({ cls := "GoatCourt$Reader", name := "order", desc := "(LGoatCourt$Goat;)V" } : Jvm.MethodName)) ∈ lw_all := lw_g (lw_at lw_m4 198 rfl) rfl
theorem q1085 : (Jvm.Cond.privateMethod ({ cls := "GoatCourt$Reader", name := "order", desc := "(LGoatCourt$Goat;)V" } : Jvm.MethodName)) ∈ lw_tbl := lw_at lw_m4 199 rfl
theorem q1086 : (Jvm.Cond.instanceMethod ({ cls := "GoatCourt$Reader", name := "order", desc := "(LGoatCourt$Goat;)V" } : Jvm.MethodName)) ∈ lw_all := lw_g (lw_at lw_m4 200 rfl) rfl
theorem q1087 : (Jvm.Cond.code ({ cls := "GoatCourt$Reader", name := "order", desc := "(LGoatCourt$Goat;)V" } : Jvm.MethodName) prog_17_method_34_code (5 : Nat) (Option.none : Option Jvm.ClassFile.FieldType)) ∈ lw_all := lw_g (lw_at lw_m4 201 rfl) rfl
theorem q1088 : (Jvm.Cond.methodLink "GoatCourt$Reader" (173 : Nat) ({ cls := "java/lang/String", name := "length", desc := "()I" } : Jvm.MethodName)) ∈ lw_all := lw_g (lw_at lw_m4 202 rfl) rfl
theorem q1096 : (Jvm.Cond.methodLink "GoatCourt$Reader" (176 : Nat) ({ cls := "java/lang/String", name := "charAt", desc := "(I)C" } : Jvm.MethodName)) ∈ lw_all := lw_g (lw_at lw_m4 210 rfl) rfl
theorem q1116 : (Jvm.Cond.methodLinkNest "GoatCourt$Reader" (315 : Nat) ({ cls := "GoatCourt", name := "has", desc := "(II)Z" } : Jvm.MethodName) "GoatCourt") ∈ lw_tbl := lw_at lw_m4 230 rfl
theorem q1119 : (Jvm.Cond.stringRef "GoatCourt$Reader" (336 : Nat) "at") ∈ lw_tbl := lw_at lw_m4 233 rfl
theorem q1120 : (Jvm.Cond.stringRef "GoatCourt$Reader" (339 : Nat) "trust") ∈ lw_tbl := lw_at lw_m4 234 rfl
theorem q1121 : (Jvm.Cond.methodLink "GoatCourt$Reader" (202 : Nat) ({ cls := "GoatCourt$Reader", name := "fears", desc := "()V" } : Jvm.MethodName)) ∈ lw_all := lw_g (lw_at lw_m4 235 rfl) rfl
theorem q1122 : (Jvm.Cond.privateMethod ({ cls := "GoatCourt$Reader", name := "fears", desc := "()V" } : Jvm.MethodName)) ∈ lw_tbl := lw_at lw_m4 236 rfl
theorem q1123 : (Jvm.Cond.instanceMethod ({ cls := "GoatCourt$Reader", name := "fears", desc := "()V" } : Jvm.MethodName)) ∈ lw_all := lw_g (lw_at lw_m4 237 rfl) rfl
theorem q1124 : (Jvm.Cond.code ({ cls := "GoatCourt$Reader", name := "fears", desc := "()V" } : Jvm.MethodName) prog_17_method_36_code (3 : Nat) (Option.none : Option Jvm.ClassFile.FieldType)) ∈ lw_all := lw_g (lw_at lw_m4 238 rfl) rfl
theorem q1125 : (Jvm.Cond.methodLink "GoatCourt$Reader" (204 : Nat) ({ cls := "GoatCourt$Reader", name := "clue", desc := "()V" } : Jvm.MethodName)) ∈ lw_all := lw_g (lw_at lw_m4 239 rfl) rfl
theorem q1126 : (Jvm.Cond.privateMethod ({ cls := "GoatCourt$Reader", name := "clue", desc := "()V" } : Jvm.MethodName)) ∈ lw_tbl := lw_at lw_m5 0 rfl
theorem q1127 : (Jvm.Cond.instanceMethod ({ cls := "GoatCourt$Reader", name := "clue", desc := "()V" } : Jvm.MethodName)) ∈ lw_all := lw_g (lw_at lw_m5 1 rfl) rfl
theorem q1128 : (Jvm.Cond.code ({ cls := "GoatCourt$Reader", name := "clue", desc := "()V" } : Jvm.MethodName) prog_17_method_37_code (5 : Nat) (Option.none : Option Jvm.ClassFile.FieldType)) ∈ lw_all := lw_g (lw_at lw_m5 2 rfl) rfl
theorem q1129 : (Jvm.Cond.methodLink "GoatCourt$Reader" (357 : Nat) ({ cls := "GoatCourt$Reader", name := "plant", desc := "()I" } : Jvm.MethodName)) ∈ lw_all := lw_g (lw_at lw_m5 3 rfl) rfl
theorem q1130 : (Jvm.Cond.privateMethod ({ cls := "GoatCourt$Reader", name := "plant", desc := "()I" } : Jvm.MethodName)) ∈ lw_tbl := lw_at lw_m5 4 rfl
theorem q1131 : (Jvm.Cond.instanceMethod ({ cls := "GoatCourt$Reader", name := "plant", desc := "()I" } : Jvm.MethodName)) ∈ lw_all := lw_g (lw_at lw_m5 5 rfl) rfl
theorem q1132 : (Jvm.Cond.code ({ cls := "GoatCourt$Reader", name := "plant", desc := "()I" } : Jvm.MethodName) prog_17_method_23_code (2 : Nat) (Option.some Jvm.ClassFile.FieldType.int)) ∈ lw_all := lw_g (lw_at lw_m5 6 rfl) rfl
theorem q1133 : (Jvm.Cond.classLink "GoatCourt$Reader" (360 : Nat) "GoatCourt$Found") ∈ lw_all := lw_g (lw_at lw_m5 7 rfl) rfl
theorem q1135 : (Jvm.Cond.methodLink "GoatCourt$Reader" (362 : Nat) ({ cls := "GoatCourt$Found", name := "<init>", desc := "(III)V" } : Jvm.MethodName)) ∈ lw_all := lw_g (lw_at lw_m5 9 rfl) rfl
theorem q1175 : (Jvm.Cond.classLink "GoatCourt$Reader" (365 : Nat) "GoatCourt$SeenThere") ∈ lw_all := lw_g (lw_at lw_m5 49 rfl) rfl
theorem q1177 : (Jvm.Cond.methodLink "GoatCourt$Reader" (367 : Nat) ({ cls := "GoatCourt$Reader", name := "hour", desc := "()I" } : Jvm.MethodName)) ∈ lw_all := lw_g (lw_at lw_m5 51 rfl) rfl
theorem q1178 : (Jvm.Cond.privateMethod ({ cls := "GoatCourt$Reader", name := "hour", desc := "()I" } : Jvm.MethodName)) ∈ lw_tbl := lw_at lw_m5 52 rfl
theorem q1179 : (Jvm.Cond.instanceMethod ({ cls := "GoatCourt$Reader", name := "hour", desc := "()I" } : Jvm.MethodName)) ∈ lw_all := lw_g (lw_at lw_m5 53 rfl) rfl
theorem q1180 : (Jvm.Cond.code ({ cls := "GoatCourt$Reader", name := "hour", desc := "()I" } : Jvm.MethodName) prog_17_method_21_code (1 : Nat) (Option.some Jvm.ClassFile.FieldType.int)) ∈ lw_all := lw_g (lw_at lw_m5 54 rfl) rfl
theorem q1181 : (Jvm.Cond.methodLink "GoatCourt$Reader" (370 : Nat) ({ cls := "GoatCourt$SeenThere", name := "<init>", desc := "(III)V" } : Jvm.MethodName)) ∈ lw_all := lw_g (lw_at lw_m5 55 rfl) rfl
theorem q1189 : (Jvm.Cond.classLink "GoatCourt$Reader" (371 : Nat) "GoatCourt$Shied") ∈ lw_all := lw_g (lw_at lw_m5 63 rfl) rfl
theorem q1191 : (Jvm.Cond.methodLink "GoatCourt$Reader" (373 : Nat) ({ cls := "GoatCourt$Shied", name := "<init>", desc := "(III)V" } : Jvm.MethodName)) ∈ lw_all := lw_g (lw_at lw_m5 65 rfl) rfl
theorem q1199 : (Jvm.Cond.methodLink "GoatCourt$Reader" (207 : Nat) ({ cls := "GoatCourt$Reader", name := "factLine", desc := "()V" } : Jvm.MethodName)) ∈ lw_all := lw_g (lw_at lw_m5 73 rfl) rfl
theorem q1200 : (Jvm.Cond.privateMethod ({ cls := "GoatCourt$Reader", name := "factLine", desc := "()V" } : Jvm.MethodName)) ∈ lw_tbl := lw_at lw_m5 74 rfl
theorem q1201 : (Jvm.Cond.instanceMethod ({ cls := "GoatCourt$Reader", name := "factLine", desc := "()V" } : Jvm.MethodName)) ∈ lw_all := lw_g (lw_at lw_m5 75 rfl) rfl
theorem q1202 : (Jvm.Cond.code ({ cls := "GoatCourt$Reader", name := "factLine", desc := "()V" } : Jvm.MethodName) prog_17_method_38_code (1 : Nat) (Option.none : Option Jvm.ClassFile.FieldType)) ∈ lw_all := lw_g (lw_at lw_m5 76 rfl) rfl
theorem q1203 : (Jvm.Cond.classLink "GoatCourt$Reader" (149 : Nat) "GoatCourt$Fact") ∈ lw_all := lw_g (lw_at lw_m5 77 rfl) rfl
theorem q1205 : (Jvm.Cond.methodLink "GoatCourt$Reader" (385 : Nat) ({ cls := "GoatCourt$Fact", name := "<init>", desc := "(Ljava/lang/String;I)V" } : Jvm.MethodName)) ∈ lw_all := lw_g (lw_at lw_m5 79 rfl) rfl
theorem q1210 : (Jvm.Cond.fieldLink "GoatCourt$Reader" (386 : Nat) "GoatCourt$Fact" "holds" "Z") ∈ lw_all := lw_g (lw_at lw_m5 84 rfl) rfl
theorem q1217 : (Jvm.Cond.methodLink "GoatCourt$Reader" (210 : Nat) ({ cls := "GoatCourt$Reader", name := "holds", desc := "()V" } : Jvm.MethodName)) ∈ lw_all := lw_g (lw_at lw_m5 91 rfl) rfl
theorem q1218 : (Jvm.Cond.privateMethod ({ cls := "GoatCourt$Reader", name := "holds", desc := "()V" } : Jvm.MethodName)) ∈ lw_tbl := lw_at lw_m5 92 rfl
theorem q1219 : (Jvm.Cond.instanceMethod ({ cls := "GoatCourt$Reader", name := "holds", desc := "()V" } : Jvm.MethodName)) ∈ lw_all := lw_g (lw_at lw_m5 93 rfl) rfl
theorem q1220 : (Jvm.Cond.code ({ cls := "GoatCourt$Reader", name := "holds", desc := "()V" } : Jvm.MethodName) prog_17_method_39_code (2 : Nat) (Option.none : Option Jvm.ClassFile.FieldType)) ∈ lw_all := lw_g (lw_at lw_m5 94 rfl) rfl
theorem q1221 : (Jvm.Cond.methodLink "GoatCourt$Reader" (151 : Nat) ({ cls := "GoatCourt$Reader", name := "factHere", desc := "()LGoatCourt$Fact;" } : Jvm.MethodName)) ∈ lw_all := lw_g (lw_at lw_m5 95 rfl) rfl
theorem q1222 : (Jvm.Cond.privateMethod ({ cls := "GoatCourt$Reader", name := "factHere", desc := "()LGoatCourt$Fact;" } : Jvm.MethodName)) ∈ lw_tbl := lw_at lw_m5 96 rfl
theorem q1223 : (Jvm.Cond.instanceMethod ({ cls := "GoatCourt$Reader", name := "factHere", desc := "()LGoatCourt$Fact;" } : Jvm.MethodName)) ∈ lw_all := lw_g (lw_at lw_m5 97 rfl) rfl
theorem q1224 : (Jvm.Cond.code ({ cls := "GoatCourt$Reader", name := "factHere", desc := "()LGoatCourt$Fact;" } : Jvm.MethodName) prog_17_method_17_code (2 : Nat) (Option.some (Jvm.ClassFile.FieldType.object "GoatCourt$Fact"))) ∈ lw_all := lw_g (lw_at lw_m5 98 rfl) rfl
theorem q1225 : (Jvm.Cond.methodLink "GoatCourt$Reader" (212 : Nat) ({ cls := "GoatCourt$Reader", name := "rule", desc := "()V" } : Jvm.MethodName)) ∈ lw_all := lw_g (lw_at lw_m5 99 rfl) rfl
theorem q1226 : (Jvm.Cond.privateMethod ({ cls := "GoatCourt$Reader", name := "rule", desc := "()V" } : Jvm.MethodName)) ∈ lw_tbl := lw_at lw_m5 100 rfl
theorem q1227 : (Jvm.Cond.instanceMethod ({ cls := "GoatCourt$Reader", name := "rule", desc := "()V" } : Jvm.MethodName)) ∈ lw_all := lw_g (lw_at lw_m5 101 rfl) rfl
theorem q1228 : (Jvm.Cond.code ({ cls := "GoatCourt$Reader", name := "rule", desc := "()V" } : Jvm.MethodName) prog_17_method_40_code (4 : Nat) (Option.none : Option Jvm.ClassFile.FieldType)) ∈ lw_all := lw_g (lw_at lw_m5 102 rfl) rfl
theorem q1229 : (Jvm.Cond.classLink "GoatCourt$Reader" (392 : Nat) "GoatCourt$Rule") ∈ lw_all := lw_g (lw_at lw_m5 103 rfl) rfl
theorem q1231 : (Jvm.Cond.methodLinkNest "GoatCourt$Reader" (394 : Nat) ({ cls := "GoatCourt$Rule", name := "<init>", desc := "()V" } : Jvm.MethodName) "GoatCourt") ∈ lw_tbl := lw_at lw_m5 105 rfl
theorem q1236 : (Jvm.Cond.fieldLink "GoatCourt$Reader" (404 : Nat) "GoatCourt$Rule" "body" "[I") ∈ lw_all := lw_g (lw_at lw_m5 110 rfl) rfl
theorem q1238 : (Jvm.Cond.fieldLink "GoatCourt$Reader" (398 : Nat) "GoatCourt$Rule" "head" "I") ∈ lw_all := lw_g (lw_at lw_m5 112 rfl) rfl
theorem q1241 : (Jvm.Cond.fieldLink "GoatCourt$Reader" (403 : Nat) "GoatCourt$Rule" "many" "I") ∈ lw_all := lw_g (lw_at lw_m5 115 rfl) rfl
theorem q1249 : (Jvm.Cond.methodLink "GoatCourt$Reader" (395 : Nat) ({ cls := "GoatCourt$Reader", name := "fact", desc := "()LGoatCourt$Fact;" } : Jvm.MethodName)) ∈ lw_all := lw_g (lw_at lw_m5 123 rfl) rfl
theorem q1250 : (Jvm.Cond.privateMethod ({ cls := "GoatCourt$Reader", name := "fact", desc := "()LGoatCourt$Fact;" } : Jvm.MethodName)) ∈ lw_tbl := lw_at lw_m5 124 rfl
theorem q1251 : (Jvm.Cond.instanceMethod ({ cls := "GoatCourt$Reader", name := "fact", desc := "()LGoatCourt$Fact;" } : Jvm.MethodName)) ∈ lw_all := lw_g (lw_at lw_m5 125 rfl) rfl
theorem q1252 : (Jvm.Cond.code ({ cls := "GoatCourt$Reader", name := "fact", desc := "()LGoatCourt$Fact;" } : Jvm.MethodName) prog_17_method_18_code (2 : Nat) (Option.some (Jvm.ClassFile.FieldType.object "GoatCourt$Fact"))) ∈ lw_all := lw_g (lw_at lw_m5 126 rfl) rfl
theorem q1253 : (Jvm.Cond.methodLink "GoatCourt$Reader" (401 : Nat) ({ cls := "GoatCourt$Rule", name := "has", desc := "(I)Z" } : Jvm.MethodName)) ∈ lw_all := lw_g (lw_at lw_m5 127 rfl) rfl
theorem q1257 : (Jvm.Cond.methodLink "GoatCourt$Reader" (214 : Nat) ({ cls := "GoatCourt$Reader", name := "proof", desc := "()V" } : Jvm.MethodName)) ∈ lw_all := lw_g (lw_at lw_m5 131 rfl) rfl
theorem q1258 : (Jvm.Cond.privateMethod ({ cls := "GoatCourt$Reader", name := "proof", desc := "()V" } : Jvm.MethodName)) ∈ lw_tbl := lw_at lw_m5 132 rfl
theorem q1259 : (Jvm.Cond.instanceMethod ({ cls := "GoatCourt$Reader", name := "proof", desc := "()V" } : Jvm.MethodName)) ∈ lw_all := lw_g (lw_at lw_m5 133 rfl) rfl
theorem q1260 : (Jvm.Cond.code ({ cls := "GoatCourt$Reader", name := "proof", desc := "()V" } : Jvm.MethodName) prog_17_method_41_code (3 : Nat) (Option.none : Option Jvm.ClassFile.FieldType)) ∈ lw_all := lw_g (lw_at lw_m5 134 rfl) rfl
theorem q1261 : (Jvm.Cond.methodLink "GoatCourt$Reader" (414 : Nat) ({ cls := "GoatCourt$Reader", name := "beginsOnce", desc := "(Z)V" } : Jvm.MethodName)) ∈ lw_all := lw_g (lw_at lw_m5 135 rfl) rfl
theorem q1262 : (Jvm.Cond.privateMethod ({ cls := "GoatCourt$Reader", name := "beginsOnce", desc := "(Z)V" } : Jvm.MethodName)) ∈ lw_tbl := lw_at lw_m5 136 rfl
theorem q1263 : (Jvm.Cond.instanceMethod ({ cls := "GoatCourt$Reader", name := "beginsOnce", desc := "(Z)V" } : Jvm.MethodName)) ∈ lw_all := lw_g (lw_at lw_m5 137 rfl) rfl
theorem q1264 : (Jvm.Cond.code ({ cls := "GoatCourt$Reader", name := "beginsOnce", desc := "(Z)V" } : Jvm.MethodName) prog_17_method_25_code (2 : Nat) (Option.none : Option Jvm.ClassFile.FieldType)) ∈ lw_all := lw_g (lw_at lw_m5 138 rfl) rfl
theorem q1265 : (Jvm.Cond.methodLink "GoatCourt$Reader" (216 : Nat) ({ cls := "GoatCourt$Reader", name := "court", desc := "()V" } : Jvm.MethodName)) ∈ lw_all := lw_g (lw_at lw_m5 139 rfl) rfl
theorem q1266 : (Jvm.Cond.privateMethod ({ cls := "GoatCourt$Reader", name := "court", desc := "()V" } : Jvm.MethodName)) ∈ lw_tbl := lw_at lw_m5 140 rfl
theorem q1267 : (Jvm.Cond.instanceMethod ({ cls := "GoatCourt$Reader", name := "court", desc := "()V" } : Jvm.MethodName)) ∈ lw_all := lw_g (lw_at lw_m5 141 rfl) rfl
theorem q1268 : (Jvm.Cond.code ({ cls := "GoatCourt$Reader", name := "court", desc := "()V" } : Jvm.MethodName) prog_17_method_42_code (2 : Nat) (Option.none : Option Jvm.ClassFile.FieldType)) ∈ lw_all := lw_g (lw_at lw_m5 142 rfl) rfl
theorem q1269 : (Jvm.Cond.classLink "GoatCourt$Reader" (423 : Nat) "GoatCourt$Court") ∈ lw_all := lw_g (lw_at lw_m5 143 rfl) rfl
theorem q1271 : (Jvm.Cond.methodLink "GoatCourt$Reader" (425 : Nat) ({ cls := "GoatCourt$Court", name := "<init>", desc := "(Ljava/lang/String;I)V" } : Jvm.MethodName)) ∈ lw_all := lw_g (lw_at lw_m5 145 rfl) rfl
theorem q1276 : (Jvm.Cond.fieldLink "GoatCourt$Reader" (428 : Nat) "GoatCourt$Court" "costs" "I") ∈ lw_all := lw_g (lw_at lw_m5 150 rfl) rfl
theorem q1278 : (Jvm.Cond.fieldLink "GoatCourt$Reader" (432 : Nat) "GoatCourt$Court" "wins" "I") ∈ lw_all := lw_g (lw_at lw_m5 152 rfl) rfl
theorem q1286 : (Jvm.Cond.stringRef "GoatCourt$Reader" (426 : Nat) "costs") ∈ lw_tbl := lw_at lw_m5 160 rfl
theorem q1287 : (Jvm.Cond.stringRef "GoatCourt$Reader" (430 : Nat) "wins") ∈ lw_tbl := lw_at lw_m5 161 rfl
theorem q1288 : (Jvm.Cond.methodLink "GoatCourt$Reader" (218 : Nat) ({ cls := "GoatCourt$Reader", name := "cheese", desc := "()V" } : Jvm.MethodName)) ∈ lw_all := lw_g (lw_at lw_m5 162 rfl) rfl
theorem q1289 : (Jvm.Cond.privateMethod ({ cls := "GoatCourt$Reader", name := "cheese", desc := "()V" } : Jvm.MethodName)) ∈ lw_tbl := lw_at lw_m5 163 rfl
theorem q1290 : (Jvm.Cond.instanceMethod ({ cls := "GoatCourt$Reader", name := "cheese", desc := "()V" } : Jvm.MethodName)) ∈ lw_all := lw_g (lw_at lw_m5 164 rfl) rfl
theorem q1291 : (Jvm.Cond.code ({ cls := "GoatCourt$Reader", name := "cheese", desc := "()V" } : Jvm.MethodName) prog_17_method_43_code (1 : Nat) (Option.none : Option Jvm.ClassFile.FieldType)) ∈ lw_all := lw_g (lw_at lw_m5 165 rfl) rfl
theorem q2789 : (Jvm.Cond.castable "GoatCourt$Reader" "java/lang/Object") ∈ lw_tbl := lw_at lw_m11 223 rfl
theorem in_X2 : ∀ w ∈ wsX20, w ∈ lw_all := lw_in wsX20 [300, 302, 304, 306, 308, 310, 312, 314, 316, 318] (by decide +kernel) (by decide +kernel)
/-! GoatCourt$Shied -/
def RX20 : String := "GoatCourt$Shied"
def TX20 : u_T := fun k => match k with
  | 0 => ("GoatCourt$Clue", "goat", "I", true)
  | 1 => ("GoatCourt$Clue", "place", "I", true)
  | _ => ("GoatCourt$Clue", "what", "I", true)
def tyX20 : Nat → FieldType := fun k => match k with
  | 0 => .int
  | 1 => .int
  | _ => .int
abbrev wsX200 : List Cond := u_ws RX20 TX20 3
theorem nmX20 : ∀ a, a < 3 → ∀ b, b < 3 → a ≠ b → (TX20 a).2.1 ≠ (TX20 b).2.1 := by decide +kernel
theorem tyX20_ok : ∀ k, k < 3 → parseFieldDescriptor (TX20 k).2.2.1 = some (tyX20 k) := by decide +kernel
abbrev cX20_init : ByteArray := prog_21_method_1_code
def yX20_init : MethodName := ⟨RX20, "<init>", "(III)V"⟩
abbrev cX20_sort : ByteArray := prog_21_method_2_code
def yX20_sort : MethodName := ⟨RX20, "sort", "()I"⟩
abbrev cX20_isTrue : ByteArray := prog_21_method_3_code
def yX20_isTrue : MethodName := ⟨RX20, "isTrue", "(LGoatCourt$Day;)Z"⟩

theorem q194 : (Jvm.Cond.initialized "GoatCourt$Shied") ∈ lw_all := lw_g (lw_at lw_m1 28 rfl) rfl
theorem q1147 : (Jvm.Cond.fieldLink "GoatCourt$Shied" (7 : Nat) "GoatCourt$Shied" "goat" "I") ∈ lw_all := lw_g (lw_at lw_m5 21 rfl) rfl
theorem q1148 : (Jvm.Cond.sameField "GoatCourt$Shied" "GoatCourt$Clue" "goat" "I") ∈ lw_all := lw_g (lw_at lw_m5 22 rfl) rfl
theorem q1157 : (Jvm.Cond.fieldLink "GoatCourt$Shied" (22 : Nat) "GoatCourt$Shied" "place" "I") ∈ lw_all := lw_g (lw_at lw_m5 31 rfl) rfl
theorem q1158 : (Jvm.Cond.sameField "GoatCourt$Shied" "GoatCourt$Clue" "place" "I") ∈ lw_all := lw_g (lw_at lw_m5 32 rfl) rfl
theorem q1165 : (Jvm.Cond.fieldLink "GoatCourt$Shied" (13 : Nat) "GoatCourt$Shied" "what" "I") ∈ lw_all := lw_g (lw_at lw_m5 39 rfl) rfl
theorem q1166 : (Jvm.Cond.sameField "GoatCourt$Shied" "GoatCourt$Clue" "what" "I") ∈ lw_all := lw_g (lw_at lw_m5 40 rfl) rfl
theorem q1190 : (Jvm.Cond.instantiable "GoatCourt$Shied" (3 : Nat)) ∈ lw_all := lw_g (lw_at lw_m5 64 rfl) rfl
theorem q1192 : (Jvm.Cond.instanceMethod ({ cls := "GoatCourt$Shied", name := "<init>", desc := "(III)V" } : Jvm.MethodName)) ∈ lw_all := lw_g (lw_at lw_m5 66 rfl) rfl
theorem q1193 : (Jvm.Cond.code ({ cls := "GoatCourt$Shied", name := "<init>", desc := "(III)V" } : Jvm.MethodName) prog_21_method_1_code (4 : Nat) (Option.none : Option Jvm.ClassFile.FieldType)) ∈ lw_all := lw_g (lw_at lw_m5 67 rfl) rfl
theorem q1194 : (Jvm.Cond.methodLink "GoatCourt$Shied" (1 : Nat) ({ cls := "GoatCourt$Clue", name := "<init>", desc := "(III)V" } : Jvm.MethodName)) ∈ lw_all := lw_g (lw_at lw_m5 68 rfl) rfl
theorem q1195 : (Jvm.Cond.laysFinal "GoatCourt$Shied" "GoatCourt$Clue" "goat" "I") ∈ lw_all := lw_g (lw_at lw_m5 69 rfl) rfl
theorem q1196 : (Jvm.Cond.laysFinal "GoatCourt$Shied" "GoatCourt$Clue" "place" "I") ∈ lw_all := lw_g (lw_at lw_m5 70 rfl) rfl
theorem q1197 : (Jvm.Cond.laysFinal "GoatCourt$Shied" "GoatCourt$Clue" "what" "I") ∈ lw_all := lw_g (lw_at lw_m5 71 rfl) rfl
theorem q1198 : (Jvm.Cond.superclass "GoatCourt$Shied" "GoatCourt$Clue") ∈ lw_all := lw_g (lw_at lw_m5 72 rfl) rfl
theorem q1386 : (Jvm.Cond.selects "GoatCourt$Shied" ({ cls := "GoatCourt$Clue", name := "sort", desc := "()I" } : Jvm.MethodName) ({ cls := "GoatCourt$Shied", name := "sort", desc := "()I" } : Jvm.MethodName)) ∈ lw_all := lw_g (lw_at lw_m6 20 rfl) rfl
theorem q1387 : (Jvm.Cond.instanceMethod ({ cls := "GoatCourt$Shied", name := "sort", desc := "()I" } : Jvm.MethodName)) ∈ lw_all := lw_g (lw_at lw_m6 21 rfl) rfl
theorem q1388 : (Jvm.Cond.code ({ cls := "GoatCourt$Shied", name := "sort", desc := "()I" } : Jvm.MethodName) prog_21_method_2_code (1 : Nat) (Option.some Jvm.ClassFile.FieldType.int)) ∈ lw_all := lw_g (lw_at lw_m6 22 rfl) rfl
theorem q1568 : (Jvm.Cond.selects "GoatCourt$Shied" ({ cls := "GoatCourt$Clue", name := "isTrue", desc := "(LGoatCourt$Day;)Z" } : Jvm.MethodName) ({ cls := "GoatCourt$Shied", name := "isTrue", desc := "(LGoatCourt$Day;)Z" } : Jvm.MethodName)) ∈ lw_all := lw_g (lw_at lw_m6 202 rfl) rfl
theorem q1569 : (Jvm.Cond.instanceMethod ({ cls := "GoatCourt$Shied", name := "isTrue", desc := "(LGoatCourt$Day;)Z" } : Jvm.MethodName)) ∈ lw_all := lw_g (lw_at lw_m6 203 rfl) rfl
theorem q1570 : (Jvm.Cond.code ({ cls := "GoatCourt$Shied", name := "isTrue", desc := "(LGoatCourt$Day;)Z" } : Jvm.MethodName) prog_21_method_3_code (2 : Nat) (Option.some Jvm.ClassFile.FieldType.boolean)) ∈ lw_all := lw_g (lw_at lw_m6 204 rfl) rfl
theorem q1571 : (Jvm.Cond.methodLink "GoatCourt$Shied" (16 : Nat) ({ cls := "GoatCourt$Day", name := "at", desc := "(II)I" } : Jvm.MethodName)) ∈ lw_all := lw_g (lw_at lw_m6 205 rfl) rfl
theorem q2806 : (Jvm.Cond.castable "GoatCourt$Shied" "java/lang/Object") ∈ lw_tbl := lw_at lw_m12 0 rfl
theorem q2815 : (Jvm.Cond.castable "GoatCourt$Shied" "GoatCourt$Clue") ∈ lw_tbl := lw_at lw_m12 9 rfl
theorem in_X20 : ∀ w ∈ wsX200, w ∈ lw_all := lw_in wsX200 [1195, 1196, 1197] (by decide +kernel) (by decide +kernel)
/-! GoatCourt$Fact -/
def RX21 : String := "GoatCourt$Fact"
def TX21 : u_T := fun k => match k with
  | 0 => ("GoatCourt$Named", "name", "Ljava/lang/String;", true)
  | 1 => ("GoatCourt$Named", "number", "I", true)
  | _ => ("GoatCourt$Fact", "holds", "Z", false)
def tyX21 : Nat → FieldType := fun k => match k with
  | 0 => .object "java/lang/String"
  | 1 => .int
  | _ => .boolean
abbrev wsX210 : List Cond := u_ws RX21 TX21 3
theorem nmX21 : ∀ a, a < 3 → ∀ b, b < 3 → a ≠ b → (TX21 a).2.1 ≠ (TX21 b).2.1 := by decide +kernel
theorem tyX21_ok : ∀ k, k < 3 → parseFieldDescriptor (TX21 k).2.2.1 = some (tyX21 k) := by decide +kernel
abbrev cX21_init : ByteArray := prog_6_method_1_code
def yX21_init : MethodName := ⟨RX21, "<init>", "(Ljava/lang/String;I)V"⟩

theorem q195 : (Jvm.Cond.initialized "GoatCourt$Fact") ∈ lw_all := lw_g (lw_at lw_m1 29 rfl) rfl
theorem q901 : (Jvm.Cond.sameField "GoatCourt$Fact" "GoatCourt$Named" "number" "I") ∈ lw_all := lw_g (lw_at lw_m4 15 rfl) rfl
theorem q1204 : (Jvm.Cond.instantiable "GoatCourt$Fact" (3 : Nat)) ∈ lw_all := lw_g (lw_at lw_m5 78 rfl) rfl
theorem q1206 : (Jvm.Cond.instanceMethod ({ cls := "GoatCourt$Fact", name := "<init>", desc := "(Ljava/lang/String;I)V" } : Jvm.MethodName)) ∈ lw_all := lw_g (lw_at lw_m5 80 rfl) rfl
theorem q1207 : (Jvm.Cond.code ({ cls := "GoatCourt$Fact", name := "<init>", desc := "(Ljava/lang/String;I)V" } : Jvm.MethodName) prog_6_method_1_code (3 : Nat) (Option.none : Option Jvm.ClassFile.FieldType)) ∈ lw_all := lw_g (lw_at lw_m5 81 rfl) rfl
theorem q1208 : (Jvm.Cond.methodLink "GoatCourt$Fact" (1 : Nat) ({ cls := "GoatCourt$Named", name := "<init>", desc := "(Ljava/lang/String;I)V" } : Jvm.MethodName)) ∈ lw_all := lw_g (lw_at lw_m5 82 rfl) rfl
theorem q1212 : (Jvm.Cond.lays "GoatCourt$Fact" "GoatCourt$Fact" "holds" "Z") ∈ lw_all := lw_g (lw_at lw_m5 86 rfl) rfl
theorem q1213 : (Jvm.Cond.soleField "GoatCourt$Fact" "holds") ∈ lw_all := lw_g (lw_at lw_m5 87 rfl) rfl
theorem q1214 : (Jvm.Cond.laysFinal "GoatCourt$Fact" "GoatCourt$Named" "name" "Ljava/lang/String;") ∈ lw_all := lw_g (lw_at lw_m5 88 rfl) rfl
theorem q1215 : (Jvm.Cond.laysFinal "GoatCourt$Fact" "GoatCourt$Named" "number" "I") ∈ lw_all := lw_g (lw_at lw_m5 89 rfl) rfl
theorem q1216 : (Jvm.Cond.superclass "GoatCourt$Fact" "GoatCourt$Named") ∈ lw_all := lw_g (lw_at lw_m5 90 rfl) rfl
theorem q2807 : (Jvm.Cond.castable "GoatCourt$Fact" "java/lang/Object") ∈ lw_tbl := lw_at lw_m12 1 rfl
theorem in_X21 : ∀ w ∈ wsX210, w ∈ lw_all := lw_in wsX210 [1214, 1215, 1212] (by decide +kernel) (by decide +kernel)
/-! GoatCourt$Rule -/
def RX22 : String := "GoatCourt$Rule"
def TX22 : u_T := fun k => match k with
  | 0 => ("GoatCourt$Rule", "body", "[I", true)
  | 1 => ("GoatCourt$Rule", "head", "I", false)
  | _ => ("GoatCourt$Rule", "many", "I", false)
def tyX22 : Nat → FieldType := fun k => match k with
  | 0 => .array .int
  | 1 => .int
  | _ => .int
abbrev wsX220 : List Cond := u_ws RX22 TX22 3
theorem nmX22 : ∀ a, a < 3 → ∀ b, b < 3 → a ≠ b → (TX22 a).2.1 ≠ (TX22 b).2.1 := by decide +kernel
theorem tyX22_ok : ∀ k, k < 3 → parseFieldDescriptor (TX22 k).2.2.1 = some (tyX22 k) := by decide +kernel
abbrev cX22_init : ByteArray := prog_19_method_1_code
def yX22_init : MethodName := ⟨RX22, "<init>", "()V"⟩
abbrev cX22_has : ByteArray := prog_19_method_2_code
def yX22_has : MethodName := ⟨RX22, "has", "(I)Z"⟩
abbrev cX22_follows : ByteArray := prog_19_method_3_code
def yX22_follows : MethodName := ⟨RX22, "follows", "(I)Z"⟩

theorem q196 : (Jvm.Cond.initialized "GoatCourt$Rule") ∈ lw_all := lw_g (lw_at lw_m1 30 rfl) rfl
theorem q1230 : (Jvm.Cond.instantiable "GoatCourt$Rule" (3 : Nat)) ∈ lw_all := lw_g (lw_at lw_m5 104 rfl) rfl
theorem q1232 : (Jvm.Cond.instanceMethod ({ cls := "GoatCourt$Rule", name := "<init>", desc := "()V" } : Jvm.MethodName)) ∈ lw_all := lw_g (lw_at lw_m5 106 rfl) rfl
theorem q1233 : (Jvm.Cond.code ({ cls := "GoatCourt$Rule", name := "<init>", desc := "()V" } : Jvm.MethodName) prog_19_method_1_code (1 : Nat) (Option.none : Option Jvm.ClassFile.FieldType)) ∈ lw_all := lw_g (lw_at lw_m5 107 rfl) rfl
theorem q1234 : (Jvm.Cond.methodLink "GoatCourt$Rule" (3 : Nat) ({ cls := "java/lang/Object", name := "<init>", desc := "()V" } : Jvm.MethodName)) ∈ lw_all := lw_g (lw_at lw_m5 108 rfl) rfl
theorem q1235 : (Jvm.Cond.fieldLink "GoatCourt$Rule" (9 : Nat) "GoatCourt$Rule" "body" "[I") ∈ lw_all := lw_g (lw_at lw_m5 109 rfl) rfl
theorem q1240 : (Jvm.Cond.fieldLink "GoatCourt$Rule" (15 : Nat) "GoatCourt$Rule" "many" "I") ∈ lw_all := lw_g (lw_at lw_m5 114 rfl) rfl
theorem q1242 : (Jvm.Cond.laysFinal "GoatCourt$Rule" "GoatCourt$Rule" "body" "[I") ∈ lw_all := lw_g (lw_at lw_m5 116 rfl) rfl
theorem q1243 : (Jvm.Cond.soleField "GoatCourt$Rule" "body") ∈ lw_all := lw_g (lw_at lw_m5 117 rfl) rfl
theorem q1244 : (Jvm.Cond.lays "GoatCourt$Rule" "GoatCourt$Rule" "head" "I") ∈ lw_all := lw_g (lw_at lw_m5 118 rfl) rfl
theorem q1245 : (Jvm.Cond.soleField "GoatCourt$Rule" "head") ∈ lw_all := lw_g (lw_at lw_m5 119 rfl) rfl
theorem q1246 : (Jvm.Cond.lays "GoatCourt$Rule" "GoatCourt$Rule" "many" "I") ∈ lw_all := lw_g (lw_at lw_m5 120 rfl) rfl
theorem q1247 : (Jvm.Cond.soleField "GoatCourt$Rule" "many") ∈ lw_all := lw_g (lw_at lw_m5 121 rfl) rfl
theorem q1248 : (Jvm.Cond.superclass "GoatCourt$Rule" "java/lang/Object") ∈ lw_all := lw_g (lw_at lw_m5 122 rfl) rfl
theorem q1254 : (Jvm.Cond.instanceMethod ({ cls := "GoatCourt$Rule", name := "has", desc := "(I)Z" } : Jvm.MethodName)) ∈ lw_all := lw_g (lw_at lw_m5 128 rfl) rfl
theorem q1255 : (Jvm.Cond.selects "GoatCourt$Rule" ({ cls := "GoatCourt$Rule", name := "has", desc := "(I)Z" } : Jvm.MethodName) ({ cls := "GoatCourt$Rule", name := "has", desc := "(I)Z" } : Jvm.MethodName)) ∈ lw_all := lw_g (lw_at lw_m5 129 rfl) rfl
theorem q1256 : (Jvm.Cond.code ({ cls := "GoatCourt$Rule", name := "has", desc := "(I)Z" } : Jvm.MethodName) prog_19_method_2_code (4 : Nat) (Option.some Jvm.ClassFile.FieldType.boolean)) ∈ lw_all := lw_g (lw_at lw_m5 130 rfl) rfl
theorem q1728 : (Jvm.Cond.instanceMethod ({ cls := "GoatCourt$Rule", name := "follows", desc := "(I)Z" } : Jvm.MethodName)) ∈ lw_all := lw_g (lw_at lw_m7 122 rfl) rfl
theorem q1729 : (Jvm.Cond.selects "GoatCourt$Rule" ({ cls := "GoatCourt$Rule", name := "follows", desc := "(I)Z" } : Jvm.MethodName) ({ cls := "GoatCourt$Rule", name := "follows", desc := "(I)Z" } : Jvm.MethodName)) ∈ lw_all := lw_g (lw_at lw_m7 123 rfl) rfl
theorem q1730 : (Jvm.Cond.code ({ cls := "GoatCourt$Rule", name := "follows", desc := "(I)Z" } : Jvm.MethodName) prog_19_method_3_code (4 : Nat) (Option.some Jvm.ClassFile.FieldType.boolean)) ∈ lw_all := lw_g (lw_at lw_m7 124 rfl) rfl
theorem q2808 : (Jvm.Cond.castable "GoatCourt$Rule" "java/lang/Object") ∈ lw_tbl := lw_at lw_m12 2 rfl
theorem in_X22 : ∀ w ∈ wsX220, w ∈ lw_all := lw_in wsX220 [1242, 1244, 1246] (by decide +kernel) (by decide +kernel)
/-! GoatCourt$Court -/
def RX23 : String := "GoatCourt$Court"
def TX23 : u_T := fun k => match k with
  | 0 => ("GoatCourt$Named", "name", "Ljava/lang/String;", true)
  | 1 => ("GoatCourt$Named", "number", "I", true)
  | 2 => ("GoatCourt$Court", "costs", "I", false)
  | _ => ("GoatCourt$Court", "wins", "I", false)
def tyX23 : Nat → FieldType := fun k => match k with
  | 0 => .object "java/lang/String"
  | 1 => .int
  | 2 => .int
  | _ => .int
abbrev wsX230 : List Cond := u_ws RX23 TX23 4
theorem nmX23 : ∀ a, a < 4 → ∀ b, b < 4 → a ≠ b → (TX23 a).2.1 ≠ (TX23 b).2.1 := by decide +kernel
theorem tyX23_ok : ∀ k, k < 4 → parseFieldDescriptor (TX23 k).2.2.1 = some (tyX23 k) := by decide +kernel
abbrev cX23_init : ByteArray := prog_4_method_1_code
def yX23_init : MethodName := ⟨RX23, "<init>", "(Ljava/lang/String;I)V"⟩

theorem q197 : (Jvm.Cond.initialized "GoatCourt$Court") ∈ lw_all := lw_g (lw_at lw_m1 31 rfl) rfl
theorem q1270 : (Jvm.Cond.instantiable "GoatCourt$Court" (4 : Nat)) ∈ lw_all := lw_g (lw_at lw_m5 144 rfl) rfl
theorem q1272 : (Jvm.Cond.instanceMethod ({ cls := "GoatCourt$Court", name := "<init>", desc := "(Ljava/lang/String;I)V" } : Jvm.MethodName)) ∈ lw_all := lw_g (lw_at lw_m5 146 rfl) rfl
theorem q1273 : (Jvm.Cond.code ({ cls := "GoatCourt$Court", name := "<init>", desc := "(Ljava/lang/String;I)V" } : Jvm.MethodName) prog_4_method_1_code (3 : Nat) (Option.none : Option Jvm.ClassFile.FieldType)) ∈ lw_all := lw_g (lw_at lw_m5 147 rfl) rfl
theorem q1274 : (Jvm.Cond.methodLink "GoatCourt$Court" (1 : Nat) ({ cls := "GoatCourt$Named", name := "<init>", desc := "(Ljava/lang/String;I)V" } : Jvm.MethodName)) ∈ lw_all := lw_g (lw_at lw_m5 148 rfl) rfl
theorem q1279 : (Jvm.Cond.lays "GoatCourt$Court" "GoatCourt$Court" "costs" "I") ∈ lw_all := lw_g (lw_at lw_m5 153 rfl) rfl
theorem q1280 : (Jvm.Cond.soleField "GoatCourt$Court" "costs") ∈ lw_all := lw_g (lw_at lw_m5 154 rfl) rfl
theorem q1281 : (Jvm.Cond.lays "GoatCourt$Court" "GoatCourt$Court" "wins" "I") ∈ lw_all := lw_g (lw_at lw_m5 155 rfl) rfl
theorem q1282 : (Jvm.Cond.soleField "GoatCourt$Court" "wins") ∈ lw_all := lw_g (lw_at lw_m5 156 rfl) rfl
theorem q1283 : (Jvm.Cond.laysFinal "GoatCourt$Court" "GoatCourt$Named" "name" "Ljava/lang/String;") ∈ lw_all := lw_g (lw_at lw_m5 157 rfl) rfl
theorem q1284 : (Jvm.Cond.laysFinal "GoatCourt$Court" "GoatCourt$Named" "number" "I") ∈ lw_all := lw_g (lw_at lw_m5 158 rfl) rfl
theorem q1285 : (Jvm.Cond.superclass "GoatCourt$Court" "GoatCourt$Named") ∈ lw_all := lw_g (lw_at lw_m5 159 rfl) rfl
theorem q2809 : (Jvm.Cond.castable "GoatCourt$Court" "java/lang/Object") ∈ lw_tbl := lw_at lw_m12 3 rfl
theorem in_X23 : ∀ w ∈ wsX230, w ∈ lw_all := lw_in wsX230 [1283, 1284, 1279, 1281] (by decide +kernel) (by decide +kernel)
/-! GoatCourtModel$Hill -/
def RX24 : String := "GoatCourtModel$Hill"
def TX24 : u_T := fun k => match k with
  | 0 => ("GoatCourtModel$Hill", "hours", "I", false)
  | 1 => ("GoatCourtModel$Hill", "plants", "I", false)
  | 2 => ("GoatCourtModel$Hill", "places", "I", false)
  | 3 => ("GoatCourtModel$Hill", "paths", "I", false)
  | 4 => ("GoatCourtModel$Hill", "people", "I", false)
  | 5 => ("GoatCourtModel$Hill", "goats", "I", false)
  | 6 => ("GoatCourtModel$Hill", "fears", "I", false)
  | 7 => ("GoatCourtModel$Hill", "clues", "I", false)
  | 8 => ("GoatCourtModel$Hill", "facts", "I", false)
  | 9 => ("GoatCourtModel$Hill", "rules", "I", false)
  | 10 => ("GoatCourtModel$Hill", "steps", "I", false)
  | 11 => ("GoatCourtModel$Hill", "courts", "I", false)
  | 12 => ("GoatCourtModel$Hill", "names", "I", false)
  | 13 => ("GoatCourtModel$Hill", "holds", "I", false)
  | 14 => ("GoatCourtModel$Hill", "hasProof", "Z", false)
  | 15 => ("GoatCourtModel$Hill", "hasCheese", "Z", false)
  | 16 => ("GoatCourtModel$Hill", "amount", "[I", true)
  | 17 => ("GoatCourtModel$Hill", "pathOne", "[I", true)
  | 18 => ("GoatCourtModel$Hill", "pathTwo", "[I", true)
  | 19 => ("GoatCourtModel$Hill", "stories", "[I", true)
  | 20 => ("GoatCourtModel$Hill", "story", "[I", true)
  | 21 => ("GoatCourtModel$Hill", "kind", "[I", true)
  | 22 => ("GoatCourtModel$Hill", "mother", "[I", true)
  | 23 => ("GoatCourtModel$Hill", "liked", "[I", true)
  | 24 => ("GoatCourtModel$Hill", "likes", "[I", true)
  | 25 => ("GoatCourtModel$Hill", "from", "[I", true)
  | 26 => ("GoatCourtModel$Hill", "trust", "[I", true)
  | 27 => ("GoatCourtModel$Hill", "feared", "[I", true)
  | 28 => ("GoatCourtModel$Hill", "clueSort", "[I", true)
  | 29 => ("GoatCourtModel$Hill", "clueGoat", "[I", true)
  | 30 => ("GoatCourtModel$Hill", "cluePlace", "[I", true)
  | 31 => ("GoatCourtModel$Hill", "clueWhat", "[I", true)
  | 32 => ("GoatCourtModel$Hill", "ruleTells", "[I", true)
  | 33 => ("GoatCourtModel$Hill", "ruleNeeds", "[I", true)
  | 34 => ("GoatCourtModel$Hill", "step", "[I", true)
  | 35 => ("GoatCourtModel$Hill", "costs", "[I", true)
  | 36 => ("GoatCourtModel$Hill", "wins", "[I", true)
  | 37 => ("GoatCourtModel$Hill", "cheese", "[I", true)
  | 38 => ("GoatCourtModel$Hill", "name", "[J", true)
  | 39 => ("GoatCourtModel$Hill", "nameSort", "[I", true)
  | _ => ("GoatCourtModel$Hill", "nameNumber", "[I", true)
def tyX24 : Nat → FieldType := fun k => match k with
  | 0 => .int
  | 1 => .int
  | 2 => .int
  | 3 => .int
  | 4 => .int
  | 5 => .int
  | 6 => .int
  | 7 => .int
  | 8 => .int
  | 9 => .int
  | 10 => .int
  | 11 => .int
  | 12 => .int
  | 13 => .int
  | 14 => .boolean
  | 15 => .boolean
  | 16 => .array .int
  | 17 => .array .int
  | 18 => .array .int
  | 19 => .array .int
  | 20 => .array .int
  | 21 => .array .int
  | 22 => .array .int
  | 23 => .array .int
  | 24 => .array .int
  | 25 => .array .int
  | 26 => .array .int
  | 27 => .array .int
  | 28 => .array .int
  | 29 => .array .int
  | 30 => .array .int
  | 31 => .array .int
  | 32 => .array .int
  | 33 => .array .int
  | 34 => .array .int
  | 35 => .array .int
  | 36 => .array .int
  | 37 => .array .int
  | 38 => .array .long
  | 39 => .array .int
  | _ => .array .int
abbrev wsX240 : List Cond := u_ws RX24 TX24 41
theorem nmX24 : ∀ a, a < 41 → ∀ b, b < 41 → a ≠ b → (TX24 a).2.1 ≠ (TX24 b).2.1 := by decide +kernel
theorem tyX24_ok : ∀ k, k < 41 → parseFieldDescriptor (TX24 k).2.2.1 = some (tyX24 k) := by decide +kernel
abbrev cX24_init : ByteArray := prog_25_method_1_code
def yX24_init : MethodName := ⟨RX24, "<init>", "()V"⟩
abbrev cX24_find : ByteArray := prog_25_method_2_code
def yX24_find : MethodName := ⟨RX24, "find", "(J)I"⟩
abbrev cX24_path : ByteArray := prog_25_method_3_code
def yX24_path : MethodName := ⟨RX24, "path", "(II)I"⟩
abbrev cX24_cases : ByteArray := prog_25_method_4_code
def yX24_cases : MethodName := ⟨RX24, "cases", "()I"⟩
abbrev cX24_place : ByteArray := prog_25_method_6_code
def yX24_place : MethodName := ⟨RX24, "place", "(III)I"⟩
abbrev cX24_storyOf : ByteArray := prog_25_method_5_code
def yX24_storyOf : MethodName := ⟨RX24, "storyOf", "(II)I"⟩
abbrev cX24_placeIn : ByteArray := prog_25_method_7_code
def yX24_placeIn : MethodName := ⟨RX24, "placeIn", "(III)I"⟩

theorem q199 : (Jvm.Cond.initialized "GoatCourtModel$Hill") ∈ lw_all := lw_g (lw_at lw_m1 33 rfl) rfl
theorem q2024 : (Jvm.Cond.instantiable "GoatCourtModel$Hill" (41 : Nat)) ∈ lw_all := lw_g (lw_at lw_m8 178 rfl) rfl
theorem q2026 : (Jvm.Cond.instanceMethod ({ cls := "GoatCourtModel$Hill", name := "<init>", desc := "()V" } : Jvm.MethodName)) ∈ lw_all := lw_g (lw_at lw_m8 180 rfl) rfl
theorem q2027 : (Jvm.Cond.code ({ cls := "GoatCourtModel$Hill", name := "<init>", desc := "()V" } : Jvm.MethodName) prog_25_method_1_code (1 : Nat) (Option.none : Option Jvm.ClassFile.FieldType)) ∈ lw_all := lw_g (lw_at lw_m8 181 rfl) rfl
theorem q2028 : (Jvm.Cond.methodLink "GoatCourtModel$Hill" (3 : Nat) ({ cls := "java/lang/Object", name := "<init>", desc := "()V" } : Jvm.MethodName)) ∈ lw_all := lw_g (lw_at lw_m8 182 rfl) rfl
theorem q2032 : (Jvm.Cond.fieldLink "GoatCourtModel$Hill" (92 : Nat) "GoatCourtModel$Hill" "paths" "I") ∈ lw_all := lw_g (lw_at lw_m8 186 rfl) rfl
theorem q2034 : (Jvm.Cond.fieldLink "GoatCourtModel$Hill" (95 : Nat) "GoatCourtModel$Hill" "people" "I") ∈ lw_all := lw_g (lw_at lw_m8 188 rfl) rfl
theorem q2043 : (Jvm.Cond.fieldLink "GoatCourtModel$Hill" (88 : Nat) "GoatCourtModel$Hill" "names" "I") ∈ lw_all := lw_g (lw_at lw_m8 197 rfl) rfl
theorem q2048 : (Jvm.Cond.fieldLink "GoatCourtModel$Hill" (9 : Nat) "GoatCourtModel$Hill" "amount" "[I") ∈ lw_all := lw_g (lw_at lw_m8 202 rfl) rfl
theorem q2050 : (Jvm.Cond.fieldLink "GoatCourtModel$Hill" (15 : Nat) "GoatCourtModel$Hill" "pathOne" "[I") ∈ lw_all := lw_g (lw_at lw_m8 204 rfl) rfl
theorem q2052 : (Jvm.Cond.fieldLink "GoatCourtModel$Hill" (18 : Nat) "GoatCourtModel$Hill" "pathTwo" "[I") ∈ lw_all := lw_g (lw_at lw_m8 206 rfl) rfl
theorem q2054 : (Jvm.Cond.fieldLink "GoatCourtModel$Hill" (21 : Nat) "GoatCourtModel$Hill" "stories" "[I") ∈ lw_all := lw_g (lw_at lw_m8 208 rfl) rfl
theorem q2056 : (Jvm.Cond.fieldLink "GoatCourtModel$Hill" (24 : Nat) "GoatCourtModel$Hill" "story" "[I") ∈ lw_all := lw_g (lw_at lw_m8 210 rfl) rfl
theorem q2058 : (Jvm.Cond.fieldLink "GoatCourtModel$Hill" (27 : Nat) "GoatCourtModel$Hill" "kind" "[I") ∈ lw_all := lw_g (lw_at lw_m8 212 rfl) rfl
theorem q2060 : (Jvm.Cond.fieldLink "GoatCourtModel$Hill" (30 : Nat) "GoatCourtModel$Hill" "mother" "[I") ∈ lw_all := lw_g (lw_at lw_m8 214 rfl) rfl
theorem q2062 : (Jvm.Cond.fieldLink "GoatCourtModel$Hill" (33 : Nat) "GoatCourtModel$Hill" "liked" "[I") ∈ lw_all := lw_g (lw_at lw_m8 216 rfl) rfl
theorem q2064 : (Jvm.Cond.fieldLink "GoatCourtModel$Hill" (36 : Nat) "GoatCourtModel$Hill" "likes" "[I") ∈ lw_all := lw_g (lw_at lw_m8 218 rfl) rfl
theorem q2066 : (Jvm.Cond.fieldLink "GoatCourtModel$Hill" (39 : Nat) "GoatCourtModel$Hill" "from" "[I") ∈ lw_all := lw_g (lw_at lw_m8 220 rfl) rfl
theorem q2068 : (Jvm.Cond.fieldLink "GoatCourtModel$Hill" (42 : Nat) "GoatCourtModel$Hill" "trust" "[I") ∈ lw_all := lw_g (lw_at lw_m8 222 rfl) rfl
theorem q2070 : (Jvm.Cond.fieldLink "GoatCourtModel$Hill" (45 : Nat) "GoatCourtModel$Hill" "feared" "[I") ∈ lw_all := lw_g (lw_at lw_m8 224 rfl) rfl
theorem q2072 : (Jvm.Cond.fieldLink "GoatCourtModel$Hill" (48 : Nat) "GoatCourtModel$Hill" "clueSort" "[I") ∈ lw_all := lw_g (lw_at lw_m8 226 rfl) rfl
theorem q2074 : (Jvm.Cond.fieldLink "GoatCourtModel$Hill" (51 : Nat) "GoatCourtModel$Hill" "clueGoat" "[I") ∈ lw_all := lw_g (lw_at lw_m8 228 rfl) rfl
theorem q2076 : (Jvm.Cond.fieldLink "GoatCourtModel$Hill" (54 : Nat) "GoatCourtModel$Hill" "cluePlace" "[I") ∈ lw_all := lw_g (lw_at lw_m8 230 rfl) rfl
theorem q2078 : (Jvm.Cond.fieldLink "GoatCourtModel$Hill" (57 : Nat) "GoatCourtModel$Hill" "clueWhat" "[I") ∈ lw_all := lw_g (lw_at lw_m8 232 rfl) rfl
theorem q2080 : (Jvm.Cond.fieldLink "GoatCourtModel$Hill" (60 : Nat) "GoatCourtModel$Hill" "ruleTells" "[I") ∈ lw_all := lw_g (lw_at lw_m8 234 rfl) rfl
theorem q2082 : (Jvm.Cond.fieldLink "GoatCourtModel$Hill" (63 : Nat) "GoatCourtModel$Hill" "ruleNeeds" "[I") ∈ lw_all := lw_g (lw_at lw_m8 236 rfl) rfl
theorem q2084 : (Jvm.Cond.fieldLink "GoatCourtModel$Hill" (66 : Nat) "GoatCourtModel$Hill" "step" "[I") ∈ lw_all := lw_g (lw_at lw_m8 238 rfl) rfl
theorem q2086 : (Jvm.Cond.fieldLink "GoatCourtModel$Hill" (69 : Nat) "GoatCourtModel$Hill" "costs" "[I") ∈ lw_all := lw_g (lw_at lw_m9 0 rfl) rfl
theorem q2088 : (Jvm.Cond.fieldLink "GoatCourtModel$Hill" (72 : Nat) "GoatCourtModel$Hill" "wins" "[I") ∈ lw_all := lw_g (lw_at lw_m9 2 rfl) rfl
theorem q2090 : (Jvm.Cond.fieldLink "GoatCourtModel$Hill" (75 : Nat) "GoatCourtModel$Hill" "cheese" "[I") ∈ lw_all := lw_g (lw_at lw_m9 4 rfl) rfl
theorem q2092 : (Jvm.Cond.fieldLink "GoatCourtModel$Hill" (78 : Nat) "GoatCourtModel$Hill" "name" "[J") ∈ lw_all := lw_g (lw_at lw_m9 6 rfl) rfl
theorem q2094 : (Jvm.Cond.fieldLink "GoatCourtModel$Hill" (82 : Nat) "GoatCourtModel$Hill" "nameSort" "[I") ∈ lw_all := lw_g (lw_at lw_m9 8 rfl) rfl
theorem q2096 : (Jvm.Cond.fieldLink "GoatCourtModel$Hill" (85 : Nat) "GoatCourtModel$Hill" "nameNumber" "[I") ∈ lw_all := lw_g (lw_at lw_m9 10 rfl) rfl
theorem q2098 : (Jvm.Cond.lays "GoatCourtModel$Hill" "GoatCourtModel$Hill" "hours" "I") ∈ lw_all := lw_g (lw_at lw_m9 12 rfl) rfl
theorem q2099 : (Jvm.Cond.soleField "GoatCourtModel$Hill" "hours") ∈ lw_all := lw_g (lw_at lw_m9 13 rfl) rfl
theorem q2100 : (Jvm.Cond.lays "GoatCourtModel$Hill" "GoatCourtModel$Hill" "plants" "I") ∈ lw_all := lw_g (lw_at lw_m9 14 rfl) rfl
theorem q2101 : (Jvm.Cond.soleField "GoatCourtModel$Hill" "plants") ∈ lw_all := lw_g (lw_at lw_m9 15 rfl) rfl
theorem q2102 : (Jvm.Cond.lays "GoatCourtModel$Hill" "GoatCourtModel$Hill" "places" "I") ∈ lw_all := lw_g (lw_at lw_m9 16 rfl) rfl
theorem q2103 : (Jvm.Cond.soleField "GoatCourtModel$Hill" "places") ∈ lw_all := lw_g (lw_at lw_m9 17 rfl) rfl
theorem q2104 : (Jvm.Cond.lays "GoatCourtModel$Hill" "GoatCourtModel$Hill" "paths" "I") ∈ lw_all := lw_g (lw_at lw_m9 18 rfl) rfl
theorem q2105 : (Jvm.Cond.soleField "GoatCourtModel$Hill" "paths") ∈ lw_all := lw_g (lw_at lw_m9 19 rfl) rfl
theorem q2106 : (Jvm.Cond.lays "GoatCourtModel$Hill" "GoatCourtModel$Hill" "people" "I") ∈ lw_all := lw_g (lw_at lw_m9 20 rfl) rfl
theorem q2107 : (Jvm.Cond.soleField "GoatCourtModel$Hill" "people") ∈ lw_all := lw_g (lw_at lw_m9 21 rfl) rfl
theorem q2108 : (Jvm.Cond.lays "GoatCourtModel$Hill" "GoatCourtModel$Hill" "goats" "I") ∈ lw_all := lw_g (lw_at lw_m9 22 rfl) rfl
theorem q2109 : (Jvm.Cond.soleField "GoatCourtModel$Hill" "goats") ∈ lw_all := lw_g (lw_at lw_m9 23 rfl) rfl
theorem q2110 : (Jvm.Cond.lays "GoatCourtModel$Hill" "GoatCourtModel$Hill" "fears" "I") ∈ lw_all := lw_g (lw_at lw_m9 24 rfl) rfl
theorem q2111 : (Jvm.Cond.soleField "GoatCourtModel$Hill" "fears") ∈ lw_all := lw_g (lw_at lw_m9 25 rfl) rfl
theorem q2112 : (Jvm.Cond.lays "GoatCourtModel$Hill" "GoatCourtModel$Hill" "clues" "I") ∈ lw_all := lw_g (lw_at lw_m9 26 rfl) rfl
theorem q2113 : (Jvm.Cond.soleField "GoatCourtModel$Hill" "clues") ∈ lw_all := lw_g (lw_at lw_m9 27 rfl) rfl
theorem q2114 : (Jvm.Cond.lays "GoatCourtModel$Hill" "GoatCourtModel$Hill" "facts" "I") ∈ lw_all := lw_g (lw_at lw_m9 28 rfl) rfl
theorem q2115 : (Jvm.Cond.soleField "GoatCourtModel$Hill" "facts") ∈ lw_all := lw_g (lw_at lw_m9 29 rfl) rfl
theorem q2116 : (Jvm.Cond.lays "GoatCourtModel$Hill" "GoatCourtModel$Hill" "rules" "I") ∈ lw_all := lw_g (lw_at lw_m9 30 rfl) rfl
theorem q2117 : (Jvm.Cond.soleField "GoatCourtModel$Hill" "rules") ∈ lw_all := lw_g (lw_at lw_m9 31 rfl) rfl
theorem q2118 : (Jvm.Cond.lays "GoatCourtModel$Hill" "GoatCourtModel$Hill" "steps" "I") ∈ lw_all := lw_g (lw_at lw_m9 32 rfl) rfl
theorem q2119 : (Jvm.Cond.soleField "GoatCourtModel$Hill" "steps") ∈ lw_all := lw_g (lw_at lw_m9 33 rfl) rfl
theorem q2120 : (Jvm.Cond.lays "GoatCourtModel$Hill" "GoatCourtModel$Hill" "courts" "I") ∈ lw_all := lw_g (lw_at lw_m9 34 rfl) rfl
theorem q2121 : (Jvm.Cond.soleField "GoatCourtModel$Hill" "courts") ∈ lw_all := lw_g (lw_at lw_m9 35 rfl) rfl
theorem q2122 : (Jvm.Cond.lays "GoatCourtModel$Hill" "GoatCourtModel$Hill" "names" "I") ∈ lw_all := lw_g (lw_at lw_m9 36 rfl) rfl
theorem q2123 : (Jvm.Cond.soleField "GoatCourtModel$Hill" "names") ∈ lw_all := lw_g (lw_at lw_m9 37 rfl) rfl
theorem q2124 : (Jvm.Cond.lays "GoatCourtModel$Hill" "GoatCourtModel$Hill" "holds" "I") ∈ lw_all := lw_g (lw_at lw_m9 38 rfl) rfl
theorem q2125 : (Jvm.Cond.soleField "GoatCourtModel$Hill" "holds") ∈ lw_all := lw_g (lw_at lw_m9 39 rfl) rfl
theorem q2126 : (Jvm.Cond.lays "GoatCourtModel$Hill" "GoatCourtModel$Hill" "hasProof" "Z") ∈ lw_all := lw_g (lw_at lw_m9 40 rfl) rfl
theorem q2127 : (Jvm.Cond.soleField "GoatCourtModel$Hill" "hasProof") ∈ lw_all := lw_g (lw_at lw_m9 41 rfl) rfl
theorem q2128 : (Jvm.Cond.lays "GoatCourtModel$Hill" "GoatCourtModel$Hill" "hasCheese" "Z") ∈ lw_all := lw_g (lw_at lw_m9 42 rfl) rfl
theorem q2129 : (Jvm.Cond.soleField "GoatCourtModel$Hill" "hasCheese") ∈ lw_all := lw_g (lw_at lw_m9 43 rfl) rfl
theorem q2130 : (Jvm.Cond.laysFinal "GoatCourtModel$Hill" "GoatCourtModel$Hill" "amount" "[I") ∈ lw_all := lw_g (lw_at lw_m9 44 rfl) rfl
theorem q2131 : (Jvm.Cond.soleField "GoatCourtModel$Hill" "amount") ∈ lw_all := lw_g (lw_at lw_m9 45 rfl) rfl
theorem q2132 : (Jvm.Cond.laysFinal "GoatCourtModel$Hill" "GoatCourtModel$Hill" "pathOne" "[I") ∈ lw_all := lw_g (lw_at lw_m9 46 rfl) rfl
theorem q2133 : (Jvm.Cond.soleField "GoatCourtModel$Hill" "pathOne") ∈ lw_all := lw_g (lw_at lw_m9 47 rfl) rfl
theorem q2134 : (Jvm.Cond.laysFinal "GoatCourtModel$Hill" "GoatCourtModel$Hill" "pathTwo" "[I") ∈ lw_all := lw_g (lw_at lw_m9 48 rfl) rfl
theorem q2135 : (Jvm.Cond.soleField "GoatCourtModel$Hill" "pathTwo") ∈ lw_all := lw_g (lw_at lw_m9 49 rfl) rfl
theorem q2136 : (Jvm.Cond.laysFinal "GoatCourtModel$Hill" "GoatCourtModel$Hill" "stories" "[I") ∈ lw_all := lw_g (lw_at lw_m9 50 rfl) rfl
theorem q2137 : (Jvm.Cond.soleField "GoatCourtModel$Hill" "stories") ∈ lw_all := lw_g (lw_at lw_m9 51 rfl) rfl
theorem q2138 : (Jvm.Cond.laysFinal "GoatCourtModel$Hill" "GoatCourtModel$Hill" "story" "[I") ∈ lw_all := lw_g (lw_at lw_m9 52 rfl) rfl
theorem q2139 : (Jvm.Cond.soleField "GoatCourtModel$Hill" "story") ∈ lw_all := lw_g (lw_at lw_m9 53 rfl) rfl
theorem q2140 : (Jvm.Cond.laysFinal "GoatCourtModel$Hill" "GoatCourtModel$Hill" "kind" "[I") ∈ lw_all := lw_g (lw_at lw_m9 54 rfl) rfl
theorem q2141 : (Jvm.Cond.soleField "GoatCourtModel$Hill" "kind") ∈ lw_all := lw_g (lw_at lw_m9 55 rfl) rfl
theorem q2142 : (Jvm.Cond.laysFinal "GoatCourtModel$Hill" "GoatCourtModel$Hill" "mother" "[I") ∈ lw_all := lw_g (lw_at lw_m9 56 rfl) rfl
theorem q2143 : (Jvm.Cond.soleField "GoatCourtModel$Hill" "mother") ∈ lw_all := lw_g (lw_at lw_m9 57 rfl) rfl
theorem q2144 : (Jvm.Cond.laysFinal "GoatCourtModel$Hill" "GoatCourtModel$Hill" "liked" "[I") ∈ lw_all := lw_g (lw_at lw_m9 58 rfl) rfl
theorem q2145 : (Jvm.Cond.soleField "GoatCourtModel$Hill" "liked") ∈ lw_all := lw_g (lw_at lw_m9 59 rfl) rfl
theorem q2146 : (Jvm.Cond.laysFinal "GoatCourtModel$Hill" "GoatCourtModel$Hill" "likes" "[I") ∈ lw_all := lw_g (lw_at lw_m9 60 rfl) rfl
theorem q2147 : (Jvm.Cond.soleField "GoatCourtModel$Hill" "likes") ∈ lw_all := lw_g (lw_at lw_m9 61 rfl) rfl
theorem q2148 : (Jvm.Cond.laysFinal "GoatCourtModel$Hill" "GoatCourtModel$Hill" "from" "[I") ∈ lw_all := lw_g (lw_at lw_m9 62 rfl) rfl
theorem q2149 : (Jvm.Cond.soleField "GoatCourtModel$Hill" "from") ∈ lw_all := lw_g (lw_at lw_m9 63 rfl) rfl
theorem q2150 : (Jvm.Cond.laysFinal "GoatCourtModel$Hill" "GoatCourtModel$Hill" "trust" "[I") ∈ lw_all := lw_g (lw_at lw_m9 64 rfl) rfl
theorem q2151 : (Jvm.Cond.soleField "GoatCourtModel$Hill" "trust") ∈ lw_all := lw_g (lw_at lw_m9 65 rfl) rfl
theorem q2152 : (Jvm.Cond.laysFinal "GoatCourtModel$Hill" "GoatCourtModel$Hill" "feared" "[I") ∈ lw_all := lw_g (lw_at lw_m9 66 rfl) rfl
theorem q2153 : (Jvm.Cond.soleField "GoatCourtModel$Hill" "feared") ∈ lw_all := lw_g (lw_at lw_m9 67 rfl) rfl
theorem q2154 : (Jvm.Cond.laysFinal "GoatCourtModel$Hill" "GoatCourtModel$Hill" "clueSort" "[I") ∈ lw_all := lw_g (lw_at lw_m9 68 rfl) rfl
theorem q2155 : (Jvm.Cond.soleField "GoatCourtModel$Hill" "clueSort") ∈ lw_all := lw_g (lw_at lw_m9 69 rfl) rfl
theorem q2156 : (Jvm.Cond.laysFinal "GoatCourtModel$Hill" "GoatCourtModel$Hill" "clueGoat" "[I") ∈ lw_all := lw_g (lw_at lw_m9 70 rfl) rfl
theorem q2157 : (Jvm.Cond.soleField "GoatCourtModel$Hill" "clueGoat") ∈ lw_all := lw_g (lw_at lw_m9 71 rfl) rfl
theorem q2158 : (Jvm.Cond.laysFinal "GoatCourtModel$Hill" "GoatCourtModel$Hill" "cluePlace" "[I") ∈ lw_all := lw_g (lw_at lw_m9 72 rfl) rfl
theorem q2159 : (Jvm.Cond.soleField "GoatCourtModel$Hill" "cluePlace") ∈ lw_all := lw_g (lw_at lw_m9 73 rfl) rfl
theorem q2160 : (Jvm.Cond.laysFinal "GoatCourtModel$Hill" "GoatCourtModel$Hill" "clueWhat" "[I") ∈ lw_all := lw_g (lw_at lw_m9 74 rfl) rfl
theorem q2161 : (Jvm.Cond.soleField "GoatCourtModel$Hill" "clueWhat") ∈ lw_all := lw_g (lw_at lw_m9 75 rfl) rfl
theorem q2162 : (Jvm.Cond.laysFinal "GoatCourtModel$Hill" "GoatCourtModel$Hill" "ruleTells" "[I") ∈ lw_all := lw_g (lw_at lw_m9 76 rfl) rfl
theorem q2163 : (Jvm.Cond.soleField "GoatCourtModel$Hill" "ruleTells") ∈ lw_all := lw_g (lw_at lw_m9 77 rfl) rfl
theorem q2164 : (Jvm.Cond.laysFinal "GoatCourtModel$Hill" "GoatCourtModel$Hill" "ruleNeeds" "[I") ∈ lw_all := lw_g (lw_at lw_m9 78 rfl) rfl
theorem q2165 : (Jvm.Cond.soleField "GoatCourtModel$Hill" "ruleNeeds") ∈ lw_all := lw_g (lw_at lw_m9 79 rfl) rfl
theorem q2166 : (Jvm.Cond.laysFinal "GoatCourtModel$Hill" "GoatCourtModel$Hill" "step" "[I") ∈ lw_all := lw_g (lw_at lw_m9 80 rfl) rfl
theorem q2167 : (Jvm.Cond.soleField "GoatCourtModel$Hill" "step") ∈ lw_all := lw_g (lw_at lw_m9 81 rfl) rfl
theorem q2168 : (Jvm.Cond.laysFinal "GoatCourtModel$Hill" "GoatCourtModel$Hill" "costs" "[I") ∈ lw_all := lw_g (lw_at lw_m9 82 rfl) rfl
theorem q2169 : (Jvm.Cond.soleField "GoatCourtModel$Hill" "costs") ∈ lw_all := lw_g (lw_at lw_m9 83 rfl) rfl
theorem q2170 : (Jvm.Cond.laysFinal "GoatCourtModel$Hill" "GoatCourtModel$Hill" "wins" "[I") ∈ lw_all := lw_g (lw_at lw_m9 84 rfl) rfl
theorem q2171 : (Jvm.Cond.soleField "GoatCourtModel$Hill" "wins") ∈ lw_all := lw_g (lw_at lw_m9 85 rfl) rfl
theorem q2172 : (Jvm.Cond.laysFinal "GoatCourtModel$Hill" "GoatCourtModel$Hill" "cheese" "[I") ∈ lw_all := lw_g (lw_at lw_m9 86 rfl) rfl
theorem q2173 : (Jvm.Cond.soleField "GoatCourtModel$Hill" "cheese") ∈ lw_all := lw_g (lw_at lw_m9 87 rfl) rfl
theorem q2174 : (Jvm.Cond.laysFinal "GoatCourtModel$Hill" "GoatCourtModel$Hill" "name" "[J") ∈ lw_all := lw_g (lw_at lw_m9 88 rfl) rfl
theorem q2175 : (Jvm.Cond.soleField "GoatCourtModel$Hill" "name") ∈ lw_all := lw_g (lw_at lw_m9 89 rfl) rfl
theorem q2176 : (Jvm.Cond.laysFinal "GoatCourtModel$Hill" "GoatCourtModel$Hill" "nameSort" "[I") ∈ lw_all := lw_g (lw_at lw_m9 90 rfl) rfl
theorem q2177 : (Jvm.Cond.soleField "GoatCourtModel$Hill" "nameSort") ∈ lw_all := lw_g (lw_at lw_m9 91 rfl) rfl
theorem q2178 : (Jvm.Cond.laysFinal "GoatCourtModel$Hill" "GoatCourtModel$Hill" "nameNumber" "[I") ∈ lw_all := lw_g (lw_at lw_m9 92 rfl) rfl
theorem q2179 : (Jvm.Cond.soleField "GoatCourtModel$Hill" "nameNumber") ∈ lw_all := lw_g (lw_at lw_m9 93 rfl) rfl
theorem q2180 : (Jvm.Cond.superclass "GoatCourtModel$Hill" "java/lang/Object") ∈ lw_all := lw_g (lw_at lw_m9 94 rfl) rfl
theorem q2273 : (Jvm.Cond.instanceMethod ({ cls := "GoatCourtModel$Hill", name := "find", desc := "(J)I" } : Jvm.MethodName)) ∈ lw_all := lw_g (lw_at lw_m9 187 rfl) rfl
theorem q2274 : (Jvm.Cond.selects "GoatCourtModel$Hill" ({ cls := "GoatCourtModel$Hill", name := "find", desc := "(J)I" } : Jvm.MethodName) ({ cls := "GoatCourtModel$Hill", name := "find", desc := "(J)I" } : Jvm.MethodName)) ∈ lw_all := lw_g (lw_at lw_m9 188 rfl) rfl
theorem q2275 : (Jvm.Cond.code ({ cls := "GoatCourtModel$Hill", name := "find", desc := "(J)I" } : Jvm.MethodName) prog_25_method_2_code (4 : Nat) (Option.some Jvm.ClassFile.FieldType.int)) ∈ lw_all := lw_g (lw_at lw_m9 189 rfl) rfl
theorem q2301 : (Jvm.Cond.instanceMethod ({ cls := "GoatCourtModel$Hill", name := "path", desc := "(II)I" } : Jvm.MethodName)) ∈ lw_all := lw_g (lw_at lw_m9 215 rfl) rfl
theorem q2302 : (Jvm.Cond.selects "GoatCourtModel$Hill" ({ cls := "GoatCourtModel$Hill", name := "path", desc := "(II)I" } : Jvm.MethodName) ({ cls := "GoatCourtModel$Hill", name := "path", desc := "(II)I" } : Jvm.MethodName)) ∈ lw_all := lw_g (lw_at lw_m9 216 rfl) rfl
theorem q2303 : (Jvm.Cond.code ({ cls := "GoatCourtModel$Hill", name := "path", desc := "(II)I" } : Jvm.MethodName) prog_25_method_3_code (4 : Nat) (Option.some Jvm.ClassFile.FieldType.int)) ∈ lw_all := lw_g (lw_at lw_m9 217 rfl) rfl
theorem q2376 : (Jvm.Cond.instanceMethod ({ cls := "GoatCourtModel$Hill", name := "cases", desc := "()I" } : Jvm.MethodName)) ∈ lw_all := lw_g (lw_at lw_m10 50 rfl) rfl
theorem q2377 : (Jvm.Cond.selects "GoatCourtModel$Hill" ({ cls := "GoatCourtModel$Hill", name := "cases", desc := "()I" } : Jvm.MethodName) ({ cls := "GoatCourtModel$Hill", name := "cases", desc := "()I" } : Jvm.MethodName)) ∈ lw_all := lw_g (lw_at lw_m10 51 rfl) rfl
theorem q2378 : (Jvm.Cond.code ({ cls := "GoatCourtModel$Hill", name := "cases", desc := "()I" } : Jvm.MethodName) prog_25_method_4_code (3 : Nat) (Option.some Jvm.ClassFile.FieldType.int)) ∈ lw_all := lw_g (lw_at lw_m10 52 rfl) rfl
theorem q2444 : (Jvm.Cond.instanceMethod ({ cls := "GoatCourtModel$Hill", name := "place", desc := "(III)I" } : Jvm.MethodName)) ∈ lw_all := lw_g (lw_at lw_m10 118 rfl) rfl
theorem q2445 : (Jvm.Cond.selects "GoatCourtModel$Hill" ({ cls := "GoatCourtModel$Hill", name := "place", desc := "(III)I" } : Jvm.MethodName) ({ cls := "GoatCourtModel$Hill", name := "place", desc := "(III)I" } : Jvm.MethodName)) ∈ lw_all := lw_g (lw_at lw_m10 119 rfl) rfl
theorem q2446 : (Jvm.Cond.code ({ cls := "GoatCourtModel$Hill", name := "place", desc := "(III)I" } : Jvm.MethodName) prog_25_method_6_code (4 : Nat) (Option.some Jvm.ClassFile.FieldType.int)) ∈ lw_all := lw_g (lw_at lw_m10 120 rfl) rfl
theorem q2460 : (Jvm.Cond.instanceMethod ({ cls := "GoatCourtModel$Hill", name := "storyOf", desc := "(II)I" } : Jvm.MethodName)) ∈ lw_all := lw_g (lw_at lw_m10 134 rfl) rfl
theorem q2461 : (Jvm.Cond.selects "GoatCourtModel$Hill" ({ cls := "GoatCourtModel$Hill", name := "storyOf", desc := "(II)I" } : Jvm.MethodName) ({ cls := "GoatCourtModel$Hill", name := "storyOf", desc := "(II)I" } : Jvm.MethodName)) ∈ lw_all := lw_g (lw_at lw_m10 135 rfl) rfl
theorem q2462 : (Jvm.Cond.code ({ cls := "GoatCourtModel$Hill", name := "storyOf", desc := "(II)I" } : Jvm.MethodName) prog_25_method_5_code (5 : Nat) (Option.some Jvm.ClassFile.FieldType.int)) ∈ lw_all := lw_g (lw_at lw_m10 136 rfl) rfl
theorem q2488 : (Jvm.Cond.instanceMethod ({ cls := "GoatCourtModel$Hill", name := "placeIn", desc := "(III)I" } : Jvm.MethodName)) ∈ lw_all := lw_g (lw_at lw_m10 162 rfl) rfl
theorem q2489 : (Jvm.Cond.selects "GoatCourtModel$Hill" ({ cls := "GoatCourtModel$Hill", name := "placeIn", desc := "(III)I" } : Jvm.MethodName) ({ cls := "GoatCourtModel$Hill", name := "placeIn", desc := "(III)I" } : Jvm.MethodName)) ∈ lw_all := lw_g (lw_at lw_m10 163 rfl) rfl
theorem q2490 : (Jvm.Cond.code ({ cls := "GoatCourtModel$Hill", name := "placeIn", desc := "(III)I" } : Jvm.MethodName) prog_25_method_7_code (4 : Nat) (Option.some Jvm.ClassFile.FieldType.int)) ∈ lw_all := lw_g (lw_at lw_m10 164 rfl) rfl
theorem q2491 : (Jvm.Cond.methodLink "GoatCourtModel$Hill" (98 : Nat) ({ cls := "GoatCourtModel$Hill", name := "storyOf", desc := "(II)I" } : Jvm.MethodName)) ∈ lw_all := lw_g (lw_at lw_m10 165 rfl) rfl
theorem q2492 : (Jvm.Cond.methodLink "GoatCourtModel$Hill" (102 : Nat) ({ cls := "GoatCourtModel$Hill", name := "place", desc := "(III)I" } : Jvm.MethodName)) ∈ lw_all := lw_g (lw_at lw_m10 166 rfl) rfl
theorem q2810 : (Jvm.Cond.castable "GoatCourtModel$Hill" "java/lang/Object") ∈ lw_tbl := lw_at lw_m12 4 rfl
theorem in_X24 : ∀ w ∈ wsX240, w ∈ lw_all := lw_in wsX240 [2098, 2100, 2102, 2104, 2106, 2108, 2110, 2112, 2114, 2116, 2118, 2120, 2122, 2124, 2126, 2128, 2130, 2132, 2134, 2136, 2138, 2140, 2142, 2144, 2146, 2148, 2150, 2152, 2154, 2156, 2158, 2160, 2162, 2164, 2166, 2168, 2170, 2172, 2174, 2176, 2178] (by decide +kernel) (by decide +kernel)
/-! GoatCourt$Refused -/
def RX3 : String := "GoatCourt$Refused"
def TX3 : u_T := fun k => match k with
  | 0 => ("java/lang/Throwable", "cause", "Ljava/lang/Throwable;", false)
  | 1 => ("java/lang/Throwable", "stackTrace", "[Ljava/lang/StackTraceElement;", false)
  | 2 => ("java/lang/Throwable", "suppressedExceptions", "Ljava/util/List;", false)
  | 3 => ("java/lang/Throwable", "detailMessage", "Ljava/lang/String;", false)
  | 4 => ("java/lang/Throwable", "backtrace", "Ljava/lang/Object;", false)
  | 5 => ("java/lang/Throwable", "depth", "I", false)
  | 6 => ("GoatCourt$Refused", "fault", "I", false)
  | _ => ("GoatCourt$Refused", "place", "I", false)
def tyX3 : Nat → FieldType := fun k => match k with
  | 0 => .object "java/lang/Throwable"
  | 1 => .array (.object "java/lang/StackTraceElement")
  | 2 => .object "java/util/List"
  | 3 => .object "java/lang/String"
  | 4 => .object "java/lang/Object"
  | 5 => .int
  | 6 => .int
  | _ => .int
abbrev wsX30 : List Cond := u_ws RX3 TX3 8
theorem nmX3 : ∀ a, a < 8 → ∀ b, b < 8 → a ≠ b → (TX3 a).2.1 ≠ (TX3 b).2.1 := by decide +kernel
theorem tyX3_ok : ∀ k, k < 8 → parseFieldDescriptor (TX3 k).2.2.1 = some (tyX3 k) := by decide +kernel
abbrev cX3_init : ByteArray := prog_18_method_1_code
def yX3_init : MethodName := ⟨RX3, "<init>", "()V"⟩
abbrev cX3_at : ByteArray := prog_18_method_2_code
def yX3_at : MethodName := ⟨RX3, "at", "(II)LGoatCourt$Refused;"⟩

theorem q172 : (Jvm.Cond.initialized "GoatCourt$Refused") ∈ lw_all := lw_g (lw_at lw_m1 6 rfl) rfl
theorem q217 : (Jvm.Cond.instantiable "GoatCourt$Refused" (8 : Nat)) ∈ lw_all := lw_g (lw_at lw_m1 51 rfl) rfl
theorem q218 : (Jvm.Cond.castable "GoatCourt$Refused" "GoatCourt$Refused") ∈ lw_tbl := lw_at lw_m1 52 rfl
theorem q225 : (Jvm.Cond.selects "GoatCourt$Refused" ({ cls := "java/lang/Throwable", name := "fillInStackTrace", desc := "(I)Ljava/lang/Throwable;" } : Jvm.MethodName) ({ cls := "java/lang/Throwable", name := "fillInStackTrace", desc := "(I)Ljava/lang/Throwable;" } : Jvm.MethodName)) ∈ lw_all := lw_g (lw_at lw_m1 59 rfl) rfl
theorem q226 : (Jvm.Cond.selects "GoatCourt$Refused" ({ cls := "java/lang/Throwable", name := "fillInStackTrace", desc := "()Ljava/lang/Throwable;" } : Jvm.MethodName) ({ cls := "java/lang/Throwable", name := "fillInStackTrace", desc := "()Ljava/lang/Throwable;" } : Jvm.MethodName)) ∈ lw_all := lw_g (lw_at lw_m1 60 rfl) rfl
theorem q227 : (Jvm.Cond.lays "GoatCourt$Refused" "java/lang/Throwable" "cause" "Ljava/lang/Throwable;") ∈ lw_all := lw_g (lw_at lw_m1 61 rfl) rfl
theorem q229 : (Jvm.Cond.lays "GoatCourt$Refused" "java/lang/Throwable" "stackTrace" "[Ljava/lang/StackTraceElement;") ∈ lw_all := lw_g (lw_at lw_m1 63 rfl) rfl
theorem q231 : (Jvm.Cond.lays "GoatCourt$Refused" "java/lang/Throwable" "suppressedExceptions" "Ljava/util/List;") ∈ lw_all := lw_g (lw_at lw_m1 65 rfl) rfl
theorem q233 : (Jvm.Cond.lays "GoatCourt$Refused" "java/lang/Throwable" "detailMessage" "Ljava/lang/String;") ∈ lw_all := lw_g (lw_at lw_m1 67 rfl) rfl
theorem q235 : (Jvm.Cond.lays "GoatCourt$Refused" "java/lang/Throwable" "backtrace" "Ljava/lang/Object;") ∈ lw_all := lw_g (lw_at lw_m1 69 rfl) rfl
theorem q257 : (Jvm.Cond.instanceMethod ({ cls := "GoatCourt$Refused", name := "<init>", desc := "()V" } : Jvm.MethodName)) ∈ lw_all := lw_g (lw_at lw_m1 91 rfl) rfl
theorem q258 : (Jvm.Cond.code ({ cls := "GoatCourt$Refused", name := "<init>", desc := "()V" } : Jvm.MethodName) prog_18_method_1_code (1 : Nat) (Option.none : Option Jvm.ClassFile.FieldType)) ∈ lw_all := lw_g (lw_at lw_m1 92 rfl) rfl
theorem q259 : (Jvm.Cond.methodLink "GoatCourt$Refused" (3 : Nat) ({ cls := "java/lang/RuntimeException", name := "<init>", desc := "(Ljava/lang/String;Ljava/lang/Throwable;ZZ)V" } : Jvm.MethodName)) ∈ lw_all := lw_g (lw_at lw_m1 93 rfl) rfl
theorem q268 : (Jvm.Cond.fieldLink "GoatCourt$Refused" (15 : Nat) "GoatCourt$Refused" "fault" "I") ∈ lw_all := lw_g (lw_at lw_m1 102 rfl) rfl
theorem q270 : (Jvm.Cond.fieldLink "GoatCourt$Refused" (9 : Nat) "GoatCourt$Refused" "place" "I") ∈ lw_all := lw_g (lw_at lw_m1 104 rfl) rfl
theorem q277 : (Jvm.Cond.lays "GoatCourt$Refused" "GoatCourt$Refused" "fault" "I") ∈ lw_all := lw_g (lw_at lw_m1 111 rfl) rfl
theorem q278 : (Jvm.Cond.soleField "GoatCourt$Refused" "fault") ∈ lw_all := lw_g (lw_at lw_m1 112 rfl) rfl
theorem q279 : (Jvm.Cond.lays "GoatCourt$Refused" "GoatCourt$Refused" "place" "I") ∈ lw_all := lw_g (lw_at lw_m1 113 rfl) rfl
theorem q280 : (Jvm.Cond.soleField "GoatCourt$Refused" "place") ∈ lw_all := lw_g (lw_at lw_m1 114 rfl) rfl
theorem q285 : (Jvm.Cond.lays "GoatCourt$Refused" "java/lang/Throwable" "depth" "I") ∈ lw_all := lw_g (lw_at lw_m1 119 rfl) rfl
theorem q288 : (Jvm.Cond.superclass "GoatCourt$Refused" "java/lang/RuntimeException") ∈ lw_all := lw_g (lw_at lw_m1 122 rfl) rfl
theorem q747 : (Jvm.Cond.instanceMethod ({ cls := "GoatCourt$Refused", name := "at", desc := "(II)LGoatCourt$Refused;" } : Jvm.MethodName)) ∈ lw_all := lw_g (lw_at lw_m3 101 rfl) rfl
theorem q748 : (Jvm.Cond.selects "GoatCourt$Refused" ({ cls := "GoatCourt$Refused", name := "at", desc := "(II)LGoatCourt$Refused;" } : Jvm.MethodName) ({ cls := "GoatCourt$Refused", name := "at", desc := "(II)LGoatCourt$Refused;" } : Jvm.MethodName)) ∈ lw_all := lw_g (lw_at lw_m3 102 rfl) rfl
theorem q749 : (Jvm.Cond.code ({ cls := "GoatCourt$Refused", name := "at", desc := "(II)LGoatCourt$Refused;" } : Jvm.MethodName) prog_18_method_2_code (3 : Nat) (Option.some (Jvm.ClassFile.FieldType.object "GoatCourt$Refused"))) ∈ lw_all := lw_g (lw_at lw_m3 103 rfl) rfl
theorem q2790 : (Jvm.Cond.castable "GoatCourt$Refused" "java/lang/Object") ∈ lw_tbl := lw_at lw_m11 224 rfl
theorem in_X3 : ∀ w ∈ wsX30, w ∈ lw_all := lw_in wsX30 [227, 229, 231, 233, 235, 285, 277, 279] (by decide +kernel) (by decide +kernel)
/-! GoatCourt$Ground -/
def RX4 : String := "GoatCourt$Ground"
def TX4 : u_T := fun k => match k with
  | 0 => ("GoatCourt$Ground", "salts", "[I", true)
  | 1 => ("GoatCourt$Ground", "dogs", "[I", true)
  | 2 => ("GoatCourt$Ground", "hedges", "I", false)
  | _ => ("GoatCourt$Ground", "heard", "I", false)
def tyX4 : Nat → FieldType := fun k => match k with
  | 0 => .array .int
  | 1 => .array .int
  | 2 => .int
  | _ => .int
abbrev wsX40 : List Cond := u_ws RX4 TX4 4
theorem nmX4 : ∀ a, a < 4 → ∀ b, b < 4 → a ≠ b → (TX4 a).2.1 ≠ (TX4 b).2.1 := by decide +kernel
theorem tyX4_ok : ∀ k, k < 4 → parseFieldDescriptor (TX4 k).2.2.1 = some (tyX4 k) := by decide +kernel
abbrev cX4_init : ByteArray := prog_9_method_1_code
def yX4_init : MethodName := ⟨RX4, "<init>", "()V"⟩
abbrev cX4_begin : ByteArray := prog_9_method_2_code
def yX4_begin : MethodName := ⟨RX4, "begin", "(LGoatCourt$Hill;)V"⟩
abbrev cX4_isPut : ByteArray := prog_9_method_4_code
def yX4_isPut : MethodName := ⟨RX4, "isPut", "(IIZ)Z"⟩
abbrev cX4_become : ByteArray := prog_9_method_3_code
def yX4_become : MethodName := ⟨RX4, "become", "(LGoatCourt$Ground;)V"⟩
abbrev cX4_add : ByteArray := prog_9_method_6_code
def yX4_add : MethodName := ⟨RX4, "add", "(IIZ)V"⟩
abbrev cX4_many : ByteArray := prog_9_method_7_code
def yX4_many : MethodName := ⟨RX4, "many", "(Z)I"⟩
abbrev cX4_change : ByteArray := prog_9_method_5_code
def yX4_change : MethodName := ⟨RX4, "change", "(IIZ)V"⟩

theorem q173 : (Jvm.Cond.initialized "GoatCourt$Ground") ∈ lw_all := lw_g (lw_at lw_m1 7 rfl) rfl
theorem q323 : (Jvm.Cond.instantiable "GoatCourt$Ground" (4 : Nat)) ∈ lw_all := lw_g (lw_at lw_m1 157 rfl) rfl
theorem q325 : (Jvm.Cond.instanceMethod ({ cls := "GoatCourt$Ground", name := "<init>", desc := "()V" } : Jvm.MethodName)) ∈ lw_all := lw_g (lw_at lw_m1 159 rfl) rfl
theorem q326 : (Jvm.Cond.code ({ cls := "GoatCourt$Ground", name := "<init>", desc := "()V" } : Jvm.MethodName) prog_9_method_1_code (1 : Nat) (Option.none : Option Jvm.ClassFile.FieldType)) ∈ lw_all := lw_g (lw_at lw_m1 160 rfl) rfl
theorem q327 : (Jvm.Cond.methodLink "GoatCourt$Ground" (3 : Nat) ({ cls := "java/lang/Object", name := "<init>", desc := "()V" } : Jvm.MethodName)) ∈ lw_all := lw_g (lw_at lw_m1 161 rfl) rfl
theorem q328 : (Jvm.Cond.fieldLink "GoatCourt$Ground" (9 : Nat) "GoatCourt$Ground" "salts" "[I") ∈ lw_all := lw_g (lw_at lw_m1 162 rfl) rfl
theorem q329 : (Jvm.Cond.fieldLink "GoatCourt$Ground" (15 : Nat) "GoatCourt$Ground" "dogs" "[I") ∈ lw_all := lw_g (lw_at lw_m1 163 rfl) rfl
theorem q330 : (Jvm.Cond.fieldLink "GoatCourt$Ground" (18 : Nat) "GoatCourt$Ground" "hedges" "I") ∈ lw_all := lw_g (lw_at lw_m1 164 rfl) rfl
theorem q333 : (Jvm.Cond.fieldLink "GoatCourt$Ground" (27 : Nat) "GoatCourt$Ground" "heard" "I") ∈ lw_all := lw_g (lw_at lw_m1 167 rfl) rfl
theorem q335 : (Jvm.Cond.laysFinal "GoatCourt$Ground" "GoatCourt$Ground" "salts" "[I") ∈ lw_all := lw_g (lw_at lw_m1 169 rfl) rfl
theorem q336 : (Jvm.Cond.soleField "GoatCourt$Ground" "salts") ∈ lw_all := lw_g (lw_at lw_m1 170 rfl) rfl
theorem q337 : (Jvm.Cond.laysFinal "GoatCourt$Ground" "GoatCourt$Ground" "dogs" "[I") ∈ lw_all := lw_g (lw_at lw_m1 171 rfl) rfl
theorem q338 : (Jvm.Cond.soleField "GoatCourt$Ground" "dogs") ∈ lw_all := lw_g (lw_at lw_m1 172 rfl) rfl
theorem q339 : (Jvm.Cond.lays "GoatCourt$Ground" "GoatCourt$Ground" "hedges" "I") ∈ lw_all := lw_g (lw_at lw_m1 173 rfl) rfl
theorem q340 : (Jvm.Cond.soleField "GoatCourt$Ground" "hedges") ∈ lw_all := lw_g (lw_at lw_m1 174 rfl) rfl
theorem q341 : (Jvm.Cond.lays "GoatCourt$Ground" "GoatCourt$Ground" "heard" "I") ∈ lw_all := lw_g (lw_at lw_m1 175 rfl) rfl
theorem q342 : (Jvm.Cond.soleField "GoatCourt$Ground" "heard") ∈ lw_all := lw_g (lw_at lw_m1 176 rfl) rfl
theorem q343 : (Jvm.Cond.superclass "GoatCourt$Ground" "java/lang/Object") ∈ lw_all := lw_g (lw_at lw_m1 177 rfl) rfl
theorem q571 : (Jvm.Cond.fieldLink "GoatCourt$Ground" (22 : Nat) "GoatCourt$Hill" "goatMany" "I") ∈ lw_all := lw_g (lw_at lw_m2 165 rfl) rfl
theorem q1293 : (Jvm.Cond.instanceMethod ({ cls := "GoatCourt$Ground", name := "begin", desc := "(LGoatCourt$Hill;)V" } : Jvm.MethodName)) ∈ lw_all := lw_g (lw_at lw_m5 167 rfl) rfl
theorem q1294 : (Jvm.Cond.selects "GoatCourt$Ground" ({ cls := "GoatCourt$Ground", name := "begin", desc := "(LGoatCourt$Hill;)V" } : Jvm.MethodName) ({ cls := "GoatCourt$Ground", name := "begin", desc := "(LGoatCourt$Hill;)V" } : Jvm.MethodName)) ∈ lw_all := lw_g (lw_at lw_m5 168 rfl) rfl
theorem q1295 : (Jvm.Cond.code ({ cls := "GoatCourt$Ground", name := "begin", desc := "(LGoatCourt$Hill;)V" } : Jvm.MethodName) prog_9_method_2_code (3 : Nat) (Option.none : Option Jvm.ClassFile.FieldType)) ∈ lw_all := lw_g (lw_at lw_m5 169 rfl) rfl
theorem q1469 : (Jvm.Cond.instanceMethod ({ cls := "GoatCourt$Ground", name := "isPut", desc := "(IIZ)Z" } : Jvm.MethodName)) ∈ lw_all := lw_g (lw_at lw_m6 103 rfl) rfl
theorem q1470 : (Jvm.Cond.selects "GoatCourt$Ground" ({ cls := "GoatCourt$Ground", name := "isPut", desc := "(IIZ)Z" } : Jvm.MethodName) ({ cls := "GoatCourt$Ground", name := "isPut", desc := "(IIZ)Z" } : Jvm.MethodName)) ∈ lw_all := lw_g (lw_at lw_m6 104 rfl) rfl
theorem q1471 : (Jvm.Cond.code ({ cls := "GoatCourt$Ground", name := "isPut", desc := "(IIZ)Z" } : Jvm.MethodName) prog_9_method_4_code (4 : Nat) (Option.some Jvm.ClassFile.FieldType.boolean)) ∈ lw_all := lw_g (lw_at lw_m6 105 rfl) rfl
theorem q1472 : (Jvm.Cond.methodLinkNest "GoatCourt$Ground" (36 : Nat) ({ cls := "GoatCourt", name := "has", desc := "(II)Z" } : Jvm.MethodName) "GoatCourt") ∈ lw_tbl := lw_at lw_m6 106 rfl
theorem q1678 : (Jvm.Cond.instanceMethod ({ cls := "GoatCourt$Ground", name := "become", desc := "(LGoatCourt$Ground;)V" } : Jvm.MethodName)) ∈ lw_all := lw_g (lw_at lw_m7 72 rfl) rfl
theorem q1679 : (Jvm.Cond.selects "GoatCourt$Ground" ({ cls := "GoatCourt$Ground", name := "become", desc := "(LGoatCourt$Ground;)V" } : Jvm.MethodName) ({ cls := "GoatCourt$Ground", name := "become", desc := "(LGoatCourt$Ground;)V" } : Jvm.MethodName)) ∈ lw_all := lw_g (lw_at lw_m7 73 rfl) rfl
theorem q1680 : (Jvm.Cond.code ({ cls := "GoatCourt$Ground", name := "become", desc := "(LGoatCourt$Ground;)V" } : Jvm.MethodName) prog_9_method_3_code (2 : Nat) (Option.none : Option Jvm.ClassFile.FieldType)) ∈ lw_all := lw_g (lw_at lw_m7 74 rfl) rfl
theorem q1681 : (Jvm.Cond.methodLink "GoatCourt$Ground" (30 : Nat) ({ cls := "java/lang/System", name := "arraycopy", desc := "(Ljava/lang/Object;ILjava/lang/Object;II)V" } : Jvm.MethodName)) ∈ lw_all := lw_g (lw_at lw_m7 75 rfl) rfl
theorem q1691 : (Jvm.Cond.instanceMethod ({ cls := "GoatCourt$Ground", name := "add", desc := "(IIZ)V" } : Jvm.MethodName)) ∈ lw_all := lw_g (lw_at lw_m7 85 rfl) rfl
theorem q1692 : (Jvm.Cond.selects "GoatCourt$Ground" ({ cls := "GoatCourt$Ground", name := "add", desc := "(IIZ)V" } : Jvm.MethodName) ({ cls := "GoatCourt$Ground", name := "add", desc := "(IIZ)V" } : Jvm.MethodName)) ∈ lw_all := lw_g (lw_at lw_m7 86 rfl) rfl
theorem q1693 : (Jvm.Cond.code ({ cls := "GoatCourt$Ground", name := "add", desc := "(IIZ)V" } : Jvm.MethodName) prog_9_method_6_code (4 : Nat) (Option.none : Option Jvm.ClassFile.FieldType)) ∈ lw_all := lw_g (lw_at lw_m7 87 rfl) rfl
theorem q1802 : (Jvm.Cond.instanceMethod ({ cls := "GoatCourt$Ground", name := "many", desc := "(Z)I" } : Jvm.MethodName)) ∈ lw_all := lw_g (lw_at lw_m7 196 rfl) rfl
theorem q1803 : (Jvm.Cond.selects "GoatCourt$Ground" ({ cls := "GoatCourt$Ground", name := "many", desc := "(Z)I" } : Jvm.MethodName) ({ cls := "GoatCourt$Ground", name := "many", desc := "(Z)I" } : Jvm.MethodName)) ∈ lw_all := lw_g (lw_at lw_m7 197 rfl) rfl
theorem q1804 : (Jvm.Cond.code ({ cls := "GoatCourt$Ground", name := "many", desc := "(Z)I" } : Jvm.MethodName) prog_9_method_7_code (4 : Nat) (Option.some Jvm.ClassFile.FieldType.int)) ∈ lw_all := lw_g (lw_at lw_m7 198 rfl) rfl
theorem q1805 : (Jvm.Cond.methodLinkNest "GoatCourt$Ground" (40 : Nat) ({ cls := "GoatCourt", name := "ones", desc := "(I)I" } : Jvm.MethodName) "GoatCourt") ∈ lw_tbl := lw_at lw_m7 199 rfl
theorem q1815 : (Jvm.Cond.instanceMethod ({ cls := "GoatCourt$Ground", name := "change", desc := "(IIZ)V" } : Jvm.MethodName)) ∈ lw_all := lw_g (lw_at lw_m7 209 rfl) rfl
theorem q1816 : (Jvm.Cond.selects "GoatCourt$Ground" ({ cls := "GoatCourt$Ground", name := "change", desc := "(IIZ)V" } : Jvm.MethodName) ({ cls := "GoatCourt$Ground", name := "change", desc := "(IIZ)V" } : Jvm.MethodName)) ∈ lw_all := lw_g (lw_at lw_m7 210 rfl) rfl
theorem q1817 : (Jvm.Cond.code ({ cls := "GoatCourt$Ground", name := "change", desc := "(IIZ)V" } : Jvm.MethodName) prog_9_method_5_code (4 : Nat) (Option.none : Option Jvm.ClassFile.FieldType)) ∈ lw_all := lw_g (lw_at lw_m7 211 rfl) rfl
theorem q2791 : (Jvm.Cond.castable "GoatCourt$Ground" "java/lang/Object") ∈ lw_tbl := lw_at lw_m11 225 rfl
theorem in_X4 : ∀ w ∈ wsX40, w ∈ lw_all := lw_in wsX40 [335, 337, 339, 341] (by decide +kernel) (by decide +kernel)
/-! GoatCourt$Day -/
def RX5 : String := "GoatCourt$Day"
def TX5 : u_T := fun k => match k with
  | 0 => ("GoatCourt$Day", "left", "[I", true)
  | 1 => ("GoatCourt$Day", "now", "[I", true)
  | 2 => ("GoatCourt$Day", "at", "[I", true)
  | 3 => ("GoatCourt$Day", "ate", "[I", true)
  | 4 => ("GoatCourt$Day", "bit", "[I", true)
  | 5 => ("GoatCourt$Day", "flees", "[I", true)
  | 6 => ("GoatCourt$Day", "people", "[I", true)
  | 7 => ("GoatCourt$Day", "hill", "LGoatCourt$Hill;", false)
  | 8 => ("GoatCourt$Day", "ground", "LGoatCourt$Ground;", false)
  | _ => ("GoatCourt$Day", "hour", "I", false)
def tyX5 : Nat → FieldType := fun k => match k with
  | 0 => .array .int
  | 1 => .array .int
  | 2 => .array .int
  | 3 => .array .int
  | 4 => .array .int
  | 5 => .array .int
  | 6 => .array .int
  | 7 => .object "GoatCourt$Hill"
  | 8 => .object "GoatCourt$Ground"
  | _ => .int
abbrev wsX50 : List Cond := u_ws RX5 TX5 10
theorem nmX5 : ∀ a, a < 10 → ∀ b, b < 10 → a ≠ b → (TX5 a).2.1 ≠ (TX5 b).2.1 := by decide +kernel
theorem tyX5_ok : ∀ k, k < 10 → parseFieldDescriptor (TX5 k).2.2.1 = some (tyX5 k) := by decide +kernel
abbrev cX5_init : ByteArray := prog_5_method_1_code
def yX5_init : MethodName := ⟨RX5, "<init>", "()V"⟩
abbrev cX5_run : ByteArray := prog_5_method_2_code
def yX5_run : MethodName := ⟨RX5, "run", "(LGoatCourt$Hill;LGoatCourt$Ground;I)V"⟩
abbrev cX5_layPeople : ByteArray := prog_5_method_3_code
def yX5_layPeople : MethodName := ⟨RX5, "layPeople", "(I)V"⟩
abbrev cX5_goes : ByteArray := prog_5_method_9_code
def yX5_goes : MethodName := ⟨RX5, "goes", "(LGoatCourt$Goat;)V"⟩
abbrev cX5_isOpen : ByteArray := prog_5_method_5_code
def yX5_isOpen : MethodName := ⟨RX5, "isOpen", "(II)Z"⟩
abbrev cX5_bestOf : ByteArray := prog_5_method_8_code
def yX5_bestOf : MethodName := ⟨RX5, "bestOf", "(LGoatCourt$Goat;)I"⟩
abbrev cX5_canGo : ByteArray := prog_5_method_6_code
def yX5_canGo : MethodName := ⟨RX5, "canGo", "(LGoatCourt$Goat;I)Z"⟩
abbrev cX5_isFeared : ByteArray := prog_5_method_4_code
def yX5_isFeared : MethodName := ⟨RX5, "isFeared", "(LGoatCourt$Goat;I)Z"⟩
abbrev cX5_worth : ByteArray := prog_5_method_7_code
def yX5_worth : MethodName := ⟨RX5, "worth", "(LGoatCourt$Goat;I)I"⟩
abbrev cX5_eats : ByteArray := prog_5_method_10_code
def yX5_eats : MethodName := ⟨RX5, "eats", "(LGoatCourt$Goat;I)V"⟩
abbrev cX5_at : ByteArray := prog_5_method_11_code
def yX5_at : MethodName := ⟨RX5, "at", "(II)I"⟩
abbrev cX5_ate : ByteArray := prog_5_method_12_code
def yX5_ate : MethodName := ⟨RX5, "ate", "(II)I"⟩
abbrev cX5_drops : ByteArray := prog_5_method_13_code
def yX5_drops : MethodName := ⟨RX5, "drops", "(III)I"⟩
abbrev cX5_flees : ByteArray := prog_5_method_14_code
def yX5_flees : MethodName := ⟨RX5, "flees", "(I)I"⟩
abbrev cX5_left : ByteArray := prog_5_method_15_code
def yX5_left : MethodName := ⟨RX5, "left", "(II)I"⟩
abbrev cX5_trueGoats : ByteArray := prog_5_method_16_code
def yX5_trueGoats : MethodName := ⟨RX5, "trueGoats", "()I"⟩

theorem q174 : (Jvm.Cond.initialized "GoatCourt$Day") ∈ lw_all := lw_g (lw_at lw_m1 8 rfl) rfl
theorem q331 : (Jvm.Cond.fieldLink "GoatCourt$Day" (115 : Nat) "GoatCourt$Ground" "hedges" "I") ∈ lw_all := lw_g (lw_at lw_m1 165 rfl) rfl
theorem q346 : (Jvm.Cond.instantiable "GoatCourt$Day" (10 : Nat)) ∈ lw_all := lw_g (lw_at lw_m1 180 rfl) rfl
theorem q348 : (Jvm.Cond.instanceMethod ({ cls := "GoatCourt$Day", name := "<init>", desc := "()V" } : Jvm.MethodName)) ∈ lw_all := lw_g (lw_at lw_m1 182 rfl) rfl
theorem q349 : (Jvm.Cond.code ({ cls := "GoatCourt$Day", name := "<init>", desc := "()V" } : Jvm.MethodName) prog_5_method_1_code (1 : Nat) (Option.none : Option Jvm.ClassFile.FieldType)) ∈ lw_all := lw_g (lw_at lw_m1 183 rfl) rfl
theorem q350 : (Jvm.Cond.methodLink "GoatCourt$Day" (3 : Nat) ({ cls := "java/lang/Object", name := "<init>", desc := "()V" } : Jvm.MethodName)) ∈ lw_all := lw_g (lw_at lw_m1 184 rfl) rfl
theorem q351 : (Jvm.Cond.fieldLink "GoatCourt$Day" (9 : Nat) "GoatCourt$Day" "left" "[I") ∈ lw_all := lw_g (lw_at lw_m1 185 rfl) rfl
theorem q352 : (Jvm.Cond.fieldLink "GoatCourt$Day" (15 : Nat) "GoatCourt$Day" "now" "[I") ∈ lw_all := lw_g (lw_at lw_m1 186 rfl) rfl
theorem q353 : (Jvm.Cond.fieldLink "GoatCourt$Day" (18 : Nat) "GoatCourt$Day" "at" "[I") ∈ lw_all := lw_g (lw_at lw_m1 187 rfl) rfl
theorem q354 : (Jvm.Cond.fieldLink "GoatCourt$Day" (21 : Nat) "GoatCourt$Day" "ate" "[I") ∈ lw_all := lw_g (lw_at lw_m1 188 rfl) rfl
theorem q355 : (Jvm.Cond.fieldLink "GoatCourt$Day" (24 : Nat) "GoatCourt$Day" "bit" "[I") ∈ lw_all := lw_g (lw_at lw_m1 189 rfl) rfl
theorem q356 : (Jvm.Cond.fieldLink "GoatCourt$Day" (27 : Nat) "GoatCourt$Day" "flees" "[I") ∈ lw_all := lw_g (lw_at lw_m1 190 rfl) rfl
theorem q357 : (Jvm.Cond.fieldLink "GoatCourt$Day" (30 : Nat) "GoatCourt$Day" "people" "[I") ∈ lw_all := lw_g (lw_at lw_m1 191 rfl) rfl
theorem q358 : (Jvm.Cond.fieldLink "GoatCourt$Day" (33 : Nat) "GoatCourt$Day" "hill" "LGoatCourt$Hill;") ∈ lw_all := lw_g (lw_at lw_m1 192 rfl) rfl
theorem q359 : (Jvm.Cond.fieldLink "GoatCourt$Day" (37 : Nat) "GoatCourt$Day" "ground" "LGoatCourt$Ground;") ∈ lw_all := lw_g (lw_at lw_m1 193 rfl) rfl
theorem q360 : (Jvm.Cond.fieldLink "GoatCourt$Day" (74 : Nat) "GoatCourt$Day" "hour" "I") ∈ lw_all := lw_g (lw_at lw_m1 194 rfl) rfl
theorem q361 : (Jvm.Cond.laysFinal "GoatCourt$Day" "GoatCourt$Day" "left" "[I") ∈ lw_all := lw_g (lw_at lw_m1 195 rfl) rfl
theorem q362 : (Jvm.Cond.soleField "GoatCourt$Day" "left") ∈ lw_all := lw_g (lw_at lw_m1 196 rfl) rfl
theorem q363 : (Jvm.Cond.laysFinal "GoatCourt$Day" "GoatCourt$Day" "now" "[I") ∈ lw_all := lw_g (lw_at lw_m1 197 rfl) rfl
theorem q364 : (Jvm.Cond.soleField "GoatCourt$Day" "now") ∈ lw_all := lw_g (lw_at lw_m1 198 rfl) rfl
theorem q365 : (Jvm.Cond.laysFinal "GoatCourt$Day" "GoatCourt$Day" "at" "[I") ∈ lw_all := lw_g (lw_at lw_m1 199 rfl) rfl
theorem q366 : (Jvm.Cond.soleField "GoatCourt$Day" "at") ∈ lw_all := lw_g (lw_at lw_m1 200 rfl) rfl
theorem q367 : (Jvm.Cond.laysFinal "GoatCourt$Day" "GoatCourt$Day" "ate" "[I") ∈ lw_all := lw_g (lw_at lw_m1 201 rfl) rfl
theorem q368 : (Jvm.Cond.soleField "GoatCourt$Day" "ate") ∈ lw_all := lw_g (lw_at lw_m1 202 rfl) rfl
theorem q369 : (Jvm.Cond.laysFinal "GoatCourt$Day" "GoatCourt$Day" "bit" "[I") ∈ lw_all := lw_g (lw_at lw_m1 203 rfl) rfl
theorem q370 : (Jvm.Cond.soleField "GoatCourt$Day" "bit") ∈ lw_all := lw_g (lw_at lw_m1 204 rfl) rfl
theorem q371 : (Jvm.Cond.laysFinal "GoatCourt$Day" "GoatCourt$Day" "flees" "[I") ∈ lw_all := lw_g (lw_at lw_m1 205 rfl) rfl
theorem q372 : (Jvm.Cond.soleField "GoatCourt$Day" "flees") ∈ lw_all := lw_g (lw_at lw_m1 206 rfl) rfl
theorem q373 : (Jvm.Cond.laysFinal "GoatCourt$Day" "GoatCourt$Day" "people" "[I") ∈ lw_all := lw_g (lw_at lw_m1 207 rfl) rfl
theorem q374 : (Jvm.Cond.soleField "GoatCourt$Day" "people") ∈ lw_all := lw_g (lw_at lw_m1 208 rfl) rfl
theorem q375 : (Jvm.Cond.lays "GoatCourt$Day" "GoatCourt$Day" "hill" "LGoatCourt$Hill;") ∈ lw_all := lw_g (lw_at lw_m1 209 rfl) rfl
theorem q376 : (Jvm.Cond.soleField "GoatCourt$Day" "hill") ∈ lw_all := lw_g (lw_at lw_m1 210 rfl) rfl
theorem q377 : (Jvm.Cond.lays "GoatCourt$Day" "GoatCourt$Day" "ground" "LGoatCourt$Ground;") ∈ lw_all := lw_g (lw_at lw_m1 211 rfl) rfl
theorem q378 : (Jvm.Cond.soleField "GoatCourt$Day" "ground") ∈ lw_all := lw_g (lw_at lw_m1 212 rfl) rfl
theorem q379 : (Jvm.Cond.lays "GoatCourt$Day" "GoatCourt$Day" "hour" "I") ∈ lw_all := lw_g (lw_at lw_m1 213 rfl) rfl
theorem q380 : (Jvm.Cond.soleField "GoatCourt$Day" "hour") ∈ lw_all := lw_g (lw_at lw_m1 214 rfl) rfl
theorem q381 : (Jvm.Cond.superclass "GoatCourt$Day" "java/lang/Object") ∈ lw_all := lw_g (lw_at lw_m1 215 rfl) rfl
theorem q521 : (Jvm.Cond.fieldLink "GoatCourt$Day" (47 : Nat) "GoatCourt$Hill" "places" "[LGoatCourt$Place;") ∈ lw_all := lw_g (lw_at lw_m2 115 rfl) rfl
theorem q535 : (Jvm.Cond.fieldLink "GoatCourt$Day" (95 : Nat) "GoatCourt$Hill" "people" "[LGoatCourt$Person;") ∈ lw_all := lw_g (lw_at lw_m2 129 rfl) rfl
theorem q539 : (Jvm.Cond.fieldLink "GoatCourt$Day" (65 : Nat) "GoatCourt$Hill" "goats" "[LGoatCourt$Goat;") ∈ lw_all := lw_g (lw_at lw_m2 133 rfl) rfl
theorem q543 : (Jvm.Cond.fieldLink "GoatCourt$Day" (174 : Nat) "GoatCourt$Hill" "clues" "[LGoatCourt$Clue;") ∈ lw_all := lw_g (lw_at lw_m2 137 rfl) rfl
theorem q555 : (Jvm.Cond.fieldLink "GoatCourt$Day" (77 : Nat) "GoatCourt$Hill" "hours" "I") ∈ lw_all := lw_g (lw_at lw_m2 149 rfl) rfl
theorem q560 : (Jvm.Cond.fieldLink "GoatCourt$Day" (41 : Nat) "GoatCourt$Hill" "placeMany" "I") ∈ lw_all := lw_g (lw_at lw_m2 154 rfl) rfl
theorem q568 : (Jvm.Cond.fieldLink "GoatCourt$Day" (88 : Nat) "GoatCourt$Hill" "personMany" "I") ∈ lw_all := lw_g (lw_at lw_m2 162 rfl) rfl
theorem q572 : (Jvm.Cond.fieldLink "GoatCourt$Day" (62 : Nat) "GoatCourt$Hill" "goatMany" "I") ∈ lw_all := lw_g (lw_at lw_m2 166 rfl) rfl
theorem q578 : (Jvm.Cond.fieldLink "GoatCourt$Day" (171 : Nat) "GoatCourt$Hill" "clueMany" "I") ∈ lw_all := lw_g (lw_at lw_m2 172 rfl) rfl
theorem q884 : (Jvm.Cond.fieldLink "GoatCourt$Day" (51 : Nat) "GoatCourt$Place" "plants" "[I") ∈ lw_all := lw_g (lw_at lw_m3 238 rfl) rfl
theorem q892 : (Jvm.Cond.fieldLink "GoatCourt$Day" (122 : Nat) "GoatCourt$Goat" "number" "I") ∈ lw_all := lw_g (lw_at lw_m4 6 rfl) rfl
theorem q1003 : (Jvm.Cond.fieldLink "GoatCourt$Day" (155 : Nat) "GoatCourt$Goat" "order" "[I") ∈ lw_all := lw_g (lw_at lw_m4 117 rfl) rfl
theorem q1009 : (Jvm.Cond.fieldLink "GoatCourt$Day" (69 : Nat) "GoatCourt$Goat" "begins" "I") ∈ lw_all := lw_g (lw_at lw_m4 123 rfl) rfl
theorem q1150 : (Jvm.Cond.fieldLink "GoatCourt$Day" (184 : Nat) "GoatCourt$Clue" "goat" "I") ∈ lw_all := lw_g (lw_at lw_m5 24 rfl) rfl
theorem q1433 : (Jvm.Cond.instanceMethod ({ cls := "GoatCourt$Day", name := "run", desc := "(LGoatCourt$Hill;LGoatCourt$Ground;I)V" } : Jvm.MethodName)) ∈ lw_all := lw_g (lw_at lw_m6 67 rfl) rfl
theorem q1434 : (Jvm.Cond.selects "GoatCourt$Day" ({ cls := "GoatCourt$Day", name := "run", desc := "(LGoatCourt$Hill;LGoatCourt$Ground;I)V" } : Jvm.MethodName) ({ cls := "GoatCourt$Day", name := "run", desc := "(LGoatCourt$Hill;LGoatCourt$Ground;I)V" } : Jvm.MethodName)) ∈ lw_all := lw_g (lw_at lw_m6 68 rfl) rfl
theorem q1435 : (Jvm.Cond.code ({ cls := "GoatCourt$Day", name := "run", desc := "(LGoatCourt$Hill;LGoatCourt$Ground;I)V" } : Jvm.MethodName) prog_5_method_2_code (5 : Nat) (Option.none : Option Jvm.ClassFile.FieldType)) ∈ lw_all := lw_g (lw_at lw_m6 69 rfl) rfl
theorem q1436 : (Jvm.Cond.methodLink "GoatCourt$Day" (56 : Nat) ({ cls := "java/lang/System", name := "arraycopy", desc := "(Ljava/lang/Object;ILjava/lang/Object;II)V" } : Jvm.MethodName)) ∈ lw_all := lw_g (lw_at lw_m6 70 rfl) rfl
theorem q1439 : (Jvm.Cond.methodLink "GoatCourt$Day" (80 : Nat) ({ cls := "GoatCourt$Day", name := "layPeople", desc := "(I)V" } : Jvm.MethodName)) ∈ lw_all := lw_g (lw_at lw_m6 73 rfl) rfl
theorem q1440 : (Jvm.Cond.privateMethod ({ cls := "GoatCourt$Day", name := "layPeople", desc := "(I)V" } : Jvm.MethodName)) ∈ lw_tbl := lw_at lw_m6 74 rfl
theorem q1441 : (Jvm.Cond.instanceMethod ({ cls := "GoatCourt$Day", name := "layPeople", desc := "(I)V" } : Jvm.MethodName)) ∈ lw_all := lw_g (lw_at lw_m6 75 rfl) rfl
theorem q1442 : (Jvm.Cond.code ({ cls := "GoatCourt$Day", name := "layPeople", desc := "(I)V" } : Jvm.MethodName) prog_5_method_3_code (4 : Nat) (Option.none : Option Jvm.ClassFile.FieldType)) ∈ lw_all := lw_g (lw_at lw_m6 76 rfl) rfl
theorem q1443 : (Jvm.Cond.methodLink "GoatCourt$Day" (91 : Nat) ({ cls := "GoatCourt$Hill", name := "storyOf", desc := "(II)I" } : Jvm.MethodName)) ∈ lw_all := lw_g (lw_at lw_m6 77 rfl) rfl
theorem q1444 : (Jvm.Cond.methodLink "GoatCourt$Day" (98 : Nat) ({ cls := "GoatCourt$Person", name := "at", desc := "(II)I" } : Jvm.MethodName)) ∈ lw_all := lw_g (lw_at lw_m6 78 rfl) rfl
theorem q1445 : (Jvm.Cond.methodLink "GoatCourt$Day" (84 : Nat) ({ cls := "GoatCourt$Day", name := "goes", desc := "(LGoatCourt$Goat;)V" } : Jvm.MethodName)) ∈ lw_all := lw_g (lw_at lw_m6 79 rfl) rfl
theorem q1446 : (Jvm.Cond.privateMethod ({ cls := "GoatCourt$Day", name := "goes", desc := "(LGoatCourt$Goat;)V" } : Jvm.MethodName)) ∈ lw_tbl := lw_at lw_m6 80 rfl
theorem q1447 : (Jvm.Cond.instanceMethod ({ cls := "GoatCourt$Day", name := "goes", desc := "(LGoatCourt$Goat;)V" } : Jvm.MethodName)) ∈ lw_all := lw_g (lw_at lw_m6 81 rfl) rfl
theorem q1448 : (Jvm.Cond.code ({ cls := "GoatCourt$Day", name := "goes", desc := "(LGoatCourt$Goat;)V" } : Jvm.MethodName) prog_5_method_9_code (7 : Nat) (Option.none : Option Jvm.ClassFile.FieldType)) ∈ lw_all := lw_g (lw_at lw_m6 82 rfl) rfl
theorem q1449 : (Jvm.Cond.methodLink "GoatCourt$Day" (143 : Nat) ({ cls := "GoatCourt$Goat", name := "mother", desc := "()LGoatCourt$Goat;" } : Jvm.MethodName)) ∈ lw_all := lw_g (lw_at lw_m6 83 rfl) rfl
theorem q1450 : (Jvm.Cond.methodLink "GoatCourt$Day" (125 : Nat) ({ cls := "GoatCourt$Day", name := "isOpen", desc := "(II)Z" } : Jvm.MethodName)) ∈ lw_all := lw_g (lw_at lw_m6 84 rfl) rfl
theorem q1451 : (Jvm.Cond.privateMethod ({ cls := "GoatCourt$Day", name := "isOpen", desc := "(II)Z" } : Jvm.MethodName)) ∈ lw_tbl := lw_at lw_m6 85 rfl
theorem q1452 : (Jvm.Cond.instanceMethod ({ cls := "GoatCourt$Day", name := "isOpen", desc := "(II)Z" } : Jvm.MethodName)) ∈ lw_all := lw_g (lw_at lw_m6 86 rfl) rfl
theorem q1453 : (Jvm.Cond.code ({ cls := "GoatCourt$Day", name := "isOpen", desc := "(II)Z" } : Jvm.MethodName) prog_5_method_5_code (4 : Nat) (Option.some Jvm.ClassFile.FieldType.boolean)) ∈ lw_all := lw_g (lw_at lw_m6 87 rfl) rfl
theorem q1454 : (Jvm.Cond.methodLink "GoatCourt$Day" (112 : Nat) ({ cls := "GoatCourt$Hill", name := "path", desc := "(II)I" } : Jvm.MethodName)) ∈ lw_all := lw_g (lw_at lw_m6 88 rfl) rfl
theorem q1455 : (Jvm.Cond.methodLinkNest "GoatCourt$Day" (118 : Nat) ({ cls := "GoatCourt", name := "has", desc := "(II)Z" } : Jvm.MethodName) "GoatCourt") ∈ lw_tbl := lw_at lw_m6 89 rfl
theorem q1456 : (Jvm.Cond.methodLink "GoatCourt$Day" (147 : Nat) ({ cls := "GoatCourt$Day", name := "bestOf", desc := "(LGoatCourt$Goat;)I" } : Jvm.MethodName)) ∈ lw_all := lw_g (lw_at lw_m6 90 rfl) rfl
theorem q1457 : (Jvm.Cond.privateMethod ({ cls := "GoatCourt$Day", name := "bestOf", desc := "(LGoatCourt$Goat;)I" } : Jvm.MethodName)) ∈ lw_tbl := lw_at lw_m6 91 rfl
theorem q1458 : (Jvm.Cond.instanceMethod ({ cls := "GoatCourt$Day", name := "bestOf", desc := "(LGoatCourt$Goat;)I" } : Jvm.MethodName)) ∈ lw_all := lw_g (lw_at lw_m6 92 rfl) rfl
theorem q1459 : (Jvm.Cond.code ({ cls := "GoatCourt$Day", name := "bestOf", desc := "(LGoatCourt$Goat;)I" } : Jvm.MethodName) prog_5_method_8_code (4 : Nat) (Option.some Jvm.ClassFile.FieldType.int)) ∈ lw_all := lw_g (lw_at lw_m6 93 rfl) rfl
theorem q1460 : (Jvm.Cond.methodLink "GoatCourt$Day" (136 : Nat) ({ cls := "GoatCourt$Day", name := "canGo", desc := "(LGoatCourt$Goat;I)Z" } : Jvm.MethodName)) ∈ lw_all := lw_g (lw_at lw_m6 94 rfl) rfl
theorem q1461 : (Jvm.Cond.privateMethod ({ cls := "GoatCourt$Day", name := "canGo", desc := "(LGoatCourt$Goat;I)Z" } : Jvm.MethodName)) ∈ lw_tbl := lw_at lw_m6 95 rfl
theorem q1462 : (Jvm.Cond.instanceMethod ({ cls := "GoatCourt$Day", name := "canGo", desc := "(LGoatCourt$Goat;I)Z" } : Jvm.MethodName)) ∈ lw_all := lw_g (lw_at lw_m6 96 rfl) rfl
theorem q1463 : (Jvm.Cond.code ({ cls := "GoatCourt$Day", name := "canGo", desc := "(LGoatCourt$Goat;I)Z" } : Jvm.MethodName) prog_5_method_6_code (3 : Nat) (Option.some Jvm.ClassFile.FieldType.boolean)) ∈ lw_all := lw_g (lw_at lw_m6 97 rfl) rfl
theorem q1464 : (Jvm.Cond.methodLink "GoatCourt$Day" (128 : Nat) ({ cls := "GoatCourt$Day", name := "isFeared", desc := "(LGoatCourt$Goat;I)Z" } : Jvm.MethodName)) ∈ lw_all := lw_g (lw_at lw_m6 98 rfl) rfl
theorem q1465 : (Jvm.Cond.privateMethod ({ cls := "GoatCourt$Day", name := "isFeared", desc := "(LGoatCourt$Goat;I)Z" } : Jvm.MethodName)) ∈ lw_tbl := lw_at lw_m6 99 rfl
theorem q1466 : (Jvm.Cond.instanceMethod ({ cls := "GoatCourt$Day", name := "isFeared", desc := "(LGoatCourt$Goat;I)Z" } : Jvm.MethodName)) ∈ lw_all := lw_g (lw_at lw_m6 100 rfl) rfl
theorem q1467 : (Jvm.Cond.code ({ cls := "GoatCourt$Day", name := "isFeared", desc := "(LGoatCourt$Goat;I)Z" } : Jvm.MethodName) prog_5_method_4_code (3 : Nat) (Option.some Jvm.ClassFile.FieldType.boolean)) ∈ lw_all := lw_g (lw_at lw_m6 101 rfl) rfl
theorem q1468 : (Jvm.Cond.methodLink "GoatCourt$Day" (102 : Nat) ({ cls := "GoatCourt$Ground", name := "isPut", desc := "(IIZ)Z" } : Jvm.MethodName)) ∈ lw_all := lw_g (lw_at lw_m6 102 rfl) rfl
theorem q1473 : (Jvm.Cond.methodLink "GoatCourt$Day" (108 : Nat) ({ cls := "GoatCourt$Goat", name := "fearsAt", desc := "(IZ)Z" } : Jvm.MethodName)) ∈ lw_all := lw_g (lw_at lw_m6 107 rfl) rfl
theorem q1485 : (Jvm.Cond.methodLink "GoatCourt$Day" (139 : Nat) ({ cls := "GoatCourt$Day", name := "worth", desc := "(LGoatCourt$Goat;I)I" } : Jvm.MethodName)) ∈ lw_all := lw_g (lw_at lw_m6 119 rfl) rfl
theorem q1486 : (Jvm.Cond.privateMethod ({ cls := "GoatCourt$Day", name := "worth", desc := "(LGoatCourt$Goat;I)I" } : Jvm.MethodName)) ∈ lw_tbl := lw_at lw_m6 120 rfl
theorem q1487 : (Jvm.Cond.instanceMethod ({ cls := "GoatCourt$Day", name := "worth", desc := "(LGoatCourt$Goat;I)I" } : Jvm.MethodName)) ∈ lw_all := lw_g (lw_at lw_m6 121 rfl) rfl
theorem q1488 : (Jvm.Cond.code ({ cls := "GoatCourt$Day", name := "worth", desc := "(LGoatCourt$Goat;I)I" } : Jvm.MethodName) prog_5_method_7_code (4 : Nat) (Option.some Jvm.ClassFile.FieldType.int)) ∈ lw_all := lw_g (lw_at lw_m6 122 rfl) rfl
theorem q1489 : (Jvm.Cond.methodLink "GoatCourt$Day" (132 : Nat) ({ cls := "GoatCourt$Goat", name := "rank", desc := "([II)I" } : Jvm.MethodName)) ∈ lw_all := lw_g (lw_at lw_m6 123 rfl) rfl
theorem q1497 : (Jvm.Cond.methodLink "GoatCourt$Day" (151 : Nat) ({ cls := "GoatCourt$Day", name := "eats", desc := "(LGoatCourt$Goat;I)V" } : Jvm.MethodName)) ∈ lw_all := lw_g (lw_at lw_m6 131 rfl) rfl
theorem q1498 : (Jvm.Cond.privateMethod ({ cls := "GoatCourt$Day", name := "eats", desc := "(LGoatCourt$Goat;I)V" } : Jvm.MethodName)) ∈ lw_tbl := lw_at lw_m6 132 rfl
theorem q1499 : (Jvm.Cond.instanceMethod ({ cls := "GoatCourt$Day", name := "eats", desc := "(LGoatCourt$Goat;I)V" } : Jvm.MethodName)) ∈ lw_all := lw_g (lw_at lw_m6 133 rfl) rfl
theorem q1500 : (Jvm.Cond.code ({ cls := "GoatCourt$Day", name := "eats", desc := "(LGoatCourt$Goat;I)V" } : Jvm.MethodName) prog_5_method_10_code (5 : Nat) (Option.none : Option Jvm.ClassFile.FieldType)) ∈ lw_all := lw_g (lw_at lw_m6 134 rfl) rfl
theorem q1501 : (Jvm.Cond.methodLink "GoatCourt$Day" (158 : Nat) ({ cls := "GoatCourt$Goat", name := "bites", desc := "()I" } : Jvm.MethodName)) ∈ lw_all := lw_g (lw_at lw_m6 135 rfl) rfl
theorem q1511 : (Jvm.Cond.methodLink "GoatCourt$Day" (162 : Nat) ({ cls := "java/lang/Math", name := "min", desc := "(II)I" } : Jvm.MethodName)) ∈ lw_all := lw_g (lw_at lw_m6 145 rfl) rfl
theorem q1513 : (Jvm.Cond.instanceMethod ({ cls := "GoatCourt$Day", name := "at", desc := "(II)I" } : Jvm.MethodName)) ∈ lw_all := lw_g (lw_at lw_m6 147 rfl) rfl
theorem q1514 : (Jvm.Cond.selects "GoatCourt$Day" ({ cls := "GoatCourt$Day", name := "at", desc := "(II)I" } : Jvm.MethodName) ({ cls := "GoatCourt$Day", name := "at", desc := "(II)I" } : Jvm.MethodName)) ∈ lw_all := lw_g (lw_at lw_m6 148 rfl) rfl
theorem q1515 : (Jvm.Cond.code ({ cls := "GoatCourt$Day", name := "at", desc := "(II)I" } : Jvm.MethodName) prog_5_method_11_code (3 : Nat) (Option.some Jvm.ClassFile.FieldType.int)) ∈ lw_all := lw_g (lw_at lw_m6 149 rfl) rfl
theorem q1521 : (Jvm.Cond.instanceMethod ({ cls := "GoatCourt$Day", name := "ate", desc := "(II)I" } : Jvm.MethodName)) ∈ lw_all := lw_g (lw_at lw_m6 155 rfl) rfl
theorem q1522 : (Jvm.Cond.selects "GoatCourt$Day" ({ cls := "GoatCourt$Day", name := "ate", desc := "(II)I" } : Jvm.MethodName) ({ cls := "GoatCourt$Day", name := "ate", desc := "(II)I" } : Jvm.MethodName)) ∈ lw_all := lw_g (lw_at lw_m6 156 rfl) rfl
theorem q1523 : (Jvm.Cond.code ({ cls := "GoatCourt$Day", name := "ate", desc := "(II)I" } : Jvm.MethodName) prog_5_method_12_code (5 : Nat) (Option.some Jvm.ClassFile.FieldType.int)) ∈ lw_all := lw_g (lw_at lw_m6 157 rfl) rfl
theorem q1529 : (Jvm.Cond.instanceMethod ({ cls := "GoatCourt$Day", name := "drops", desc := "(III)I" } : Jvm.MethodName)) ∈ lw_all := lw_g (lw_at lw_m6 163 rfl) rfl
theorem q1530 : (Jvm.Cond.selects "GoatCourt$Day" ({ cls := "GoatCourt$Day", name := "drops", desc := "(III)I" } : Jvm.MethodName) ({ cls := "GoatCourt$Day", name := "drops", desc := "(III)I" } : Jvm.MethodName)) ∈ lw_all := lw_g (lw_at lw_m6 164 rfl) rfl
theorem q1531 : (Jvm.Cond.code ({ cls := "GoatCourt$Day", name := "drops", desc := "(III)I" } : Jvm.MethodName) prog_5_method_13_code (6 : Nat) (Option.some Jvm.ClassFile.FieldType.int)) ∈ lw_all := lw_g (lw_at lw_m6 165 rfl) rfl
theorem q1532 : (Jvm.Cond.methodLink "GoatCourt$Day" (167 : Nat) ({ cls := "GoatCourt$Day", name := "at", desc := "(II)I" } : Jvm.MethodName)) ∈ lw_all := lw_g (lw_at lw_m6 166 rfl) rfl
theorem q1538 : (Jvm.Cond.instanceMethod ({ cls := "GoatCourt$Day", name := "flees", desc := "(I)I" } : Jvm.MethodName)) ∈ lw_all := lw_g (lw_at lw_m6 172 rfl) rfl
theorem q1539 : (Jvm.Cond.selects "GoatCourt$Day" ({ cls := "GoatCourt$Day", name := "flees", desc := "(I)I" } : Jvm.MethodName) ({ cls := "GoatCourt$Day", name := "flees", desc := "(I)I" } : Jvm.MethodName)) ∈ lw_all := lw_g (lw_at lw_m6 173 rfl) rfl
theorem q1540 : (Jvm.Cond.code ({ cls := "GoatCourt$Day", name := "flees", desc := "(I)I" } : Jvm.MethodName) prog_5_method_14_code (2 : Nat) (Option.some Jvm.ClassFile.FieldType.int)) ∈ lw_all := lw_g (lw_at lw_m6 174 rfl) rfl
theorem q1546 : (Jvm.Cond.instanceMethod ({ cls := "GoatCourt$Day", name := "left", desc := "(II)I" } : Jvm.MethodName)) ∈ lw_all := lw_g (lw_at lw_m6 180 rfl) rfl
theorem q1547 : (Jvm.Cond.selects "GoatCourt$Day" ({ cls := "GoatCourt$Day", name := "left", desc := "(II)I" } : Jvm.MethodName) ({ cls := "GoatCourt$Day", name := "left", desc := "(II)I" } : Jvm.MethodName)) ∈ lw_all := lw_g (lw_at lw_m6 181 rfl) rfl
theorem q1548 : (Jvm.Cond.code ({ cls := "GoatCourt$Day", name := "left", desc := "(II)I" } : Jvm.MethodName) prog_5_method_15_code (3 : Nat) (Option.some Jvm.ClassFile.FieldType.int)) ∈ lw_all := lw_g (lw_at lw_m6 182 rfl) rfl
theorem q1585 : (Jvm.Cond.instanceMethod ({ cls := "GoatCourt$Day", name := "trueGoats", desc := "()I" } : Jvm.MethodName)) ∈ lw_all := lw_g (lw_at lw_m6 219 rfl) rfl
theorem q1586 : (Jvm.Cond.selects "GoatCourt$Day" ({ cls := "GoatCourt$Day", name := "trueGoats", desc := "()I" } : Jvm.MethodName) ({ cls := "GoatCourt$Day", name := "trueGoats", desc := "()I" } : Jvm.MethodName)) ∈ lw_all := lw_g (lw_at lw_m6 220 rfl) rfl
theorem q1587 : (Jvm.Cond.code ({ cls := "GoatCourt$Day", name := "trueGoats", desc := "()I" } : Jvm.MethodName) prog_5_method_16_code (3 : Nat) (Option.some Jvm.ClassFile.FieldType.int)) ∈ lw_all := lw_g (lw_at lw_m6 221 rfl) rfl
theorem q1588 : (Jvm.Cond.methodLink "GoatCourt$Day" (168 : Nat) ({ cls := "GoatCourt$Hill", name := "clueGoats", desc := "()I" } : Jvm.MethodName)) ∈ lw_all := lw_g (lw_at lw_m6 222 rfl) rfl
theorem q1592 : (Jvm.Cond.methodLink "GoatCourt$Day" (178 : Nat) ({ cls := "GoatCourt$Clue", name := "isTrue", desc := "(LGoatCourt$Day;)Z" } : Jvm.MethodName)) ∈ lw_all := lw_g (lw_at lw_m6 226 rfl) rfl
theorem q2792 : (Jvm.Cond.castable "GoatCourt$Day" "java/lang/Object") ∈ lw_tbl := lw_at lw_m11 226 rfl
theorem in_X5 : ∀ w ∈ wsX50, w ∈ lw_all := lw_in wsX50 [361, 363, 365, 367, 369, 371, 373, 375, 377, 379] (by decide +kernel) (by decide +kernel)
/-! GoatCourt$Orders -/
def RX6 : String := "GoatCourt$Orders"
def TX6 : u_T := fun k => match k with
  | 0 => ("GoatCourt$Orders", "order", "[I", true)
  | 1 => ("GoatCourt$Orders", "best", "[I", true)
  | 2 => ("GoatCourt$Orders", "hill", "LGoatCourt$Hill;", false)
  | _ => ("GoatCourt$Orders", "least", "J", false)
def tyX6 : Nat → FieldType := fun k => match k with
  | 0 => .array .int
  | 1 => .array .int
  | 2 => .object "GoatCourt$Hill"
  | _ => .long
abbrev wsX60 : List Cond := u_ws RX6 TX6 4
theorem nmX6 : ∀ a, a < 4 → ∀ b, b < 4 → a ≠ b → (TX6 a).2.1 ≠ (TX6 b).2.1 := by decide +kernel
theorem tyX6_ok : ∀ k, k < 4 → parseFieldDescriptor (TX6 k).2.2.1 = some (tyX6 k) := by decide +kernel
abbrev cX6_init : ByteArray := prog_13_method_1_code
def yX6_init : MethodName := ⟨RX6, "<init>", "()V"⟩
abbrev cX6_lay : ByteArray := prog_13_method_2_code
def yX6_lay : MethodName := ⟨RX6, "lay", "(LGoatCourt$Hill;)V"⟩
abbrev cX6_tries : ByteArray := prog_13_method_3_code
def yX6_tries : MethodName := ⟨RX6, "tries", "(IIJJ)V"⟩
abbrev cX6_least : ByteArray := prog_13_method_4_code
def yX6_least : MethodName := ⟨RX6, "least", "()J"⟩
abbrev cX6_at : ByteArray := prog_13_method_5_code
def yX6_at : MethodName := ⟨RX6, "at", "(I)I"⟩

theorem q175 : (Jvm.Cond.initialized "GoatCourt$Orders") ∈ lw_all := lw_g (lw_at lw_m1 9 rfl) rfl
theorem q383 : (Jvm.Cond.instantiable "GoatCourt$Orders" (4 : Nat)) ∈ lw_all := lw_g (lw_at lw_m1 217 rfl) rfl
theorem q385 : (Jvm.Cond.instanceMethod ({ cls := "GoatCourt$Orders", name := "<init>", desc := "()V" } : Jvm.MethodName)) ∈ lw_all := lw_g (lw_at lw_m1 219 rfl) rfl
theorem q386 : (Jvm.Cond.code ({ cls := "GoatCourt$Orders", name := "<init>", desc := "()V" } : Jvm.MethodName) prog_13_method_1_code (1 : Nat) (Option.none : Option Jvm.ClassFile.FieldType)) ∈ lw_all := lw_g (lw_at lw_m1 220 rfl) rfl
theorem q387 : (Jvm.Cond.methodLink "GoatCourt$Orders" (3 : Nat) ({ cls := "java/lang/Object", name := "<init>", desc := "()V" } : Jvm.MethodName)) ∈ lw_all := lw_g (lw_at lw_m1 221 rfl) rfl
theorem q388 : (Jvm.Cond.fieldLink "GoatCourt$Orders" (9 : Nat) "GoatCourt$Orders" "order" "[I") ∈ lw_all := lw_g (lw_at lw_m1 222 rfl) rfl
theorem q389 : (Jvm.Cond.fieldLink "GoatCourt$Orders" (15 : Nat) "GoatCourt$Orders" "best" "[I") ∈ lw_all := lw_g (lw_at lw_m1 223 rfl) rfl
theorem q390 : (Jvm.Cond.fieldLink "GoatCourt$Orders" (18 : Nat) "GoatCourt$Orders" "hill" "LGoatCourt$Hill;") ∈ lw_all := lw_g (lw_at lw_m1 224 rfl) rfl
theorem q391 : (Jvm.Cond.fieldLink "GoatCourt$Orders" (26 : Nat) "GoatCourt$Orders" "least" "J") ∈ lw_all := lw_g (lw_at lw_m1 225 rfl) rfl
theorem q392 : (Jvm.Cond.laysFinal "GoatCourt$Orders" "GoatCourt$Orders" "order" "[I") ∈ lw_all := lw_g (lw_at lw_m1 226 rfl) rfl
theorem q393 : (Jvm.Cond.soleField "GoatCourt$Orders" "order") ∈ lw_all := lw_g (lw_at lw_m1 227 rfl) rfl
theorem q394 : (Jvm.Cond.laysFinal "GoatCourt$Orders" "GoatCourt$Orders" "best" "[I") ∈ lw_all := lw_g (lw_at lw_m1 228 rfl) rfl
theorem q395 : (Jvm.Cond.soleField "GoatCourt$Orders" "best") ∈ lw_all := lw_g (lw_at lw_m1 229 rfl) rfl
theorem q396 : (Jvm.Cond.lays "GoatCourt$Orders" "GoatCourt$Orders" "hill" "LGoatCourt$Hill;") ∈ lw_all := lw_g (lw_at lw_m1 230 rfl) rfl
theorem q397 : (Jvm.Cond.soleField "GoatCourt$Orders" "hill") ∈ lw_all := lw_g (lw_at lw_m1 231 rfl) rfl
theorem q398 : (Jvm.Cond.lays "GoatCourt$Orders" "GoatCourt$Orders" "least" "J") ∈ lw_all := lw_g (lw_at lw_m1 232 rfl) rfl
theorem q399 : (Jvm.Cond.soleField "GoatCourt$Orders" "least") ∈ lw_all := lw_g (lw_at lw_m1 233 rfl) rfl
theorem q400 : (Jvm.Cond.superclass "GoatCourt$Orders" "java/lang/Object") ∈ lw_all := lw_g (lw_at lw_m1 234 rfl) rfl
theorem q553 : (Jvm.Cond.fieldLink "GoatCourt$Orders" (52 : Nat) "GoatCourt$Hill" "courts" "[LGoatCourt$Court;") ∈ lw_all := lw_g (lw_at lw_m2 147 rfl) rfl
theorem q589 : (Jvm.Cond.fieldLink "GoatCourt$Orders" (34 : Nat) "GoatCourt$Hill" "courtMany" "I") ∈ lw_all := lw_g (lw_at lw_m2 183 rfl) rfl
theorem q1275 : (Jvm.Cond.fieldLink "GoatCourt$Orders" (56 : Nat) "GoatCourt$Court" "costs" "I") ∈ lw_all := lw_g (lw_at lw_m5 149 rfl) rfl
theorem q1277 : (Jvm.Cond.fieldLink "GoatCourt$Orders" (61 : Nat) "GoatCourt$Court" "wins" "I") ∈ lw_all := lw_g (lw_at lw_m5 151 rfl) rfl
theorem q1769 : (Jvm.Cond.instanceMethod ({ cls := "GoatCourt$Orders", name := "lay", desc := "(LGoatCourt$Hill;)V" } : Jvm.MethodName)) ∈ lw_all := lw_g (lw_at lw_m7 163 rfl) rfl
theorem q1770 : (Jvm.Cond.selects "GoatCourt$Orders" ({ cls := "GoatCourt$Orders", name := "lay", desc := "(LGoatCourt$Hill;)V" } : Jvm.MethodName) ({ cls := "GoatCourt$Orders", name := "lay", desc := "(LGoatCourt$Hill;)V" } : Jvm.MethodName)) ∈ lw_all := lw_g (lw_at lw_m7 164 rfl) rfl
theorem q1771 : (Jvm.Cond.code ({ cls := "GoatCourt$Orders", name := "lay", desc := "(LGoatCourt$Hill;)V" } : Jvm.MethodName) prog_13_method_2_code (2 : Nat) (Option.none : Option Jvm.ClassFile.FieldType)) ∈ lw_all := lw_g (lw_at lw_m7 165 rfl) rfl
theorem q1772 : (Jvm.Cond.constantLong "GoatCourt$Orders" (24 : Nat) (9223372036854775807 : Int64)) ∈ lw_all := lw_g (lw_at lw_m7 166 rfl) rfl
theorem q1773 : (Jvm.Cond.methodLink "GoatCourt$Orders" (30 : Nat) ({ cls := "GoatCourt$Orders", name := "tries", desc := "(IIJJ)V" } : Jvm.MethodName)) ∈ lw_all := lw_g (lw_at lw_m7 167 rfl) rfl
theorem q1774 : (Jvm.Cond.privateMethod ({ cls := "GoatCourt$Orders", name := "tries", desc := "(IIJJ)V" } : Jvm.MethodName)) ∈ lw_tbl := lw_at lw_m7 168 rfl
theorem q1775 : (Jvm.Cond.instanceMethod ({ cls := "GoatCourt$Orders", name := "tries", desc := "(IIJJ)V" } : Jvm.MethodName)) ∈ lw_all := lw_g (lw_at lw_m7 169 rfl) rfl
theorem q1776 : (Jvm.Cond.code ({ cls := "GoatCourt$Orders", name := "tries", desc := "(IIJJ)V" } : Jvm.MethodName) prog_13_method_3_code (11 : Nat) (Option.none : Option Jvm.ClassFile.FieldType)) ∈ lw_all := lw_g (lw_at lw_m7 170 rfl) rfl
theorem q1777 : (Jvm.Cond.methodLink "GoatCourt$Orders" (40 : Nat) ({ cls := "java/lang/System", name := "arraycopy", desc := "(Ljava/lang/Object;ILjava/lang/Object;II)V" } : Jvm.MethodName)) ∈ lw_all := lw_g (lw_at lw_m7 171 rfl) rfl
theorem q1778 : (Jvm.Cond.methodLinkNest "GoatCourt$Orders" (46 : Nat) ({ cls := "GoatCourt", name := "has", desc := "(II)Z" } : Jvm.MethodName) "GoatCourt") ∈ lw_tbl := lw_at lw_m7 172 rfl
theorem q1779 : (Jvm.Cond.constantLong "GoatCourt$Orders" (50 : Nat) (10 : Int64)) ∈ lw_all := lw_g (lw_at lw_m7 173 rfl) rfl
theorem q1781 : (Jvm.Cond.instanceMethod ({ cls := "GoatCourt$Orders", name := "least", desc := "()J" } : Jvm.MethodName)) ∈ lw_all := lw_g (lw_at lw_m7 175 rfl) rfl
theorem q1782 : (Jvm.Cond.selects "GoatCourt$Orders" ({ cls := "GoatCourt$Orders", name := "least", desc := "()J" } : Jvm.MethodName) ({ cls := "GoatCourt$Orders", name := "least", desc := "()J" } : Jvm.MethodName)) ∈ lw_all := lw_g (lw_at lw_m7 176 rfl) rfl
theorem q1783 : (Jvm.Cond.code ({ cls := "GoatCourt$Orders", name := "least", desc := "()J" } : Jvm.MethodName) prog_13_method_4_code (1 : Nat) (Option.some Jvm.ClassFile.FieldType.long)) ∈ lw_all := lw_g (lw_at lw_m7 177 rfl) rfl
theorem q1789 : (Jvm.Cond.instanceMethod ({ cls := "GoatCourt$Orders", name := "at", desc := "(I)I" } : Jvm.MethodName)) ∈ lw_all := lw_g (lw_at lw_m7 183 rfl) rfl
theorem q1790 : (Jvm.Cond.selects "GoatCourt$Orders" ({ cls := "GoatCourt$Orders", name := "at", desc := "(I)I" } : Jvm.MethodName) ({ cls := "GoatCourt$Orders", name := "at", desc := "(I)I" } : Jvm.MethodName)) ∈ lw_all := lw_g (lw_at lw_m7 184 rfl) rfl
theorem q1791 : (Jvm.Cond.code ({ cls := "GoatCourt$Orders", name := "at", desc := "(I)I" } : Jvm.MethodName) prog_13_method_5_code (2 : Nat) (Option.some Jvm.ClassFile.FieldType.int)) ∈ lw_all := lw_g (lw_at lw_m7 185 rfl) rfl
theorem q2793 : (Jvm.Cond.castable "GoatCourt$Orders" "java/lang/Object") ∈ lw_tbl := lw_at lw_m11 227 rfl
theorem in_X6 : ∀ w ∈ wsX60, w ∈ lw_all := lw_in wsX60 [392, 394, 396, 398] (by decide +kernel) (by decide +kernel)
/-! GoatCourtModel -/
def RX7 : String := "GoatCourtModel"
def TX7 : u_T := fun k => match k with
  | 0 => ("GoatCourtModel", "thrown", "I", false)
  | 1 => ("GoatCourtModel", "trouble", "I", false)
  | 2 => ("GoatCourtModel", "where", "I", false)
  | 3 => ("GoatCourtModel", "hill", "LGoatCourtModel$Hill;", false)
  | 4 => ("GoatCourtModel", "read", "LGoatCourtModel$Hill;", false)
  | 5 => ("GoatCourtModel", "tape", "[B", true)
  | 6 => ("GoatCourtModel", "taped", "I", false)
  | 7 => ("GoatCourtModel", "size", "I", false)
  | 8 => ("GoatCourtModel", "spot", "I", false)
  | 9 => ("GoatCourtModel", "sort", "I", false)
  | 10 => ("GoatCourtModel", "place", "I", false)
  | 11 => ("GoatCourtModel", "sign", "I", false)
  | 12 => ("GoatCourtModel", "number", "I", false)
  | 13 => ("GoatCourtModel", "letters", "I", false)
  | 14 => ("GoatCourtModel", "fault", "I", false)
  | 15 => ("GoatCourtModel", "wrongAt", "I", false)
  | 16 => ("GoatCourtModel", "spelt", "[I", true)
  | 17 => ("GoatCourtModel", "word", "J", false)
  | 18 => ("GoatCourtModel", "v", "[I", true)
  | 19 => ("GoatCourtModel", "past", "[I", true)
  | 20 => ("GoatCourtModel", "kept", "[I", true)
  | 21 => ("GoatCourtModel", "acts", "I", false)
  | 22 => ("GoatCourtModel", "marks", "I", false)
  | 23 => ("GoatCourtModel", "is", "[I", true)
  | 24 => ("GoatCourtModel", "eaten", "[I", true)
  | 25 => ("GoatCourtModel", "eatenMany", "[I", true)
  | 26 => ("GoatCourtModel", "leftOver", "[I", true)
  | 27 => ("GoatCourtModel", "fled", "[I", true)
  | 28 => ("GoatCourtModel", "now", "[I", true)
  | 29 => ("GoatCourtModel", "honest", "[I", true)
  | 30 => ("GoatCourtModel", "asked", "I", false)
  | 31 => ("GoatCourtModel", "askedMost", "I", false)
  | 32 => ("GoatCourtModel", "fitting", "[I", true)
  | 33 => ("GoatCourtModel", "whereIs", "[I", true)
  | 34 => ("GoatCourtModel", "count", "[I", true)
  | 35 => ("GoatCourtModel", "spotOne", "I", false)
  | 36 => ("GoatCourtModel", "spotTwo", "I", false)
  | 37 => ("GoatCourtModel", "order", "[I", true)
  | _ => ("GoatCourtModel", "bestOrder", "[I", true)
def tyX7 : Nat → FieldType := fun k => match k with
  | 0 => .int
  | 1 => .int
  | 2 => .int
  | 3 => .object "GoatCourtModel$Hill"
  | 4 => .object "GoatCourtModel$Hill"
  | 5 => .array .byte
  | 6 => .int
  | 7 => .int
  | 8 => .int
  | 9 => .int
  | 10 => .int
  | 11 => .int
  | 12 => .int
  | 13 => .int
  | 14 => .int
  | 15 => .int
  | 16 => .array .int
  | 17 => .long
  | 18 => .array .int
  | 19 => .array .int
  | 20 => .array .int
  | 21 => .int
  | 22 => .int
  | 23 => .array .int
  | 24 => .array .int
  | 25 => .array .int
  | 26 => .array .int
  | 27 => .array .int
  | 28 => .array .int
  | 29 => .array .int
  | 30 => .int
  | 31 => .int
  | 32 => .array .int
  | 33 => .array .int
  | 34 => .array .int
  | 35 => .int
  | 36 => .int
  | 37 => .array .int
  | _ => .array .int
abbrev wsX70 : List Cond := u_ws RX7 TX7 39
theorem nmX7 : ∀ a, a < 39 → ∀ b, b < 39 → a ≠ b → (TX7 a).2.1 ≠ (TX7 b).2.1 := by decide +kernel
theorem tyX7_ok : ∀ k, k < 39 → parseFieldDescriptor (TX7 k).2.2.1 = some (tyX7 k) := by decide +kernel
abbrev cX7_init : ByteArray := prog_24_method_1_code
def yX7_init : MethodName := ⟨RX7, "<init>", "()V"⟩
abbrev cX7_thrown : ByteArray := prog_24_method_2_code
def yX7_thrown : MethodName := ⟨RX7, "thrown", "()I"⟩
abbrev cX7_feed : ByteArray := prog_24_method_47_code
def yX7_feed : MethodName := ⟨RX7, "feed", "(IIIII)I"⟩
abbrev cX7_hill : ByteArray := prog_24_method_48_code
def yX7_hill : MethodName := ⟨RX7, "hill", "(I)I"⟩
abbrev cX7_refused : ByteArray := prog_24_method_3_code
def yX7_refused : MethodName := ⟨RX7, "refused", "(I)I"⟩
abbrev cX7_goesOn : ByteArray := prog_24_method_14_code
def yX7_goesOn : MethodName := ⟨RX7, "goesOn", "()V"⟩
abbrev cX7_byteAt : ByteArray := prog_24_method_10_code
def yX7_byteAt : MethodName := ⟨RX7, "byteAt", "(I)I"⟩
abbrev cX7_isLetter : ByteArray := prog_24_method_11_code
def yX7_isLetter : MethodName := ⟨RX7, "isLetter", "(I)Z"⟩
abbrev cX7_isDigit : ByteArray := prog_24_method_12_code
def yX7_isDigit : MethodName := ⟨RX7, "isDigit", "(I)Z"⟩
abbrev cX7_readAll : ByteArray := prog_24_method_30_code
def yX7_readAll : MethodName := ⟨RX7, "readAll", "()V"⟩
abbrev cX7_readLine : ByteArray := prog_24_method_31_code
def yX7_readLine : MethodName := ⟨RX7, "readLine", "()V"⟩
abbrev cX7_isWord : ByteArray := prog_24_method_16_code
def yX7_isWord : MethodName := ⟨RX7, "isWord", "(Ljava/lang/String;)Z"⟩
abbrev cX7_wordOf : ByteArray := prog_24_method_13_code
def yX7_wordOf : MethodName := ⟨RX7, "wordOf", "(Ljava/lang/String;)J"⟩
abbrev cX7_readHill : ByteArray := prog_24_method_32_code
def yX7_readHill : MethodName := ⟨RX7, "readHill", "()V"⟩
abbrev cX7_flaw : ByteArray := prog_24_method_15_code
def yX7_flaw : MethodName := ⟨RX7, "flaw", "(I)V"⟩
abbrev cX7_readPart : ByteArray := prog_24_method_21_code
def yX7_readPart : MethodName := ⟨RX7, "readPart", "(Ljava/lang/String;II)I"⟩
abbrev cX7_wants : ByteArray := prog_24_method_18_code
def yX7_wants : MethodName := ⟨RX7, "wants", "(Ljava/lang/String;)V"⟩
abbrev cX7_readWhole : ByteArray := prog_24_method_20_code
def yX7_readWhole : MethodName := ⟨RX7, "readWhole", "(II)I"⟩
abbrev cX7_within : ByteArray := prog_24_method_7_code
def yX7_within : MethodName := ⟨RX7, "within", "(III)Z"⟩
abbrev cX7_readPlace : ByteArray := prog_24_method_33_code
def yX7_readPlace : MethodName := ⟨RX7, "readPlace", "()V"⟩
abbrev cX7_begins : ByteArray := prog_24_method_23_code
def yX7_begins : MethodName := ⟨RX7, "begins", "(II)V"⟩
abbrev cX7_readFresh : ByteArray := prog_24_method_25_code
def yX7_readFresh : MethodName := ⟨RX7, "readFresh", "()J"⟩
abbrev cX7_isName : ByteArray := prog_24_method_22_code
def yX7_isName : MethodName := ⟨RX7, "isName", "()Z"⟩
abbrev cX7_readPlants : ByteArray := prog_24_method_29_code
def yX7_readPlants : MethodName := ⟨RX7, "readPlants", "([III)V"⟩
abbrev cX7_needsSign : ByteArray := prog_24_method_19_code
def yX7_needsSign : MethodName := ⟨RX7, "needsSign", "(I)V"⟩
abbrev cX7_names : ByteArray := prog_24_method_26_code
def yX7_names : MethodName := ⟨RX7, "names", "(JII)V"⟩
abbrev cX7_readPath : ByteArray := prog_24_method_34_code
def yX7_readPath : MethodName := ⟨RX7, "readPath", "()V"⟩
abbrev cX7_readKnown : ByteArray := prog_24_method_28_code
def yX7_readKnown : MethodName := ⟨RX7, "readKnown", "(I)I"⟩
abbrev cX7_known : ByteArray := prog_24_method_27_code
def yX7_known : MethodName := ⟨RX7, "known", "(I)I"⟩
abbrev cX7_readPerson : ByteArray := prog_24_method_35_code
def yX7_readPerson : MethodName := ⟨RX7, "readPerson", "()V"⟩
abbrev cX7_readStory : ByteArray := prog_24_method_36_code
def yX7_readStory : MethodName := ⟨RX7, "readStory", "()V"⟩
abbrev cX7_eatsSign : ByteArray := prog_24_method_17_code
def yX7_eatsSign : MethodName := ⟨RX7, "eatsSign", "(I)Z"⟩
abbrev cX7_readGoat : ByteArray := prog_24_method_37_code
def yX7_readGoat : MethodName := ⟨RX7, "readGoat", "()V"⟩
abbrev cX7_readFears : ByteArray := prog_24_method_38_code
def yX7_readFears : MethodName := ⟨RX7, "readFears", "()V"⟩
abbrev cX7_bit : ByteArray := prog_24_method_8_code
def yX7_bit : MethodName := ⟨RX7, "bit", "(II)Z"⟩
abbrev cX7_readClue : ByteArray := prog_24_method_40_code
def yX7_readClue : MethodName := ⟨RX7, "readClue", "(I)V"⟩
abbrev cX7_readPlant : ByteArray := prog_24_method_39_code
def yX7_readPlant : MethodName := ⟨RX7, "readPlant", "()I"⟩
abbrev cX7_readFact : ByteArray := prog_24_method_41_code
def yX7_readFact : MethodName := ⟨RX7, "readFact", "()V"⟩
abbrev cX7_readHolds : ByteArray := prog_24_method_42_code
def yX7_readHolds : MethodName := ⟨RX7, "readHolds", "()V"⟩
abbrev cX7_readRule : ByteArray := prog_24_method_43_code
def yX7_readRule : MethodName := ⟨RX7, "readRule", "()V"⟩
abbrev cX7_bits : ByteArray := prog_24_method_9_code
def yX7_bits : MethodName := ⟨RX7, "bits", "(I)I"⟩
abbrev cX7_readProof : ByteArray := prog_24_method_44_code
def yX7_readProof : MethodName := ⟨RX7, "readProof", "()V"⟩
abbrev cX7_beginsOnce : ByteArray := prog_24_method_24_code
def yX7_beginsOnce : MethodName := ⟨RX7, "beginsOnce", "(Z)V"⟩
abbrev cX7_readCourt : ByteArray := prog_24_method_45_code
def yX7_readCourt : MethodName := ⟨RX7, "readCourt", "()V"⟩
abbrev cX7_readCheese : ByteArray := prog_24_method_46_code
def yX7_readCheese : MethodName := ⟨RX7, "readCheese", "()V"⟩
abbrev cX7_good : ByteArray := prog_24_method_5_code
def yX7_good : MethodName := ⟨RX7, "good", "(I)I"⟩
abbrev cX7_fault : ByteArray := prog_24_method_49_code
def yX7_fault : MethodName := ⟨RX7, "fault", "()I"⟩
abbrev cX7_where : ByteArray := prog_24_method_50_code
def yX7_where : MethodName := ⟨RX7, "where", "()I"⟩
abbrev cX7_plants : ByteArray := prog_24_method_75_code
def yX7_plants : MethodName := ⟨RX7, "plants", "(II)I"⟩
abbrev cX7_isPlace : ByteArray := prog_24_method_67_code
def yX7_isPlace : MethodName := ⟨RX7, "isPlace", "(I)Z"⟩
abbrev cX7_isPlant : ByteArray := prog_24_method_68_code
def yX7_isPlant : MethodName := ⟨RX7, "isPlant", "(I)Z"⟩
abbrev cX7_near : ByteArray := prog_24_method_76_code
def yX7_near : MethodName := ⟨RX7, "near", "(I)I"⟩
abbrev cX7_goat : ByteArray := prog_24_method_77_code
def yX7_goat : MethodName := ⟨RX7, "goat", "(II)I"⟩
abbrev cX7_isGoat : ByteArray := prog_24_method_70_code
def yX7_isGoat : MethodName := ⟨RX7, "isGoat", "(I)Z"⟩
abbrev cX7_isHeard : ByteArray := prog_24_method_51_code
def yX7_isHeard : MethodName := ⟨RX7, "isHeard", "(I)Z"⟩
abbrev cX7_likes : ByteArray := prog_24_method_78_code
def yX7_likes : MethodName := ⟨RX7, "likes", "(II)I"⟩
abbrev cX7_clue : ByteArray := prog_24_method_79_code
def yX7_clue : MethodName := ⟨RX7, "clue", "(II)I"⟩
abbrev cX7_isClue : ByteArray := prog_24_method_71_code
def yX7_isClue : MethodName := ⟨RX7, "isClue", "(I)Z"⟩
abbrev cX7_story : ByteArray := prog_24_method_80_code
def yX7_story : MethodName := ⟨RX7, "story", "(III)I"⟩
abbrev cX7_isPerson : ByteArray := prog_24_method_69_code
def yX7_isPerson : MethodName := ⟨RX7, "isPerson", "(I)Z"⟩
abbrev cX7_isHour : ByteArray := prog_24_method_74_code
def yX7_isHour : MethodName := ⟨RX7, "isHour", "(I)Z"⟩
abbrev cX7_stories : ByteArray := prog_24_method_81_code
def yX7_stories : MethodName := ⟨RX7, "stories", "(I)I"⟩
abbrev cX7_caseOf : ByteArray := prog_24_method_82_code
def yX7_caseOf : MethodName := ⟨RX7, "caseOf", "(II)I"⟩
abbrev cX7_isCase : ByteArray := prog_24_method_72_code
def yX7_isCase : MethodName := ⟨RX7, "isCase", "(I)Z"⟩
abbrev cX7_at : ByteArray := prog_24_method_83_code
def yX7_at : MethodName := ⟨RX7, "at", "(III)I"⟩
abbrev cX7_day : ByteArray := prog_24_method_59_code
def yX7_day : MethodName := ⟨RX7, "day", "(I)V"⟩
abbrev cX7_goatGoes : ByteArray := prog_24_method_57_code
def yX7_goatGoes : MethodName := ⟨RX7, "goatGoes", "(III)V"⟩
abbrev cX7_isOpen : ByteArray := prog_24_method_55_code
def yX7_isOpen : MethodName := ⟨RX7, "isOpen", "(II)Z"⟩
abbrev cX7_bestFor : ByteArray := prog_24_method_56_code
def yX7_bestFor : MethodName := ⟨RX7, "bestFor", "(III)I"⟩
abbrev cX7_fears : ByteArray := prog_24_method_52_code
def yX7_fears : MethodName := ⟨RX7, "fears", "(IIII)Z"⟩
abbrev cX7_worth : ByteArray := prog_24_method_54_code
def yX7_worth : MethodName := ⟨RX7, "worth", "(III)I"⟩
abbrev cX7_eats : ByteArray := prog_24_method_58_code
def yX7_eats : MethodName := ⟨RX7, "eats", "(II)V"⟩
abbrev cX7_plantAt : ByteArray := prog_24_method_53_code
def yX7_plantAt : MethodName := ⟨RX7, "plantAt", "(II)I"⟩
abbrev cX7_ate : ByteArray := prog_24_method_84_code
def yX7_ate : MethodName := ⟨RX7, "ate", "(III)I"⟩
abbrev cX7_ateOf : ByteArray := prog_24_method_61_code
def yX7_ateOf : MethodName := ⟨RX7, "ateOf", "(II)I"⟩
abbrev cX7_drops : ByteArray := prog_24_method_85_code
def yX7_drops : MethodName := ⟨RX7, "drops", "(IIII)I"⟩
abbrev cX7_dropped : ByteArray := prog_24_method_60_code
def yX7_dropped : MethodName := ⟨RX7, "dropped", "(III)I"⟩
abbrev cX7_flees : ByteArray := prog_24_method_86_code
def yX7_flees : MethodName := ⟨RX7, "flees", "(II)I"⟩
abbrev cX7_left : ByteArray := prog_24_method_87_code
def yX7_left : MethodName := ⟨RX7, "left", "(III)I"⟩
abbrev cX7_met : ByteArray := prog_24_method_88_code
def yX7_met : MethodName := ⟨RX7, "met", "(III)I"⟩
abbrev cX7_isTrue : ByteArray := prog_24_method_89_code
def yX7_isTrue : MethodName := ⟨RX7, "isTrue", "(II)I"⟩
abbrev cX7_holdsNow : ByteArray := prog_24_method_62_code
def yX7_holdsNow : MethodName := ⟨RX7, "holdsNow", "(I)Z"⟩
abbrev cX7_fits : ByteArray := prog_24_method_90_code
def yX7_fits : MethodName := ⟨RX7, "fits", "()I"⟩
abbrev cX7_laysHonest : ByteArray := prog_24_method_63_code
def yX7_laysHonest : MethodName := ⟨RX7, "laysHonest", "()V"⟩
abbrev cX7_heard : ByteArray := prog_24_method_66_code
def yX7_heard : MethodName := ⟨RX7, "heard", "()I"⟩
abbrev cX7_allGoats : ByteArray := prog_24_method_65_code
def yX7_allGoats : MethodName := ⟨RX7, "allGoats", "()I"⟩
abbrev cX7_areTrue : ByteArray := prog_24_method_64_code
def yX7_areTrue : MethodName := ⟨RX7, "areTrue", "(II)Z"⟩
abbrev cX7_fit : ByteArray := prog_24_method_91_code
def yX7_fit : MethodName := ⟨RX7, "fit", "(I)I"⟩
abbrev cX7_could : ByteArray := prog_24_method_94_code
def yX7_could : MethodName := ⟨RX7, "could", "(II)I"⟩
abbrev cX7_refusesPerson : ByteArray := prog_24_method_93_code
def yX7_refusesPerson : MethodName := ⟨RX7, "refusesPerson", "(II)I"⟩
abbrev cX7_couldBe : ByteArray := prog_24_method_92_code
def yX7_couldBe : MethodName := ⟨RX7, "couldBe", "(III)I"⟩
abbrev cX7_surely : ByteArray := prog_24_method_95_code
def yX7_surely : MethodName := ⟨RX7, "surely", "(II)I"⟩
abbrev cX7_lies : ByteArray := prog_24_method_96_code
def yX7_lies : MethodName := ⟨RX7, "lies", "(I)I"⟩
abbrev cX7_falseOnes : ByteArray := prog_24_method_98_code
def yX7_falseOnes : MethodName := ⟨RX7, "falseOnes", "()I"⟩
abbrev cX7_anyFits : ByteArray := prog_24_method_97_code
def yX7_anyFits : MethodName := ⟨RX7, "anyFits", "(I)Z"⟩
abbrev cX7_odds : ByteArray := prog_24_method_100_code
def yX7_odds : MethodName := ⟨RX7, "odds", "(I)I"⟩
abbrev cX7_oddsOf : ByteArray := prog_24_method_99_code
def yX7_oddsOf : MethodName := ⟨RX7, "oddsOf", "(I)I"⟩
abbrev cX7_likeliest : ByteArray := prog_24_method_101_code
def yX7_likeliest : MethodName := ⟨RX7, "likeliest", "()I"⟩
abbrev cX7_proved : ByteArray := prog_24_method_102_code
def yX7_proved : MethodName := ⟨RX7, "proved", "(III)I"⟩
abbrev cX7_ask : ByteArray := prog_24_method_104_code
def yX7_ask : MethodName := ⟨RX7, "ask", "()I"⟩
abbrev cX7_asks : ByteArray := prog_24_method_103_code
def yX7_asks : MethodName := ⟨RX7, "asks", "()I"⟩
abbrev cX7_askMost : ByteArray := prog_24_method_105_code
def yX7_askMost : MethodName := ⟨RX7, "askMost", "()I"⟩
abbrev cX7_led : ByteArray := prog_24_method_111_code
def yX7_led : MethodName := ⟨RX7, "led", "(IIII)I"⟩
abbrev cX7_refusesLed : ByteArray := prog_24_method_110_code
def yX7_refusesLed : MethodName := ⟨RX7, "refusesLed", "(IIII)I"⟩
abbrev cX7_fewest : ByteArray := prog_24_method_109_code
def yX7_fewest : MethodName := ⟨RX7, "fewest", "(IIIII)I"⟩
abbrev cX7_isThere : ByteArray := prog_24_method_107_code
def yX7_isThere : MethodName := ⟨RX7, "isThere", "(IIII)Z"⟩
abbrev cX7_isSpot : ByteArray := prog_24_method_108_code
def yX7_isSpot : MethodName := ⟨RX7, "isSpot", "(II)Z"⟩
abbrev cX7_turn : ByteArray := prog_24_method_106_code
def yX7_turn : MethodName := ⟨RX7, "turn", "(II)V"⟩
abbrev cX7_ledAt : ByteArray := prog_24_method_112_code
def yX7_ledAt : MethodName := ⟨RX7, "ledAt", "(IIIII)I"⟩
abbrev cX7_scared : ByteArray := prog_24_method_113_code
def yX7_scared : MethodName := ⟨RX7, "scared", "(IIII)I"⟩
abbrev cX7_follows : ByteArray := prog_24_method_116_code
def yX7_follows : MethodName := ⟨RX7, "follows", "(I)I"⟩
abbrev cX7_isFact : ByteArray := prog_24_method_73_code
def yX7_isFact : MethodName := ⟨RX7, "isFact", "(I)Z"⟩
abbrev cX7_followsNow : ByteArray := prog_24_method_115_code
def yX7_followsNow : MethodName := ⟨RX7, "followsNow", "(I)Z"⟩
abbrev cX7_following : ByteArray := prog_24_method_114_code
def yX7_following : MethodName := ⟨RX7, "following", "(II)I"⟩
abbrev cX7_step : ByteArray := prog_24_method_117_code
def yX7_step : MethodName := ⟨RX7, "step", "()I"⟩
abbrev cX7_needs : ByteArray := prog_24_method_118_code
def yX7_needs : MethodName := ⟨RX7, "needs", "(I)I"⟩
abbrev cX7_enough : ByteArray := prog_24_method_119_code
def yX7_enough : MethodName := ⟨RX7, "enough", "(I)I"⟩
abbrev cX7_cheese : ByteArray := prog_24_method_122_code
def yX7_cheese : MethodName := ⟨RX7, "cheese", "(I)I"⟩
abbrev cX7_refusesCheese : ByteArray := prog_24_method_121_code
def yX7_refusesCheese : MethodName := ⟨RX7, "refusesCheese", "(I)I"⟩
abbrev cX7_isCheese : ByteArray := prog_24_method_120_code
def yX7_isCheese : MethodName := ⟨RX7, "isCheese", "(I)Z"⟩
abbrev cX7_cheeseOf : ByteArray := prog_24_method_123_code
def yX7_cheeseOf : MethodName := ⟨RX7, "cheeseOf", "(I)I"⟩
abbrev cX7_appeals : ByteArray := prog_24_method_128_code
def yX7_appeals : MethodName := ⟨RX7, "appeals", "()J"⟩
abbrev cX7_leastMean : ByteArray := prog_24_method_127_code
def yX7_leastMean : MethodName := ⟨RX7, "leastMean", "()J"⟩
abbrev cX7_meanOf : ByteArray := prog_24_method_124_code
def yX7_meanOf : MethodName := ⟨RX7, "meanOf", "()J"⟩
abbrev cX7_turns : ByteArray := prog_24_method_125_code
def yX7_turns : MethodName := ⟨RX7, "turns", "(I)Z"⟩
abbrev cX7_swaps : ByteArray := prog_24_method_126_code
def yX7_swaps : MethodName := ⟨RX7, "swaps", "(II)V"⟩
abbrev cX7_appealAt : ByteArray := prog_24_method_129_code
def yX7_appealAt : MethodName := ⟨RX7, "appealAt", "(I)I"⟩
abbrev cX7_salt : ByteArray := prog_24_method_133_code
def yX7_salt : MethodName := ⟨RX7, "salt", "(IIZ)Z"⟩
abbrev cX7_puts : ByteArray := prog_24_method_132_code
def yX7_puts : MethodName := ⟨RX7, "puts", "(IIIZ)Z"⟩
abbrev cX7_denied : ByteArray := prog_24_method_4_code
def yX7_denied : MethodName := ⟨RX7, "denied", "(I)Z"⟩
abbrev cX7_spots : ByteArray := prog_24_method_131_code
def yX7_spots : MethodName := ⟨RX7, "spots", "(I)I"⟩
abbrev cX7_keeps : ByteArray := prog_24_method_130_code
def yX7_keeps : MethodName := ⟨RX7, "keeps", "()V"⟩
abbrev cX7_granted : ByteArray := prog_24_method_6_code
def yX7_granted : MethodName := ⟨RX7, "granted", "()Z"⟩
abbrev cX7_dog : ByteArray := prog_24_method_134_code
def yX7_dog : MethodName := ⟨RX7, "dog", "(IIZ)Z"⟩
abbrev cX7_hedge : ByteArray := prog_24_method_135_code
def yX7_hedge : MethodName := ⟨RX7, "hedge", "(IZ)Z"⟩
abbrev cX7_hear : ByteArray := prog_24_method_136_code
def yX7_hear : MethodName := ⟨RX7, "hear", "(IZ)Z"⟩
abbrev cX7_undo : ByteArray := prog_24_method_137_code
def yX7_undo : MethodName := ⟨RX7, "undo", "()Z"⟩
abbrev cX7_mark : ByteArray := prog_24_method_138_code
def yX7_mark : MethodName := ⟨RX7, "mark", "()I"⟩
abbrev cX7_back : ByteArray := prog_24_method_139_code
def yX7_back : MethodName := ⟨RX7, "back", "(I)Z"⟩
abbrev cX7_put : ByteArray := prog_24_method_140_code
def yX7_put : MethodName := ⟨RX7, "put", "(IZ)I"⟩
abbrev cX7_size : ByteArray := prog_24_method_141_code
def yX7_size : MethodName := ⟨RX7, "size", "(I)I"⟩
abbrev cX7_trouble : ByteArray := prog_24_method_142_code
def yX7_trouble : MethodName := ⟨RX7, "trouble", "()I"⟩

theorem q176 : (Jvm.Cond.initialized "GoatCourtModel") ∈ lw_all := lw_g (lw_at lw_m1 10 rfl) rfl
theorem q1884 : (Jvm.Cond.instantiable "GoatCourtModel" (39 : Nat)) ∈ lw_all := lw_g (lw_at lw_m8 38 rfl) rfl
theorem q1886 : (Jvm.Cond.instanceMethod ({ cls := "GoatCourtModel", name := "<init>", desc := "()V" } : Jvm.MethodName)) ∈ lw_all := lw_g (lw_at lw_m8 40 rfl) rfl
theorem q1887 : (Jvm.Cond.code ({ cls := "GoatCourtModel", name := "<init>", desc := "()V" } : Jvm.MethodName) prog_24_method_1_code (1 : Nat) (Option.none : Option Jvm.ClassFile.FieldType)) ∈ lw_all := lw_g (lw_at lw_m8 41 rfl) rfl
theorem q1888 : (Jvm.Cond.methodLink "GoatCourtModel" (3 : Nat) ({ cls := "java/lang/Object", name := "<init>", desc := "()V" } : Jvm.MethodName)) ∈ lw_all := lw_g (lw_at lw_m8 42 rfl) rfl
theorem q1889 : (Jvm.Cond.fieldLink "GoatCourtModel" (66 : Nat) "GoatCourtModel" "thrown" "I") ∈ lw_all := lw_g (lw_at lw_m8 43 rfl) rfl
theorem q1890 : (Jvm.Cond.fieldLink "GoatCourtModel" (69 : Nat) "GoatCourtModel" "trouble" "I") ∈ lw_all := lw_g (lw_at lw_m8 44 rfl) rfl
theorem q1891 : (Jvm.Cond.fieldLink "GoatCourtModel" (9 : Nat) "GoatCourtModel" "where" "I") ∈ lw_all := lw_g (lw_at lw_m8 45 rfl) rfl
theorem q1892 : (Jvm.Cond.fieldLink "GoatCourtModel" (442 : Nat) "GoatCourtModel" "hill" "LGoatCourtModel$Hill;") ∈ lw_all := lw_g (lw_at lw_m8 46 rfl) rfl
theorem q1893 : (Jvm.Cond.fieldLink "GoatCourtModel" (192 : Nat) "GoatCourtModel" "read" "LGoatCourtModel$Hill;") ∈ lw_all := lw_g (lw_at lw_m8 47 rfl) rfl
theorem q1894 : (Jvm.Cond.fieldLink "GoatCourtModel" (13 : Nat) "GoatCourtModel" "tape" "[B") ∈ lw_all := lw_g (lw_at lw_m8 48 rfl) rfl
theorem q1895 : (Jvm.Cond.fieldLink "GoatCourtModel" (435 : Nat) "GoatCourtModel" "taped" "I") ∈ lw_all := lw_g (lw_at lw_m8 49 rfl) rfl
theorem q1896 : (Jvm.Cond.fieldLink "GoatCourtModel" (79 : Nat) "GoatCourtModel" "size" "I") ∈ lw_all := lw_g (lw_at lw_m8 50 rfl) rfl
theorem q1897 : (Jvm.Cond.fieldLink "GoatCourtModel" (97 : Nat) "GoatCourtModel" "spot" "I") ∈ lw_all := lw_g (lw_at lw_m8 51 rfl) rfl
theorem q1898 : (Jvm.Cond.fieldLink "GoatCourtModel" (94 : Nat) "GoatCourtModel" "sort" "I") ∈ lw_all := lw_g (lw_at lw_m8 52 rfl) rfl
theorem q1899 : (Jvm.Cond.fieldLink "GoatCourtModel" (103 : Nat) "GoatCourtModel" "place" "I") ∈ lw_all := lw_g (lw_at lw_m8 53 rfl) rfl
theorem q1900 : (Jvm.Cond.fieldLink "GoatCourtModel" (106 : Nat) "GoatCourtModel" "sign" "I") ∈ lw_all := lw_g (lw_at lw_m8 54 rfl) rfl
theorem q1901 : (Jvm.Cond.fieldLink "GoatCourtModel" (123 : Nat) "GoatCourtModel" "number" "I") ∈ lw_all := lw_g (lw_at lw_m8 55 rfl) rfl
theorem q1902 : (Jvm.Cond.fieldLink "GoatCourtModel" (117 : Nat) "GoatCourtModel" "letters" "I") ∈ lw_all := lw_g (lw_at lw_m8 56 rfl) rfl
theorem q1903 : (Jvm.Cond.fieldLink "GoatCourtModel" (126 : Nat) "GoatCourtModel" "fault" "I") ∈ lw_all := lw_g (lw_at lw_m8 57 rfl) rfl
theorem q1904 : (Jvm.Cond.fieldLink "GoatCourtModel" (129 : Nat) "GoatCourtModel" "wrongAt" "I") ∈ lw_all := lw_g (lw_at lw_m8 58 rfl) rfl
theorem q1905 : (Jvm.Cond.fieldLink "GoatCourtModel" (17 : Nat) "GoatCourtModel" "spelt" "[I") ∈ lw_all := lw_g (lw_at lw_m8 59 rfl) rfl
theorem q1906 : (Jvm.Cond.fieldLink "GoatCourtModel" (113 : Nat) "GoatCourtModel" "word" "J") ∈ lw_all := lw_g (lw_at lw_m8 60 rfl) rfl
theorem q1907 : (Jvm.Cond.fieldLink "GoatCourtModel" (21 : Nat) "GoatCourtModel" "v" "[I") ∈ lw_all := lw_g (lw_at lw_m8 61 rfl) rfl
theorem q1908 : (Jvm.Cond.fieldLink "GoatCourtModel" (24 : Nat) "GoatCourtModel" "past" "[I") ∈ lw_all := lw_g (lw_at lw_m8 62 rfl) rfl
theorem q1909 : (Jvm.Cond.fieldLink "GoatCourtModel" (27 : Nat) "GoatCourtModel" "kept" "[I") ∈ lw_all := lw_g (lw_at lw_m8 63 rfl) rfl
theorem q1910 : (Jvm.Cond.fieldLink "GoatCourtModel" (444 : Nat) "GoatCourtModel" "acts" "I") ∈ lw_all := lw_g (lw_at lw_m8 64 rfl) rfl
theorem q1911 : (Jvm.Cond.fieldLink "GoatCourtModel" (447 : Nat) "GoatCourtModel" "marks" "I") ∈ lw_all := lw_g (lw_at lw_m8 65 rfl) rfl
theorem q1912 : (Jvm.Cond.fieldLink "GoatCourtModel" (30 : Nat) "GoatCourtModel" "is" "[I") ∈ lw_all := lw_g (lw_at lw_m8 66 rfl) rfl
theorem q1913 : (Jvm.Cond.fieldLink "GoatCourtModel" (33 : Nat) "GoatCourtModel" "eaten" "[I") ∈ lw_all := lw_g (lw_at lw_m8 67 rfl) rfl
theorem q1914 : (Jvm.Cond.fieldLink "GoatCourtModel" (36 : Nat) "GoatCourtModel" "eatenMany" "[I") ∈ lw_all := lw_g (lw_at lw_m8 68 rfl) rfl
theorem q1915 : (Jvm.Cond.fieldLink "GoatCourtModel" (39 : Nat) "GoatCourtModel" "leftOver" "[I") ∈ lw_all := lw_g (lw_at lw_m8 69 rfl) rfl
theorem q1916 : (Jvm.Cond.fieldLink "GoatCourtModel" (42 : Nat) "GoatCourtModel" "fled" "[I") ∈ lw_all := lw_g (lw_at lw_m8 70 rfl) rfl
theorem q1917 : (Jvm.Cond.fieldLink "GoatCourtModel" (45 : Nat) "GoatCourtModel" "now" "[I") ∈ lw_all := lw_g (lw_at lw_m8 71 rfl) rfl
theorem q1918 : (Jvm.Cond.fieldLink "GoatCourtModel" (48 : Nat) "GoatCourtModel" "honest" "[I") ∈ lw_all := lw_g (lw_at lw_m8 72 rfl) rfl
theorem q1919 : (Jvm.Cond.fieldLink "GoatCourtModel" (547 : Nat) "GoatCourtModel" "asked" "I") ∈ lw_all := lw_g (lw_at lw_m8 73 rfl) rfl
theorem q1920 : (Jvm.Cond.fieldLink "GoatCourtModel" (544 : Nat) "GoatCourtModel" "askedMost" "I") ∈ lw_all := lw_g (lw_at lw_m8 74 rfl) rfl
theorem q1921 : (Jvm.Cond.fieldLink "GoatCourtModel" (51 : Nat) "GoatCourtModel" "fitting" "[I") ∈ lw_all := lw_g (lw_at lw_m8 75 rfl) rfl
theorem q1922 : (Jvm.Cond.fieldLink "GoatCourtModel" (54 : Nat) "GoatCourtModel" "whereIs" "[I") ∈ lw_all := lw_g (lw_at lw_m8 76 rfl) rfl
theorem q1923 : (Jvm.Cond.fieldLink "GoatCourtModel" (57 : Nat) "GoatCourtModel" "count" "[I") ∈ lw_all := lw_g (lw_at lw_m8 77 rfl) rfl
theorem q1924 : (Jvm.Cond.fieldLink "GoatCourtModel" (562 : Nat) "GoatCourtModel" "spotOne" "I") ∈ lw_all := lw_g (lw_at lw_m8 78 rfl) rfl
theorem q1925 : (Jvm.Cond.fieldLink "GoatCourtModel" (565 : Nat) "GoatCourtModel" "spotTwo" "I") ∈ lw_all := lw_g (lw_at lw_m8 79 rfl) rfl
theorem q1926 : (Jvm.Cond.fieldLink "GoatCourtModel" (60 : Nat) "GoatCourtModel" "order" "[I") ∈ lw_all := lw_g (lw_at lw_m8 80 rfl) rfl
theorem q1927 : (Jvm.Cond.fieldLink "GoatCourtModel" (63 : Nat) "GoatCourtModel" "bestOrder" "[I") ∈ lw_all := lw_g (lw_at lw_m8 81 rfl) rfl
theorem q1928 : (Jvm.Cond.lays "GoatCourtModel" "GoatCourtModel" "thrown" "I") ∈ lw_all := lw_g (lw_at lw_m8 82 rfl) rfl
theorem q1929 : (Jvm.Cond.soleField "GoatCourtModel" "thrown") ∈ lw_all := lw_g (lw_at lw_m8 83 rfl) rfl
theorem q1930 : (Jvm.Cond.lays "GoatCourtModel" "GoatCourtModel" "trouble" "I") ∈ lw_all := lw_g (lw_at lw_m8 84 rfl) rfl
theorem q1931 : (Jvm.Cond.soleField "GoatCourtModel" "trouble") ∈ lw_all := lw_g (lw_at lw_m8 85 rfl) rfl
theorem q1932 : (Jvm.Cond.lays "GoatCourtModel" "GoatCourtModel" "where" "I") ∈ lw_all := lw_g (lw_at lw_m8 86 rfl) rfl
theorem q1933 : (Jvm.Cond.soleField "GoatCourtModel" "where") ∈ lw_all := lw_g (lw_at lw_m8 87 rfl) rfl
theorem q1934 : (Jvm.Cond.lays "GoatCourtModel" "GoatCourtModel" "hill" "LGoatCourtModel$Hill;") ∈ lw_all := lw_g (lw_at lw_m8 88 rfl) rfl
theorem q1935 : (Jvm.Cond.soleField "GoatCourtModel" "hill") ∈ lw_all := lw_g (lw_at lw_m8 89 rfl) rfl
theorem q1936 : (Jvm.Cond.lays "GoatCourtModel" "GoatCourtModel" "read" "LGoatCourtModel$Hill;") ∈ lw_all := lw_g (lw_at lw_m8 90 rfl) rfl
theorem q1937 : (Jvm.Cond.soleField "GoatCourtModel" "read") ∈ lw_all := lw_g (lw_at lw_m8 91 rfl) rfl
theorem q1938 : (Jvm.Cond.laysFinal "GoatCourtModel" "GoatCourtModel" "tape" "[B") ∈ lw_all := lw_g (lw_at lw_m8 92 rfl) rfl
theorem q1939 : (Jvm.Cond.soleField "GoatCourtModel" "tape") ∈ lw_all := lw_g (lw_at lw_m8 93 rfl) rfl
theorem q1940 : (Jvm.Cond.lays "GoatCourtModel" "GoatCourtModel" "taped" "I") ∈ lw_all := lw_g (lw_at lw_m8 94 rfl) rfl
theorem q1941 : (Jvm.Cond.soleField "GoatCourtModel" "taped") ∈ lw_all := lw_g (lw_at lw_m8 95 rfl) rfl
theorem q1942 : (Jvm.Cond.lays "GoatCourtModel" "GoatCourtModel" "size" "I") ∈ lw_all := lw_g (lw_at lw_m8 96 rfl) rfl
theorem q1943 : (Jvm.Cond.soleField "GoatCourtModel" "size") ∈ lw_all := lw_g (lw_at lw_m8 97 rfl) rfl
theorem q1944 : (Jvm.Cond.lays "GoatCourtModel" "GoatCourtModel" "spot" "I") ∈ lw_all := lw_g (lw_at lw_m8 98 rfl) rfl
theorem q1945 : (Jvm.Cond.soleField "GoatCourtModel" "spot") ∈ lw_all := lw_g (lw_at lw_m8 99 rfl) rfl
theorem q1946 : (Jvm.Cond.lays "GoatCourtModel" "GoatCourtModel" "sort" "I") ∈ lw_all := lw_g (lw_at lw_m8 100 rfl) rfl
theorem q1947 : (Jvm.Cond.soleField "GoatCourtModel" "sort") ∈ lw_all := lw_g (lw_at lw_m8 101 rfl) rfl
theorem q1948 : (Jvm.Cond.lays "GoatCourtModel" "GoatCourtModel" "place" "I") ∈ lw_all := lw_g (lw_at lw_m8 102 rfl) rfl
theorem q1949 : (Jvm.Cond.soleField "GoatCourtModel" "place") ∈ lw_all := lw_g (lw_at lw_m8 103 rfl) rfl
theorem q1950 : (Jvm.Cond.lays "GoatCourtModel" "GoatCourtModel" "sign" "I") ∈ lw_all := lw_g (lw_at lw_m8 104 rfl) rfl
theorem q1951 : (Jvm.Cond.soleField "GoatCourtModel" "sign") ∈ lw_all := lw_g (lw_at lw_m8 105 rfl) rfl
theorem q1952 : (Jvm.Cond.lays "GoatCourtModel" "GoatCourtModel" "number" "I") ∈ lw_all := lw_g (lw_at lw_m8 106 rfl) rfl
theorem q1953 : (Jvm.Cond.soleField "GoatCourtModel" "number") ∈ lw_all := lw_g (lw_at lw_m8 107 rfl) rfl
theorem q1954 : (Jvm.Cond.lays "GoatCourtModel" "GoatCourtModel" "letters" "I") ∈ lw_all := lw_g (lw_at lw_m8 108 rfl) rfl
theorem q1955 : (Jvm.Cond.soleField "GoatCourtModel" "letters") ∈ lw_all := lw_g (lw_at lw_m8 109 rfl) rfl
theorem q1956 : (Jvm.Cond.lays "GoatCourtModel" "GoatCourtModel" "fault" "I") ∈ lw_all := lw_g (lw_at lw_m8 110 rfl) rfl
theorem q1957 : (Jvm.Cond.soleField "GoatCourtModel" "fault") ∈ lw_all := lw_g (lw_at lw_m8 111 rfl) rfl
theorem q1958 : (Jvm.Cond.lays "GoatCourtModel" "GoatCourtModel" "wrongAt" "I") ∈ lw_all := lw_g (lw_at lw_m8 112 rfl) rfl
theorem q1959 : (Jvm.Cond.soleField "GoatCourtModel" "wrongAt") ∈ lw_all := lw_g (lw_at lw_m8 113 rfl) rfl
theorem q1960 : (Jvm.Cond.laysFinal "GoatCourtModel" "GoatCourtModel" "spelt" "[I") ∈ lw_all := lw_g (lw_at lw_m8 114 rfl) rfl
theorem q1961 : (Jvm.Cond.soleField "GoatCourtModel" "spelt") ∈ lw_all := lw_g (lw_at lw_m8 115 rfl) rfl
theorem q1962 : (Jvm.Cond.lays "GoatCourtModel" "GoatCourtModel" "word" "J") ∈ lw_all := lw_g (lw_at lw_m8 116 rfl) rfl
theorem q1963 : (Jvm.Cond.soleField "GoatCourtModel" "word") ∈ lw_all := lw_g (lw_at lw_m8 117 rfl) rfl
theorem q1964 : (Jvm.Cond.laysFinal "GoatCourtModel" "GoatCourtModel" "v" "[I") ∈ lw_all := lw_g (lw_at lw_m8 118 rfl) rfl
theorem q1965 : (Jvm.Cond.soleField "GoatCourtModel" "v") ∈ lw_all := lw_g (lw_at lw_m8 119 rfl) rfl
theorem q1966 : (Jvm.Cond.laysFinal "GoatCourtModel" "GoatCourtModel" "past" "[I") ∈ lw_all := lw_g (lw_at lw_m8 120 rfl) rfl
theorem q1967 : (Jvm.Cond.soleField "GoatCourtModel" "past") ∈ lw_all := lw_g (lw_at lw_m8 121 rfl) rfl
theorem q1968 : (Jvm.Cond.laysFinal "GoatCourtModel" "GoatCourtModel" "kept" "[I") ∈ lw_all := lw_g (lw_at lw_m8 122 rfl) rfl
theorem q1969 : (Jvm.Cond.soleField "GoatCourtModel" "kept") ∈ lw_all := lw_g (lw_at lw_m8 123 rfl) rfl
theorem q1970 : (Jvm.Cond.lays "GoatCourtModel" "GoatCourtModel" "acts" "I") ∈ lw_all := lw_g (lw_at lw_m8 124 rfl) rfl
theorem q1971 : (Jvm.Cond.soleField "GoatCourtModel" "acts") ∈ lw_all := lw_g (lw_at lw_m8 125 rfl) rfl
theorem q1972 : (Jvm.Cond.lays "GoatCourtModel" "GoatCourtModel" "marks" "I") ∈ lw_all := lw_g (lw_at lw_m8 126 rfl) rfl
theorem q1973 : (Jvm.Cond.soleField "GoatCourtModel" "marks") ∈ lw_all := lw_g (lw_at lw_m8 127 rfl) rfl
theorem q1974 : (Jvm.Cond.laysFinal "GoatCourtModel" "GoatCourtModel" "is" "[I") ∈ lw_all := lw_g (lw_at lw_m8 128 rfl) rfl
theorem q1975 : (Jvm.Cond.soleField "GoatCourtModel" "is") ∈ lw_all := lw_g (lw_at lw_m8 129 rfl) rfl
theorem q1976 : (Jvm.Cond.laysFinal "GoatCourtModel" "GoatCourtModel" "eaten" "[I") ∈ lw_all := lw_g (lw_at lw_m8 130 rfl) rfl
theorem q1977 : (Jvm.Cond.soleField "GoatCourtModel" "eaten") ∈ lw_all := lw_g (lw_at lw_m8 131 rfl) rfl
theorem q1978 : (Jvm.Cond.laysFinal "GoatCourtModel" "GoatCourtModel" "eatenMany" "[I") ∈ lw_all := lw_g (lw_at lw_m8 132 rfl) rfl
theorem q1979 : (Jvm.Cond.soleField "GoatCourtModel" "eatenMany") ∈ lw_all := lw_g (lw_at lw_m8 133 rfl) rfl
theorem q1980 : (Jvm.Cond.laysFinal "GoatCourtModel" "GoatCourtModel" "leftOver" "[I") ∈ lw_all := lw_g (lw_at lw_m8 134 rfl) rfl
theorem q1981 : (Jvm.Cond.soleField "GoatCourtModel" "leftOver") ∈ lw_all := lw_g (lw_at lw_m8 135 rfl) rfl
theorem q1982 : (Jvm.Cond.laysFinal "GoatCourtModel" "GoatCourtModel" "fled" "[I") ∈ lw_all := lw_g (lw_at lw_m8 136 rfl) rfl
theorem q1983 : (Jvm.Cond.soleField "GoatCourtModel" "fled") ∈ lw_all := lw_g (lw_at lw_m8 137 rfl) rfl
theorem q1984 : (Jvm.Cond.laysFinal "GoatCourtModel" "GoatCourtModel" "now" "[I") ∈ lw_all := lw_g (lw_at lw_m8 138 rfl) rfl
theorem q1985 : (Jvm.Cond.soleField "GoatCourtModel" "now") ∈ lw_all := lw_g (lw_at lw_m8 139 rfl) rfl
theorem q1986 : (Jvm.Cond.laysFinal "GoatCourtModel" "GoatCourtModel" "honest" "[I") ∈ lw_all := lw_g (lw_at lw_m8 140 rfl) rfl
theorem q1987 : (Jvm.Cond.soleField "GoatCourtModel" "honest") ∈ lw_all := lw_g (lw_at lw_m8 141 rfl) rfl
theorem q1988 : (Jvm.Cond.lays "GoatCourtModel" "GoatCourtModel" "asked" "I") ∈ lw_all := lw_g (lw_at lw_m8 142 rfl) rfl
theorem q1989 : (Jvm.Cond.soleField "GoatCourtModel" "asked") ∈ lw_all := lw_g (lw_at lw_m8 143 rfl) rfl
theorem q1990 : (Jvm.Cond.lays "GoatCourtModel" "GoatCourtModel" "askedMost" "I") ∈ lw_all := lw_g (lw_at lw_m8 144 rfl) rfl
theorem q1991 : (Jvm.Cond.soleField "GoatCourtModel" "askedMost") ∈ lw_all := lw_g (lw_at lw_m8 145 rfl) rfl
theorem q1992 : (Jvm.Cond.laysFinal "GoatCourtModel" "GoatCourtModel" "fitting" "[I") ∈ lw_all := lw_g (lw_at lw_m8 146 rfl) rfl
theorem q1993 : (Jvm.Cond.soleField "GoatCourtModel" "fitting") ∈ lw_all := lw_g (lw_at lw_m8 147 rfl) rfl
theorem q1994 : (Jvm.Cond.laysFinal "GoatCourtModel" "GoatCourtModel" "whereIs" "[I") ∈ lw_all := lw_g (lw_at lw_m8 148 rfl) rfl
theorem q1995 : (Jvm.Cond.soleField "GoatCourtModel" "whereIs") ∈ lw_all := lw_g (lw_at lw_m8 149 rfl) rfl
theorem q1996 : (Jvm.Cond.laysFinal "GoatCourtModel" "GoatCourtModel" "count" "[I") ∈ lw_all := lw_g (lw_at lw_m8 150 rfl) rfl
theorem q1997 : (Jvm.Cond.soleField "GoatCourtModel" "count") ∈ lw_all := lw_g (lw_at lw_m8 151 rfl) rfl
theorem q1998 : (Jvm.Cond.lays "GoatCourtModel" "GoatCourtModel" "spotOne" "I") ∈ lw_all := lw_g (lw_at lw_m8 152 rfl) rfl
theorem q1999 : (Jvm.Cond.soleField "GoatCourtModel" "spotOne") ∈ lw_all := lw_g (lw_at lw_m8 153 rfl) rfl
theorem q2000 : (Jvm.Cond.lays "GoatCourtModel" "GoatCourtModel" "spotTwo" "I") ∈ lw_all := lw_g (lw_at lw_m8 154 rfl) rfl
theorem q2001 : (Jvm.Cond.soleField "GoatCourtModel" "spotTwo") ∈ lw_all := lw_g (lw_at lw_m8 155 rfl) rfl
theorem q2002 : (Jvm.Cond.laysFinal "GoatCourtModel" "GoatCourtModel" "order" "[I") ∈ lw_all := lw_g (lw_at lw_m8 156 rfl) rfl
theorem q2003 : (Jvm.Cond.soleField "GoatCourtModel" "order") ∈ lw_all := lw_g (lw_at lw_m8 157 rfl) rfl
theorem q2004 : (Jvm.Cond.laysFinal "GoatCourtModel" "GoatCourtModel" "bestOrder" "[I") ∈ lw_all := lw_g (lw_at lw_m8 158 rfl) rfl
theorem q2005 : (Jvm.Cond.soleField "GoatCourtModel" "bestOrder") ∈ lw_all := lw_g (lw_at lw_m8 159 rfl) rfl
theorem q2006 : (Jvm.Cond.superclass "GoatCourtModel" "java/lang/Object") ∈ lw_all := lw_g (lw_at lw_m8 160 rfl) rfl
theorem q2008 : (Jvm.Cond.instanceMethod ({ cls := "GoatCourtModel", name := "thrown", desc := "()I" } : Jvm.MethodName)) ∈ lw_all := lw_g (lw_at lw_m8 162 rfl) rfl
theorem q2009 : (Jvm.Cond.selects "GoatCourtModel" ({ cls := "GoatCourtModel", name := "thrown", desc := "()I" } : Jvm.MethodName) ({ cls := "GoatCourtModel", name := "thrown", desc := "()I" } : Jvm.MethodName)) ∈ lw_all := lw_g (lw_at lw_m8 163 rfl) rfl
theorem q2010 : (Jvm.Cond.code ({ cls := "GoatCourtModel", name := "thrown", desc := "()I" } : Jvm.MethodName) prog_24_method_2_code (1 : Nat) (Option.some Jvm.ClassFile.FieldType.int)) ∈ lw_all := lw_g (lw_at lw_m8 164 rfl) rfl
theorem q2012 : (Jvm.Cond.instanceMethod ({ cls := "GoatCourtModel", name := "feed", desc := "(IIIII)I" } : Jvm.MethodName)) ∈ lw_all := lw_g (lw_at lw_m8 166 rfl) rfl
theorem q2013 : (Jvm.Cond.selects "GoatCourtModel" ({ cls := "GoatCourtModel", name := "feed", desc := "(IIIII)I" } : Jvm.MethodName) ({ cls := "GoatCourtModel", name := "feed", desc := "(IIIII)I" } : Jvm.MethodName)) ∈ lw_all := lw_g (lw_at lw_m8 167 rfl) rfl
theorem q2014 : (Jvm.Cond.code ({ cls := "GoatCourtModel", name := "feed", desc := "(IIIII)I" } : Jvm.MethodName) prog_24_method_47_code (8 : Nat) (Option.some Jvm.ClassFile.FieldType.int)) ∈ lw_all := lw_g (lw_at lw_m8 168 rfl) rfl
theorem q2016 : (Jvm.Cond.instanceMethod ({ cls := "GoatCourtModel", name := "hill", desc := "(I)I" } : Jvm.MethodName)) ∈ lw_all := lw_g (lw_at lw_m8 170 rfl) rfl
theorem q2017 : (Jvm.Cond.selects "GoatCourtModel" ({ cls := "GoatCourtModel", name := "hill", desc := "(I)I" } : Jvm.MethodName) ({ cls := "GoatCourtModel", name := "hill", desc := "(I)I" } : Jvm.MethodName)) ∈ lw_all := lw_g (lw_at lw_m8 171 rfl) rfl
theorem q2018 : (Jvm.Cond.code ({ cls := "GoatCourtModel", name := "hill", desc := "(I)I" } : Jvm.MethodName) prog_24_method_48_code (3 : Nat) (Option.some Jvm.ClassFile.FieldType.int)) ∈ lw_all := lw_g (lw_at lw_m8 172 rfl) rfl
theorem q2019 : (Jvm.Cond.methodLink "GoatCourtModel" (72 : Nat) ({ cls := "GoatCourtModel", name := "refused", desc := "(I)I" } : Jvm.MethodName)) ∈ lw_all := lw_g (lw_at lw_m8 173 rfl) rfl
theorem q2020 : (Jvm.Cond.privateMethod ({ cls := "GoatCourtModel", name := "refused", desc := "(I)I" } : Jvm.MethodName)) ∈ lw_tbl := lw_at lw_m8 174 rfl
theorem q2021 : (Jvm.Cond.instanceMethod ({ cls := "GoatCourtModel", name := "refused", desc := "(I)I" } : Jvm.MethodName)) ∈ lw_all := lw_g (lw_at lw_m8 175 rfl) rfl
theorem q2022 : (Jvm.Cond.code ({ cls := "GoatCourtModel", name := "refused", desc := "(I)I" } : Jvm.MethodName) prog_24_method_3_code (2 : Nat) (Option.some Jvm.ClassFile.FieldType.int)) ∈ lw_all := lw_g (lw_at lw_m8 176 rfl) rfl
theorem q2023 : (Jvm.Cond.classLink "GoatCourtModel" (197 : Nat) "GoatCourtModel$Hill") ∈ lw_all := lw_g (lw_at lw_m8 177 rfl) rfl
theorem q2025 : (Jvm.Cond.methodLinkNest "GoatCourtModel" (438 : Nat) ({ cls := "GoatCourtModel$Hill", name := "<init>", desc := "()V" } : Jvm.MethodName) "GoatCourtModel") ∈ lw_tbl := lw_at lw_m8 179 rfl
theorem q2029 : (Jvm.Cond.fieldLinkNest "GoatCourtModel" (196 : Nat) "GoatCourtModel$Hill" "hours" "I" "GoatCourtModel") ∈ lw_tbl := lw_at lw_m8 183 rfl
theorem q2030 : (Jvm.Cond.fieldLinkNest "GoatCourtModel" (229 : Nat) "GoatCourtModel$Hill" "plants" "I" "GoatCourtModel") ∈ lw_tbl := lw_at lw_m8 184 rfl
theorem q2031 : (Jvm.Cond.fieldLinkNest "GoatCourtModel" (241 : Nat) "GoatCourtModel$Hill" "places" "I" "GoatCourtModel") ∈ lw_tbl := lw_at lw_m8 185 rfl
theorem q2033 : (Jvm.Cond.fieldLinkNest "GoatCourtModel" (306 : Nat) "GoatCourtModel$Hill" "paths" "I" "GoatCourtModel") ∈ lw_tbl := lw_at lw_m8 187 rfl
theorem q2035 : (Jvm.Cond.fieldLinkNest "GoatCourtModel" (320 : Nat) "GoatCourtModel$Hill" "people" "I" "GoatCourtModel") ∈ lw_tbl := lw_at lw_m8 189 rfl
theorem q2036 : (Jvm.Cond.fieldLinkNest "GoatCourtModel" (328 : Nat) "GoatCourtModel$Hill" "goats" "I" "GoatCourtModel") ∈ lw_tbl := lw_at lw_m8 190 rfl
theorem q2037 : (Jvm.Cond.fieldLinkNest "GoatCourtModel" (361 : Nat) "GoatCourtModel$Hill" "fears" "I" "GoatCourtModel") ∈ lw_tbl := lw_at lw_m8 191 rfl
theorem q2038 : (Jvm.Cond.fieldLinkNest "GoatCourtModel" (370 : Nat) "GoatCourtModel$Hill" "clues" "I" "GoatCourtModel") ∈ lw_tbl := lw_at lw_m8 192 rfl
theorem q2039 : (Jvm.Cond.fieldLinkNest "GoatCourtModel" (388 : Nat) "GoatCourtModel$Hill" "facts" "I" "GoatCourtModel") ∈ lw_tbl := lw_at lw_m8 193 rfl
theorem q2040 : (Jvm.Cond.fieldLinkNest "GoatCourtModel" (393 : Nat) "GoatCourtModel$Hill" "rules" "I" "GoatCourtModel") ∈ lw_tbl := lw_at lw_m8 194 rfl
theorem q2041 : (Jvm.Cond.fieldLinkNest "GoatCourtModel" (413 : Nat) "GoatCourtModel$Hill" "steps" "I" "GoatCourtModel") ∈ lw_tbl := lw_at lw_m8 195 rfl
theorem q2042 : (Jvm.Cond.fieldLinkNest "GoatCourtModel" (419 : Nat) "GoatCourtModel$Hill" "courts" "I" "GoatCourtModel") ∈ lw_tbl := lw_at lw_m8 196 rfl
theorem q2044 : (Jvm.Cond.fieldLinkNest "GoatCourtModel" (217 : Nat) "GoatCourtModel$Hill" "names" "I" "GoatCourtModel") ∈ lw_tbl := lw_at lw_m8 198 rfl
theorem q2045 : (Jvm.Cond.fieldLinkNest "GoatCourtModel" (391 : Nat) "GoatCourtModel$Hill" "holds" "I" "GoatCourtModel") ∈ lw_tbl := lw_at lw_m8 199 rfl
theorem q2046 : (Jvm.Cond.fieldLinkNest "GoatCourtModel" (405 : Nat) "GoatCourtModel$Hill" "hasProof" "Z" "GoatCourtModel") ∈ lw_tbl := lw_at lw_m8 200 rfl
theorem q2047 : (Jvm.Cond.fieldLinkNest "GoatCourtModel" (430 : Nat) "GoatCourtModel$Hill" "hasCheese" "Z" "GoatCourtModel") ∈ lw_tbl := lw_at lw_m8 201 rfl
theorem q2049 : (Jvm.Cond.fieldLinkNest "GoatCourtModel" (296 : Nat) "GoatCourtModel$Hill" "amount" "[I" "GoatCourtModel") ∈ lw_tbl := lw_at lw_m8 203 rfl
theorem q2051 : (Jvm.Cond.fieldLinkNest "GoatCourtModel" (314 : Nat) "GoatCourtModel$Hill" "pathOne" "[I" "GoatCourtModel") ∈ lw_tbl := lw_at lw_m8 205 rfl
theorem q2053 : (Jvm.Cond.fieldLinkNest "GoatCourtModel" (317 : Nat) "GoatCourtModel$Hill" "pathTwo" "[I" "GoatCourtModel") ∈ lw_tbl := lw_at lw_m8 207 rfl
theorem q2055 : (Jvm.Cond.fieldLinkNest "GoatCourtModel" (323 : Nat) "GoatCourtModel$Hill" "stories" "[I" "GoatCourtModel") ∈ lw_tbl := lw_at lw_m8 209 rfl
theorem q2057 : (Jvm.Cond.fieldLinkNest "GoatCourtModel" (326 : Nat) "GoatCourtModel$Hill" "story" "[I" "GoatCourtModel") ∈ lw_tbl := lw_at lw_m8 211 rfl
theorem q2059 : (Jvm.Cond.fieldLinkNest "GoatCourtModel" (347 : Nat) "GoatCourtModel$Hill" "kind" "[I" "GoatCourtModel") ∈ lw_tbl := lw_at lw_m8 213 rfl
theorem q2061 : (Jvm.Cond.fieldLinkNest "GoatCourtModel" (350 : Nat) "GoatCourtModel$Hill" "mother" "[I" "GoatCourtModel") ∈ lw_tbl := lw_at lw_m8 215 rfl
theorem q2063 : (Jvm.Cond.fieldLinkNest "GoatCourtModel" (353 : Nat) "GoatCourtModel$Hill" "liked" "[I" "GoatCourtModel") ∈ lw_tbl := lw_at lw_m8 217 rfl
theorem q2065 : (Jvm.Cond.fieldLinkNest "GoatCourtModel" (341 : Nat) "GoatCourtModel$Hill" "likes" "[I" "GoatCourtModel") ∈ lw_tbl := lw_at lw_m8 219 rfl
theorem q2067 : (Jvm.Cond.fieldLinkNest "GoatCourtModel" (356 : Nat) "GoatCourtModel$Hill" "from" "[I" "GoatCourtModel") ∈ lw_tbl := lw_at lw_m8 221 rfl
theorem q2069 : (Jvm.Cond.fieldLinkNest "GoatCourtModel" (359 : Nat) "GoatCourtModel$Hill" "trust" "[I" "GoatCourtModel") ∈ lw_tbl := lw_at lw_m8 223 rfl
theorem q2071 : (Jvm.Cond.fieldLinkNest "GoatCourtModel" (363 : Nat) "GoatCourtModel$Hill" "feared" "[I" "GoatCourtModel") ∈ lw_tbl := lw_at lw_m8 225 rfl
theorem q2073 : (Jvm.Cond.fieldLinkNest "GoatCourtModel" (376 : Nat) "GoatCourtModel$Hill" "clueSort" "[I" "GoatCourtModel") ∈ lw_tbl := lw_at lw_m8 227 rfl
theorem q2075 : (Jvm.Cond.fieldLinkNest "GoatCourtModel" (379 : Nat) "GoatCourtModel$Hill" "clueGoat" "[I" "GoatCourtModel") ∈ lw_tbl := lw_at lw_m8 229 rfl
theorem q2077 : (Jvm.Cond.fieldLinkNest "GoatCourtModel" (382 : Nat) "GoatCourtModel$Hill" "cluePlace" "[I" "GoatCourtModel") ∈ lw_tbl := lw_at lw_m8 231 rfl
theorem q2079 : (Jvm.Cond.fieldLinkNest "GoatCourtModel" (385 : Nat) "GoatCourtModel$Hill" "clueWhat" "[I" "GoatCourtModel") ∈ lw_tbl := lw_at lw_m8 233 rfl
theorem q2081 : (Jvm.Cond.fieldLinkNest "GoatCourtModel" (399 : Nat) "GoatCourtModel$Hill" "ruleTells" "[I" "GoatCourtModel") ∈ lw_tbl := lw_at lw_m8 235 rfl
theorem q2083 : (Jvm.Cond.fieldLinkNest "GoatCourtModel" (402 : Nat) "GoatCourtModel$Hill" "ruleNeeds" "[I" "GoatCourtModel") ∈ lw_tbl := lw_at lw_m8 237 rfl
theorem q2085 : (Jvm.Cond.fieldLinkNest "GoatCourtModel" (416 : Nat) "GoatCourtModel$Hill" "step" "[I" "GoatCourtModel") ∈ lw_tbl := lw_at lw_m8 239 rfl
theorem q2087 : (Jvm.Cond.fieldLinkNest "GoatCourtModel" (426 : Nat) "GoatCourtModel$Hill" "costs" "[I" "GoatCourtModel") ∈ lw_tbl := lw_at lw_m9 1 rfl
theorem q2089 : (Jvm.Cond.fieldLinkNest "GoatCourtModel" (428 : Nat) "GoatCourtModel$Hill" "wins" "[I" "GoatCourtModel") ∈ lw_tbl := lw_at lw_m9 3 rfl
theorem q2091 : (Jvm.Cond.fieldLinkNest "GoatCourtModel" (433 : Nat) "GoatCourtModel$Hill" "cheese" "[I" "GoatCourtModel") ∈ lw_tbl := lw_at lw_m9 5 rfl
theorem q2093 : (Jvm.Cond.fieldLinkNest "GoatCourtModel" (213 : Nat) "GoatCourtModel$Hill" "name" "[J" "GoatCourtModel") ∈ lw_tbl := lw_at lw_m9 7 rfl
theorem q2095 : (Jvm.Cond.fieldLinkNest "GoatCourtModel" (220 : Nat) "GoatCourtModel$Hill" "nameSort" "[I" "GoatCourtModel") ∈ lw_tbl := lw_at lw_m9 9 rfl
theorem q2097 : (Jvm.Cond.fieldLinkNest "GoatCourtModel" (223 : Nat) "GoatCourtModel$Hill" "nameNumber" "[I" "GoatCourtModel") ∈ lw_tbl := lw_at lw_m9 11 rfl
theorem q2182 : (Jvm.Cond.methodLink "GoatCourtModel" (136 : Nat) ({ cls := "GoatCourtModel", name := "goesOn", desc := "()V" } : Jvm.MethodName)) ∈ lw_all := lw_g (lw_at lw_m9 96 rfl) rfl
theorem q2183 : (Jvm.Cond.privateMethod ({ cls := "GoatCourtModel", name := "goesOn", desc := "()V" } : Jvm.MethodName)) ∈ lw_tbl := lw_at lw_m9 97 rfl
theorem q2184 : (Jvm.Cond.instanceMethod ({ cls := "GoatCourtModel", name := "goesOn", desc := "()V" } : Jvm.MethodName)) ∈ lw_all := lw_g (lw_at lw_m9 98 rfl) rfl
theorem q2185 : (Jvm.Cond.code ({ cls := "GoatCourtModel", name := "goesOn", desc := "()V" } : Jvm.MethodName) prog_24_method_14_code (3 : Nat) (Option.none : Option Jvm.ClassFile.FieldType)) ∈ lw_all := lw_g (lw_at lw_m9 99 rfl) rfl
theorem q2186 : (Jvm.Cond.methodLink "GoatCourtModel" (100 : Nat) ({ cls := "GoatCourtModel", name := "byteAt", desc := "(I)I" } : Jvm.MethodName)) ∈ lw_all := lw_g (lw_at lw_m9 100 rfl) rfl
theorem q2187 : (Jvm.Cond.privateMethod ({ cls := "GoatCourtModel", name := "byteAt", desc := "(I)I" } : Jvm.MethodName)) ∈ lw_tbl := lw_at lw_m9 101 rfl
theorem q2188 : (Jvm.Cond.instanceMethod ({ cls := "GoatCourtModel", name := "byteAt", desc := "(I)I" } : Jvm.MethodName)) ∈ lw_all := lw_g (lw_at lw_m9 102 rfl) rfl
theorem q2189 : (Jvm.Cond.code ({ cls := "GoatCourtModel", name := "byteAt", desc := "(I)I" } : Jvm.MethodName) prog_24_method_10_code (2 : Nat) (Option.some Jvm.ClassFile.FieldType.int)) ∈ lw_all := lw_g (lw_at lw_m9 103 rfl) rfl
theorem q2190 : (Jvm.Cond.methodLink "GoatCourtModel" (109 : Nat) ({ cls := "GoatCourtModel", name := "isLetter", desc := "(I)Z" } : Jvm.MethodName)) ∈ lw_all := lw_g (lw_at lw_m9 104 rfl) rfl
theorem q2191 : (Jvm.Cond.static ({ cls := "GoatCourtModel", name := "isLetter", desc := "(I)Z" } : Jvm.MethodName)) ∈ lw_all := lw_g (lw_at lw_m9 105 rfl) rfl
theorem q2192 : (Jvm.Cond.code ({ cls := "GoatCourtModel", name := "isLetter", desc := "(I)Z" } : Jvm.MethodName) prog_24_method_11_code (1 : Nat) (Option.some Jvm.ClassFile.FieldType.boolean)) ∈ lw_all := lw_g (lw_at lw_m9 106 rfl) rfl
theorem q2193 : (Jvm.Cond.constantLong "GoatCourtModel" (88 : Nat) (32 : Int64)) ∈ lw_all := lw_g (lw_at lw_m9 107 rfl) rfl
theorem q2194 : (Jvm.Cond.methodLink "GoatCourtModel" (120 : Nat) ({ cls := "GoatCourtModel", name := "isDigit", desc := "(I)Z" } : Jvm.MethodName)) ∈ lw_all := lw_g (lw_at lw_m9 108 rfl) rfl
theorem q2195 : (Jvm.Cond.static ({ cls := "GoatCourtModel", name := "isDigit", desc := "(I)Z" } : Jvm.MethodName)) ∈ lw_all := lw_g (lw_at lw_m9 109 rfl) rfl
theorem q2196 : (Jvm.Cond.code ({ cls := "GoatCourtModel", name := "isDigit", desc := "(I)Z" } : Jvm.MethodName) prog_24_method_12_code (1 : Nat) (Option.some Jvm.ClassFile.FieldType.boolean)) ∈ lw_all := lw_g (lw_at lw_m9 110 rfl) rfl
theorem q2197 : (Jvm.Cond.methodLink "GoatCourtModel" (439 : Nat) ({ cls := "GoatCourtModel", name := "readAll", desc := "()V" } : Jvm.MethodName)) ∈ lw_all := lw_g (lw_at lw_m9 111 rfl) rfl
theorem q2198 : (Jvm.Cond.privateMethod ({ cls := "GoatCourtModel", name := "readAll", desc := "()V" } : Jvm.MethodName)) ∈ lw_tbl := lw_at lw_m9 112 rfl
theorem q2199 : (Jvm.Cond.instanceMethod ({ cls := "GoatCourtModel", name := "readAll", desc := "()V" } : Jvm.MethodName)) ∈ lw_all := lw_g (lw_at lw_m9 113 rfl) rfl
theorem q2200 : (Jvm.Cond.code ({ cls := "GoatCourtModel", name := "readAll", desc := "()V" } : Jvm.MethodName) prog_24_method_30_code (2 : Nat) (Option.none : Option Jvm.ClassFile.FieldType)) ∈ lw_all := lw_g (lw_at lw_m9 114 rfl) rfl
theorem q2201 : (Jvm.Cond.methodLink "GoatCourtModel" (235 : Nat) ({ cls := "GoatCourtModel", name := "readLine", desc := "()V" } : Jvm.MethodName)) ∈ lw_all := lw_g (lw_at lw_m9 115 rfl) rfl
theorem q2202 : (Jvm.Cond.privateMethod ({ cls := "GoatCourtModel", name := "readLine", desc := "()V" } : Jvm.MethodName)) ∈ lw_tbl := lw_at lw_m9 116 rfl
theorem q2203 : (Jvm.Cond.instanceMethod ({ cls := "GoatCourtModel", name := "readLine", desc := "()V" } : Jvm.MethodName)) ∈ lw_all := lw_g (lw_at lw_m9 117 rfl) rfl
theorem q2204 : (Jvm.Cond.code ({ cls := "GoatCourtModel", name := "readLine", desc := "()V" } : Jvm.MethodName) prog_24_method_31_code (1 : Nat) (Option.none : Option Jvm.ClassFile.FieldType)) ∈ lw_all := lw_g (lw_at lw_m9 118 rfl) rfl
theorem q2205 : (Jvm.Cond.stringRef "GoatCourtModel" (159 : Nat) "hill") ∈ lw_tbl := lw_at lw_m9 119 rfl
theorem q2206 : (Jvm.Cond.methodLink "GoatCourtModel" (139 : Nat) ({ cls := "GoatCourtModel", name := "isWord", desc := "(Ljava/lang/String;)Z" } : Jvm.MethodName)) ∈ lw_all := lw_g (lw_at lw_m9 120 rfl) rfl
theorem q2207 : (Jvm.Cond.privateMethod ({ cls := "GoatCourtModel", name := "isWord", desc := "(Ljava/lang/String;)Z" } : Jvm.MethodName)) ∈ lw_tbl := lw_at lw_m9 121 rfl
theorem q2208 : (Jvm.Cond.instanceMethod ({ cls := "GoatCourtModel", name := "isWord", desc := "(Ljava/lang/String;)Z" } : Jvm.MethodName)) ∈ lw_all := lw_g (lw_at lw_m9 122 rfl) rfl
theorem q2209 : (Jvm.Cond.code ({ cls := "GoatCourtModel", name := "isWord", desc := "(Ljava/lang/String;)Z" } : Jvm.MethodName) prog_24_method_16_code (2 : Nat) (Option.some Jvm.ClassFile.FieldType.boolean)) ∈ lw_all := lw_g (lw_at lw_m9 123 rfl) rfl
theorem q2210 : (Jvm.Cond.methodLink "GoatCourtModel" (132 : Nat) ({ cls := "GoatCourtModel", name := "wordOf", desc := "(Ljava/lang/String;)J" } : Jvm.MethodName)) ∈ lw_all := lw_g (lw_at lw_m9 124 rfl) rfl
theorem q2211 : (Jvm.Cond.static ({ cls := "GoatCourtModel", name := "wordOf", desc := "(Ljava/lang/String;)J" } : Jvm.MethodName)) ∈ lw_all := lw_g (lw_at lw_m9 125 rfl) rfl
theorem q2212 : (Jvm.Cond.code ({ cls := "GoatCourtModel", name := "wordOf", desc := "(Ljava/lang/String;)J" } : Jvm.MethodName) prog_24_method_13_code (4 : Nat) (Option.some Jvm.ClassFile.FieldType.long)) ∈ lw_all := lw_g (lw_at lw_m9 126 rfl) rfl
theorem q2213 : (Jvm.Cond.methodLink "GoatCourtModel" (82 : Nat) ({ cls := "java/lang/String", name := "length", desc := "()I" } : Jvm.MethodName)) ∈ lw_all := lw_g (lw_at lw_m9 127 rfl) rfl
theorem q2214 : (Jvm.Cond.methodLink "GoatCourtModel" (90 : Nat) ({ cls := "java/lang/String", name := "charAt", desc := "(I)C" } : Jvm.MethodName)) ∈ lw_all := lw_g (lw_at lw_m9 128 rfl) rfl
theorem q2215 : (Jvm.Cond.methodLink "GoatCourtModel" (244 : Nat) ({ cls := "GoatCourtModel", name := "readHill", desc := "()V" } : Jvm.MethodName)) ∈ lw_all := lw_g (lw_at lw_m9 129 rfl) rfl
theorem q2216 : (Jvm.Cond.privateMethod ({ cls := "GoatCourtModel", name := "readHill", desc := "()V" } : Jvm.MethodName)) ∈ lw_tbl := lw_at lw_m9 130 rfl
theorem q2217 : (Jvm.Cond.instanceMethod ({ cls := "GoatCourtModel", name := "readHill", desc := "()V" } : Jvm.MethodName)) ∈ lw_all := lw_g (lw_at lw_m9 131 rfl) rfl
theorem q2218 : (Jvm.Cond.code ({ cls := "GoatCourtModel", name := "readHill", desc := "()V" } : Jvm.MethodName) prog_24_method_32_code (3 : Nat) (Option.none : Option Jvm.ClassFile.FieldType)) ∈ lw_all := lw_g (lw_at lw_m9 132 rfl) rfl
theorem q2219 : (Jvm.Cond.methodLink "GoatCourtModel" (143 : Nat) ({ cls := "GoatCourtModel", name := "flaw", desc := "(I)V" } : Jvm.MethodName)) ∈ lw_all := lw_g (lw_at lw_m9 133 rfl) rfl
theorem q2220 : (Jvm.Cond.privateMethod ({ cls := "GoatCourtModel", name := "flaw", desc := "(I)V" } : Jvm.MethodName)) ∈ lw_tbl := lw_at lw_m9 134 rfl
theorem q2221 : (Jvm.Cond.instanceMethod ({ cls := "GoatCourtModel", name := "flaw", desc := "(I)V" } : Jvm.MethodName)) ∈ lw_all := lw_g (lw_at lw_m9 135 rfl) rfl
theorem q2222 : (Jvm.Cond.code ({ cls := "GoatCourtModel", name := "flaw", desc := "(I)V" } : Jvm.MethodName) prog_24_method_15_code (2 : Nat) (Option.none : Option Jvm.ClassFile.FieldType)) ∈ lw_all := lw_g (lw_at lw_m9 136 rfl) rfl
theorem q2223 : (Jvm.Cond.stringRef "GoatCourtModel" (286 : Nat) "hours") ∈ lw_tbl := lw_at lw_m9 137 rfl
theorem q2224 : (Jvm.Cond.methodLink "GoatCourtModel" (287 : Nat) ({ cls := "GoatCourtModel", name := "readPart", desc := "(Ljava/lang/String;II)I" } : Jvm.MethodName)) ∈ lw_all := lw_g (lw_at lw_m9 138 rfl) rfl
theorem q2225 : (Jvm.Cond.privateMethod ({ cls := "GoatCourtModel", name := "readPart", desc := "(Ljava/lang/String;II)I" } : Jvm.MethodName)) ∈ lw_tbl := lw_at lw_m9 139 rfl
theorem q2226 : (Jvm.Cond.instanceMethod ({ cls := "GoatCourtModel", name := "readPart", desc := "(Ljava/lang/String;II)I" } : Jvm.MethodName)) ∈ lw_all := lw_g (lw_at lw_m9 140 rfl) rfl
theorem q2227 : (Jvm.Cond.code ({ cls := "GoatCourtModel", name := "readPart", desc := "(Ljava/lang/String;II)I" } : Jvm.MethodName) prog_24_method_21_code (4 : Nat) (Option.some Jvm.ClassFile.FieldType.int)) ∈ lw_all := lw_g (lw_at lw_m9 141 rfl) rfl
theorem q2228 : (Jvm.Cond.methodLink "GoatCourtModel" (151 : Nat) ({ cls := "GoatCourtModel", name := "wants", desc := "(Ljava/lang/String;)V" } : Jvm.MethodName)) ∈ lw_all := lw_g (lw_at lw_m9 142 rfl) rfl
theorem q2229 : (Jvm.Cond.privateMethod ({ cls := "GoatCourtModel", name := "wants", desc := "(Ljava/lang/String;)V" } : Jvm.MethodName)) ∈ lw_tbl := lw_at lw_m9 143 rfl
theorem q2230 : (Jvm.Cond.instanceMethod ({ cls := "GoatCourtModel", name := "wants", desc := "(Ljava/lang/String;)V" } : Jvm.MethodName)) ∈ lw_all := lw_g (lw_at lw_m9 144 rfl) rfl
theorem q2231 : (Jvm.Cond.code ({ cls := "GoatCourtModel", name := "wants", desc := "(Ljava/lang/String;)V" } : Jvm.MethodName) prog_24_method_18_code (2 : Nat) (Option.none : Option Jvm.ClassFile.FieldType)) ∈ lw_all := lw_g (lw_at lw_m9 145 rfl) rfl
theorem q2232 : (Jvm.Cond.methodLink "GoatCourtModel" (155 : Nat) ({ cls := "GoatCourtModel", name := "readWhole", desc := "(II)I" } : Jvm.MethodName)) ∈ lw_all := lw_g (lw_at lw_m9 146 rfl) rfl
theorem q2233 : (Jvm.Cond.privateMethod ({ cls := "GoatCourtModel", name := "readWhole", desc := "(II)I" } : Jvm.MethodName)) ∈ lw_tbl := lw_at lw_m9 147 rfl
theorem q2234 : (Jvm.Cond.instanceMethod ({ cls := "GoatCourtModel", name := "readWhole", desc := "(II)I" } : Jvm.MethodName)) ∈ lw_all := lw_g (lw_at lw_m9 148 rfl) rfl
theorem q2235 : (Jvm.Cond.code ({ cls := "GoatCourtModel", name := "readWhole", desc := "(II)I" } : Jvm.MethodName) prog_24_method_20_code (4 : Nat) (Option.some Jvm.ClassFile.FieldType.int)) ∈ lw_all := lw_g (lw_at lw_m9 149 rfl) rfl
theorem q2236 : (Jvm.Cond.methodLink "GoatCourtModel" (147 : Nat) ({ cls := "GoatCourtModel", name := "within", desc := "(III)Z" } : Jvm.MethodName)) ∈ lw_all := lw_g (lw_at lw_m9 150 rfl) rfl
theorem q2237 : (Jvm.Cond.static ({ cls := "GoatCourtModel", name := "within", desc := "(III)Z" } : Jvm.MethodName)) ∈ lw_all := lw_g (lw_at lw_m9 151 rfl) rfl
theorem q2238 : (Jvm.Cond.code ({ cls := "GoatCourtModel", name := "within", desc := "(III)Z" } : Jvm.MethodName) prog_24_method_7_code (3 : Nat) (Option.some Jvm.ClassFile.FieldType.boolean)) ∈ lw_all := lw_g (lw_at lw_m9 152 rfl) rfl
theorem q2239 : (Jvm.Cond.stringRef "GoatCourtModel" (291 : Nat) "plants") ∈ lw_tbl := lw_at lw_m9 153 rfl
theorem q2240 : (Jvm.Cond.stringRef "GoatCourtModel" (161 : Nat) "place") ∈ lw_tbl := lw_at lw_m9 154 rfl
theorem q2241 : (Jvm.Cond.methodLink "GoatCourtModel" (247 : Nat) ({ cls := "GoatCourtModel", name := "readPlace", desc := "()V" } : Jvm.MethodName)) ∈ lw_all := lw_g (lw_at lw_m9 155 rfl) rfl
theorem q2242 : (Jvm.Cond.privateMethod ({ cls := "GoatCourtModel", name := "readPlace", desc := "()V" } : Jvm.MethodName)) ∈ lw_tbl := lw_at lw_m9 156 rfl
theorem q2243 : (Jvm.Cond.instanceMethod ({ cls := "GoatCourtModel", name := "readPlace", desc := "()V" } : Jvm.MethodName)) ∈ lw_all := lw_g (lw_at lw_m9 157 rfl) rfl
theorem q2244 : (Jvm.Cond.code ({ cls := "GoatCourtModel", name := "readPlace", desc := "()V" } : Jvm.MethodName) prog_24_method_33_code (3 : Nat) (Option.none : Option Jvm.ClassFile.FieldType)) ∈ lw_all := lw_g (lw_at lw_m9 158 rfl) rfl
theorem q2245 : (Jvm.Cond.methodLink "GoatCourtModel" (201 : Nat) ({ cls := "GoatCourtModel", name := "begins", desc := "(II)V" } : Jvm.MethodName)) ∈ lw_all := lw_g (lw_at lw_m9 159 rfl) rfl
theorem q2246 : (Jvm.Cond.privateMethod ({ cls := "GoatCourtModel", name := "begins", desc := "(II)V" } : Jvm.MethodName)) ∈ lw_tbl := lw_at lw_m9 160 rfl
theorem q2247 : (Jvm.Cond.instanceMethod ({ cls := "GoatCourtModel", name := "begins", desc := "(II)V" } : Jvm.MethodName)) ∈ lw_all := lw_g (lw_at lw_m9 161 rfl) rfl
theorem q2248 : (Jvm.Cond.code ({ cls := "GoatCourtModel", name := "begins", desc := "(II)V" } : Jvm.MethodName) prog_24_method_23_code (3 : Nat) (Option.none : Option Jvm.ClassFile.FieldType)) ∈ lw_all := lw_g (lw_at lw_m9 162 rfl) rfl
theorem q2249 : (Jvm.Cond.methodLink "GoatCourtModel" (292 : Nat) ({ cls := "GoatCourtModel", name := "readFresh", desc := "()J" } : Jvm.MethodName)) ∈ lw_all := lw_g (lw_at lw_m9 163 rfl) rfl
theorem q2250 : (Jvm.Cond.privateMethod ({ cls := "GoatCourtModel", name := "readFresh", desc := "()J" } : Jvm.MethodName)) ∈ lw_tbl := lw_at lw_m9 164 rfl
theorem q2251 : (Jvm.Cond.instanceMethod ({ cls := "GoatCourtModel", name := "readFresh", desc := "()J" } : Jvm.MethodName)) ∈ lw_all := lw_g (lw_at lw_m9 165 rfl) rfl
theorem q2252 : (Jvm.Cond.code ({ cls := "GoatCourtModel", name := "readFresh", desc := "()J" } : Jvm.MethodName) prog_24_method_25_code (3 : Nat) (Option.some Jvm.ClassFile.FieldType.long)) ∈ lw_all := lw_g (lw_at lw_m9 166 rfl) rfl
theorem q2253 : (Jvm.Cond.methodLink "GoatCourtModel" (205 : Nat) ({ cls := "GoatCourtModel", name := "isName", desc := "()Z" } : Jvm.MethodName)) ∈ lw_all := lw_g (lw_at lw_m9 167 rfl) rfl
theorem q2254 : (Jvm.Cond.privateMethod ({ cls := "GoatCourtModel", name := "isName", desc := "()Z" } : Jvm.MethodName)) ∈ lw_tbl := lw_at lw_m9 168 rfl
theorem q2255 : (Jvm.Cond.instanceMethod ({ cls := "GoatCourtModel", name := "isName", desc := "()Z" } : Jvm.MethodName)) ∈ lw_all := lw_g (lw_at lw_m9 169 rfl) rfl
theorem q2256 : (Jvm.Cond.code ({ cls := "GoatCourtModel", name := "isName", desc := "()Z" } : Jvm.MethodName) prog_24_method_22_code (1 : Nat) (Option.some Jvm.ClassFile.FieldType.boolean)) ∈ lw_all := lw_g (lw_at lw_m9 170 rfl) rfl
theorem q2257 : (Jvm.Cond.stringRef "GoatCourtModel" (162 : Nat) "path") ∈ lw_tbl := lw_at lw_m9 171 rfl
theorem q2258 : (Jvm.Cond.stringRef "GoatCourtModel" (164 : Nat) "person") ∈ lw_tbl := lw_at lw_m9 172 rfl
theorem q2259 : (Jvm.Cond.stringRef "GoatCourtModel" (166 : Nat) "story") ∈ lw_tbl := lw_at lw_m9 173 rfl
theorem q2260 : (Jvm.Cond.stringRef "GoatCourtModel" (168 : Nat) "goat") ∈ lw_tbl := lw_at lw_m9 174 rfl
theorem q2261 : (Jvm.Cond.stringRef "GoatCourtModel" (170 : Nat) "fears") ∈ lw_tbl := lw_at lw_m9 175 rfl
theorem q2262 : (Jvm.Cond.stringRef "GoatCourtModel" (172 : Nat) "found") ∈ lw_tbl := lw_at lw_m9 176 rfl
theorem q2263 : (Jvm.Cond.stringRef "GoatCourtModel" (174 : Nat) "seen") ∈ lw_tbl := lw_at lw_m9 177 rfl
theorem q2264 : (Jvm.Cond.stringRef "GoatCourtModel" (176 : Nat) "shied") ∈ lw_tbl := lw_at lw_m9 178 rfl
theorem q2265 : (Jvm.Cond.stringRef "GoatCourtModel" (178 : Nat) "fact") ∈ lw_tbl := lw_at lw_m9 179 rfl
theorem q2266 : (Jvm.Cond.stringRef "GoatCourtModel" (180 : Nat) "holds") ∈ lw_tbl := lw_at lw_m9 180 rfl
theorem q2267 : (Jvm.Cond.stringRef "GoatCourtModel" (182 : Nat) "rule") ∈ lw_tbl := lw_at lw_m9 181 rfl
theorem q2268 : (Jvm.Cond.stringRef "GoatCourtModel" (184 : Nat) "proof") ∈ lw_tbl := lw_at lw_m9 182 rfl
theorem q2269 : (Jvm.Cond.stringRef "GoatCourtModel" (186 : Nat) "court") ∈ lw_tbl := lw_at lw_m9 183 rfl
theorem q2270 : (Jvm.Cond.stringRef "GoatCourtModel" (188 : Nat) "cheese") ∈ lw_tbl := lw_at lw_m9 184 rfl
theorem q2271 : (Jvm.Cond.stringRef "GoatCourtModel" (190 : Nat) "if") ∈ lw_tbl := lw_at lw_m9 185 rfl
theorem q2272 : (Jvm.Cond.methodLink "GoatCourtModel" (209 : Nat) ({ cls := "GoatCourtModel$Hill", name := "find", desc := "(J)I" } : Jvm.MethodName)) ∈ lw_all := lw_g (lw_at lw_m9 186 rfl) rfl
theorem q2276 : (Jvm.Cond.methodLink "GoatCourtModel" (299 : Nat) ({ cls := "GoatCourtModel", name := "readPlants", desc := "([III)V" } : Jvm.MethodName)) ∈ lw_all := lw_g (lw_at lw_m9 190 rfl) rfl
theorem q2277 : (Jvm.Cond.privateMethod ({ cls := "GoatCourtModel", name := "readPlants", desc := "([III)V" } : Jvm.MethodName)) ∈ lw_tbl := lw_at lw_m9 191 rfl
theorem q2278 : (Jvm.Cond.instanceMethod ({ cls := "GoatCourtModel", name := "readPlants", desc := "([III)V" } : Jvm.MethodName)) ∈ lw_all := lw_g (lw_at lw_m9 192 rfl) rfl
theorem q2279 : (Jvm.Cond.code ({ cls := "GoatCourtModel", name := "readPlants", desc := "([III)V" } : Jvm.MethodName) prog_24_method_29_code (5 : Nat) (Option.none : Option Jvm.ClassFile.FieldType)) ∈ lw_all := lw_g (lw_at lw_m9 193 rfl) rfl
theorem q2280 : (Jvm.Cond.methodLink "GoatCourtModel" (232 : Nat) ({ cls := "GoatCourtModel", name := "needsSign", desc := "(I)V" } : Jvm.MethodName)) ∈ lw_all := lw_g (lw_at lw_m9 194 rfl) rfl
theorem q2281 : (Jvm.Cond.privateMethod ({ cls := "GoatCourtModel", name := "needsSign", desc := "(I)V" } : Jvm.MethodName)) ∈ lw_tbl := lw_at lw_m9 195 rfl
theorem q2282 : (Jvm.Cond.instanceMethod ({ cls := "GoatCourtModel", name := "needsSign", desc := "(I)V" } : Jvm.MethodName)) ∈ lw_all := lw_g (lw_at lw_m9 196 rfl) rfl
theorem q2283 : (Jvm.Cond.code ({ cls := "GoatCourtModel", name := "needsSign", desc := "(I)V" } : Jvm.MethodName) prog_24_method_19_code (2 : Nat) (Option.none : Option Jvm.ClassFile.FieldType)) ∈ lw_all := lw_g (lw_at lw_m9 197 rfl) rfl
theorem q2284 : (Jvm.Cond.methodLink "GoatCourtModel" (303 : Nat) ({ cls := "GoatCourtModel", name := "names", desc := "(JII)V" } : Jvm.MethodName)) ∈ lw_all := lw_g (lw_at lw_m9 198 rfl) rfl
theorem q2285 : (Jvm.Cond.privateMethod ({ cls := "GoatCourtModel", name := "names", desc := "(JII)V" } : Jvm.MethodName)) ∈ lw_tbl := lw_at lw_m9 199 rfl
theorem q2286 : (Jvm.Cond.instanceMethod ({ cls := "GoatCourtModel", name := "names", desc := "(JII)V" } : Jvm.MethodName)) ∈ lw_all := lw_g (lw_at lw_m9 200 rfl) rfl
theorem q2287 : (Jvm.Cond.code ({ cls := "GoatCourtModel", name := "names", desc := "(JII)V" } : Jvm.MethodName) prog_24_method_26_code (5 : Nat) (Option.none : Option Jvm.ClassFile.FieldType)) ∈ lw_all := lw_g (lw_at lw_m9 201 rfl) rfl
theorem q2288 : (Jvm.Cond.methodLink "GoatCourtModel" (250 : Nat) ({ cls := "GoatCourtModel", name := "readPath", desc := "()V" } : Jvm.MethodName)) ∈ lw_all := lw_g (lw_at lw_m9 202 rfl) rfl
theorem q2289 : (Jvm.Cond.privateMethod ({ cls := "GoatCourtModel", name := "readPath", desc := "()V" } : Jvm.MethodName)) ∈ lw_tbl := lw_at lw_m9 203 rfl
theorem q2290 : (Jvm.Cond.instanceMethod ({ cls := "GoatCourtModel", name := "readPath", desc := "()V" } : Jvm.MethodName)) ∈ lw_all := lw_g (lw_at lw_m9 204 rfl) rfl
theorem q2291 : (Jvm.Cond.code ({ cls := "GoatCourtModel", name := "readPath", desc := "()V" } : Jvm.MethodName) prog_24_method_34_code (3 : Nat) (Option.none : Option Jvm.ClassFile.FieldType)) ∈ lw_all := lw_g (lw_at lw_m9 205 rfl) rfl
theorem q2292 : (Jvm.Cond.methodLink "GoatCourtModel" (309 : Nat) ({ cls := "GoatCourtModel", name := "readKnown", desc := "(I)I" } : Jvm.MethodName)) ∈ lw_all := lw_g (lw_at lw_m9 206 rfl) rfl
theorem q2293 : (Jvm.Cond.privateMethod ({ cls := "GoatCourtModel", name := "readKnown", desc := "(I)I" } : Jvm.MethodName)) ∈ lw_tbl := lw_at lw_m9 207 rfl
theorem q2294 : (Jvm.Cond.instanceMethod ({ cls := "GoatCourtModel", name := "readKnown", desc := "(I)I" } : Jvm.MethodName)) ∈ lw_all := lw_g (lw_at lw_m9 208 rfl) rfl
theorem q2295 : (Jvm.Cond.code ({ cls := "GoatCourtModel", name := "readKnown", desc := "(I)I" } : Jvm.MethodName) prog_24_method_28_code (3 : Nat) (Option.some Jvm.ClassFile.FieldType.int)) ∈ lw_all := lw_g (lw_at lw_m9 209 rfl) rfl
theorem q2296 : (Jvm.Cond.methodLink "GoatCourtModel" (226 : Nat) ({ cls := "GoatCourtModel", name := "known", desc := "(I)I" } : Jvm.MethodName)) ∈ lw_all := lw_g (lw_at lw_m9 210 rfl) rfl
theorem q2297 : (Jvm.Cond.privateMethod ({ cls := "GoatCourtModel", name := "known", desc := "(I)I" } : Jvm.MethodName)) ∈ lw_tbl := lw_at lw_m9 211 rfl
theorem q2298 : (Jvm.Cond.instanceMethod ({ cls := "GoatCourtModel", name := "known", desc := "(I)I" } : Jvm.MethodName)) ∈ lw_all := lw_g (lw_at lw_m9 212 rfl) rfl
theorem q2299 : (Jvm.Cond.code ({ cls := "GoatCourtModel", name := "known", desc := "(I)I" } : Jvm.MethodName) prog_24_method_27_code (3 : Nat) (Option.some Jvm.ClassFile.FieldType.int)) ∈ lw_all := lw_g (lw_at lw_m9 213 rfl) rfl
theorem q2300 : (Jvm.Cond.methodLink "GoatCourtModel" (312 : Nat) ({ cls := "GoatCourtModel$Hill", name := "path", desc := "(II)I" } : Jvm.MethodName)) ∈ lw_all := lw_g (lw_at lw_m9 214 rfl) rfl
theorem q2304 : (Jvm.Cond.methodLink "GoatCourtModel" (253 : Nat) ({ cls := "GoatCourtModel", name := "readPerson", desc := "()V" } : Jvm.MethodName)) ∈ lw_all := lw_g (lw_at lw_m9 218 rfl) rfl
theorem q2305 : (Jvm.Cond.privateMethod ({ cls := "GoatCourtModel", name := "readPerson", desc := "()V" } : Jvm.MethodName)) ∈ lw_tbl := lw_at lw_m9 219 rfl
theorem q2306 : (Jvm.Cond.instanceMethod ({ cls := "GoatCourtModel", name := "readPerson", desc := "()V" } : Jvm.MethodName)) ∈ lw_all := lw_g (lw_at lw_m9 220 rfl) rfl
theorem q2307 : (Jvm.Cond.code ({ cls := "GoatCourtModel", name := "readPerson", desc := "()V" } : Jvm.MethodName) prog_24_method_35_code (3 : Nat) (Option.none : Option Jvm.ClassFile.FieldType)) ∈ lw_all := lw_g (lw_at lw_m9 221 rfl) rfl
theorem q2308 : (Jvm.Cond.methodLink "GoatCourtModel" (256 : Nat) ({ cls := "GoatCourtModel", name := "readStory", desc := "()V" } : Jvm.MethodName)) ∈ lw_all := lw_g (lw_at lw_m9 222 rfl) rfl
theorem q2309 : (Jvm.Cond.privateMethod ({ cls := "GoatCourtModel", name := "readStory", desc := "()V" } : Jvm.MethodName)) ∈ lw_tbl := lw_at lw_m9 223 rfl
theorem q2310 : (Jvm.Cond.instanceMethod ({ cls := "GoatCourtModel", name := "readStory", desc := "()V" } : Jvm.MethodName)) ∈ lw_all := lw_g (lw_at lw_m9 224 rfl) rfl
theorem q2311 : (Jvm.Cond.code ({ cls := "GoatCourtModel", name := "readStory", desc := "()V" } : Jvm.MethodName) prog_24_method_36_code (7 : Nat) (Option.none : Option Jvm.ClassFile.FieldType)) ∈ lw_all := lw_g (lw_at lw_m9 225 rfl) rfl
theorem q2312 : (Jvm.Cond.methodLink "GoatCourtModel" (238 : Nat) ({ cls := "GoatCourtModel", name := "eatsSign", desc := "(I)Z" } : Jvm.MethodName)) ∈ lw_all := lw_g (lw_at lw_m9 226 rfl) rfl
theorem q2313 : (Jvm.Cond.privateMethod ({ cls := "GoatCourtModel", name := "eatsSign", desc := "(I)Z" } : Jvm.MethodName)) ∈ lw_tbl := lw_at lw_m9 227 rfl
theorem q2314 : (Jvm.Cond.instanceMethod ({ cls := "GoatCourtModel", name := "eatsSign", desc := "(I)Z" } : Jvm.MethodName)) ∈ lw_all := lw_g (lw_at lw_m9 228 rfl) rfl
theorem q2315 : (Jvm.Cond.code ({ cls := "GoatCourtModel", name := "eatsSign", desc := "(I)Z" } : Jvm.MethodName) prog_24_method_17_code (3 : Nat) (Option.some Jvm.ClassFile.FieldType.boolean)) ∈ lw_all := lw_g (lw_at lw_m9 229 rfl) rfl
theorem q2316 : (Jvm.Cond.methodLink "GoatCourtModel" (259 : Nat) ({ cls := "GoatCourtModel", name := "readGoat", desc := "()V" } : Jvm.MethodName)) ∈ lw_all := lw_g (lw_at lw_m9 230 rfl) rfl
theorem q2317 : (Jvm.Cond.privateMethod ({ cls := "GoatCourtModel", name := "readGoat", desc := "()V" } : Jvm.MethodName)) ∈ lw_tbl := lw_at lw_m9 231 rfl
theorem q2318 : (Jvm.Cond.instanceMethod ({ cls := "GoatCourtModel", name := "readGoat", desc := "()V" } : Jvm.MethodName)) ∈ lw_all := lw_g (lw_at lw_m9 232 rfl) rfl
theorem q2319 : (Jvm.Cond.code ({ cls := "GoatCourtModel", name := "readGoat", desc := "()V" } : Jvm.MethodName) prog_24_method_37_code (10 : Nat) (Option.none : Option Jvm.ClassFile.FieldType)) ∈ lw_all := lw_g (lw_at lw_m9 233 rfl) rfl
theorem q2320 : (Jvm.Cond.stringRef "GoatCourtModel" (331 : Nat) "plain") ∈ lw_tbl := lw_at lw_m9 234 rfl
theorem q2321 : (Jvm.Cond.stringRef "GoatCourtModel" (333 : Nat) "shy") ∈ lw_tbl := lw_at lw_m9 235 rfl
theorem q2322 : (Jvm.Cond.stringRef "GoatCourtModel" (335 : Nat) "billy") ∈ lw_tbl := lw_at lw_m9 236 rfl
theorem q2323 : (Jvm.Cond.stringRef "GoatCourtModel" (337 : Nat) "kid") ∈ lw_tbl := lw_at lw_m9 237 rfl
theorem q2324 : (Jvm.Cond.stringRef "GoatCourtModel" (339 : Nat) "likes") ∈ lw_tbl := lw_at lw_m9 238 rfl
theorem q2325 : (Jvm.Cond.stringRef "GoatCourtModel" (343 : Nat) "at") ∈ lw_tbl := lw_at lw_m9 239 rfl
theorem q2326 : (Jvm.Cond.stringRef "GoatCourtModel" (345 : Nat) "trust") ∈ lw_tbl := lw_at lw_m10 0 rfl
theorem q2327 : (Jvm.Cond.methodLink "GoatCourtModel" (262 : Nat) ({ cls := "GoatCourtModel", name := "readFears", desc := "()V" } : Jvm.MethodName)) ∈ lw_all := lw_g (lw_at lw_m10 1 rfl) rfl
theorem q2328 : (Jvm.Cond.privateMethod ({ cls := "GoatCourtModel", name := "readFears", desc := "()V" } : Jvm.MethodName)) ∈ lw_tbl := lw_at lw_m10 2 rfl
theorem q2329 : (Jvm.Cond.instanceMethod ({ cls := "GoatCourtModel", name := "readFears", desc := "()V" } : Jvm.MethodName)) ∈ lw_all := lw_g (lw_at lw_m10 3 rfl) rfl
theorem q2330 : (Jvm.Cond.code ({ cls := "GoatCourtModel", name := "readFears", desc := "()V" } : Jvm.MethodName) prog_24_method_38_code (3 : Nat) (Option.none : Option Jvm.ClassFile.FieldType)) ∈ lw_all := lw_g (lw_at lw_m10 4 rfl) rfl
theorem q2331 : (Jvm.Cond.methodLink "GoatCourtModel" (366 : Nat) ({ cls := "GoatCourtModel", name := "bit", desc := "(II)Z" } : Jvm.MethodName)) ∈ lw_all := lw_g (lw_at lw_m10 5 rfl) rfl
theorem q2332 : (Jvm.Cond.static ({ cls := "GoatCourtModel", name := "bit", desc := "(II)Z" } : Jvm.MethodName)) ∈ lw_all := lw_g (lw_at lw_m10 6 rfl) rfl
theorem q2333 : (Jvm.Cond.code ({ cls := "GoatCourtModel", name := "bit", desc := "(II)Z" } : Jvm.MethodName) prog_24_method_8_code (2 : Nat) (Option.some Jvm.ClassFile.FieldType.boolean)) ∈ lw_all := lw_g (lw_at lw_m10 7 rfl) rfl
theorem q2334 : (Jvm.Cond.methodLink "GoatCourtModel" (265 : Nat) ({ cls := "GoatCourtModel", name := "readClue", desc := "(I)V" } : Jvm.MethodName)) ∈ lw_all := lw_g (lw_at lw_m10 8 rfl) rfl
theorem q2335 : (Jvm.Cond.privateMethod ({ cls := "GoatCourtModel", name := "readClue", desc := "(I)V" } : Jvm.MethodName)) ∈ lw_tbl := lw_at lw_m10 9 rfl
theorem q2336 : (Jvm.Cond.instanceMethod ({ cls := "GoatCourtModel", name := "readClue", desc := "(I)V" } : Jvm.MethodName)) ∈ lw_all := lw_g (lw_at lw_m10 10 rfl) rfl
theorem q2337 : (Jvm.Cond.code ({ cls := "GoatCourtModel", name := "readClue", desc := "(I)V" } : Jvm.MethodName) prog_24_method_40_code (6 : Nat) (Option.none : Option Jvm.ClassFile.FieldType)) ∈ lw_all := lw_g (lw_at lw_m10 11 rfl) rfl
theorem q2338 : (Jvm.Cond.methodLink "GoatCourtModel" (373 : Nat) ({ cls := "GoatCourtModel", name := "readPlant", desc := "()I" } : Jvm.MethodName)) ∈ lw_all := lw_g (lw_at lw_m10 12 rfl) rfl
theorem q2339 : (Jvm.Cond.privateMethod ({ cls := "GoatCourtModel", name := "readPlant", desc := "()I" } : Jvm.MethodName)) ∈ lw_tbl := lw_at lw_m10 13 rfl
theorem q2340 : (Jvm.Cond.instanceMethod ({ cls := "GoatCourtModel", name := "readPlant", desc := "()I" } : Jvm.MethodName)) ∈ lw_all := lw_g (lw_at lw_m10 14 rfl) rfl
theorem q2341 : (Jvm.Cond.code ({ cls := "GoatCourtModel", name := "readPlant", desc := "()I" } : Jvm.MethodName) prog_24_method_39_code (2 : Nat) (Option.some Jvm.ClassFile.FieldType.int)) ∈ lw_all := lw_g (lw_at lw_m10 15 rfl) rfl
theorem q2342 : (Jvm.Cond.methodLink "GoatCourtModel" (268 : Nat) ({ cls := "GoatCourtModel", name := "readFact", desc := "()V" } : Jvm.MethodName)) ∈ lw_all := lw_g (lw_at lw_m10 16 rfl) rfl
theorem q2343 : (Jvm.Cond.privateMethod ({ cls := "GoatCourtModel", name := "readFact", desc := "()V" } : Jvm.MethodName)) ∈ lw_tbl := lw_at lw_m10 17 rfl
theorem q2344 : (Jvm.Cond.instanceMethod ({ cls := "GoatCourtModel", name := "readFact", desc := "()V" } : Jvm.MethodName)) ∈ lw_all := lw_g (lw_at lw_m10 18 rfl) rfl
theorem q2345 : (Jvm.Cond.code ({ cls := "GoatCourtModel", name := "readFact", desc := "()V" } : Jvm.MethodName) prog_24_method_41_code (3 : Nat) (Option.none : Option Jvm.ClassFile.FieldType)) ∈ lw_all := lw_g (lw_at lw_m10 19 rfl) rfl
theorem q2346 : (Jvm.Cond.methodLink "GoatCourtModel" (271 : Nat) ({ cls := "GoatCourtModel", name := "readHolds", desc := "()V" } : Jvm.MethodName)) ∈ lw_all := lw_g (lw_at lw_m10 20 rfl) rfl
theorem q2347 : (Jvm.Cond.privateMethod ({ cls := "GoatCourtModel", name := "readHolds", desc := "()V" } : Jvm.MethodName)) ∈ lw_tbl := lw_at lw_m10 21 rfl
theorem q2348 : (Jvm.Cond.instanceMethod ({ cls := "GoatCourtModel", name := "readHolds", desc := "()V" } : Jvm.MethodName)) ∈ lw_all := lw_g (lw_at lw_m10 22 rfl) rfl
theorem q2349 : (Jvm.Cond.code ({ cls := "GoatCourtModel", name := "readHolds", desc := "()V" } : Jvm.MethodName) prog_24_method_42_code (2 : Nat) (Option.none : Option Jvm.ClassFile.FieldType)) ∈ lw_all := lw_g (lw_at lw_m10 23 rfl) rfl
theorem q2350 : (Jvm.Cond.methodLink "GoatCourtModel" (274 : Nat) ({ cls := "GoatCourtModel", name := "readRule", desc := "()V" } : Jvm.MethodName)) ∈ lw_all := lw_g (lw_at lw_m10 24 rfl) rfl
theorem q2351 : (Jvm.Cond.privateMethod ({ cls := "GoatCourtModel", name := "readRule", desc := "()V" } : Jvm.MethodName)) ∈ lw_tbl := lw_at lw_m10 25 rfl
theorem q2352 : (Jvm.Cond.instanceMethod ({ cls := "GoatCourtModel", name := "readRule", desc := "()V" } : Jvm.MethodName)) ∈ lw_all := lw_g (lw_at lw_m10 26 rfl) rfl
theorem q2353 : (Jvm.Cond.code ({ cls := "GoatCourtModel", name := "readRule", desc := "()V" } : Jvm.MethodName) prog_24_method_43_code (5 : Nat) (Option.none : Option Jvm.ClassFile.FieldType)) ∈ lw_all := lw_g (lw_at lw_m10 27 rfl) rfl
theorem q2354 : (Jvm.Cond.methodLink "GoatCourtModel" (396 : Nat) ({ cls := "GoatCourtModel", name := "bits", desc := "(I)I" } : Jvm.MethodName)) ∈ lw_all := lw_g (lw_at lw_m10 28 rfl) rfl
theorem q2355 : (Jvm.Cond.static ({ cls := "GoatCourtModel", name := "bits", desc := "(I)I" } : Jvm.MethodName)) ∈ lw_all := lw_g (lw_at lw_m10 29 rfl) rfl
theorem q2356 : (Jvm.Cond.code ({ cls := "GoatCourtModel", name := "bits", desc := "(I)I" } : Jvm.MethodName) prog_24_method_9_code (3 : Nat) (Option.some Jvm.ClassFile.FieldType.int)) ∈ lw_all := lw_g (lw_at lw_m10 30 rfl) rfl
theorem q2357 : (Jvm.Cond.methodLink "GoatCourtModel" (277 : Nat) ({ cls := "GoatCourtModel", name := "readProof", desc := "()V" } : Jvm.MethodName)) ∈ lw_all := lw_g (lw_at lw_m10 31 rfl) rfl
theorem q2358 : (Jvm.Cond.privateMethod ({ cls := "GoatCourtModel", name := "readProof", desc := "()V" } : Jvm.MethodName)) ∈ lw_tbl := lw_at lw_m10 32 rfl
theorem q2359 : (Jvm.Cond.instanceMethod ({ cls := "GoatCourtModel", name := "readProof", desc := "()V" } : Jvm.MethodName)) ∈ lw_all := lw_g (lw_at lw_m10 33 rfl) rfl
theorem q2360 : (Jvm.Cond.code ({ cls := "GoatCourtModel", name := "readProof", desc := "()V" } : Jvm.MethodName) prog_24_method_44_code (3 : Nat) (Option.none : Option Jvm.ClassFile.FieldType)) ∈ lw_all := lw_g (lw_at lw_m10 34 rfl) rfl
theorem q2361 : (Jvm.Cond.methodLink "GoatCourtModel" (409 : Nat) ({ cls := "GoatCourtModel", name := "beginsOnce", desc := "(Z)V" } : Jvm.MethodName)) ∈ lw_all := lw_g (lw_at lw_m10 35 rfl) rfl
theorem q2362 : (Jvm.Cond.privateMethod ({ cls := "GoatCourtModel", name := "beginsOnce", desc := "(Z)V" } : Jvm.MethodName)) ∈ lw_tbl := lw_at lw_m10 36 rfl
theorem q2363 : (Jvm.Cond.instanceMethod ({ cls := "GoatCourtModel", name := "beginsOnce", desc := "(Z)V" } : Jvm.MethodName)) ∈ lw_all := lw_g (lw_at lw_m10 37 rfl) rfl
theorem q2364 : (Jvm.Cond.code ({ cls := "GoatCourtModel", name := "beginsOnce", desc := "(Z)V" } : Jvm.MethodName) prog_24_method_24_code (2 : Nat) (Option.none : Option Jvm.ClassFile.FieldType)) ∈ lw_all := lw_g (lw_at lw_m10 38 rfl) rfl
theorem q2365 : (Jvm.Cond.methodLink "GoatCourtModel" (280 : Nat) ({ cls := "GoatCourtModel", name := "readCourt", desc := "()V" } : Jvm.MethodName)) ∈ lw_all := lw_g (lw_at lw_m10 39 rfl) rfl
theorem q2366 : (Jvm.Cond.privateMethod ({ cls := "GoatCourtModel", name := "readCourt", desc := "()V" } : Jvm.MethodName)) ∈ lw_tbl := lw_at lw_m10 40 rfl
theorem q2367 : (Jvm.Cond.instanceMethod ({ cls := "GoatCourtModel", name := "readCourt", desc := "()V" } : Jvm.MethodName)) ∈ lw_all := lw_g (lw_at lw_m10 41 rfl) rfl
theorem q2368 : (Jvm.Cond.code ({ cls := "GoatCourtModel", name := "readCourt", desc := "()V" } : Jvm.MethodName) prog_24_method_45_code (5 : Nat) (Option.none : Option Jvm.ClassFile.FieldType)) ∈ lw_all := lw_g (lw_at lw_m10 42 rfl) rfl
theorem q2369 : (Jvm.Cond.stringRef "GoatCourtModel" (422 : Nat) "costs") ∈ lw_tbl := lw_at lw_m10 43 rfl
theorem q2370 : (Jvm.Cond.stringRef "GoatCourtModel" (424 : Nat) "wins") ∈ lw_tbl := lw_at lw_m10 44 rfl
theorem q2371 : (Jvm.Cond.methodLink "GoatCourtModel" (283 : Nat) ({ cls := "GoatCourtModel", name := "readCheese", desc := "()V" } : Jvm.MethodName)) ∈ lw_all := lw_g (lw_at lw_m10 45 rfl) rfl
theorem q2372 : (Jvm.Cond.privateMethod ({ cls := "GoatCourtModel", name := "readCheese", desc := "()V" } : Jvm.MethodName)) ∈ lw_tbl := lw_at lw_m10 46 rfl
theorem q2373 : (Jvm.Cond.instanceMethod ({ cls := "GoatCourtModel", name := "readCheese", desc := "()V" } : Jvm.MethodName)) ∈ lw_all := lw_g (lw_at lw_m10 47 rfl) rfl
theorem q2374 : (Jvm.Cond.code ({ cls := "GoatCourtModel", name := "readCheese", desc := "()V" } : Jvm.MethodName) prog_24_method_46_code (1 : Nat) (Option.none : Option Jvm.ClassFile.FieldType)) ∈ lw_all := lw_g (lw_at lw_m10 48 rfl) rfl
theorem q2375 : (Jvm.Cond.methodLink "GoatCourtModel" (450 : Nat) ({ cls := "GoatCourtModel$Hill", name := "cases", desc := "()I" } : Jvm.MethodName)) ∈ lw_all := lw_g (lw_at lw_m10 49 rfl) rfl
theorem q2379 : (Jvm.Cond.methodLink "GoatCourtModel" (76 : Nat) ({ cls := "GoatCourtModel", name := "good", desc := "(I)I" } : Jvm.MethodName)) ∈ lw_all := lw_g (lw_at lw_m10 53 rfl) rfl
theorem q2380 : (Jvm.Cond.privateMethod ({ cls := "GoatCourtModel", name := "good", desc := "(I)I" } : Jvm.MethodName)) ∈ lw_tbl := lw_at lw_m10 54 rfl
theorem q2381 : (Jvm.Cond.instanceMethod ({ cls := "GoatCourtModel", name := "good", desc := "(I)I" } : Jvm.MethodName)) ∈ lw_all := lw_g (lw_at lw_m10 55 rfl) rfl
theorem q2382 : (Jvm.Cond.code ({ cls := "GoatCourtModel", name := "good", desc := "(I)I" } : Jvm.MethodName) prog_24_method_5_code (2 : Nat) (Option.some Jvm.ClassFile.FieldType.int)) ∈ lw_all := lw_g (lw_at lw_m10 56 rfl) rfl
theorem q2384 : (Jvm.Cond.instanceMethod ({ cls := "GoatCourtModel", name := "fault", desc := "()I" } : Jvm.MethodName)) ∈ lw_all := lw_g (lw_at lw_m10 58 rfl) rfl
theorem q2385 : (Jvm.Cond.selects "GoatCourtModel" ({ cls := "GoatCourtModel", name := "fault", desc := "()I" } : Jvm.MethodName) ({ cls := "GoatCourtModel", name := "fault", desc := "()I" } : Jvm.MethodName)) ∈ lw_all := lw_g (lw_at lw_m10 59 rfl) rfl
theorem q2386 : (Jvm.Cond.code ({ cls := "GoatCourtModel", name := "fault", desc := "()I" } : Jvm.MethodName) prog_24_method_49_code (1 : Nat) (Option.some Jvm.ClassFile.FieldType.int)) ∈ lw_all := lw_g (lw_at lw_m10 60 rfl) rfl
theorem q2388 : (Jvm.Cond.instanceMethod ({ cls := "GoatCourtModel", name := "where", desc := "()I" } : Jvm.MethodName)) ∈ lw_all := lw_g (lw_at lw_m10 62 rfl) rfl
theorem q2389 : (Jvm.Cond.selects "GoatCourtModel" ({ cls := "GoatCourtModel", name := "where", desc := "()I" } : Jvm.MethodName) ({ cls := "GoatCourtModel", name := "where", desc := "()I" } : Jvm.MethodName)) ∈ lw_all := lw_g (lw_at lw_m10 63 rfl) rfl
theorem q2390 : (Jvm.Cond.code ({ cls := "GoatCourtModel", name := "where", desc := "()I" } : Jvm.MethodName) prog_24_method_50_code (1 : Nat) (Option.some Jvm.ClassFile.FieldType.int)) ∈ lw_all := lw_g (lw_at lw_m10 64 rfl) rfl
theorem q2392 : (Jvm.Cond.instanceMethod ({ cls := "GoatCourtModel", name := "plants", desc := "(II)I" } : Jvm.MethodName)) ∈ lw_all := lw_g (lw_at lw_m10 66 rfl) rfl
theorem q2393 : (Jvm.Cond.selects "GoatCourtModel" ({ cls := "GoatCourtModel", name := "plants", desc := "(II)I" } : Jvm.MethodName) ({ cls := "GoatCourtModel", name := "plants", desc := "(II)I" } : Jvm.MethodName)) ∈ lw_all := lw_g (lw_at lw_m10 67 rfl) rfl
theorem q2394 : (Jvm.Cond.code ({ cls := "GoatCourtModel", name := "plants", desc := "(II)I" } : Jvm.MethodName) prog_24_method_75_code (3 : Nat) (Option.some Jvm.ClassFile.FieldType.int)) ∈ lw_all := lw_g (lw_at lw_m10 68 rfl) rfl
theorem q2395 : (Jvm.Cond.methodLink "GoatCourtModel" (491 : Nat) ({ cls := "GoatCourtModel", name := "isPlace", desc := "(I)Z" } : Jvm.MethodName)) ∈ lw_all := lw_g (lw_at lw_m10 69 rfl) rfl
theorem q2396 : (Jvm.Cond.privateMethod ({ cls := "GoatCourtModel", name := "isPlace", desc := "(I)Z" } : Jvm.MethodName)) ∈ lw_tbl := lw_at lw_m10 70 rfl
theorem q2397 : (Jvm.Cond.instanceMethod ({ cls := "GoatCourtModel", name := "isPlace", desc := "(I)Z" } : Jvm.MethodName)) ∈ lw_all := lw_g (lw_at lw_m10 71 rfl) rfl
theorem q2398 : (Jvm.Cond.code ({ cls := "GoatCourtModel", name := "isPlace", desc := "(I)Z" } : Jvm.MethodName) prog_24_method_67_code (2 : Nat) (Option.some Jvm.ClassFile.FieldType.boolean)) ∈ lw_all := lw_g (lw_at lw_m10 72 rfl) rfl
theorem q2399 : (Jvm.Cond.methodLink "GoatCourtModel" (494 : Nat) ({ cls := "GoatCourtModel", name := "isPlant", desc := "(I)Z" } : Jvm.MethodName)) ∈ lw_all := lw_g (lw_at lw_m10 73 rfl) rfl
theorem q2400 : (Jvm.Cond.privateMethod ({ cls := "GoatCourtModel", name := "isPlant", desc := "(I)Z" } : Jvm.MethodName)) ∈ lw_tbl := lw_at lw_m10 74 rfl
theorem q2401 : (Jvm.Cond.instanceMethod ({ cls := "GoatCourtModel", name := "isPlant", desc := "(I)Z" } : Jvm.MethodName)) ∈ lw_all := lw_g (lw_at lw_m10 75 rfl) rfl
theorem q2402 : (Jvm.Cond.code ({ cls := "GoatCourtModel", name := "isPlant", desc := "(I)Z" } : Jvm.MethodName) prog_24_method_68_code (2 : Nat) (Option.some Jvm.ClassFile.FieldType.boolean)) ∈ lw_all := lw_g (lw_at lw_m10 76 rfl) rfl
theorem q2404 : (Jvm.Cond.instanceMethod ({ cls := "GoatCourtModel", name := "near", desc := "(I)I" } : Jvm.MethodName)) ∈ lw_all := lw_g (lw_at lw_m10 78 rfl) rfl
theorem q2405 : (Jvm.Cond.selects "GoatCourtModel" ({ cls := "GoatCourtModel", name := "near", desc := "(I)I" } : Jvm.MethodName) ({ cls := "GoatCourtModel", name := "near", desc := "(I)I" } : Jvm.MethodName)) ∈ lw_all := lw_g (lw_at lw_m10 79 rfl) rfl
theorem q2406 : (Jvm.Cond.code ({ cls := "GoatCourtModel", name := "near", desc := "(I)I" } : Jvm.MethodName) prog_24_method_76_code (4 : Nat) (Option.some Jvm.ClassFile.FieldType.int)) ∈ lw_all := lw_g (lw_at lw_m10 80 rfl) rfl
theorem q2408 : (Jvm.Cond.instanceMethod ({ cls := "GoatCourtModel", name := "goat", desc := "(II)I" } : Jvm.MethodName)) ∈ lw_all := lw_g (lw_at lw_m10 82 rfl) rfl
theorem q2409 : (Jvm.Cond.selects "GoatCourtModel" ({ cls := "GoatCourtModel", name := "goat", desc := "(II)I" } : Jvm.MethodName) ({ cls := "GoatCourtModel", name := "goat", desc := "(II)I" } : Jvm.MethodName)) ∈ lw_all := lw_g (lw_at lw_m10 83 rfl) rfl
theorem q2410 : (Jvm.Cond.code ({ cls := "GoatCourtModel", name := "goat", desc := "(II)I" } : Jvm.MethodName) prog_24_method_77_code (5 : Nat) (Option.some Jvm.ClassFile.FieldType.int)) ∈ lw_all := lw_g (lw_at lw_m10 84 rfl) rfl
theorem q2411 : (Jvm.Cond.methodLink "GoatCourtModel" (497 : Nat) ({ cls := "GoatCourtModel", name := "isGoat", desc := "(I)Z" } : Jvm.MethodName)) ∈ lw_all := lw_g (lw_at lw_m10 85 rfl) rfl
theorem q2412 : (Jvm.Cond.privateMethod ({ cls := "GoatCourtModel", name := "isGoat", desc := "(I)Z" } : Jvm.MethodName)) ∈ lw_tbl := lw_at lw_m10 86 rfl
theorem q2413 : (Jvm.Cond.instanceMethod ({ cls := "GoatCourtModel", name := "isGoat", desc := "(I)Z" } : Jvm.MethodName)) ∈ lw_all := lw_g (lw_at lw_m10 87 rfl) rfl
theorem q2414 : (Jvm.Cond.code ({ cls := "GoatCourtModel", name := "isGoat", desc := "(I)Z" } : Jvm.MethodName) prog_24_method_70_code (2 : Nat) (Option.some Jvm.ClassFile.FieldType.boolean)) ∈ lw_all := lw_g (lw_at lw_m10 88 rfl) rfl
theorem q2415 : (Jvm.Cond.methodLink "GoatCourtModel" (500 : Nat) ({ cls := "GoatCourtModel", name := "isHeard", desc := "(I)Z" } : Jvm.MethodName)) ∈ lw_all := lw_g (lw_at lw_m10 89 rfl) rfl
theorem q2416 : (Jvm.Cond.privateMethod ({ cls := "GoatCourtModel", name := "isHeard", desc := "(I)Z" } : Jvm.MethodName)) ∈ lw_tbl := lw_at lw_m10 90 rfl
theorem q2417 : (Jvm.Cond.instanceMethod ({ cls := "GoatCourtModel", name := "isHeard", desc := "(I)Z" } : Jvm.MethodName)) ∈ lw_all := lw_g (lw_at lw_m10 91 rfl) rfl
theorem q2418 : (Jvm.Cond.code ({ cls := "GoatCourtModel", name := "isHeard", desc := "(I)Z" } : Jvm.MethodName) prog_24_method_51_code (2 : Nat) (Option.some Jvm.ClassFile.FieldType.boolean)) ∈ lw_all := lw_g (lw_at lw_m10 92 rfl) rfl
theorem q2420 : (Jvm.Cond.instanceMethod ({ cls := "GoatCourtModel", name := "likes", desc := "(II)I" } : Jvm.MethodName)) ∈ lw_all := lw_g (lw_at lw_m10 94 rfl) rfl
theorem q2421 : (Jvm.Cond.selects "GoatCourtModel" ({ cls := "GoatCourtModel", name := "likes", desc := "(II)I" } : Jvm.MethodName) ({ cls := "GoatCourtModel", name := "likes", desc := "(II)I" } : Jvm.MethodName)) ∈ lw_all := lw_g (lw_at lw_m10 95 rfl) rfl
theorem q2422 : (Jvm.Cond.code ({ cls := "GoatCourtModel", name := "likes", desc := "(II)I" } : Jvm.MethodName) prog_24_method_78_code (3 : Nat) (Option.some Jvm.ClassFile.FieldType.int)) ∈ lw_all := lw_g (lw_at lw_m10 96 rfl) rfl
theorem q2424 : (Jvm.Cond.instanceMethod ({ cls := "GoatCourtModel", name := "clue", desc := "(II)I" } : Jvm.MethodName)) ∈ lw_all := lw_g (lw_at lw_m10 98 rfl) rfl
theorem q2425 : (Jvm.Cond.selects "GoatCourtModel" ({ cls := "GoatCourtModel", name := "clue", desc := "(II)I" } : Jvm.MethodName) ({ cls := "GoatCourtModel", name := "clue", desc := "(II)I" } : Jvm.MethodName)) ∈ lw_all := lw_g (lw_at lw_m10 99 rfl) rfl
theorem q2426 : (Jvm.Cond.code ({ cls := "GoatCourtModel", name := "clue", desc := "(II)I" } : Jvm.MethodName) prog_24_method_79_code (3 : Nat) (Option.some Jvm.ClassFile.FieldType.int)) ∈ lw_all := lw_g (lw_at lw_m10 100 rfl) rfl
theorem q2427 : (Jvm.Cond.methodLink "GoatCourtModel" (503 : Nat) ({ cls := "GoatCourtModel", name := "isClue", desc := "(I)Z" } : Jvm.MethodName)) ∈ lw_all := lw_g (lw_at lw_m10 101 rfl) rfl
theorem q2428 : (Jvm.Cond.privateMethod ({ cls := "GoatCourtModel", name := "isClue", desc := "(I)Z" } : Jvm.MethodName)) ∈ lw_tbl := lw_at lw_m10 102 rfl
theorem q2429 : (Jvm.Cond.instanceMethod ({ cls := "GoatCourtModel", name := "isClue", desc := "(I)Z" } : Jvm.MethodName)) ∈ lw_all := lw_g (lw_at lw_m10 103 rfl) rfl
theorem q2430 : (Jvm.Cond.code ({ cls := "GoatCourtModel", name := "isClue", desc := "(I)Z" } : Jvm.MethodName) prog_24_method_71_code (2 : Nat) (Option.some Jvm.ClassFile.FieldType.boolean)) ∈ lw_all := lw_g (lw_at lw_m10 104 rfl) rfl
theorem q2432 : (Jvm.Cond.instanceMethod ({ cls := "GoatCourtModel", name := "story", desc := "(III)I" } : Jvm.MethodName)) ∈ lw_all := lw_g (lw_at lw_m10 106 rfl) rfl
theorem q2433 : (Jvm.Cond.selects "GoatCourtModel" ({ cls := "GoatCourtModel", name := "story", desc := "(III)I" } : Jvm.MethodName) ({ cls := "GoatCourtModel", name := "story", desc := "(III)I" } : Jvm.MethodName)) ∈ lw_all := lw_g (lw_at lw_m10 107 rfl) rfl
theorem q2434 : (Jvm.Cond.code ({ cls := "GoatCourtModel", name := "story", desc := "(III)I" } : Jvm.MethodName) prog_24_method_80_code (4 : Nat) (Option.some Jvm.ClassFile.FieldType.int)) ∈ lw_all := lw_g (lw_at lw_m10 108 rfl) rfl
theorem q2435 : (Jvm.Cond.methodLink "GoatCourtModel" (506 : Nat) ({ cls := "GoatCourtModel", name := "isPerson", desc := "(I)Z" } : Jvm.MethodName)) ∈ lw_all := lw_g (lw_at lw_m10 109 rfl) rfl
theorem q2436 : (Jvm.Cond.privateMethod ({ cls := "GoatCourtModel", name := "isPerson", desc := "(I)Z" } : Jvm.MethodName)) ∈ lw_tbl := lw_at lw_m10 110 rfl
theorem q2437 : (Jvm.Cond.instanceMethod ({ cls := "GoatCourtModel", name := "isPerson", desc := "(I)Z" } : Jvm.MethodName)) ∈ lw_all := lw_g (lw_at lw_m10 111 rfl) rfl
theorem q2438 : (Jvm.Cond.code ({ cls := "GoatCourtModel", name := "isPerson", desc := "(I)Z" } : Jvm.MethodName) prog_24_method_69_code (2 : Nat) (Option.some Jvm.ClassFile.FieldType.boolean)) ∈ lw_all := lw_g (lw_at lw_m10 112 rfl) rfl
theorem q2439 : (Jvm.Cond.methodLink "GoatCourtModel" (509 : Nat) ({ cls := "GoatCourtModel", name := "isHour", desc := "(I)Z" } : Jvm.MethodName)) ∈ lw_all := lw_g (lw_at lw_m10 113 rfl) rfl
theorem q2440 : (Jvm.Cond.privateMethod ({ cls := "GoatCourtModel", name := "isHour", desc := "(I)Z" } : Jvm.MethodName)) ∈ lw_tbl := lw_at lw_m10 114 rfl
theorem q2441 : (Jvm.Cond.instanceMethod ({ cls := "GoatCourtModel", name := "isHour", desc := "(I)Z" } : Jvm.MethodName)) ∈ lw_all := lw_g (lw_at lw_m10 115 rfl) rfl
theorem q2442 : (Jvm.Cond.code ({ cls := "GoatCourtModel", name := "isHour", desc := "(I)Z" } : Jvm.MethodName) prog_24_method_74_code (2 : Nat) (Option.some Jvm.ClassFile.FieldType.boolean)) ∈ lw_all := lw_g (lw_at lw_m10 116 rfl) rfl
theorem q2443 : (Jvm.Cond.methodLink "GoatCourtModel" (512 : Nat) ({ cls := "GoatCourtModel$Hill", name := "place", desc := "(III)I" } : Jvm.MethodName)) ∈ lw_all := lw_g (lw_at lw_m10 117 rfl) rfl
theorem q2448 : (Jvm.Cond.instanceMethod ({ cls := "GoatCourtModel", name := "stories", desc := "(I)I" } : Jvm.MethodName)) ∈ lw_all := lw_g (lw_at lw_m10 122 rfl) rfl
theorem q2449 : (Jvm.Cond.selects "GoatCourtModel" ({ cls := "GoatCourtModel", name := "stories", desc := "(I)I" } : Jvm.MethodName) ({ cls := "GoatCourtModel", name := "stories", desc := "(I)I" } : Jvm.MethodName)) ∈ lw_all := lw_g (lw_at lw_m10 123 rfl) rfl
theorem q2450 : (Jvm.Cond.code ({ cls := "GoatCourtModel", name := "stories", desc := "(I)I" } : Jvm.MethodName) prog_24_method_81_code (2 : Nat) (Option.some Jvm.ClassFile.FieldType.int)) ∈ lw_all := lw_g (lw_at lw_m10 124 rfl) rfl
theorem q2452 : (Jvm.Cond.instanceMethod ({ cls := "GoatCourtModel", name := "caseOf", desc := "(II)I" } : Jvm.MethodName)) ∈ lw_all := lw_g (lw_at lw_m10 126 rfl) rfl
theorem q2453 : (Jvm.Cond.selects "GoatCourtModel" ({ cls := "GoatCourtModel", name := "caseOf", desc := "(II)I" } : Jvm.MethodName) ({ cls := "GoatCourtModel", name := "caseOf", desc := "(II)I" } : Jvm.MethodName)) ∈ lw_all := lw_g (lw_at lw_m10 127 rfl) rfl
theorem q2454 : (Jvm.Cond.code ({ cls := "GoatCourtModel", name := "caseOf", desc := "(II)I" } : Jvm.MethodName) prog_24_method_82_code (3 : Nat) (Option.some Jvm.ClassFile.FieldType.int)) ∈ lw_all := lw_g (lw_at lw_m10 128 rfl) rfl
theorem q2455 : (Jvm.Cond.methodLink "GoatCourtModel" (514 : Nat) ({ cls := "GoatCourtModel", name := "isCase", desc := "(I)Z" } : Jvm.MethodName)) ∈ lw_all := lw_g (lw_at lw_m10 129 rfl) rfl
theorem q2456 : (Jvm.Cond.privateMethod ({ cls := "GoatCourtModel", name := "isCase", desc := "(I)Z" } : Jvm.MethodName)) ∈ lw_tbl := lw_at lw_m10 130 rfl
theorem q2457 : (Jvm.Cond.instanceMethod ({ cls := "GoatCourtModel", name := "isCase", desc := "(I)Z" } : Jvm.MethodName)) ∈ lw_all := lw_g (lw_at lw_m10 131 rfl) rfl
theorem q2458 : (Jvm.Cond.code ({ cls := "GoatCourtModel", name := "isCase", desc := "(I)Z" } : Jvm.MethodName) prog_24_method_72_code (2 : Nat) (Option.some Jvm.ClassFile.FieldType.boolean)) ∈ lw_all := lw_g (lw_at lw_m10 132 rfl) rfl
theorem q2459 : (Jvm.Cond.methodLink "GoatCourtModel" (517 : Nat) ({ cls := "GoatCourtModel$Hill", name := "storyOf", desc := "(II)I" } : Jvm.MethodName)) ∈ lw_all := lw_g (lw_at lw_m10 133 rfl) rfl
theorem q2464 : (Jvm.Cond.instanceMethod ({ cls := "GoatCourtModel", name := "at", desc := "(III)I" } : Jvm.MethodName)) ∈ lw_all := lw_g (lw_at lw_m10 138 rfl) rfl
theorem q2465 : (Jvm.Cond.selects "GoatCourtModel" ({ cls := "GoatCourtModel", name := "at", desc := "(III)I" } : Jvm.MethodName) ({ cls := "GoatCourtModel", name := "at", desc := "(III)I" } : Jvm.MethodName)) ∈ lw_all := lw_g (lw_at lw_m10 139 rfl) rfl
theorem q2466 : (Jvm.Cond.code ({ cls := "GoatCourtModel", name := "at", desc := "(III)I" } : Jvm.MethodName) prog_24_method_83_code (4 : Nat) (Option.some Jvm.ClassFile.FieldType.int)) ∈ lw_all := lw_g (lw_at lw_m10 140 rfl) rfl
theorem q2467 : (Jvm.Cond.methodLink "GoatCourtModel" (482 : Nat) ({ cls := "GoatCourtModel", name := "day", desc := "(I)V" } : Jvm.MethodName)) ∈ lw_all := lw_g (lw_at lw_m10 141 rfl) rfl
theorem q2468 : (Jvm.Cond.privateMethod ({ cls := "GoatCourtModel", name := "day", desc := "(I)V" } : Jvm.MethodName)) ∈ lw_tbl := lw_at lw_m10 142 rfl
theorem q2469 : (Jvm.Cond.instanceMethod ({ cls := "GoatCourtModel", name := "day", desc := "(I)V" } : Jvm.MethodName)) ∈ lw_all := lw_g (lw_at lw_m10 143 rfl) rfl
theorem q2470 : (Jvm.Cond.code ({ cls := "GoatCourtModel", name := "day", desc := "(I)V" } : Jvm.MethodName) prog_24_method_59_code (4 : Nat) (Option.none : Option Jvm.ClassFile.FieldType)) ∈ lw_all := lw_g (lw_at lw_m10 144 rfl) rfl
theorem q2471 : (Jvm.Cond.methodLink "GoatCourtModel" (475 : Nat) ({ cls := "GoatCourtModel", name := "goatGoes", desc := "(III)V" } : Jvm.MethodName)) ∈ lw_all := lw_g (lw_at lw_m10 145 rfl) rfl
theorem q2472 : (Jvm.Cond.privateMethod ({ cls := "GoatCourtModel", name := "goatGoes", desc := "(III)V" } : Jvm.MethodName)) ∈ lw_tbl := lw_at lw_m10 146 rfl
theorem q2473 : (Jvm.Cond.instanceMethod ({ cls := "GoatCourtModel", name := "goatGoes", desc := "(III)V" } : Jvm.MethodName)) ∈ lw_all := lw_g (lw_at lw_m10 147 rfl) rfl
theorem q2474 : (Jvm.Cond.code ({ cls := "GoatCourtModel", name := "goatGoes", desc := "(III)V" } : Jvm.MethodName) prog_24_method_57_code (7 : Nat) (Option.none : Option Jvm.ClassFile.FieldType)) ∈ lw_all := lw_g (lw_at lw_m10 148 rfl) rfl
theorem q2475 : (Jvm.Cond.methodLink "GoatCourtModel" (457 : Nat) ({ cls := "GoatCourtModel", name := "isOpen", desc := "(II)Z" } : Jvm.MethodName)) ∈ lw_all := lw_g (lw_at lw_m10 149 rfl) rfl
theorem q2476 : (Jvm.Cond.privateMethod ({ cls := "GoatCourtModel", name := "isOpen", desc := "(II)Z" } : Jvm.MethodName)) ∈ lw_tbl := lw_at lw_m10 150 rfl
theorem q2477 : (Jvm.Cond.instanceMethod ({ cls := "GoatCourtModel", name := "isOpen", desc := "(II)Z" } : Jvm.MethodName)) ∈ lw_all := lw_g (lw_at lw_m10 151 rfl) rfl
theorem q2478 : (Jvm.Cond.code ({ cls := "GoatCourtModel", name := "isOpen", desc := "(II)Z" } : Jvm.MethodName) prog_24_method_55_code (4 : Nat) (Option.some Jvm.ClassFile.FieldType.boolean)) ∈ lw_all := lw_g (lw_at lw_m10 152 rfl) rfl
theorem q2479 : (Jvm.Cond.methodLink "GoatCourtModel" (466 : Nat) ({ cls := "GoatCourtModel", name := "bestFor", desc := "(III)I" } : Jvm.MethodName)) ∈ lw_all := lw_g (lw_at lw_m10 153 rfl) rfl
theorem q2480 : (Jvm.Cond.privateMethod ({ cls := "GoatCourtModel", name := "bestFor", desc := "(III)I" } : Jvm.MethodName)) ∈ lw_tbl := lw_at lw_m10 154 rfl
theorem q2481 : (Jvm.Cond.instanceMethod ({ cls := "GoatCourtModel", name := "bestFor", desc := "(III)I" } : Jvm.MethodName)) ∈ lw_all := lw_g (lw_at lw_m10 155 rfl) rfl
theorem q2482 : (Jvm.Cond.code ({ cls := "GoatCourtModel", name := "bestFor", desc := "(III)I" } : Jvm.MethodName) prog_24_method_56_code (6 : Nat) (Option.some Jvm.ClassFile.FieldType.int)) ∈ lw_all := lw_g (lw_at lw_m10 156 rfl) rfl
theorem q2483 : (Jvm.Cond.methodLink "GoatCourtModel" (460 : Nat) ({ cls := "GoatCourtModel", name := "fears", desc := "(IIII)Z" } : Jvm.MethodName)) ∈ lw_all := lw_g (lw_at lw_m10 157 rfl) rfl
theorem q2484 : (Jvm.Cond.privateMethod ({ cls := "GoatCourtModel", name := "fears", desc := "(IIII)Z" } : Jvm.MethodName)) ∈ lw_tbl := lw_at lw_m10 158 rfl
theorem q2485 : (Jvm.Cond.instanceMethod ({ cls := "GoatCourtModel", name := "fears", desc := "(IIII)Z" } : Jvm.MethodName)) ∈ lw_all := lw_g (lw_at lw_m10 159 rfl) rfl
theorem q2486 : (Jvm.Cond.code ({ cls := "GoatCourtModel", name := "fears", desc := "(IIII)Z" } : Jvm.MethodName) prog_24_method_52_code (6 : Nat) (Option.some Jvm.ClassFile.FieldType.boolean)) ∈ lw_all := lw_g (lw_at lw_m10 160 rfl) rfl
theorem q2487 : (Jvm.Cond.methodLink "GoatCourtModel" (453 : Nat) ({ cls := "GoatCourtModel$Hill", name := "placeIn", desc := "(III)I" } : Jvm.MethodName)) ∈ lw_all := lw_g (lw_at lw_m10 161 rfl) rfl
theorem q2493 : (Jvm.Cond.methodLink "GoatCourtModel" (463 : Nat) ({ cls := "GoatCourtModel", name := "worth", desc := "(III)I" } : Jvm.MethodName)) ∈ lw_all := lw_g (lw_at lw_m10 167 rfl) rfl
theorem q2494 : (Jvm.Cond.privateMethod ({ cls := "GoatCourtModel", name := "worth", desc := "(III)I" } : Jvm.MethodName)) ∈ lw_tbl := lw_at lw_m10 168 rfl
theorem q2495 : (Jvm.Cond.instanceMethod ({ cls := "GoatCourtModel", name := "worth", desc := "(III)I" } : Jvm.MethodName)) ∈ lw_all := lw_g (lw_at lw_m10 169 rfl) rfl
theorem q2496 : (Jvm.Cond.code ({ cls := "GoatCourtModel", name := "worth", desc := "(III)I" } : Jvm.MethodName) prog_24_method_54_code (5 : Nat) (Option.some Jvm.ClassFile.FieldType.int)) ∈ lw_all := lw_g (lw_at lw_m10 170 rfl) rfl
theorem q2497 : (Jvm.Cond.methodLink "GoatCourtModel" (469 : Nat) ({ cls := "GoatCourtModel", name := "eats", desc := "(II)V" } : Jvm.MethodName)) ∈ lw_all := lw_g (lw_at lw_m10 171 rfl) rfl
theorem q2498 : (Jvm.Cond.privateMethod ({ cls := "GoatCourtModel", name := "eats", desc := "(II)V" } : Jvm.MethodName)) ∈ lw_tbl := lw_at lw_m10 172 rfl
theorem q2499 : (Jvm.Cond.instanceMethod ({ cls := "GoatCourtModel", name := "eats", desc := "(II)V" } : Jvm.MethodName)) ∈ lw_all := lw_g (lw_at lw_m10 173 rfl) rfl
theorem q2500 : (Jvm.Cond.code ({ cls := "GoatCourtModel", name := "eats", desc := "(II)V" } : Jvm.MethodName) prog_24_method_58_code (6 : Nat) (Option.none : Option Jvm.ClassFile.FieldType)) ∈ lw_all := lw_g (lw_at lw_m10 174 rfl) rfl
theorem q2501 : (Jvm.Cond.methodLink "GoatCourtModel" (472 : Nat) ({ cls := "GoatCourtModel", name := "plantAt", desc := "(II)I" } : Jvm.MethodName)) ∈ lw_all := lw_g (lw_at lw_m10 175 rfl) rfl
theorem q2502 : (Jvm.Cond.privateMethod ({ cls := "GoatCourtModel", name := "plantAt", desc := "(II)I" } : Jvm.MethodName)) ∈ lw_tbl := lw_at lw_m10 176 rfl
theorem q2503 : (Jvm.Cond.instanceMethod ({ cls := "GoatCourtModel", name := "plantAt", desc := "(II)I" } : Jvm.MethodName)) ∈ lw_all := lw_g (lw_at lw_m10 177 rfl) rfl
theorem q2504 : (Jvm.Cond.code ({ cls := "GoatCourtModel", name := "plantAt", desc := "(II)I" } : Jvm.MethodName) prog_24_method_53_code (4 : Nat) (Option.some Jvm.ClassFile.FieldType.int)) ∈ lw_all := lw_g (lw_at lw_m10 178 rfl) rfl
theorem q2506 : (Jvm.Cond.instanceMethod ({ cls := "GoatCourtModel", name := "ate", desc := "(III)I" } : Jvm.MethodName)) ∈ lw_all := lw_g (lw_at lw_m10 180 rfl) rfl
theorem q2507 : (Jvm.Cond.selects "GoatCourtModel" ({ cls := "GoatCourtModel", name := "ate", desc := "(III)I" } : Jvm.MethodName) ({ cls := "GoatCourtModel", name := "ate", desc := "(III)I" } : Jvm.MethodName)) ∈ lw_all := lw_g (lw_at lw_m10 181 rfl) rfl
theorem q2508 : (Jvm.Cond.code ({ cls := "GoatCourtModel", name := "ate", desc := "(III)I" } : Jvm.MethodName) prog_24_method_84_code (4 : Nat) (Option.some Jvm.ClassFile.FieldType.int)) ∈ lw_all := lw_g (lw_at lw_m10 182 rfl) rfl
theorem q2509 : (Jvm.Cond.methodLink "GoatCourtModel" (520 : Nat) ({ cls := "GoatCourtModel", name := "ateOf", desc := "(II)I" } : Jvm.MethodName)) ∈ lw_all := lw_g (lw_at lw_m10 183 rfl) rfl
theorem q2510 : (Jvm.Cond.privateMethod ({ cls := "GoatCourtModel", name := "ateOf", desc := "(II)I" } : Jvm.MethodName)) ∈ lw_tbl := lw_at lw_m10 184 rfl
theorem q2511 : (Jvm.Cond.instanceMethod ({ cls := "GoatCourtModel", name := "ateOf", desc := "(II)I" } : Jvm.MethodName)) ∈ lw_all := lw_g (lw_at lw_m10 185 rfl) rfl
theorem q2512 : (Jvm.Cond.code ({ cls := "GoatCourtModel", name := "ateOf", desc := "(II)I" } : Jvm.MethodName) prog_24_method_61_code (5 : Nat) (Option.some Jvm.ClassFile.FieldType.int)) ∈ lw_all := lw_g (lw_at lw_m10 186 rfl) rfl
theorem q2514 : (Jvm.Cond.instanceMethod ({ cls := "GoatCourtModel", name := "drops", desc := "(IIII)I" } : Jvm.MethodName)) ∈ lw_all := lw_g (lw_at lw_m10 188 rfl) rfl
theorem q2515 : (Jvm.Cond.selects "GoatCourtModel" ({ cls := "GoatCourtModel", name := "drops", desc := "(IIII)I" } : Jvm.MethodName) ({ cls := "GoatCourtModel", name := "drops", desc := "(IIII)I" } : Jvm.MethodName)) ∈ lw_all := lw_g (lw_at lw_m10 189 rfl) rfl
theorem q2516 : (Jvm.Cond.code ({ cls := "GoatCourtModel", name := "drops", desc := "(IIII)I" } : Jvm.MethodName) prog_24_method_85_code (5 : Nat) (Option.some Jvm.ClassFile.FieldType.int)) ∈ lw_all := lw_g (lw_at lw_m10 190 rfl) rfl
theorem q2517 : (Jvm.Cond.methodLink "GoatCourtModel" (479 : Nat) ({ cls := "GoatCourtModel", name := "dropped", desc := "(III)I" } : Jvm.MethodName)) ∈ lw_all := lw_g (lw_at lw_m10 191 rfl) rfl
theorem q2518 : (Jvm.Cond.privateMethod ({ cls := "GoatCourtModel", name := "dropped", desc := "(III)I" } : Jvm.MethodName)) ∈ lw_tbl := lw_at lw_m10 192 rfl
theorem q2519 : (Jvm.Cond.instanceMethod ({ cls := "GoatCourtModel", name := "dropped", desc := "(III)I" } : Jvm.MethodName)) ∈ lw_all := lw_g (lw_at lw_m10 193 rfl) rfl
theorem q2520 : (Jvm.Cond.code ({ cls := "GoatCourtModel", name := "dropped", desc := "(III)I" } : Jvm.MethodName) prog_24_method_60_code (6 : Nat) (Option.some Jvm.ClassFile.FieldType.int)) ∈ lw_all := lw_g (lw_at lw_m10 194 rfl) rfl
theorem q2522 : (Jvm.Cond.instanceMethod ({ cls := "GoatCourtModel", name := "flees", desc := "(II)I" } : Jvm.MethodName)) ∈ lw_all := lw_g (lw_at lw_m10 196 rfl) rfl
theorem q2523 : (Jvm.Cond.selects "GoatCourtModel" ({ cls := "GoatCourtModel", name := "flees", desc := "(II)I" } : Jvm.MethodName) ({ cls := "GoatCourtModel", name := "flees", desc := "(II)I" } : Jvm.MethodName)) ∈ lw_all := lw_g (lw_at lw_m10 197 rfl) rfl
theorem q2524 : (Jvm.Cond.code ({ cls := "GoatCourtModel", name := "flees", desc := "(II)I" } : Jvm.MethodName) prog_24_method_86_code (3 : Nat) (Option.some Jvm.ClassFile.FieldType.int)) ∈ lw_all := lw_g (lw_at lw_m10 198 rfl) rfl
theorem q2526 : (Jvm.Cond.instanceMethod ({ cls := "GoatCourtModel", name := "left", desc := "(III)I" } : Jvm.MethodName)) ∈ lw_all := lw_g (lw_at lw_m10 200 rfl) rfl
theorem q2527 : (Jvm.Cond.selects "GoatCourtModel" ({ cls := "GoatCourtModel", name := "left", desc := "(III)I" } : Jvm.MethodName) ({ cls := "GoatCourtModel", name := "left", desc := "(III)I" } : Jvm.MethodName)) ∈ lw_all := lw_g (lw_at lw_m10 201 rfl) rfl
theorem q2528 : (Jvm.Cond.code ({ cls := "GoatCourtModel", name := "left", desc := "(III)I" } : Jvm.MethodName) prog_24_method_87_code (4 : Nat) (Option.some Jvm.ClassFile.FieldType.int)) ∈ lw_all := lw_g (lw_at lw_m10 202 rfl) rfl
theorem q2530 : (Jvm.Cond.instanceMethod ({ cls := "GoatCourtModel", name := "met", desc := "(III)I" } : Jvm.MethodName)) ∈ lw_all := lw_g (lw_at lw_m10 204 rfl) rfl
theorem q2531 : (Jvm.Cond.selects "GoatCourtModel" ({ cls := "GoatCourtModel", name := "met", desc := "(III)I" } : Jvm.MethodName) ({ cls := "GoatCourtModel", name := "met", desc := "(III)I" } : Jvm.MethodName)) ∈ lw_all := lw_g (lw_at lw_m10 205 rfl) rfl
theorem q2532 : (Jvm.Cond.code ({ cls := "GoatCourtModel", name := "met", desc := "(III)I" } : Jvm.MethodName) prog_24_method_88_code (6 : Nat) (Option.some Jvm.ClassFile.FieldType.int)) ∈ lw_all := lw_g (lw_at lw_m10 206 rfl) rfl
theorem q2534 : (Jvm.Cond.instanceMethod ({ cls := "GoatCourtModel", name := "isTrue", desc := "(II)I" } : Jvm.MethodName)) ∈ lw_all := lw_g (lw_at lw_m10 208 rfl) rfl
theorem q2535 : (Jvm.Cond.selects "GoatCourtModel" ({ cls := "GoatCourtModel", name := "isTrue", desc := "(II)I" } : Jvm.MethodName) ({ cls := "GoatCourtModel", name := "isTrue", desc := "(II)I" } : Jvm.MethodName)) ∈ lw_all := lw_g (lw_at lw_m10 209 rfl) rfl
theorem q2536 : (Jvm.Cond.code ({ cls := "GoatCourtModel", name := "isTrue", desc := "(II)I" } : Jvm.MethodName) prog_24_method_89_code (3 : Nat) (Option.some Jvm.ClassFile.FieldType.int)) ∈ lw_all := lw_g (lw_at lw_m10 210 rfl) rfl
theorem q2537 : (Jvm.Cond.methodLink "GoatCourtModel" (485 : Nat) ({ cls := "GoatCourtModel", name := "holdsNow", desc := "(I)Z" } : Jvm.MethodName)) ∈ lw_all := lw_g (lw_at lw_m10 211 rfl) rfl
theorem q2538 : (Jvm.Cond.privateMethod ({ cls := "GoatCourtModel", name := "holdsNow", desc := "(I)Z" } : Jvm.MethodName)) ∈ lw_tbl := lw_at lw_m10 212 rfl
theorem q2539 : (Jvm.Cond.instanceMethod ({ cls := "GoatCourtModel", name := "holdsNow", desc := "(I)Z" } : Jvm.MethodName)) ∈ lw_all := lw_g (lw_at lw_m10 213 rfl) rfl
theorem q2540 : (Jvm.Cond.code ({ cls := "GoatCourtModel", name := "holdsNow", desc := "(I)Z" } : Jvm.MethodName) prog_24_method_62_code (3 : Nat) (Option.some Jvm.ClassFile.FieldType.boolean)) ∈ lw_all := lw_g (lw_at lw_m10 214 rfl) rfl
theorem q2542 : (Jvm.Cond.instanceMethod ({ cls := "GoatCourtModel", name := "fits", desc := "()I" } : Jvm.MethodName)) ∈ lw_all := lw_g (lw_at lw_m10 216 rfl) rfl
theorem q2543 : (Jvm.Cond.selects "GoatCourtModel" ({ cls := "GoatCourtModel", name := "fits", desc := "()I" } : Jvm.MethodName) ({ cls := "GoatCourtModel", name := "fits", desc := "()I" } : Jvm.MethodName)) ∈ lw_all := lw_g (lw_at lw_m10 217 rfl) rfl
theorem q2544 : (Jvm.Cond.code ({ cls := "GoatCourtModel", name := "fits", desc := "()I" } : Jvm.MethodName) prog_24_method_90_code (3 : Nat) (Option.some Jvm.ClassFile.FieldType.int)) ∈ lw_all := lw_g (lw_at lw_m10 218 rfl) rfl
theorem q2545 : (Jvm.Cond.methodLink "GoatCourtModel" (523 : Nat) ({ cls := "GoatCourtModel", name := "laysHonest", desc := "()V" } : Jvm.MethodName)) ∈ lw_all := lw_g (lw_at lw_m10 219 rfl) rfl
theorem q2546 : (Jvm.Cond.privateMethod ({ cls := "GoatCourtModel", name := "laysHonest", desc := "()V" } : Jvm.MethodName)) ∈ lw_tbl := lw_at lw_m10 220 rfl
theorem q2547 : (Jvm.Cond.instanceMethod ({ cls := "GoatCourtModel", name := "laysHonest", desc := "()V" } : Jvm.MethodName)) ∈ lw_all := lw_g (lw_at lw_m10 221 rfl) rfl
theorem q2548 : (Jvm.Cond.code ({ cls := "GoatCourtModel", name := "laysHonest", desc := "()V" } : Jvm.MethodName) prog_24_method_63_code (3 : Nat) (Option.none : Option Jvm.ClassFile.FieldType)) ∈ lw_all := lw_g (lw_at lw_m10 222 rfl) rfl
theorem q2549 : (Jvm.Cond.methodLink "GoatCourtModel" (526 : Nat) ({ cls := "GoatCourtModel", name := "heard", desc := "()I" } : Jvm.MethodName)) ∈ lw_all := lw_g (lw_at lw_m10 223 rfl) rfl
theorem q2550 : (Jvm.Cond.privateMethod ({ cls := "GoatCourtModel", name := "heard", desc := "()I" } : Jvm.MethodName)) ∈ lw_tbl := lw_at lw_m10 224 rfl
theorem q2551 : (Jvm.Cond.instanceMethod ({ cls := "GoatCourtModel", name := "heard", desc := "()I" } : Jvm.MethodName)) ∈ lw_all := lw_g (lw_at lw_m10 225 rfl) rfl
theorem q2552 : (Jvm.Cond.code ({ cls := "GoatCourtModel", name := "heard", desc := "()I" } : Jvm.MethodName) prog_24_method_66_code (1 : Nat) (Option.some Jvm.ClassFile.FieldType.int)) ∈ lw_all := lw_g (lw_at lw_m10 226 rfl) rfl
theorem q2553 : (Jvm.Cond.methodLink "GoatCourtModel" (488 : Nat) ({ cls := "GoatCourtModel", name := "allGoats", desc := "()I" } : Jvm.MethodName)) ∈ lw_all := lw_g (lw_at lw_m10 227 rfl) rfl
theorem q2554 : (Jvm.Cond.privateMethod ({ cls := "GoatCourtModel", name := "allGoats", desc := "()I" } : Jvm.MethodName)) ∈ lw_tbl := lw_at lw_m10 228 rfl
theorem q2555 : (Jvm.Cond.instanceMethod ({ cls := "GoatCourtModel", name := "allGoats", desc := "()I" } : Jvm.MethodName)) ∈ lw_all := lw_g (lw_at lw_m10 229 rfl) rfl
theorem q2556 : (Jvm.Cond.code ({ cls := "GoatCourtModel", name := "allGoats", desc := "()I" } : Jvm.MethodName) prog_24_method_65_code (1 : Nat) (Option.some Jvm.ClassFile.FieldType.int)) ∈ lw_all := lw_g (lw_at lw_m10 230 rfl) rfl
theorem q2557 : (Jvm.Cond.methodLink "GoatCourtModel" (529 : Nat) ({ cls := "GoatCourtModel", name := "areTrue", desc := "(II)Z" } : Jvm.MethodName)) ∈ lw_all := lw_g (lw_at lw_m10 231 rfl) rfl
theorem q2558 : (Jvm.Cond.privateMethod ({ cls := "GoatCourtModel", name := "areTrue", desc := "(II)Z" } : Jvm.MethodName)) ∈ lw_tbl := lw_at lw_m10 232 rfl
theorem q2559 : (Jvm.Cond.instanceMethod ({ cls := "GoatCourtModel", name := "areTrue", desc := "(II)Z" } : Jvm.MethodName)) ∈ lw_all := lw_g (lw_at lw_m10 233 rfl) rfl
theorem q2560 : (Jvm.Cond.code ({ cls := "GoatCourtModel", name := "areTrue", desc := "(II)Z" } : Jvm.MethodName) prog_24_method_64_code (3 : Nat) (Option.some Jvm.ClassFile.FieldType.boolean)) ∈ lw_all := lw_g (lw_at lw_m10 234 rfl) rfl
theorem q2562 : (Jvm.Cond.instanceMethod ({ cls := "GoatCourtModel", name := "fit", desc := "(I)I" } : Jvm.MethodName)) ∈ lw_all := lw_g (lw_at lw_m10 236 rfl) rfl
theorem q2563 : (Jvm.Cond.selects "GoatCourtModel" ({ cls := "GoatCourtModel", name := "fit", desc := "(I)I" } : Jvm.MethodName) ({ cls := "GoatCourtModel", name := "fit", desc := "(I)I" } : Jvm.MethodName)) ∈ lw_all := lw_g (lw_at lw_m10 237 rfl) rfl
theorem q2564 : (Jvm.Cond.code ({ cls := "GoatCourtModel", name := "fit", desc := "(I)I" } : Jvm.MethodName) prog_24_method_91_code (4 : Nat) (Option.some Jvm.ClassFile.FieldType.int)) ∈ lw_all := lw_g (lw_at lw_m10 238 rfl) rfl
theorem q2566 : (Jvm.Cond.instanceMethod ({ cls := "GoatCourtModel", name := "could", desc := "(II)I" } : Jvm.MethodName)) ∈ lw_all := lw_g (lw_at lw_m11 0 rfl) rfl
theorem q2567 : (Jvm.Cond.selects "GoatCourtModel" ({ cls := "GoatCourtModel", name := "could", desc := "(II)I" } : Jvm.MethodName) ({ cls := "GoatCourtModel", name := "could", desc := "(II)I" } : Jvm.MethodName)) ∈ lw_all := lw_g (lw_at lw_m11 1 rfl) rfl
theorem q2568 : (Jvm.Cond.code ({ cls := "GoatCourtModel", name := "could", desc := "(II)I" } : Jvm.MethodName) prog_24_method_94_code (4 : Nat) (Option.some Jvm.ClassFile.FieldType.int)) ∈ lw_all := lw_g (lw_at lw_m11 2 rfl) rfl
theorem q2569 : (Jvm.Cond.methodLink "GoatCourtModel" (532 : Nat) ({ cls := "GoatCourtModel", name := "refusesPerson", desc := "(II)I" } : Jvm.MethodName)) ∈ lw_all := lw_g (lw_at lw_m11 3 rfl) rfl
theorem q2570 : (Jvm.Cond.privateMethod ({ cls := "GoatCourtModel", name := "refusesPerson", desc := "(II)I" } : Jvm.MethodName)) ∈ lw_tbl := lw_at lw_m11 4 rfl
theorem q2571 : (Jvm.Cond.instanceMethod ({ cls := "GoatCourtModel", name := "refusesPerson", desc := "(II)I" } : Jvm.MethodName)) ∈ lw_all := lw_g (lw_at lw_m11 5 rfl) rfl
theorem q2572 : (Jvm.Cond.code ({ cls := "GoatCourtModel", name := "refusesPerson", desc := "(II)I" } : Jvm.MethodName) prog_24_method_93_code (3 : Nat) (Option.some Jvm.ClassFile.FieldType.int)) ∈ lw_all := lw_g (lw_at lw_m11 6 rfl) rfl
theorem q2573 : (Jvm.Cond.methodLink "GoatCourtModel" (535 : Nat) ({ cls := "GoatCourtModel", name := "couldBe", desc := "(III)I" } : Jvm.MethodName)) ∈ lw_all := lw_g (lw_at lw_m11 7 rfl) rfl
theorem q2574 : (Jvm.Cond.privateMethod ({ cls := "GoatCourtModel", name := "couldBe", desc := "(III)I" } : Jvm.MethodName)) ∈ lw_tbl := lw_at lw_m11 8 rfl
theorem q2575 : (Jvm.Cond.instanceMethod ({ cls := "GoatCourtModel", name := "couldBe", desc := "(III)I" } : Jvm.MethodName)) ∈ lw_all := lw_g (lw_at lw_m11 9 rfl) rfl
theorem q2576 : (Jvm.Cond.code ({ cls := "GoatCourtModel", name := "couldBe", desc := "(III)I" } : Jvm.MethodName) prog_24_method_92_code (6 : Nat) (Option.some Jvm.ClassFile.FieldType.int)) ∈ lw_all := lw_g (lw_at lw_m11 10 rfl) rfl
theorem q2578 : (Jvm.Cond.instanceMethod ({ cls := "GoatCourtModel", name := "surely", desc := "(II)I" } : Jvm.MethodName)) ∈ lw_all := lw_g (lw_at lw_m11 12 rfl) rfl
theorem q2579 : (Jvm.Cond.selects "GoatCourtModel" ({ cls := "GoatCourtModel", name := "surely", desc := "(II)I" } : Jvm.MethodName) ({ cls := "GoatCourtModel", name := "surely", desc := "(II)I" } : Jvm.MethodName)) ∈ lw_all := lw_g (lw_at lw_m11 13 rfl) rfl
theorem q2580 : (Jvm.Cond.code ({ cls := "GoatCourtModel", name := "surely", desc := "(II)I" } : Jvm.MethodName) prog_24_method_95_code (6 : Nat) (Option.some Jvm.ClassFile.FieldType.int)) ∈ lw_all := lw_g (lw_at lw_m11 14 rfl) rfl
theorem q2582 : (Jvm.Cond.instanceMethod ({ cls := "GoatCourtModel", name := "lies", desc := "(I)I" } : Jvm.MethodName)) ∈ lw_all := lw_g (lw_at lw_m11 16 rfl) rfl
theorem q2583 : (Jvm.Cond.selects "GoatCourtModel" ({ cls := "GoatCourtModel", name := "lies", desc := "(I)I" } : Jvm.MethodName) ({ cls := "GoatCourtModel", name := "lies", desc := "(I)I" } : Jvm.MethodName)) ∈ lw_all := lw_g (lw_at lw_m11 17 rfl) rfl
theorem q2584 : (Jvm.Cond.code ({ cls := "GoatCourtModel", name := "lies", desc := "(I)I" } : Jvm.MethodName) prog_24_method_96_code (4 : Nat) (Option.some Jvm.ClassFile.FieldType.int)) ∈ lw_all := lw_g (lw_at lw_m11 18 rfl) rfl
theorem q2586 : (Jvm.Cond.instanceMethod ({ cls := "GoatCourtModel", name := "falseOnes", desc := "()I" } : Jvm.MethodName)) ∈ lw_all := lw_g (lw_at lw_m11 20 rfl) rfl
theorem q2587 : (Jvm.Cond.selects "GoatCourtModel" ({ cls := "GoatCourtModel", name := "falseOnes", desc := "()I" } : Jvm.MethodName) ({ cls := "GoatCourtModel", name := "falseOnes", desc := "()I" } : Jvm.MethodName)) ∈ lw_all := lw_g (lw_at lw_m11 21 rfl) rfl
theorem q2588 : (Jvm.Cond.code ({ cls := "GoatCourtModel", name := "falseOnes", desc := "()I" } : Jvm.MethodName) prog_24_method_98_code (3 : Nat) (Option.some Jvm.ClassFile.FieldType.int)) ∈ lw_all := lw_g (lw_at lw_m11 22 rfl) rfl
theorem q2589 : (Jvm.Cond.methodLink "GoatCourtModel" (538 : Nat) ({ cls := "GoatCourtModel", name := "anyFits", desc := "(I)Z" } : Jvm.MethodName)) ∈ lw_all := lw_g (lw_at lw_m11 23 rfl) rfl
theorem q2590 : (Jvm.Cond.privateMethod ({ cls := "GoatCourtModel", name := "anyFits", desc := "(I)Z" } : Jvm.MethodName)) ∈ lw_tbl := lw_at lw_m11 24 rfl
theorem q2591 : (Jvm.Cond.instanceMethod ({ cls := "GoatCourtModel", name := "anyFits", desc := "(I)Z" } : Jvm.MethodName)) ∈ lw_all := lw_g (lw_at lw_m11 25 rfl) rfl
theorem q2592 : (Jvm.Cond.code ({ cls := "GoatCourtModel", name := "anyFits", desc := "(I)Z" } : Jvm.MethodName) prog_24_method_97_code (3 : Nat) (Option.some Jvm.ClassFile.FieldType.boolean)) ∈ lw_all := lw_g (lw_at lw_m11 26 rfl) rfl
theorem q2594 : (Jvm.Cond.instanceMethod ({ cls := "GoatCourtModel", name := "odds", desc := "(I)I" } : Jvm.MethodName)) ∈ lw_all := lw_g (lw_at lw_m11 28 rfl) rfl
theorem q2595 : (Jvm.Cond.selects "GoatCourtModel" ({ cls := "GoatCourtModel", name := "odds", desc := "(I)I" } : Jvm.MethodName) ({ cls := "GoatCourtModel", name := "odds", desc := "(I)I" } : Jvm.MethodName)) ∈ lw_all := lw_g (lw_at lw_m11 29 rfl) rfl
theorem q2596 : (Jvm.Cond.code ({ cls := "GoatCourtModel", name := "odds", desc := "(I)I" } : Jvm.MethodName) prog_24_method_100_code (2 : Nat) (Option.some Jvm.ClassFile.FieldType.int)) ∈ lw_all := lw_g (lw_at lw_m11 30 rfl) rfl
theorem q2597 : (Jvm.Cond.methodLink "GoatCourtModel" (541 : Nat) ({ cls := "GoatCourtModel", name := "oddsOf", desc := "(I)I" } : Jvm.MethodName)) ∈ lw_all := lw_g (lw_at lw_m11 31 rfl) rfl
theorem q2598 : (Jvm.Cond.privateMethod ({ cls := "GoatCourtModel", name := "oddsOf", desc := "(I)I" } : Jvm.MethodName)) ∈ lw_tbl := lw_at lw_m11 32 rfl
theorem q2599 : (Jvm.Cond.instanceMethod ({ cls := "GoatCourtModel", name := "oddsOf", desc := "(I)I" } : Jvm.MethodName)) ∈ lw_all := lw_g (lw_at lw_m11 33 rfl) rfl
theorem q2600 : (Jvm.Cond.code ({ cls := "GoatCourtModel", name := "oddsOf", desc := "(I)I" } : Jvm.MethodName) prog_24_method_99_code (6 : Nat) (Option.some Jvm.ClassFile.FieldType.int)) ∈ lw_all := lw_g (lw_at lw_m11 34 rfl) rfl
theorem q2602 : (Jvm.Cond.instanceMethod ({ cls := "GoatCourtModel", name := "likeliest", desc := "()I" } : Jvm.MethodName)) ∈ lw_all := lw_g (lw_at lw_m11 36 rfl) rfl
theorem q2603 : (Jvm.Cond.selects "GoatCourtModel" ({ cls := "GoatCourtModel", name := "likeliest", desc := "()I" } : Jvm.MethodName) ({ cls := "GoatCourtModel", name := "likeliest", desc := "()I" } : Jvm.MethodName)) ∈ lw_all := lw_g (lw_at lw_m11 37 rfl) rfl
theorem q2604 : (Jvm.Cond.code ({ cls := "GoatCourtModel", name := "likeliest", desc := "()I" } : Jvm.MethodName) prog_24_method_101_code (3 : Nat) (Option.some Jvm.ClassFile.FieldType.int)) ∈ lw_all := lw_g (lw_at lw_m11 38 rfl) rfl
theorem q2606 : (Jvm.Cond.instanceMethod ({ cls := "GoatCourtModel", name := "proved", desc := "(III)I" } : Jvm.MethodName)) ∈ lw_all := lw_g (lw_at lw_m11 40 rfl) rfl
theorem q2607 : (Jvm.Cond.selects "GoatCourtModel" ({ cls := "GoatCourtModel", name := "proved", desc := "(III)I" } : Jvm.MethodName) ({ cls := "GoatCourtModel", name := "proved", desc := "(III)I" } : Jvm.MethodName)) ∈ lw_all := lw_g (lw_at lw_m11 41 rfl) rfl
theorem q2608 : (Jvm.Cond.code ({ cls := "GoatCourtModel", name := "proved", desc := "(III)I" } : Jvm.MethodName) prog_24_method_102_code (7 : Nat) (Option.some Jvm.ClassFile.FieldType.int)) ∈ lw_all := lw_g (lw_at lw_m11 42 rfl) rfl
theorem q2610 : (Jvm.Cond.instanceMethod ({ cls := "GoatCourtModel", name := "ask", desc := "()I" } : Jvm.MethodName)) ∈ lw_all := lw_g (lw_at lw_m11 44 rfl) rfl
theorem q2611 : (Jvm.Cond.selects "GoatCourtModel" ({ cls := "GoatCourtModel", name := "ask", desc := "()I" } : Jvm.MethodName) ({ cls := "GoatCourtModel", name := "ask", desc := "()I" } : Jvm.MethodName)) ∈ lw_all := lw_g (lw_at lw_m11 45 rfl) rfl
theorem q2612 : (Jvm.Cond.code ({ cls := "GoatCourtModel", name := "ask", desc := "()I" } : Jvm.MethodName) prog_24_method_104_code (2 : Nat) (Option.some Jvm.ClassFile.FieldType.int)) ∈ lw_all := lw_g (lw_at lw_m11 46 rfl) rfl
theorem q2613 : (Jvm.Cond.methodLink "GoatCourtModel" (550 : Nat) ({ cls := "GoatCourtModel", name := "asks", desc := "()I" } : Jvm.MethodName)) ∈ lw_all := lw_g (lw_at lw_m11 47 rfl) rfl
theorem q2614 : (Jvm.Cond.privateMethod ({ cls := "GoatCourtModel", name := "asks", desc := "()I" } : Jvm.MethodName)) ∈ lw_tbl := lw_at lw_m11 48 rfl
theorem q2615 : (Jvm.Cond.instanceMethod ({ cls := "GoatCourtModel", name := "asks", desc := "()I" } : Jvm.MethodName)) ∈ lw_all := lw_g (lw_at lw_m11 49 rfl) rfl
theorem q2616 : (Jvm.Cond.code ({ cls := "GoatCourtModel", name := "asks", desc := "()I" } : Jvm.MethodName) prog_24_method_103_code (7 : Nat) (Option.some Jvm.ClassFile.FieldType.int)) ∈ lw_all := lw_g (lw_at lw_m11 50 rfl) rfl
theorem q2618 : (Jvm.Cond.instanceMethod ({ cls := "GoatCourtModel", name := "askMost", desc := "()I" } : Jvm.MethodName)) ∈ lw_all := lw_g (lw_at lw_m11 52 rfl) rfl
theorem q2619 : (Jvm.Cond.selects "GoatCourtModel" ({ cls := "GoatCourtModel", name := "askMost", desc := "()I" } : Jvm.MethodName) ({ cls := "GoatCourtModel", name := "askMost", desc := "()I" } : Jvm.MethodName)) ∈ lw_all := lw_g (lw_at lw_m11 53 rfl) rfl
theorem q2620 : (Jvm.Cond.code ({ cls := "GoatCourtModel", name := "askMost", desc := "()I" } : Jvm.MethodName) prog_24_method_105_code (2 : Nat) (Option.some Jvm.ClassFile.FieldType.int)) ∈ lw_all := lw_g (lw_at lw_m11 54 rfl) rfl
theorem q2622 : (Jvm.Cond.instanceMethod ({ cls := "GoatCourtModel", name := "led", desc := "(IIII)I" } : Jvm.MethodName)) ∈ lw_all := lw_g (lw_at lw_m11 56 rfl) rfl
theorem q2623 : (Jvm.Cond.selects "GoatCourtModel" ({ cls := "GoatCourtModel", name := "led", desc := "(IIII)I" } : Jvm.MethodName) ({ cls := "GoatCourtModel", name := "led", desc := "(IIII)I" } : Jvm.MethodName)) ∈ lw_all := lw_g (lw_at lw_m11 57 rfl) rfl
theorem q2624 : (Jvm.Cond.code ({ cls := "GoatCourtModel", name := "led", desc := "(IIII)I" } : Jvm.MethodName) prog_24_method_111_code (6 : Nat) (Option.some Jvm.ClassFile.FieldType.int)) ∈ lw_all := lw_g (lw_at lw_m11 58 rfl) rfl
theorem q2625 : (Jvm.Cond.methodLink "GoatCourtModel" (568 : Nat) ({ cls := "GoatCourtModel", name := "refusesLed", desc := "(IIII)I" } : Jvm.MethodName)) ∈ lw_all := lw_g (lw_at lw_m11 59 rfl) rfl
theorem q2626 : (Jvm.Cond.privateMethod ({ cls := "GoatCourtModel", name := "refusesLed", desc := "(IIII)I" } : Jvm.MethodName)) ∈ lw_tbl := lw_at lw_m11 60 rfl
theorem q2627 : (Jvm.Cond.instanceMethod ({ cls := "GoatCourtModel", name := "refusesLed", desc := "(IIII)I" } : Jvm.MethodName)) ∈ lw_all := lw_g (lw_at lw_m11 61 rfl) rfl
theorem q2628 : (Jvm.Cond.code ({ cls := "GoatCourtModel", name := "refusesLed", desc := "(IIII)I" } : Jvm.MethodName) prog_24_method_110_code (5 : Nat) (Option.some Jvm.ClassFile.FieldType.int)) ∈ lw_all := lw_g (lw_at lw_m11 62 rfl) rfl
theorem q2629 : (Jvm.Cond.methodLink "GoatCourtModel" (572 : Nat) ({ cls := "GoatCourtModel", name := "fewest", desc := "(IIIII)I" } : Jvm.MethodName)) ∈ lw_all := lw_g (lw_at lw_m11 63 rfl) rfl
theorem q2630 : (Jvm.Cond.privateMethod ({ cls := "GoatCourtModel", name := "fewest", desc := "(IIIII)I" } : Jvm.MethodName)) ∈ lw_tbl := lw_at lw_m11 64 rfl
theorem q2631 : (Jvm.Cond.instanceMethod ({ cls := "GoatCourtModel", name := "fewest", desc := "(IIIII)I" } : Jvm.MethodName)) ∈ lw_all := lw_g (lw_at lw_m11 65 rfl) rfl
theorem q2632 : (Jvm.Cond.code ({ cls := "GoatCourtModel", name := "fewest", desc := "(IIIII)I" } : Jvm.MethodName) prog_24_method_109_code (9 : Nat) (Option.some Jvm.ClassFile.FieldType.int)) ∈ lw_all := lw_g (lw_at lw_m11 66 rfl) rfl
theorem q2633 : (Jvm.Cond.methodLink "GoatCourtModel" (553 : Nat) ({ cls := "GoatCourtModel", name := "isThere", desc := "(IIII)Z" } : Jvm.MethodName)) ∈ lw_all := lw_g (lw_at lw_m11 67 rfl) rfl
theorem q2634 : (Jvm.Cond.privateMethod ({ cls := "GoatCourtModel", name := "isThere", desc := "(IIII)Z" } : Jvm.MethodName)) ∈ lw_tbl := lw_at lw_m11 68 rfl
theorem q2635 : (Jvm.Cond.instanceMethod ({ cls := "GoatCourtModel", name := "isThere", desc := "(IIII)Z" } : Jvm.MethodName)) ∈ lw_all := lw_g (lw_at lw_m11 69 rfl) rfl
theorem q2636 : (Jvm.Cond.code ({ cls := "GoatCourtModel", name := "isThere", desc := "(IIII)Z" } : Jvm.MethodName) prog_24_method_107_code (5 : Nat) (Option.some Jvm.ClassFile.FieldType.boolean)) ∈ lw_all := lw_g (lw_at lw_m11 70 rfl) rfl
theorem q2637 : (Jvm.Cond.methodLink "GoatCourtModel" (556 : Nat) ({ cls := "GoatCourtModel", name := "isSpot", desc := "(II)Z" } : Jvm.MethodName)) ∈ lw_all := lw_g (lw_at lw_m11 71 rfl) rfl
theorem q2638 : (Jvm.Cond.privateMethod ({ cls := "GoatCourtModel", name := "isSpot", desc := "(II)Z" } : Jvm.MethodName)) ∈ lw_tbl := lw_at lw_m11 72 rfl
theorem q2639 : (Jvm.Cond.instanceMethod ({ cls := "GoatCourtModel", name := "isSpot", desc := "(II)Z" } : Jvm.MethodName)) ∈ lw_all := lw_g (lw_at lw_m11 73 rfl) rfl
theorem q2640 : (Jvm.Cond.code ({ cls := "GoatCourtModel", name := "isSpot", desc := "(II)Z" } : Jvm.MethodName) prog_24_method_108_code (3 : Nat) (Option.some Jvm.ClassFile.FieldType.boolean)) ∈ lw_all := lw_g (lw_at lw_m11 74 rfl) rfl
theorem q2641 : (Jvm.Cond.methodLink "GoatCourtModel" (559 : Nat) ({ cls := "GoatCourtModel", name := "turn", desc := "(II)V" } : Jvm.MethodName)) ∈ lw_all := lw_g (lw_at lw_m11 75 rfl) rfl
theorem q2642 : (Jvm.Cond.privateMethod ({ cls := "GoatCourtModel", name := "turn", desc := "(II)V" } : Jvm.MethodName)) ∈ lw_tbl := lw_at lw_m11 76 rfl
theorem q2643 : (Jvm.Cond.instanceMethod ({ cls := "GoatCourtModel", name := "turn", desc := "(II)V" } : Jvm.MethodName)) ∈ lw_all := lw_g (lw_at lw_m11 77 rfl) rfl
theorem q2644 : (Jvm.Cond.code ({ cls := "GoatCourtModel", name := "turn", desc := "(II)V" } : Jvm.MethodName) prog_24_method_106_code (3 : Nat) (Option.none : Option Jvm.ClassFile.FieldType)) ∈ lw_all := lw_g (lw_at lw_m11 78 rfl) rfl
theorem q2646 : (Jvm.Cond.instanceMethod ({ cls := "GoatCourtModel", name := "ledAt", desc := "(IIIII)I" } : Jvm.MethodName)) ∈ lw_all := lw_g (lw_at lw_m11 80 rfl) rfl
theorem q2647 : (Jvm.Cond.selects "GoatCourtModel" ({ cls := "GoatCourtModel", name := "ledAt", desc := "(IIIII)I" } : Jvm.MethodName) ({ cls := "GoatCourtModel", name := "ledAt", desc := "(IIIII)I" } : Jvm.MethodName)) ∈ lw_all := lw_g (lw_at lw_m11 81 rfl) rfl
theorem q2648 : (Jvm.Cond.code ({ cls := "GoatCourtModel", name := "ledAt", desc := "(IIIII)I" } : Jvm.MethodName) prog_24_method_112_code (9 : Nat) (Option.some Jvm.ClassFile.FieldType.int)) ∈ lw_all := lw_g (lw_at lw_m11 82 rfl) rfl
theorem q2650 : (Jvm.Cond.instanceMethod ({ cls := "GoatCourtModel", name := "scared", desc := "(IIII)I" } : Jvm.MethodName)) ∈ lw_all := lw_g (lw_at lw_m11 84 rfl) rfl
theorem q2651 : (Jvm.Cond.selects "GoatCourtModel" ({ cls := "GoatCourtModel", name := "scared", desc := "(IIII)I" } : Jvm.MethodName) ({ cls := "GoatCourtModel", name := "scared", desc := "(IIII)I" } : Jvm.MethodName)) ∈ lw_all := lw_g (lw_at lw_m11 85 rfl) rfl
theorem q2652 : (Jvm.Cond.code ({ cls := "GoatCourtModel", name := "scared", desc := "(IIII)I" } : Jvm.MethodName) prog_24_method_113_code (6 : Nat) (Option.some Jvm.ClassFile.FieldType.int)) ∈ lw_all := lw_g (lw_at lw_m11 86 rfl) rfl
theorem q2654 : (Jvm.Cond.instanceMethod ({ cls := "GoatCourtModel", name := "follows", desc := "(I)I" } : Jvm.MethodName)) ∈ lw_all := lw_g (lw_at lw_m11 88 rfl) rfl
theorem q2655 : (Jvm.Cond.selects "GoatCourtModel" ({ cls := "GoatCourtModel", name := "follows", desc := "(I)I" } : Jvm.MethodName) ({ cls := "GoatCourtModel", name := "follows", desc := "(I)I" } : Jvm.MethodName)) ∈ lw_all := lw_g (lw_at lw_m11 89 rfl) rfl
theorem q2656 : (Jvm.Cond.code ({ cls := "GoatCourtModel", name := "follows", desc := "(I)I" } : Jvm.MethodName) prog_24_method_116_code (2 : Nat) (Option.some Jvm.ClassFile.FieldType.int)) ∈ lw_all := lw_g (lw_at lw_m11 90 rfl) rfl
theorem q2657 : (Jvm.Cond.methodLink "GoatCourtModel" (579 : Nat) ({ cls := "GoatCourtModel", name := "isFact", desc := "(I)Z" } : Jvm.MethodName)) ∈ lw_all := lw_g (lw_at lw_m11 91 rfl) rfl
theorem q2658 : (Jvm.Cond.privateMethod ({ cls := "GoatCourtModel", name := "isFact", desc := "(I)Z" } : Jvm.MethodName)) ∈ lw_tbl := lw_at lw_m11 92 rfl
theorem q2659 : (Jvm.Cond.instanceMethod ({ cls := "GoatCourtModel", name := "isFact", desc := "(I)Z" } : Jvm.MethodName)) ∈ lw_all := lw_g (lw_at lw_m11 93 rfl) rfl
theorem q2660 : (Jvm.Cond.code ({ cls := "GoatCourtModel", name := "isFact", desc := "(I)Z" } : Jvm.MethodName) prog_24_method_73_code (2 : Nat) (Option.some Jvm.ClassFile.FieldType.boolean)) ∈ lw_all := lw_g (lw_at lw_m11 94 rfl) rfl
theorem q2661 : (Jvm.Cond.methodLink "GoatCourtModel" (582 : Nat) ({ cls := "GoatCourtModel", name := "followsNow", desc := "(I)Z" } : Jvm.MethodName)) ∈ lw_all := lw_g (lw_at lw_m11 95 rfl) rfl
theorem q2662 : (Jvm.Cond.privateMethod ({ cls := "GoatCourtModel", name := "followsNow", desc := "(I)Z" } : Jvm.MethodName)) ∈ lw_tbl := lw_at lw_m11 96 rfl
theorem q2663 : (Jvm.Cond.instanceMethod ({ cls := "GoatCourtModel", name := "followsNow", desc := "(I)Z" } : Jvm.MethodName)) ∈ lw_all := lw_g (lw_at lw_m11 97 rfl) rfl
theorem q2664 : (Jvm.Cond.code ({ cls := "GoatCourtModel", name := "followsNow", desc := "(I)Z" } : Jvm.MethodName) prog_24_method_115_code (2 : Nat) (Option.some Jvm.ClassFile.FieldType.boolean)) ∈ lw_all := lw_g (lw_at lw_m11 98 rfl) rfl
theorem q2665 : (Jvm.Cond.methodLink "GoatCourtModel" (576 : Nat) ({ cls := "GoatCourtModel", name := "following", desc := "(II)I" } : Jvm.MethodName)) ∈ lw_all := lw_g (lw_at lw_m11 99 rfl) rfl
theorem q2666 : (Jvm.Cond.privateMethod ({ cls := "GoatCourtModel", name := "following", desc := "(II)I" } : Jvm.MethodName)) ∈ lw_tbl := lw_at lw_m11 100 rfl
theorem q2667 : (Jvm.Cond.instanceMethod ({ cls := "GoatCourtModel", name := "following", desc := "(II)I" } : Jvm.MethodName)) ∈ lw_all := lw_g (lw_at lw_m11 101 rfl) rfl
theorem q2668 : (Jvm.Cond.code ({ cls := "GoatCourtModel", name := "following", desc := "(II)I" } : Jvm.MethodName) prog_24_method_114_code (7 : Nat) (Option.some Jvm.ClassFile.FieldType.int)) ∈ lw_all := lw_g (lw_at lw_m11 102 rfl) rfl
theorem q2670 : (Jvm.Cond.instanceMethod ({ cls := "GoatCourtModel", name := "step", desc := "()I" } : Jvm.MethodName)) ∈ lw_all := lw_g (lw_at lw_m11 104 rfl) rfl
theorem q2671 : (Jvm.Cond.selects "GoatCourtModel" ({ cls := "GoatCourtModel", name := "step", desc := "()I" } : Jvm.MethodName) ({ cls := "GoatCourtModel", name := "step", desc := "()I" } : Jvm.MethodName)) ∈ lw_all := lw_g (lw_at lw_m11 105 rfl) rfl
theorem q2672 : (Jvm.Cond.code ({ cls := "GoatCourtModel", name := "step", desc := "()I" } : Jvm.MethodName) prog_24_method_117_code (5 : Nat) (Option.some Jvm.ClassFile.FieldType.int)) ∈ lw_all := lw_g (lw_at lw_m11 106 rfl) rfl
theorem q2674 : (Jvm.Cond.instanceMethod ({ cls := "GoatCourtModel", name := "needs", desc := "(I)I" } : Jvm.MethodName)) ∈ lw_all := lw_g (lw_at lw_m11 108 rfl) rfl
theorem q2675 : (Jvm.Cond.selects "GoatCourtModel" ({ cls := "GoatCourtModel", name := "needs", desc := "(I)I" } : Jvm.MethodName) ({ cls := "GoatCourtModel", name := "needs", desc := "(I)I" } : Jvm.MethodName)) ∈ lw_all := lw_g (lw_at lw_m11 109 rfl) rfl
theorem q2676 : (Jvm.Cond.code ({ cls := "GoatCourtModel", name := "needs", desc := "(I)I" } : Jvm.MethodName) prog_24_method_118_code (4 : Nat) (Option.some Jvm.ClassFile.FieldType.int)) ∈ lw_all := lw_g (lw_at lw_m11 110 rfl) rfl
theorem q2678 : (Jvm.Cond.instanceMethod ({ cls := "GoatCourtModel", name := "enough", desc := "(I)I" } : Jvm.MethodName)) ∈ lw_all := lw_g (lw_at lw_m11 112 rfl) rfl
theorem q2679 : (Jvm.Cond.selects "GoatCourtModel" ({ cls := "GoatCourtModel", name := "enough", desc := "(I)I" } : Jvm.MethodName) ({ cls := "GoatCourtModel", name := "enough", desc := "(I)I" } : Jvm.MethodName)) ∈ lw_all := lw_g (lw_at lw_m11 113 rfl) rfl
theorem q2680 : (Jvm.Cond.code ({ cls := "GoatCourtModel", name := "enough", desc := "(I)I" } : Jvm.MethodName) prog_24_method_119_code (4 : Nat) (Option.some Jvm.ClassFile.FieldType.int)) ∈ lw_all := lw_g (lw_at lw_m11 114 rfl) rfl
theorem q2682 : (Jvm.Cond.instanceMethod ({ cls := "GoatCourtModel", name := "cheese", desc := "(I)I" } : Jvm.MethodName)) ∈ lw_all := lw_g (lw_at lw_m11 116 rfl) rfl
theorem q2683 : (Jvm.Cond.selects "GoatCourtModel" ({ cls := "GoatCourtModel", name := "cheese", desc := "(I)I" } : Jvm.MethodName) ({ cls := "GoatCourtModel", name := "cheese", desc := "(I)I" } : Jvm.MethodName)) ∈ lw_all := lw_g (lw_at lw_m11 117 rfl) rfl
theorem q2684 : (Jvm.Cond.code ({ cls := "GoatCourtModel", name := "cheese", desc := "(I)I" } : Jvm.MethodName) prog_24_method_122_code (5 : Nat) (Option.some Jvm.ClassFile.FieldType.int)) ∈ lw_all := lw_g (lw_at lw_m11 118 rfl) rfl
theorem q2685 : (Jvm.Cond.methodLink "GoatCourtModel" (585 : Nat) ({ cls := "GoatCourtModel", name := "refusesCheese", desc := "(I)I" } : Jvm.MethodName)) ∈ lw_all := lw_g (lw_at lw_m11 119 rfl) rfl
theorem q2686 : (Jvm.Cond.privateMethod ({ cls := "GoatCourtModel", name := "refusesCheese", desc := "(I)I" } : Jvm.MethodName)) ∈ lw_tbl := lw_at lw_m11 120 rfl
theorem q2687 : (Jvm.Cond.instanceMethod ({ cls := "GoatCourtModel", name := "refusesCheese", desc := "(I)I" } : Jvm.MethodName)) ∈ lw_all := lw_g (lw_at lw_m11 121 rfl) rfl
theorem q2688 : (Jvm.Cond.code ({ cls := "GoatCourtModel", name := "refusesCheese", desc := "(I)I" } : Jvm.MethodName) prog_24_method_121_code (2 : Nat) (Option.some Jvm.ClassFile.FieldType.int)) ∈ lw_all := lw_g (lw_at lw_m11 122 rfl) rfl
theorem q2689 : (Jvm.Cond.methodLink "GoatCourtModel" (588 : Nat) ({ cls := "GoatCourtModel", name := "isCheese", desc := "(I)Z" } : Jvm.MethodName)) ∈ lw_all := lw_g (lw_at lw_m11 123 rfl) rfl
theorem q2690 : (Jvm.Cond.privateMethod ({ cls := "GoatCourtModel", name := "isCheese", desc := "(I)Z" } : Jvm.MethodName)) ∈ lw_tbl := lw_at lw_m11 124 rfl
theorem q2691 : (Jvm.Cond.instanceMethod ({ cls := "GoatCourtModel", name := "isCheese", desc := "(I)Z" } : Jvm.MethodName)) ∈ lw_all := lw_g (lw_at lw_m11 125 rfl) rfl
theorem q2692 : (Jvm.Cond.code ({ cls := "GoatCourtModel", name := "isCheese", desc := "(I)Z" } : Jvm.MethodName) prog_24_method_120_code (5 : Nat) (Option.some Jvm.ClassFile.FieldType.boolean)) ∈ lw_all := lw_g (lw_at lw_m11 126 rfl) rfl
theorem q2694 : (Jvm.Cond.instanceMethod ({ cls := "GoatCourtModel", name := "cheeseOf", desc := "(I)I" } : Jvm.MethodName)) ∈ lw_all := lw_g (lw_at lw_m11 128 rfl) rfl
theorem q2695 : (Jvm.Cond.selects "GoatCourtModel" ({ cls := "GoatCourtModel", name := "cheeseOf", desc := "(I)I" } : Jvm.MethodName) ({ cls := "GoatCourtModel", name := "cheeseOf", desc := "(I)I" } : Jvm.MethodName)) ∈ lw_all := lw_g (lw_at lw_m11 129 rfl) rfl
theorem q2696 : (Jvm.Cond.code ({ cls := "GoatCourtModel", name := "cheeseOf", desc := "(I)I" } : Jvm.MethodName) prog_24_method_123_code (4 : Nat) (Option.some Jvm.ClassFile.FieldType.int)) ∈ lw_all := lw_g (lw_at lw_m11 130 rfl) rfl
theorem q2698 : (Jvm.Cond.instanceMethod ({ cls := "GoatCourtModel", name := "appeals", desc := "()J" } : Jvm.MethodName)) ∈ lw_all := lw_g (lw_at lw_m11 132 rfl) rfl
theorem q2699 : (Jvm.Cond.selects "GoatCourtModel" ({ cls := "GoatCourtModel", name := "appeals", desc := "()J" } : Jvm.MethodName) ({ cls := "GoatCourtModel", name := "appeals", desc := "()J" } : Jvm.MethodName)) ∈ lw_all := lw_g (lw_at lw_m11 133 rfl) rfl
theorem q2700 : (Jvm.Cond.code ({ cls := "GoatCourtModel", name := "appeals", desc := "()J" } : Jvm.MethodName) prog_24_method_128_code (1 : Nat) (Option.some Jvm.ClassFile.FieldType.long)) ∈ lw_all := lw_g (lw_at lw_m11 134 rfl) rfl
theorem q2701 : (Jvm.Cond.methodLink "GoatCourtModel" (604 : Nat) ({ cls := "GoatCourtModel", name := "leastMean", desc := "()J" } : Jvm.MethodName)) ∈ lw_all := lw_g (lw_at lw_m11 135 rfl) rfl
theorem q2702 : (Jvm.Cond.privateMethod ({ cls := "GoatCourtModel", name := "leastMean", desc := "()J" } : Jvm.MethodName)) ∈ lw_tbl := lw_at lw_m11 136 rfl
theorem q2703 : (Jvm.Cond.instanceMethod ({ cls := "GoatCourtModel", name := "leastMean", desc := "()J" } : Jvm.MethodName)) ∈ lw_all := lw_g (lw_at lw_m11 137 rfl) rfl
theorem q2704 : (Jvm.Cond.code ({ cls := "GoatCourtModel", name := "leastMean", desc := "()J" } : Jvm.MethodName) prog_24_method_127_code (7 : Nat) (Option.some Jvm.ClassFile.FieldType.long)) ∈ lw_all := lw_g (lw_at lw_m11 138 rfl) rfl
theorem q2705 : (Jvm.Cond.constantLong "GoatCourtModel" (596 : Nat) (-1 : Int64)) ∈ lw_all := lw_g (lw_at lw_m11 139 rfl) rfl
theorem q2706 : (Jvm.Cond.methodLink "GoatCourtModel" (598 : Nat) ({ cls := "GoatCourtModel", name := "meanOf", desc := "()J" } : Jvm.MethodName)) ∈ lw_all := lw_g (lw_at lw_m11 140 rfl) rfl
theorem q2707 : (Jvm.Cond.privateMethod ({ cls := "GoatCourtModel", name := "meanOf", desc := "()J" } : Jvm.MethodName)) ∈ lw_tbl := lw_at lw_m11 141 rfl
theorem q2708 : (Jvm.Cond.instanceMethod ({ cls := "GoatCourtModel", name := "meanOf", desc := "()J" } : Jvm.MethodName)) ∈ lw_all := lw_g (lw_at lw_m11 142 rfl) rfl
theorem q2709 : (Jvm.Cond.code ({ cls := "GoatCourtModel", name := "meanOf", desc := "()J" } : Jvm.MethodName) prog_24_method_124_code (7 : Nat) (Option.some Jvm.ClassFile.FieldType.long)) ∈ lw_all := lw_g (lw_at lw_m11 143 rfl) rfl
theorem q2710 : (Jvm.Cond.constantLong "GoatCourtModel" (591 : Nat) (10 : Int64)) ∈ lw_all := lw_g (lw_at lw_m11 144 rfl) rfl
theorem q2711 : (Jvm.Cond.methodLink "GoatCourtModel" (601 : Nat) ({ cls := "GoatCourtModel", name := "turns", desc := "(I)Z" } : Jvm.MethodName)) ∈ lw_all := lw_g (lw_at lw_m11 145 rfl) rfl
theorem q2712 : (Jvm.Cond.privateMethod ({ cls := "GoatCourtModel", name := "turns", desc := "(I)Z" } : Jvm.MethodName)) ∈ lw_tbl := lw_at lw_m11 146 rfl
theorem q2713 : (Jvm.Cond.instanceMethod ({ cls := "GoatCourtModel", name := "turns", desc := "(I)Z" } : Jvm.MethodName)) ∈ lw_all := lw_g (lw_at lw_m11 147 rfl) rfl
theorem q2714 : (Jvm.Cond.code ({ cls := "GoatCourtModel", name := "turns", desc := "(I)Z" } : Jvm.MethodName) prog_24_method_125_code (6 : Nat) (Option.some Jvm.ClassFile.FieldType.boolean)) ∈ lw_all := lw_g (lw_at lw_m11 148 rfl) rfl
theorem q2715 : (Jvm.Cond.methodLink "GoatCourtModel" (593 : Nat) ({ cls := "GoatCourtModel", name := "swaps", desc := "(II)V" } : Jvm.MethodName)) ∈ lw_all := lw_g (lw_at lw_m11 149 rfl) rfl
theorem q2716 : (Jvm.Cond.privateMethod ({ cls := "GoatCourtModel", name := "swaps", desc := "(II)V" } : Jvm.MethodName)) ∈ lw_tbl := lw_at lw_m11 150 rfl
theorem q2717 : (Jvm.Cond.instanceMethod ({ cls := "GoatCourtModel", name := "swaps", desc := "(II)V" } : Jvm.MethodName)) ∈ lw_all := lw_g (lw_at lw_m11 151 rfl) rfl
theorem q2718 : (Jvm.Cond.code ({ cls := "GoatCourtModel", name := "swaps", desc := "(II)V" } : Jvm.MethodName) prog_24_method_126_code (4 : Nat) (Option.none : Option Jvm.ClassFile.FieldType)) ∈ lw_all := lw_g (lw_at lw_m11 152 rfl) rfl
theorem q2720 : (Jvm.Cond.instanceMethod ({ cls := "GoatCourtModel", name := "appealAt", desc := "(I)I" } : Jvm.MethodName)) ∈ lw_all := lw_g (lw_at lw_m11 154 rfl) rfl
theorem q2721 : (Jvm.Cond.selects "GoatCourtModel" ({ cls := "GoatCourtModel", name := "appealAt", desc := "(I)I" } : Jvm.MethodName) ({ cls := "GoatCourtModel", name := "appealAt", desc := "(I)I" } : Jvm.MethodName)) ∈ lw_all := lw_g (lw_at lw_m11 155 rfl) rfl
theorem q2722 : (Jvm.Cond.code ({ cls := "GoatCourtModel", name := "appealAt", desc := "(I)I" } : Jvm.MethodName) prog_24_method_129_code (2 : Nat) (Option.some Jvm.ClassFile.FieldType.int)) ∈ lw_all := lw_g (lw_at lw_m11 156 rfl) rfl
theorem q2724 : (Jvm.Cond.instanceMethod ({ cls := "GoatCourtModel", name := "salt", desc := "(IIZ)Z" } : Jvm.MethodName)) ∈ lw_all := lw_g (lw_at lw_m11 158 rfl) rfl
theorem q2725 : (Jvm.Cond.selects "GoatCourtModel" ({ cls := "GoatCourtModel", name := "salt", desc := "(IIZ)Z" } : Jvm.MethodName) ({ cls := "GoatCourtModel", name := "salt", desc := "(IIZ)Z" } : Jvm.MethodName)) ∈ lw_all := lw_g (lw_at lw_m11 159 rfl) rfl
theorem q2726 : (Jvm.Cond.code ({ cls := "GoatCourtModel", name := "salt", desc := "(IIZ)Z" } : Jvm.MethodName) prog_24_method_133_code (4 : Nat) (Option.some Jvm.ClassFile.FieldType.boolean)) ∈ lw_all := lw_g (lw_at lw_m11 160 rfl) rfl
theorem q2727 : (Jvm.Cond.methodLink "GoatCourtModel" (619 : Nat) ({ cls := "GoatCourtModel", name := "puts", desc := "(IIIZ)Z" } : Jvm.MethodName)) ∈ lw_all := lw_g (lw_at lw_m11 161 rfl) rfl
theorem q2728 : (Jvm.Cond.privateMethod ({ cls := "GoatCourtModel", name := "puts", desc := "(IIIZ)Z" } : Jvm.MethodName)) ∈ lw_tbl := lw_at lw_m11 162 rfl
theorem q2729 : (Jvm.Cond.instanceMethod ({ cls := "GoatCourtModel", name := "puts", desc := "(IIIZ)Z" } : Jvm.MethodName)) ∈ lw_all := lw_g (lw_at lw_m11 163 rfl) rfl
theorem q2730 : (Jvm.Cond.code ({ cls := "GoatCourtModel", name := "puts", desc := "(IIIZ)Z" } : Jvm.MethodName) prog_24_method_132_code (5 : Nat) (Option.some Jvm.ClassFile.FieldType.boolean)) ∈ lw_all := lw_g (lw_at lw_m11 164 rfl) rfl
theorem q2731 : (Jvm.Cond.methodLink "GoatCourtModel" (607 : Nat) ({ cls := "GoatCourtModel", name := "denied", desc := "(I)Z" } : Jvm.MethodName)) ∈ lw_all := lw_g (lw_at lw_m11 165 rfl) rfl
theorem q2732 : (Jvm.Cond.privateMethod ({ cls := "GoatCourtModel", name := "denied", desc := "(I)Z" } : Jvm.MethodName)) ∈ lw_tbl := lw_at lw_m11 166 rfl
theorem q2733 : (Jvm.Cond.instanceMethod ({ cls := "GoatCourtModel", name := "denied", desc := "(I)Z" } : Jvm.MethodName)) ∈ lw_all := lw_g (lw_at lw_m11 167 rfl) rfl
theorem q2734 : (Jvm.Cond.code ({ cls := "GoatCourtModel", name := "denied", desc := "(I)Z" } : Jvm.MethodName) prog_24_method_4_code (2 : Nat) (Option.some Jvm.ClassFile.FieldType.boolean)) ∈ lw_all := lw_g (lw_at lw_m11 168 rfl) rfl
theorem q2735 : (Jvm.Cond.methodLink "GoatCourtModel" (610 : Nat) ({ cls := "GoatCourtModel", name := "spots", desc := "(I)I" } : Jvm.MethodName)) ∈ lw_all := lw_g (lw_at lw_m11 169 rfl) rfl
theorem q2736 : (Jvm.Cond.privateMethod ({ cls := "GoatCourtModel", name := "spots", desc := "(I)I" } : Jvm.MethodName)) ∈ lw_tbl := lw_at lw_m11 170 rfl
theorem q2737 : (Jvm.Cond.instanceMethod ({ cls := "GoatCourtModel", name := "spots", desc := "(I)I" } : Jvm.MethodName)) ∈ lw_all := lw_g (lw_at lw_m11 171 rfl) rfl
theorem q2738 : (Jvm.Cond.code ({ cls := "GoatCourtModel", name := "spots", desc := "(I)I" } : Jvm.MethodName) prog_24_method_131_code (4 : Nat) (Option.some Jvm.ClassFile.FieldType.int)) ∈ lw_all := lw_g (lw_at lw_m11 172 rfl) rfl
theorem q2739 : (Jvm.Cond.methodLink "GoatCourtModel" (613 : Nat) ({ cls := "GoatCourtModel", name := "keeps", desc := "()V" } : Jvm.MethodName)) ∈ lw_all := lw_g (lw_at lw_m11 173 rfl) rfl
theorem q2740 : (Jvm.Cond.privateMethod ({ cls := "GoatCourtModel", name := "keeps", desc := "()V" } : Jvm.MethodName)) ∈ lw_tbl := lw_at lw_m11 174 rfl
theorem q2741 : (Jvm.Cond.instanceMethod ({ cls := "GoatCourtModel", name := "keeps", desc := "()V" } : Jvm.MethodName)) ∈ lw_all := lw_g (lw_at lw_m11 175 rfl) rfl
theorem q2742 : (Jvm.Cond.code ({ cls := "GoatCourtModel", name := "keeps", desc := "()V" } : Jvm.MethodName) prog_24_method_130_code (2 : Nat) (Option.none : Option Jvm.ClassFile.FieldType)) ∈ lw_all := lw_g (lw_at lw_m11 176 rfl) rfl
theorem q2743 : (Jvm.Cond.methodLink "GoatCourtModel" (616 : Nat) ({ cls := "GoatCourtModel", name := "granted", desc := "()Z" } : Jvm.MethodName)) ∈ lw_all := lw_g (lw_at lw_m11 177 rfl) rfl
theorem q2744 : (Jvm.Cond.privateMethod ({ cls := "GoatCourtModel", name := "granted", desc := "()Z" } : Jvm.MethodName)) ∈ lw_tbl := lw_at lw_m11 178 rfl
theorem q2745 : (Jvm.Cond.instanceMethod ({ cls := "GoatCourtModel", name := "granted", desc := "()Z" } : Jvm.MethodName)) ∈ lw_all := lw_g (lw_at lw_m11 179 rfl) rfl
theorem q2746 : (Jvm.Cond.code ({ cls := "GoatCourtModel", name := "granted", desc := "()Z" } : Jvm.MethodName) prog_24_method_6_code (1 : Nat) (Option.some Jvm.ClassFile.FieldType.boolean)) ∈ lw_all := lw_g (lw_at lw_m11 180 rfl) rfl
theorem q2748 : (Jvm.Cond.instanceMethod ({ cls := "GoatCourtModel", name := "dog", desc := "(IIZ)Z" } : Jvm.MethodName)) ∈ lw_all := lw_g (lw_at lw_m11 182 rfl) rfl
theorem q2749 : (Jvm.Cond.selects "GoatCourtModel" ({ cls := "GoatCourtModel", name := "dog", desc := "(IIZ)Z" } : Jvm.MethodName) ({ cls := "GoatCourtModel", name := "dog", desc := "(IIZ)Z" } : Jvm.MethodName)) ∈ lw_all := lw_g (lw_at lw_m11 183 rfl) rfl
theorem q2750 : (Jvm.Cond.code ({ cls := "GoatCourtModel", name := "dog", desc := "(IIZ)Z" } : Jvm.MethodName) prog_24_method_134_code (4 : Nat) (Option.some Jvm.ClassFile.FieldType.boolean)) ∈ lw_all := lw_g (lw_at lw_m11 184 rfl) rfl
theorem q2752 : (Jvm.Cond.instanceMethod ({ cls := "GoatCourtModel", name := "hedge", desc := "(IZ)Z" } : Jvm.MethodName)) ∈ lw_all := lw_g (lw_at lw_m11 186 rfl) rfl
theorem q2753 : (Jvm.Cond.selects "GoatCourtModel" ({ cls := "GoatCourtModel", name := "hedge", desc := "(IZ)Z" } : Jvm.MethodName) ({ cls := "GoatCourtModel", name := "hedge", desc := "(IZ)Z" } : Jvm.MethodName)) ∈ lw_all := lw_g (lw_at lw_m11 187 rfl) rfl
theorem q2754 : (Jvm.Cond.code ({ cls := "GoatCourtModel", name := "hedge", desc := "(IZ)Z" } : Jvm.MethodName) prog_24_method_135_code (3 : Nat) (Option.some Jvm.ClassFile.FieldType.boolean)) ∈ lw_all := lw_g (lw_at lw_m11 188 rfl) rfl
theorem q2756 : (Jvm.Cond.instanceMethod ({ cls := "GoatCourtModel", name := "hear", desc := "(IZ)Z" } : Jvm.MethodName)) ∈ lw_all := lw_g (lw_at lw_m11 190 rfl) rfl
theorem q2757 : (Jvm.Cond.selects "GoatCourtModel" ({ cls := "GoatCourtModel", name := "hear", desc := "(IZ)Z" } : Jvm.MethodName) ({ cls := "GoatCourtModel", name := "hear", desc := "(IZ)Z" } : Jvm.MethodName)) ∈ lw_all := lw_g (lw_at lw_m11 191 rfl) rfl
theorem q2758 : (Jvm.Cond.code ({ cls := "GoatCourtModel", name := "hear", desc := "(IZ)Z" } : Jvm.MethodName) prog_24_method_136_code (3 : Nat) (Option.some Jvm.ClassFile.FieldType.boolean)) ∈ lw_all := lw_g (lw_at lw_m11 192 rfl) rfl
theorem q2760 : (Jvm.Cond.instanceMethod ({ cls := "GoatCourtModel", name := "undo", desc := "()Z" } : Jvm.MethodName)) ∈ lw_all := lw_g (lw_at lw_m11 194 rfl) rfl
theorem q2761 : (Jvm.Cond.selects "GoatCourtModel" ({ cls := "GoatCourtModel", name := "undo", desc := "()Z" } : Jvm.MethodName) ({ cls := "GoatCourtModel", name := "undo", desc := "()Z" } : Jvm.MethodName)) ∈ lw_all := lw_g (lw_at lw_m11 195 rfl) rfl
theorem q2762 : (Jvm.Cond.code ({ cls := "GoatCourtModel", name := "undo", desc := "()Z" } : Jvm.MethodName) prog_24_method_137_code (2 : Nat) (Option.some Jvm.ClassFile.FieldType.boolean)) ∈ lw_all := lw_g (lw_at lw_m11 196 rfl) rfl
theorem q2764 : (Jvm.Cond.instanceMethod ({ cls := "GoatCourtModel", name := "mark", desc := "()I" } : Jvm.MethodName)) ∈ lw_all := lw_g (lw_at lw_m11 198 rfl) rfl
theorem q2765 : (Jvm.Cond.selects "GoatCourtModel" ({ cls := "GoatCourtModel", name := "mark", desc := "()I" } : Jvm.MethodName) ({ cls := "GoatCourtModel", name := "mark", desc := "()I" } : Jvm.MethodName)) ∈ lw_all := lw_g (lw_at lw_m11 199 rfl) rfl
theorem q2766 : (Jvm.Cond.code ({ cls := "GoatCourtModel", name := "mark", desc := "()I" } : Jvm.MethodName) prog_24_method_138_code (2 : Nat) (Option.some Jvm.ClassFile.FieldType.int)) ∈ lw_all := lw_g (lw_at lw_m11 200 rfl) rfl
theorem q2768 : (Jvm.Cond.instanceMethod ({ cls := "GoatCourtModel", name := "back", desc := "(I)Z" } : Jvm.MethodName)) ∈ lw_all := lw_g (lw_at lw_m11 202 rfl) rfl
theorem q2769 : (Jvm.Cond.selects "GoatCourtModel" ({ cls := "GoatCourtModel", name := "back", desc := "(I)Z" } : Jvm.MethodName) ({ cls := "GoatCourtModel", name := "back", desc := "(I)Z" } : Jvm.MethodName)) ∈ lw_all := lw_g (lw_at lw_m11 203 rfl) rfl
theorem q2770 : (Jvm.Cond.code ({ cls := "GoatCourtModel", name := "back", desc := "(I)Z" } : Jvm.MethodName) prog_24_method_139_code (3 : Nat) (Option.some Jvm.ClassFile.FieldType.boolean)) ∈ lw_all := lw_g (lw_at lw_m11 204 rfl) rfl
theorem q2772 : (Jvm.Cond.instanceMethod ({ cls := "GoatCourtModel", name := "put", desc := "(IZ)I" } : Jvm.MethodName)) ∈ lw_all := lw_g (lw_at lw_m11 206 rfl) rfl
theorem q2773 : (Jvm.Cond.selects "GoatCourtModel" ({ cls := "GoatCourtModel", name := "put", desc := "(IZ)I" } : Jvm.MethodName) ({ cls := "GoatCourtModel", name := "put", desc := "(IZ)I" } : Jvm.MethodName)) ∈ lw_all := lw_g (lw_at lw_m11 207 rfl) rfl
theorem q2774 : (Jvm.Cond.code ({ cls := "GoatCourtModel", name := "put", desc := "(IZ)I" } : Jvm.MethodName) prog_24_method_140_code (5 : Nat) (Option.some Jvm.ClassFile.FieldType.int)) ∈ lw_all := lw_g (lw_at lw_m11 208 rfl) rfl
theorem q2776 : (Jvm.Cond.instanceMethod ({ cls := "GoatCourtModel", name := "size", desc := "(I)I" } : Jvm.MethodName)) ∈ lw_all := lw_g (lw_at lw_m11 210 rfl) rfl
theorem q2777 : (Jvm.Cond.selects "GoatCourtModel" ({ cls := "GoatCourtModel", name := "size", desc := "(I)I" } : Jvm.MethodName) ({ cls := "GoatCourtModel", name := "size", desc := "(I)I" } : Jvm.MethodName)) ∈ lw_all := lw_g (lw_at lw_m11 211 rfl) rfl
theorem q2778 : (Jvm.Cond.code ({ cls := "GoatCourtModel", name := "size", desc := "(I)I" } : Jvm.MethodName) prog_24_method_141_code (2 : Nat) (Option.some Jvm.ClassFile.FieldType.int)) ∈ lw_all := lw_g (lw_at lw_m11 212 rfl) rfl
theorem q2780 : (Jvm.Cond.instanceMethod ({ cls := "GoatCourtModel", name := "trouble", desc := "()I" } : Jvm.MethodName)) ∈ lw_all := lw_g (lw_at lw_m11 214 rfl) rfl
theorem q2781 : (Jvm.Cond.selects "GoatCourtModel" ({ cls := "GoatCourtModel", name := "trouble", desc := "()I" } : Jvm.MethodName) ({ cls := "GoatCourtModel", name := "trouble", desc := "()I" } : Jvm.MethodName)) ∈ lw_all := lw_g (lw_at lw_m11 215 rfl) rfl
theorem q2782 : (Jvm.Cond.code ({ cls := "GoatCourtModel", name := "trouble", desc := "()I" } : Jvm.MethodName) prog_24_method_142_code (1 : Nat) (Option.some Jvm.ClassFile.FieldType.int)) ∈ lw_all := lw_g (lw_at lw_m11 216 rfl) rfl
theorem q2794 : (Jvm.Cond.castable "GoatCourtModel" "java/lang/Object") ∈ lw_tbl := lw_at lw_m11 228 rfl
theorem in_X7 : ∀ w ∈ wsX70, w ∈ lw_all := lw_in wsX70 [1928, 1930, 1932, 1934, 1936, 1938, 1940, 1942, 1944, 1946, 1948, 1950, 1952, 1954, 1956, 1958, 1960, 1962, 1964, 1966, 1968, 1970, 1972, 1974, 1976, 1978, 1980, 1982, 1984, 1986, 1988, 1990, 1992, 1994, 1996, 1998, 2000, 2002, 2004] (by decide +kernel) (by decide +kernel)
/-! GoatCourt$Hill -/
def RX8 : String := "GoatCourt$Hill"
def TX8 : u_T := fun k => match k with
  | 0 => ("GoatCourt$Hill", "places", "[LGoatCourt$Place;", true)
  | 1 => ("GoatCourt$Hill", "pathOne", "[I", true)
  | 2 => ("GoatCourt$Hill", "pathOther", "[I", true)
  | 3 => ("GoatCourt$Hill", "steps", "[I", true)
  | 4 => ("GoatCourt$Hill", "told", "[I", true)
  | 5 => ("GoatCourt$Hill", "people", "[LGoatCourt$Person;", true)
  | 6 => ("GoatCourt$Hill", "goats", "[LGoatCourt$Goat;", true)
  | 7 => ("GoatCourt$Hill", "clues", "[LGoatCourt$Clue;", true)
  | 8 => ("GoatCourt$Hill", "facts", "[LGoatCourt$Fact;", true)
  | 9 => ("GoatCourt$Hill", "rules", "[LGoatCourt$Rule;", true)
  | 10 => ("GoatCourt$Hill", "courts", "[LGoatCourt$Court;", true)
  | 11 => ("GoatCourt$Hill", "hours", "I", false)
  | 12 => ("GoatCourt$Hill", "plants", "I", false)
  | 13 => ("GoatCourt$Hill", "placeMany", "I", false)
  | 14 => ("GoatCourt$Hill", "pathMany", "I", false)
  | 15 => ("GoatCourt$Hill", "personMany", "I", false)
  | 16 => ("GoatCourt$Hill", "goatMany", "I", false)
  | 17 => ("GoatCourt$Hill", "fearMany", "I", false)
  | 18 => ("GoatCourt$Hill", "clueMany", "I", false)
  | 19 => ("GoatCourt$Hill", "factMany", "I", false)
  | 20 => ("GoatCourt$Hill", "ruleMany", "I", false)
  | 21 => ("GoatCourt$Hill", "stepMany", "I", false)
  | 22 => ("GoatCourt$Hill", "courtMany", "I", false)
  | _ => ("GoatCourt$Hill", "hasCheese", "Z", false)
def tyX8 : Nat → FieldType := fun k => match k with
  | 0 => .array (.object "GoatCourt$Place")
  | 1 => .array .int
  | 2 => .array .int
  | 3 => .array .int
  | 4 => .array .int
  | 5 => .array (.object "GoatCourt$Person")
  | 6 => .array (.object "GoatCourt$Goat")
  | 7 => .array (.object "GoatCourt$Clue")
  | 8 => .array (.object "GoatCourt$Fact")
  | 9 => .array (.object "GoatCourt$Rule")
  | 10 => .array (.object "GoatCourt$Court")
  | 11 => .int
  | 12 => .int
  | 13 => .int
  | 14 => .int
  | 15 => .int
  | 16 => .int
  | 17 => .int
  | 18 => .int
  | 19 => .int
  | 20 => .int
  | 21 => .int
  | 22 => .int
  | _ => .boolean
abbrev wsX80 : List Cond := u_ws RX8 TX8 24
theorem nmX8 : ∀ a, a < 24 → ∀ b, b < 24 → a ≠ b → (TX8 a).2.1 ≠ (TX8 b).2.1 := by decide +kernel
theorem tyX8_ok : ∀ k, k < 24 → parseFieldDescriptor (TX8 k).2.2.1 = some (tyX8 k) := by decide +kernel
abbrev cX8_init : ByteArray := prog_10_method_1_code
def yX8_init : MethodName := ⟨RX8, "<init>", "()V"⟩
abbrev cX8_find : ByteArray := prog_10_method_3_code
def yX8_find : MethodName := ⟨RX8, "find", "(Ljava/lang/String;)LGoatCourt$Named;"⟩
abbrev cX8_among : ByteArray := prog_10_method_2_code
def yX8_among : MethodName := ⟨RX8, "among", "([LGoatCourt$Named;ILjava/lang/String;)LGoatCourt$Named;"⟩
abbrev cX8_path : ByteArray := prog_10_method_4_code
def yX8_path : MethodName := ⟨RX8, "path", "(II)I"⟩
abbrev cX8_cases : ByteArray := prog_10_method_5_code
def yX8_cases : MethodName := ⟨RX8, "cases", "()I"⟩
abbrev cX8_storyOf : ByteArray := prog_10_method_6_code
def yX8_storyOf : MethodName := ⟨RX8, "storyOf", "(II)I"⟩
abbrev cX8_clueGoats : ByteArray := prog_10_method_7_code
def yX8_clueGoats : MethodName := ⟨RX8, "clueGoats", "()I"⟩
abbrev cX8_holding : ByteArray := prog_10_method_9_code
def yX8_holding : MethodName := ⟨RX8, "holding", "()I"⟩
abbrev cX8_closure : ByteArray := prog_10_method_8_code
def yX8_closure : MethodName := ⟨RX8, "closure", "(II)I"⟩

theorem q177 : (Jvm.Cond.initialized "GoatCourt$Hill") ∈ lw_all := lw_g (lw_at lw_m1 11 rfl) rfl
theorem q501 : (Jvm.Cond.instantiable "GoatCourt$Hill" (24 : Nat)) ∈ lw_all := lw_g (lw_at lw_m2 95 rfl) rfl
theorem q503 : (Jvm.Cond.instanceMethod ({ cls := "GoatCourt$Hill", name := "<init>", desc := "()V" } : Jvm.MethodName)) ∈ lw_all := lw_g (lw_at lw_m2 97 rfl) rfl
theorem q504 : (Jvm.Cond.code ({ cls := "GoatCourt$Hill", name := "<init>", desc := "()V" } : Jvm.MethodName) prog_10_method_1_code (1 : Nat) (Option.none : Option Jvm.ClassFile.FieldType)) ∈ lw_all := lw_g (lw_at lw_m2 98 rfl) rfl
theorem q505 : (Jvm.Cond.methodLink "GoatCourt$Hill" (3 : Nat) ({ cls := "java/lang/Object", name := "<init>", desc := "()V" } : Jvm.MethodName)) ∈ lw_all := lw_g (lw_at lw_m2 99 rfl) rfl
theorem q506 : (Jvm.Cond.classLink "GoatCourt$Hill" (9 : Nat) "GoatCourt$Place") ∈ lw_all := lw_g (lw_at lw_m2 100 rfl) rfl
theorem q508 : (Jvm.Cond.classLink "GoatCourt$Hill" (30 : Nat) "GoatCourt$Person") ∈ lw_all := lw_g (lw_at lw_m2 102 rfl) rfl
theorem q510 : (Jvm.Cond.classLink "GoatCourt$Hill" (36 : Nat) "GoatCourt$Goat") ∈ lw_all := lw_g (lw_at lw_m2 104 rfl) rfl
theorem q512 : (Jvm.Cond.classLink "GoatCourt$Hill" (42 : Nat) "GoatCourt$Clue") ∈ lw_all := lw_g (lw_at lw_m2 106 rfl) rfl
theorem q514 : (Jvm.Cond.classLink "GoatCourt$Hill" (48 : Nat) "GoatCourt$Fact") ∈ lw_all := lw_g (lw_at lw_m2 108 rfl) rfl
theorem q516 : (Jvm.Cond.classLink "GoatCourt$Hill" (54 : Nat) "GoatCourt$Rule") ∈ lw_all := lw_g (lw_at lw_m2 110 rfl) rfl
theorem q518 : (Jvm.Cond.classLink "GoatCourt$Hill" (60 : Nat) "GoatCourt$Court") ∈ lw_all := lw_g (lw_at lw_m2 112 rfl) rfl
theorem q520 : (Jvm.Cond.fieldLink "GoatCourt$Hill" (11 : Nat) "GoatCourt$Hill" "places" "[LGoatCourt$Place;") ∈ lw_all := lw_g (lw_at lw_m2 114 rfl) rfl
theorem q524 : (Jvm.Cond.fieldLink "GoatCourt$Hill" (17 : Nat) "GoatCourt$Hill" "pathOne" "[I") ∈ lw_all := lw_g (lw_at lw_m2 118 rfl) rfl
theorem q526 : (Jvm.Cond.fieldLink "GoatCourt$Hill" (21 : Nat) "GoatCourt$Hill" "pathOther" "[I") ∈ lw_all := lw_g (lw_at lw_m2 120 rfl) rfl
theorem q528 : (Jvm.Cond.fieldLink "GoatCourt$Hill" (24 : Nat) "GoatCourt$Hill" "steps" "[I") ∈ lw_all := lw_g (lw_at lw_m2 122 rfl) rfl
theorem q531 : (Jvm.Cond.fieldLink "GoatCourt$Hill" (27 : Nat) "GoatCourt$Hill" "told" "[I") ∈ lw_all := lw_g (lw_at lw_m2 125 rfl) rfl
theorem q534 : (Jvm.Cond.fieldLink "GoatCourt$Hill" (32 : Nat) "GoatCourt$Hill" "people" "[LGoatCourt$Person;") ∈ lw_all := lw_g (lw_at lw_m2 128 rfl) rfl
theorem q538 : (Jvm.Cond.fieldLink "GoatCourt$Hill" (38 : Nat) "GoatCourt$Hill" "goats" "[LGoatCourt$Goat;") ∈ lw_all := lw_g (lw_at lw_m2 132 rfl) rfl
theorem q542 : (Jvm.Cond.fieldLink "GoatCourt$Hill" (44 : Nat) "GoatCourt$Hill" "clues" "[LGoatCourt$Clue;") ∈ lw_all := lw_g (lw_at lw_m2 136 rfl) rfl
theorem q546 : (Jvm.Cond.fieldLink "GoatCourt$Hill" (50 : Nat) "GoatCourt$Hill" "facts" "[LGoatCourt$Fact;") ∈ lw_all := lw_g (lw_at lw_m2 140 rfl) rfl
theorem q549 : (Jvm.Cond.fieldLink "GoatCourt$Hill" (56 : Nat) "GoatCourt$Hill" "rules" "[LGoatCourt$Rule;") ∈ lw_all := lw_g (lw_at lw_m2 143 rfl) rfl
theorem q552 : (Jvm.Cond.fieldLink "GoatCourt$Hill" (62 : Nat) "GoatCourt$Hill" "courts" "[LGoatCourt$Court;") ∈ lw_all := lw_g (lw_at lw_m2 146 rfl) rfl
theorem q561 : (Jvm.Cond.fieldLink "GoatCourt$Hill" (78 : Nat) "GoatCourt$Hill" "placeMany" "I") ∈ lw_all := lw_g (lw_at lw_m2 155 rfl) rfl
theorem q564 : (Jvm.Cond.fieldLink "GoatCourt$Hill" (98 : Nat) "GoatCourt$Hill" "pathMany" "I") ∈ lw_all := lw_g (lw_at lw_m2 158 rfl) rfl
theorem q567 : (Jvm.Cond.fieldLink "GoatCourt$Hill" (86 : Nat) "GoatCourt$Hill" "personMany" "I") ∈ lw_all := lw_g (lw_at lw_m2 161 rfl) rfl
theorem q573 : (Jvm.Cond.fieldLink "GoatCourt$Hill" (89 : Nat) "GoatCourt$Hill" "goatMany" "I") ∈ lw_all := lw_g (lw_at lw_m2 167 rfl) rfl
theorem q577 : (Jvm.Cond.fieldLink "GoatCourt$Hill" (110 : Nat) "GoatCourt$Hill" "clueMany" "I") ∈ lw_all := lw_g (lw_at lw_m2 171 rfl) rfl
theorem q581 : (Jvm.Cond.fieldLink "GoatCourt$Hill" (92 : Nat) "GoatCourt$Hill" "factMany" "I") ∈ lw_all := lw_g (lw_at lw_m2 175 rfl) rfl
theorem q584 : (Jvm.Cond.fieldLink "GoatCourt$Hill" (116 : Nat) "GoatCourt$Hill" "ruleMany" "I") ∈ lw_all := lw_g (lw_at lw_m2 178 rfl) rfl
theorem q590 : (Jvm.Cond.fieldLink "GoatCourt$Hill" (95 : Nat) "GoatCourt$Hill" "courtMany" "I") ∈ lw_all := lw_g (lw_at lw_m2 184 rfl) rfl
theorem q595 : (Jvm.Cond.laysFinal "GoatCourt$Hill" "GoatCourt$Hill" "places" "[LGoatCourt$Place;") ∈ lw_all := lw_g (lw_at lw_m2 189 rfl) rfl
theorem q596 : (Jvm.Cond.soleField "GoatCourt$Hill" "places") ∈ lw_all := lw_g (lw_at lw_m2 190 rfl) rfl
theorem q597 : (Jvm.Cond.laysFinal "GoatCourt$Hill" "GoatCourt$Hill" "pathOne" "[I") ∈ lw_all := lw_g (lw_at lw_m2 191 rfl) rfl
theorem q598 : (Jvm.Cond.soleField "GoatCourt$Hill" "pathOne") ∈ lw_all := lw_g (lw_at lw_m2 192 rfl) rfl
theorem q599 : (Jvm.Cond.laysFinal "GoatCourt$Hill" "GoatCourt$Hill" "pathOther" "[I") ∈ lw_all := lw_g (lw_at lw_m2 193 rfl) rfl
theorem q600 : (Jvm.Cond.soleField "GoatCourt$Hill" "pathOther") ∈ lw_all := lw_g (lw_at lw_m2 194 rfl) rfl
theorem q601 : (Jvm.Cond.laysFinal "GoatCourt$Hill" "GoatCourt$Hill" "steps" "[I") ∈ lw_all := lw_g (lw_at lw_m2 195 rfl) rfl
theorem q602 : (Jvm.Cond.soleField "GoatCourt$Hill" "steps") ∈ lw_all := lw_g (lw_at lw_m2 196 rfl) rfl
theorem q603 : (Jvm.Cond.laysFinal "GoatCourt$Hill" "GoatCourt$Hill" "told" "[I") ∈ lw_all := lw_g (lw_at lw_m2 197 rfl) rfl
theorem q604 : (Jvm.Cond.soleField "GoatCourt$Hill" "told") ∈ lw_all := lw_g (lw_at lw_m2 198 rfl) rfl
theorem q605 : (Jvm.Cond.laysFinal "GoatCourt$Hill" "GoatCourt$Hill" "people" "[LGoatCourt$Person;") ∈ lw_all := lw_g (lw_at lw_m2 199 rfl) rfl
theorem q606 : (Jvm.Cond.soleField "GoatCourt$Hill" "people") ∈ lw_all := lw_g (lw_at lw_m2 200 rfl) rfl
theorem q607 : (Jvm.Cond.laysFinal "GoatCourt$Hill" "GoatCourt$Hill" "goats" "[LGoatCourt$Goat;") ∈ lw_all := lw_g (lw_at lw_m2 201 rfl) rfl
theorem q608 : (Jvm.Cond.soleField "GoatCourt$Hill" "goats") ∈ lw_all := lw_g (lw_at lw_m2 202 rfl) rfl
theorem q609 : (Jvm.Cond.laysFinal "GoatCourt$Hill" "GoatCourt$Hill" "clues" "[LGoatCourt$Clue;") ∈ lw_all := lw_g (lw_at lw_m2 203 rfl) rfl
theorem q610 : (Jvm.Cond.soleField "GoatCourt$Hill" "clues") ∈ lw_all := lw_g (lw_at lw_m2 204 rfl) rfl
theorem q611 : (Jvm.Cond.laysFinal "GoatCourt$Hill" "GoatCourt$Hill" "facts" "[LGoatCourt$Fact;") ∈ lw_all := lw_g (lw_at lw_m2 205 rfl) rfl
theorem q612 : (Jvm.Cond.soleField "GoatCourt$Hill" "facts") ∈ lw_all := lw_g (lw_at lw_m2 206 rfl) rfl
theorem q613 : (Jvm.Cond.laysFinal "GoatCourt$Hill" "GoatCourt$Hill" "rules" "[LGoatCourt$Rule;") ∈ lw_all := lw_g (lw_at lw_m2 207 rfl) rfl
theorem q614 : (Jvm.Cond.soleField "GoatCourt$Hill" "rules") ∈ lw_all := lw_g (lw_at lw_m2 208 rfl) rfl
theorem q615 : (Jvm.Cond.laysFinal "GoatCourt$Hill" "GoatCourt$Hill" "courts" "[LGoatCourt$Court;") ∈ lw_all := lw_g (lw_at lw_m2 209 rfl) rfl
theorem q616 : (Jvm.Cond.soleField "GoatCourt$Hill" "courts") ∈ lw_all := lw_g (lw_at lw_m2 210 rfl) rfl
theorem q617 : (Jvm.Cond.lays "GoatCourt$Hill" "GoatCourt$Hill" "hours" "I") ∈ lw_all := lw_g (lw_at lw_m2 211 rfl) rfl
theorem q618 : (Jvm.Cond.soleField "GoatCourt$Hill" "hours") ∈ lw_all := lw_g (lw_at lw_m2 212 rfl) rfl
theorem q619 : (Jvm.Cond.lays "GoatCourt$Hill" "GoatCourt$Hill" "plants" "I") ∈ lw_all := lw_g (lw_at lw_m2 213 rfl) rfl
theorem q620 : (Jvm.Cond.soleField "GoatCourt$Hill" "plants") ∈ lw_all := lw_g (lw_at lw_m2 214 rfl) rfl
theorem q621 : (Jvm.Cond.lays "GoatCourt$Hill" "GoatCourt$Hill" "placeMany" "I") ∈ lw_all := lw_g (lw_at lw_m2 215 rfl) rfl
theorem q622 : (Jvm.Cond.soleField "GoatCourt$Hill" "placeMany") ∈ lw_all := lw_g (lw_at lw_m2 216 rfl) rfl
theorem q623 : (Jvm.Cond.lays "GoatCourt$Hill" "GoatCourt$Hill" "pathMany" "I") ∈ lw_all := lw_g (lw_at lw_m2 217 rfl) rfl
theorem q624 : (Jvm.Cond.soleField "GoatCourt$Hill" "pathMany") ∈ lw_all := lw_g (lw_at lw_m2 218 rfl) rfl
theorem q625 : (Jvm.Cond.lays "GoatCourt$Hill" "GoatCourt$Hill" "personMany" "I") ∈ lw_all := lw_g (lw_at lw_m2 219 rfl) rfl
theorem q626 : (Jvm.Cond.soleField "GoatCourt$Hill" "personMany") ∈ lw_all := lw_g (lw_at lw_m2 220 rfl) rfl
theorem q627 : (Jvm.Cond.lays "GoatCourt$Hill" "GoatCourt$Hill" "goatMany" "I") ∈ lw_all := lw_g (lw_at lw_m2 221 rfl) rfl
theorem q628 : (Jvm.Cond.soleField "GoatCourt$Hill" "goatMany") ∈ lw_all := lw_g (lw_at lw_m2 222 rfl) rfl
theorem q629 : (Jvm.Cond.lays "GoatCourt$Hill" "GoatCourt$Hill" "fearMany" "I") ∈ lw_all := lw_g (lw_at lw_m2 223 rfl) rfl
theorem q630 : (Jvm.Cond.soleField "GoatCourt$Hill" "fearMany") ∈ lw_all := lw_g (lw_at lw_m2 224 rfl) rfl
theorem q631 : (Jvm.Cond.lays "GoatCourt$Hill" "GoatCourt$Hill" "clueMany" "I") ∈ lw_all := lw_g (lw_at lw_m2 225 rfl) rfl
theorem q632 : (Jvm.Cond.soleField "GoatCourt$Hill" "clueMany") ∈ lw_all := lw_g (lw_at lw_m2 226 rfl) rfl
theorem q633 : (Jvm.Cond.lays "GoatCourt$Hill" "GoatCourt$Hill" "factMany" "I") ∈ lw_all := lw_g (lw_at lw_m2 227 rfl) rfl
theorem q634 : (Jvm.Cond.soleField "GoatCourt$Hill" "factMany") ∈ lw_all := lw_g (lw_at lw_m2 228 rfl) rfl
theorem q635 : (Jvm.Cond.lays "GoatCourt$Hill" "GoatCourt$Hill" "ruleMany" "I") ∈ lw_all := lw_g (lw_at lw_m2 229 rfl) rfl
theorem q636 : (Jvm.Cond.soleField "GoatCourt$Hill" "ruleMany") ∈ lw_all := lw_g (lw_at lw_m2 230 rfl) rfl
theorem q637 : (Jvm.Cond.lays "GoatCourt$Hill" "GoatCourt$Hill" "stepMany" "I") ∈ lw_all := lw_g (lw_at lw_m2 231 rfl) rfl
theorem q638 : (Jvm.Cond.soleField "GoatCourt$Hill" "stepMany") ∈ lw_all := lw_g (lw_at lw_m2 232 rfl) rfl
theorem q639 : (Jvm.Cond.lays "GoatCourt$Hill" "GoatCourt$Hill" "courtMany" "I") ∈ lw_all := lw_g (lw_at lw_m2 233 rfl) rfl
theorem q640 : (Jvm.Cond.soleField "GoatCourt$Hill" "courtMany") ∈ lw_all := lw_g (lw_at lw_m2 234 rfl) rfl
theorem q641 : (Jvm.Cond.lays "GoatCourt$Hill" "GoatCourt$Hill" "hasCheese" "Z") ∈ lw_all := lw_g (lw_at lw_m2 235 rfl) rfl
theorem q642 : (Jvm.Cond.soleField "GoatCourt$Hill" "hasCheese") ∈ lw_all := lw_g (lw_at lw_m2 236 rfl) rfl
theorem q643 : (Jvm.Cond.superclass "GoatCourt$Hill" "java/lang/Object") ∈ lw_all := lw_g (lw_at lw_m2 237 rfl) rfl
theorem q869 : (Jvm.Cond.instanceMethod ({ cls := "GoatCourt$Hill", name := "find", desc := "(Ljava/lang/String;)LGoatCourt$Named;" } : Jvm.MethodName)) ∈ lw_all := lw_g (lw_at lw_m3 223 rfl) rfl
theorem q870 : (Jvm.Cond.selects "GoatCourt$Hill" ({ cls := "GoatCourt$Hill", name := "find", desc := "(Ljava/lang/String;)LGoatCourt$Named;" } : Jvm.MethodName) ({ cls := "GoatCourt$Hill", name := "find", desc := "(Ljava/lang/String;)LGoatCourt$Named;" } : Jvm.MethodName)) ∈ lw_all := lw_g (lw_at lw_m3 224 rfl) rfl
theorem q871 : (Jvm.Cond.code ({ cls := "GoatCourt$Hill", name := "find", desc := "(Ljava/lang/String;)LGoatCourt$Named;" } : Jvm.MethodName) prog_10_method_3_code (3 : Nat) (Option.some (Jvm.ClassFile.FieldType.object "GoatCourt$Named"))) ∈ lw_all := lw_g (lw_at lw_m3 225 rfl) rfl
theorem q872 : (Jvm.Cond.methodLink "GoatCourt$Hill" (82 : Nat) ({ cls := "GoatCourt$Hill", name := "among", desc := "([LGoatCourt$Named;ILjava/lang/String;)LGoatCourt$Named;" } : Jvm.MethodName)) ∈ lw_all := lw_g (lw_at lw_m3 226 rfl) rfl
theorem q873 : (Jvm.Cond.static ({ cls := "GoatCourt$Hill", name := "among", desc := "([LGoatCourt$Named;ILjava/lang/String;)LGoatCourt$Named;" } : Jvm.MethodName)) ∈ lw_all := lw_g (lw_at lw_m3 227 rfl) rfl
theorem q874 : (Jvm.Cond.code ({ cls := "GoatCourt$Hill", name := "among", desc := "([LGoatCourt$Named;ILjava/lang/String;)LGoatCourt$Named;" } : Jvm.MethodName) prog_10_method_2_code (4 : Nat) (Option.some (Jvm.ClassFile.FieldType.object "GoatCourt$Named"))) ∈ lw_all := lw_g (lw_at lw_m3 228 rfl) rfl
theorem q875 : (Jvm.Cond.methodLink "GoatCourt$Hill" (72 : Nat) ({ cls := "java/lang/String", name := "equals", desc := "(Ljava/lang/Object;)Z" } : Jvm.MethodName)) ∈ lw_all := lw_g (lw_at lw_m3 229 rfl) rfl
theorem q890 : (Jvm.Cond.fieldLink "GoatCourt$Hill" (66 : Nat) "GoatCourt$Named" "name" "Ljava/lang/String;") ∈ lw_all := lw_g (lw_at lw_m4 4 rfl) rfl
theorem q936 : (Jvm.Cond.instanceMethod ({ cls := "GoatCourt$Hill", name := "path", desc := "(II)I" } : Jvm.MethodName)) ∈ lw_all := lw_g (lw_at lw_m4 50 rfl) rfl
theorem q937 : (Jvm.Cond.selects "GoatCourt$Hill" ({ cls := "GoatCourt$Hill", name := "path", desc := "(II)I" } : Jvm.MethodName) ({ cls := "GoatCourt$Hill", name := "path", desc := "(II)I" } : Jvm.MethodName)) ∈ lw_all := lw_g (lw_at lw_m4 51 rfl) rfl
theorem q938 : (Jvm.Cond.code ({ cls := "GoatCourt$Hill", name := "path", desc := "(II)I" } : Jvm.MethodName) prog_10_method_4_code (4 : Nat) (Option.some Jvm.ClassFile.FieldType.int)) ∈ lw_all := lw_g (lw_at lw_m4 52 rfl) rfl
theorem q952 : (Jvm.Cond.fieldLink "GoatCourt$Hill" (101 : Nat) "GoatCourt$Person" "many" "I") ∈ lw_all := lw_g (lw_at lw_m4 66 rfl) rfl
theorem q1149 : (Jvm.Cond.fieldLink "GoatCourt$Hill" (113 : Nat) "GoatCourt$Clue" "goat" "I") ∈ lw_all := lw_g (lw_at lw_m5 23 rfl) rfl
theorem q1209 : (Jvm.Cond.fieldLink "GoatCourt$Hill" (130 : Nat) "GoatCourt$Fact" "holds" "Z") ∈ lw_all := lw_g (lw_at lw_m5 83 rfl) rfl
theorem q1237 : (Jvm.Cond.fieldLink "GoatCourt$Hill" (123 : Nat) "GoatCourt$Rule" "head" "I") ∈ lw_all := lw_g (lw_at lw_m5 111 rfl) rfl
theorem q1297 : (Jvm.Cond.instanceMethod ({ cls := "GoatCourt$Hill", name := "cases", desc := "()I" } : Jvm.MethodName)) ∈ lw_all := lw_g (lw_at lw_m5 171 rfl) rfl
theorem q1298 : (Jvm.Cond.selects "GoatCourt$Hill" ({ cls := "GoatCourt$Hill", name := "cases", desc := "()I" } : Jvm.MethodName) ({ cls := "GoatCourt$Hill", name := "cases", desc := "()I" } : Jvm.MethodName)) ∈ lw_all := lw_g (lw_at lw_m5 172 rfl) rfl
theorem q1299 : (Jvm.Cond.code ({ cls := "GoatCourt$Hill", name := "cases", desc := "()I" } : Jvm.MethodName) prog_10_method_5_code (3 : Nat) (Option.some Jvm.ClassFile.FieldType.int)) ∈ lw_all := lw_g (lw_at lw_m5 173 rfl) rfl
theorem q1300 : (Jvm.Cond.methodLink "GoatCourt$Hill" (104 : Nat) ({ cls := "java/lang/Math", name := "max", desc := "(II)I" } : Jvm.MethodName)) ∈ lw_all := lw_g (lw_at lw_m5 174 rfl) rfl
theorem q1421 : (Jvm.Cond.instanceMethod ({ cls := "GoatCourt$Hill", name := "storyOf", desc := "(II)I" } : Jvm.MethodName)) ∈ lw_all := lw_g (lw_at lw_m6 55 rfl) rfl
theorem q1422 : (Jvm.Cond.selects "GoatCourt$Hill" ({ cls := "GoatCourt$Hill", name := "storyOf", desc := "(II)I" } : Jvm.MethodName) ({ cls := "GoatCourt$Hill", name := "storyOf", desc := "(II)I" } : Jvm.MethodName)) ∈ lw_all := lw_g (lw_at lw_m6 56 rfl) rfl
theorem q1423 : (Jvm.Cond.code ({ cls := "GoatCourt$Hill", name := "storyOf", desc := "(II)I" } : Jvm.MethodName) prog_10_method_6_code (5 : Nat) (Option.some Jvm.ClassFile.FieldType.int)) ∈ lw_all := lw_g (lw_at lw_m6 57 rfl) rfl
theorem q1589 : (Jvm.Cond.instanceMethod ({ cls := "GoatCourt$Hill", name := "clueGoats", desc := "()I" } : Jvm.MethodName)) ∈ lw_all := lw_g (lw_at lw_m6 223 rfl) rfl
theorem q1590 : (Jvm.Cond.selects "GoatCourt$Hill" ({ cls := "GoatCourt$Hill", name := "clueGoats", desc := "()I" } : Jvm.MethodName) ({ cls := "GoatCourt$Hill", name := "clueGoats", desc := "()I" } : Jvm.MethodName)) ∈ lw_all := lw_g (lw_at lw_m6 224 rfl) rfl
theorem q1591 : (Jvm.Cond.code ({ cls := "GoatCourt$Hill", name := "clueGoats", desc := "()I" } : Jvm.MethodName) prog_10_method_7_code (3 : Nat) (Option.some Jvm.ClassFile.FieldType.int)) ∈ lw_all := lw_g (lw_at lw_m6 225 rfl) rfl
theorem q1711 : (Jvm.Cond.instanceMethod ({ cls := "GoatCourt$Hill", name := "holding", desc := "()I" } : Jvm.MethodName)) ∈ lw_all := lw_g (lw_at lw_m7 105 rfl) rfl
theorem q1712 : (Jvm.Cond.selects "GoatCourt$Hill" ({ cls := "GoatCourt$Hill", name := "holding", desc := "()I" } : Jvm.MethodName) ({ cls := "GoatCourt$Hill", name := "holding", desc := "()I" } : Jvm.MethodName)) ∈ lw_all := lw_g (lw_at lw_m7 106 rfl) rfl
theorem q1713 : (Jvm.Cond.code ({ cls := "GoatCourt$Hill", name := "holding", desc := "()I" } : Jvm.MethodName) prog_10_method_9_code (3 : Nat) (Option.some Jvm.ClassFile.FieldType.int)) ∈ lw_all := lw_g (lw_at lw_m7 107 rfl) rfl
theorem q1723 : (Jvm.Cond.instanceMethod ({ cls := "GoatCourt$Hill", name := "closure", desc := "(II)I" } : Jvm.MethodName)) ∈ lw_all := lw_g (lw_at lw_m7 117 rfl) rfl
theorem q1724 : (Jvm.Cond.selects "GoatCourt$Hill" ({ cls := "GoatCourt$Hill", name := "closure", desc := "(II)I" } : Jvm.MethodName) ({ cls := "GoatCourt$Hill", name := "closure", desc := "(II)I" } : Jvm.MethodName)) ∈ lw_all := lw_g (lw_at lw_m7 118 rfl) rfl
theorem q1725 : (Jvm.Cond.code ({ cls := "GoatCourt$Hill", name := "closure", desc := "(II)I" } : Jvm.MethodName) prog_10_method_8_code (6 : Nat) (Option.some Jvm.ClassFile.FieldType.int)) ∈ lw_all := lw_g (lw_at lw_m7 119 rfl) rfl
theorem q1726 : (Jvm.Cond.methodLinkNest "GoatCourt$Hill" (119 : Nat) ({ cls := "GoatCourt", name := "has", desc := "(II)Z" } : Jvm.MethodName) "GoatCourt") ∈ lw_tbl := lw_at lw_m7 120 rfl
theorem q1727 : (Jvm.Cond.methodLink "GoatCourt$Hill" (126 : Nat) ({ cls := "GoatCourt$Rule", name := "follows", desc := "(I)Z" } : Jvm.MethodName)) ∈ lw_all := lw_g (lw_at lw_m7 121 rfl) rfl
theorem q2795 : (Jvm.Cond.castable "GoatCourt$Hill" "java/lang/Object") ∈ lw_tbl := lw_at lw_m11 229 rfl
theorem in_X8 : ∀ w ∈ wsX80, w ∈ lw_all := lw_in wsX80 [595, 597, 599, 601, 603, 605, 607, 609, 611, 613, 615, 617, 619, 621, 623, 625, 627, 629, 631, 633, 635, 637, 639, 641] (by decide +kernel) (by decide +kernel)
/-! GoatCourt$Named -/
def RX9 : String := "GoatCourt$Named"
abbrev cX9_init : ByteArray := prog_12_method_1_code
def yX9_init : MethodName := ⟨RX9, "<init>", "(Ljava/lang/String;I)V"⟩

theorem q183 : (Jvm.Cond.initialized "GoatCourt$Named") ∈ lw_all := lw_g (lw_at lw_m1 17 rfl) rfl
theorem q880 : (Jvm.Cond.instanceMethod ({ cls := "GoatCourt$Named", name := "<init>", desc := "(Ljava/lang/String;I)V" } : Jvm.MethodName)) ∈ lw_all := lw_g (lw_at lw_m3 234 rfl) rfl
theorem q881 : (Jvm.Cond.code ({ cls := "GoatCourt$Named", name := "<init>", desc := "(Ljava/lang/String;I)V" } : Jvm.MethodName) prog_12_method_1_code (3 : Nat) (Option.none : Option Jvm.ClassFile.FieldType)) ∈ lw_all := lw_g (lw_at lw_m3 235 rfl) rfl
theorem q882 : (Jvm.Cond.methodLink "GoatCourt$Named" (1 : Nat) ({ cls := "java/lang/Object", name := "<init>", desc := "()V" } : Jvm.MethodName)) ∈ lw_all := lw_g (lw_at lw_m3 236 rfl) rfl
theorem q889 : (Jvm.Cond.fieldLink "GoatCourt$Named" (7 : Nat) "GoatCourt$Named" "name" "Ljava/lang/String;") ∈ lw_all := lw_g (lw_at lw_m4 3 rfl) rfl
theorem q891 : (Jvm.Cond.fieldLink "GoatCourt$Named" (13 : Nat) "GoatCourt$Named" "number" "I") ∈ lw_all := lw_g (lw_at lw_m4 5 rfl) rfl
theorem q907 : (Jvm.Cond.soleField "GoatCourt$Named" "name") ∈ lw_all := lw_g (lw_at lw_m4 21 rfl) rfl
theorem q909 : (Jvm.Cond.soleField "GoatCourt$Named" "number") ∈ lw_all := lw_g (lw_at lw_m4 23 rfl) rfl
/-! the law's own entry -/
abbrev cL_law : ByteArray := code


theorem q200 : (Jvm.Cond.initialized "java/lang/System") ∈ lw_all := lw_g (lw_at lw_m1 34 rfl) rfl
theorem q1437 : (Jvm.Cond.static ({ cls := "java/lang/System", name := "arraycopy", desc := "(Ljava/lang/Object;ILjava/lang/Object;II)V" } : Jvm.MethodName)) ∈ lw_all := lw_g (lw_at lw_m6 71 rfl) rfl
theorem q1438 : (Jvm.Cond.native ({ cls := "java/lang/System", name := "arraycopy", desc := "(Ljava/lang/Object;ILjava/lang/Object;II)V" } : Jvm.MethodName)) ∈ lw_all := lw_g (lw_at lw_m6 72 rfl) rfl

theorem q775 : (Jvm.Cond.interfaceMethod "jdk/internal/access/JavaLangAccess" "jdk/internal/access/JavaLangAccess" "getUTF16Char" "([BI)C") ∈ lw_tbl := lw_at lw_m3 129 rfl
theorem q776 : (Jvm.Cond.declares ({ cls := "jdk/internal/access/JavaLangAccess", name := "getUTF16Char", desc := "([BI)C" } : Jvm.MethodName)) ∈ lw_tbl := lw_at lw_m3 130 rfl

theorem q289 : (Jvm.Cond.arrayClass Jvm.ClassFile.FieldType.byte) ∈ lw_all := lw_g (lw_at lw_m1 123 rfl) rfl
theorem q321 : (Jvm.Cond.arrayClass Jvm.ClassFile.FieldType.char) ∈ lw_all := lw_g (lw_at lw_m1 155 rfl) rfl
theorem q344 : (Jvm.Cond.arrayClass Jvm.ClassFile.FieldType.int) ∈ lw_all := lw_g (lw_at lw_m1 178 rfl) rfl
theorem q401 : (Jvm.Cond.arrayOver (Jvm.ClassFile.FieldType.object "GoatCourt$Ground")) ∈ lw_tbl := lw_at lw_m1 235 rfl
theorem q507 : (Jvm.Cond.arrayOver (Jvm.ClassFile.FieldType.object "GoatCourt$Place")) ∈ lw_tbl := lw_at lw_m2 101 rfl
theorem q509 : (Jvm.Cond.arrayOver (Jvm.ClassFile.FieldType.object "GoatCourt$Person")) ∈ lw_tbl := lw_at lw_m2 103 rfl
theorem q511 : (Jvm.Cond.arrayOver (Jvm.ClassFile.FieldType.object "GoatCourt$Goat")) ∈ lw_tbl := lw_at lw_m2 105 rfl
theorem q513 : (Jvm.Cond.arrayOver (Jvm.ClassFile.FieldType.object "GoatCourt$Clue")) ∈ lw_tbl := lw_at lw_m2 107 rfl
theorem q515 : (Jvm.Cond.arrayOver (Jvm.ClassFile.FieldType.object "GoatCourt$Fact")) ∈ lw_tbl := lw_at lw_m2 109 rfl
theorem q517 : (Jvm.Cond.arrayOver (Jvm.ClassFile.FieldType.object "GoatCourt$Rule")) ∈ lw_tbl := lw_at lw_m2 111 rfl
theorem q519 : (Jvm.Cond.arrayOver (Jvm.ClassFile.FieldType.object "GoatCourt$Court")) ∈ lw_tbl := lw_at lw_m2 113 rfl
theorem q2181 : (Jvm.Cond.arrayClass Jvm.ClassFile.FieldType.long) ∈ lw_all := lw_g (lw_at lw_m9 95 rfl) rfl
theorem q2816 : (Jvm.Cond.arrayClass Jvm.ClassFile.FieldType.short) ∈ lw_all := lw_g (lw_at lw_m12 10 rfl) rfl
