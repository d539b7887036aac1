set_option maxRecDepth 100000
/-! java/lang/Throwable -/
def RJ0 : String := "java/lang/Throwable"
def TJ0 : u_T := fun k => match k with
  | 0 => ("java/lang/Throwable", "cause", "Ljava/lang/Throwable;", false)
  | 1 => ("java/lang/Throwable", "stackTrace", "[Ljava/lang/StackTraceElement;", false)
  | 2 => ("java/lang/Throwable", "suppressedExceptions", "Ljava/util/List;", false)
  | 3 => ("java/lang/Throwable", "detailMessage", "Ljava/lang/String;", false)
  | _ => ("java/lang/Throwable", "backtrace", "Ljava/lang/Object;", false)
def tyJ0 : Nat → FieldType := fun k => match k with
  | 0 => .object "java/lang/Throwable"
  | 1 => .array (.object "java/lang/StackTraceElement")
  | 2 => .object "java/util/List"
  | 3 => .object "java/lang/String"
  | _ => .object "java/lang/Object"
abbrev wsJ00 : List Cond := u_ws RJ0 TJ0 5
theorem nmJ0 : ∀ a, a < 5 → ∀ b, b < 5 → a ≠ b → (TJ0 a).2.1 ≠ (TJ0 b).2.1 := by decide +kernel
theorem tyJ0_ok : ∀ k, k < 5 → parseFieldDescriptor (TJ0 k).2.2.1 = some (tyJ0 k) := by decide +kernel
abbrev cJ0_init : ByteArray := prog_41_method_1_code
def yJ0_init : MethodName := ⟨RJ0, "<init>", "()V"⟩
abbrev cJ0_init_2 : ByteArray := prog_41_method_5_code
def yJ0_init_2 : MethodName := ⟨RJ0, "<init>", "(Ljava/lang/String;Ljava/lang/Throwable;ZZ)V"⟩
abbrev cJ0_init_3 : ByteArray := prog_41_method_2_code
def yJ0_init_3 : MethodName := ⟨RJ0, "<init>", "(Ljava/lang/String;)V"⟩
theorem q104 : (Jvm.Cond.initialized "java/lang/Throwable") ∈ lw_all := lw_g (lw_at lw_m1 6 rfl) rfl
theorem q187 : (Jvm.Cond.declares ({ cls := "java/lang/Throwable", name := "<init>", desc := "()V" } : Jvm.MethodName)) ∈ lw_tbl := lw_at lw_m1 89 rfl
theorem q188 : (Jvm.Cond.declares ({ cls := "java/lang/Throwable", name := "<init>", desc := "(Ljava/lang/String;)V" } : Jvm.MethodName)) ∈ lw_tbl := lw_at lw_m1 90 rfl
theorem q192 : (Jvm.Cond.lays "java/lang/Throwable" "java/lang/Throwable" "cause" "Ljava/lang/Throwable;") ∈ lw_all := lw_g (lw_at lw_m1 94 rfl) rfl
theorem q194 : (Jvm.Cond.lays "java/lang/Throwable" "java/lang/Throwable" "stackTrace" "[Ljava/lang/StackTraceElement;") ∈ lw_all := lw_g (lw_at lw_m1 96 rfl) rfl
theorem q196 : (Jvm.Cond.lays "java/lang/Throwable" "java/lang/Throwable" "suppressedExceptions" "Ljava/util/List;") ∈ lw_all := lw_g (lw_at lw_m1 98 rfl) rfl
theorem q198 : (Jvm.Cond.lays "java/lang/Throwable" "java/lang/Throwable" "detailMessage" "Ljava/lang/String;") ∈ lw_all := lw_g (lw_at lw_m1 100 rfl) rfl
theorem q200 : (Jvm.Cond.lays "java/lang/Throwable" "java/lang/Throwable" "backtrace" "Ljava/lang/Object;") ∈ lw_all := lw_g (lw_at lw_m1 102 rfl) rfl
theorem q201 : (Jvm.Cond.fieldLink "java/lang/Throwable" (198 : Nat) "java/lang/Throwable" "backtrace" "Ljava/lang/Object;") ∈ lw_all := lw_g (lw_at lw_m1 103 rfl) rfl
theorem q202 : (Jvm.Cond.superclass "java/lang/Throwable" "java/lang/Object") ∈ lw_all := lw_g (lw_at lw_m1 104 rfl) rfl
theorem q203 : (Jvm.Cond.instanceMethod ({ cls := "java/lang/Throwable", name := "<init>", desc := "()V" } : Jvm.MethodName)) ∈ lw_all := lw_g (lw_at lw_m1 105 rfl) rfl
theorem q204 : (Jvm.Cond.code ({ cls := "java/lang/Throwable", name := "<init>", desc := "()V" } : Jvm.MethodName) prog_41_method_1_code (1 : Nat) (Option.none : Option Jvm.ClassFile.FieldType)) ∈ lw_all := lw_g (lw_at lw_m1 106 rfl) rfl
theorem q205 : (Jvm.Cond.methodLink "java/lang/Throwable" (1 : Nat) ({ cls := "java/lang/Object", name := "<init>", desc := "()V" } : Jvm.MethodName)) ∈ lw_all := lw_g (lw_at lw_m1 107 rfl) rfl
theorem q206 : (Jvm.Cond.fieldLink "java/lang/Throwable" (13 : Nat) "java/lang/Throwable" "UNASSIGNED_STACK" "[Ljava/lang/StackTraceElement;") ∈ lw_all := lw_g (lw_at lw_m1 108 rfl) rfl
theorem q207 : (Jvm.Cond.laysStatic "java/lang/Throwable" "UNASSIGNED_STACK" "[Ljava/lang/StackTraceElement;") ∈ lw_tbl := lw_at lw_m1 109 rfl
theorem q208 : (Jvm.Cond.fieldLink "java/lang/Throwable" (20 : Nat) "java/lang/Throwable" "SUPPRESSED_SENTINEL" "Ljava/util/List;") ∈ lw_all := lw_g (lw_at lw_m1 110 rfl) rfl
theorem q209 : (Jvm.Cond.laysStatic "java/lang/Throwable" "SUPPRESSED_SENTINEL" "Ljava/util/List;") ∈ lw_tbl := lw_at lw_m1 111 rfl
theorem q210 : (Jvm.Cond.methodLink "java/lang/Throwable" (27 : Nat) ({ cls := "java/lang/Throwable", name := "fillInStackTrace", desc := "()Ljava/lang/Throwable;" } : Jvm.MethodName)) ∈ lw_all := lw_g (lw_at lw_m1 112 rfl) rfl
theorem q211 : (Jvm.Cond.instanceMethod ({ cls := "java/lang/Throwable", name := "fillInStackTrace", desc := "()Ljava/lang/Throwable;" } : Jvm.MethodName)) ∈ lw_all := lw_g (lw_at lw_m1 113 rfl) rfl
theorem q212 : (Jvm.Cond.sameMethod "java/lang/Throwable" "java/lang/Throwable" "fillInStackTrace" "()Ljava/lang/Throwable;") ∈ lw_all := lw_g (lw_at lw_m1 114 rfl) rfl
theorem q218 : (Jvm.Cond.codeSync ({ cls := "java/lang/Throwable", name := "fillInStackTrace", desc := "()Ljava/lang/Throwable;" } : Jvm.MethodName) prog_41_method_18_code (1 : Nat) (Option.some (Jvm.ClassFile.FieldType.object "java/lang/Throwable"))) ∈ lw_all := lw_g (lw_at lw_m1 120 rfl) rfl
theorem q219 : (Jvm.Cond.methodLink "java/lang/Throwable" (202 : Nat) ({ cls := "java/lang/Throwable", name := "fillInStackTrace", desc := "(I)Ljava/lang/Throwable;" } : Jvm.MethodName)) ∈ lw_all := lw_g (lw_at lw_m1 121 rfl) rfl
theorem q220 : (Jvm.Cond.privateMethod ({ cls := "java/lang/Throwable", name := "fillInStackTrace", desc := "(I)Ljava/lang/Throwable;" } : Jvm.MethodName)) ∈ lw_tbl := lw_at lw_m1 122 rfl
theorem q221 : (Jvm.Cond.instanceMethod ({ cls := "java/lang/Throwable", name := "fillInStackTrace", desc := "(I)Ljava/lang/Throwable;" } : Jvm.MethodName)) ∈ lw_all := lw_g (lw_at lw_m1 123 rfl) rfl
theorem q222 : (Jvm.Cond.instantiable "java/lang/Throwable" (6 : Nat)) ∈ lw_all := lw_g (lw_at lw_m1 124 rfl) rfl
theorem q223 : (Jvm.Cond.native ({ cls := "java/lang/Throwable", name := "fillInStackTrace", desc := "(I)Ljava/lang/Throwable;" } : Jvm.MethodName)) ∈ lw_all := lw_g (lw_at lw_m1 125 rfl) rfl
theorem q234 : (Jvm.Cond.instanceMethod ({ cls := "java/lang/Throwable", name := "<init>", desc := "(Ljava/lang/String;Ljava/lang/Throwable;ZZ)V" } : Jvm.MethodName)) ∈ lw_all := lw_g (lw_at lw_m1 136 rfl) rfl
theorem q235 : (Jvm.Cond.code ({ cls := "java/lang/Throwable", name := "<init>", desc := "(Ljava/lang/String;Ljava/lang/Throwable;ZZ)V" } : Jvm.MethodName) prog_41_method_5_code (5 : Nat) (Option.none : Option Jvm.ClassFile.FieldType)) ∈ lw_all := lw_g (lw_at lw_m1 137 rfl) rfl
theorem q238 : (Jvm.Cond.fieldLink "java/lang/Throwable" (198 : Nat) "java/lang/Throwable" "backtrace" "Ljava/lang/Object;") ∈ lw_all := lw_g (lw_at lw_m1 140 rfl) rfl
theorem q239 : (Jvm.Cond.fieldLink "java/lang/Throwable" (31 : Nat) "java/lang/Throwable" "detailMessage" "Ljava/lang/String;") ∈ lw_all := lw_g (lw_at lw_m1 141 rfl) rfl
theorem q240 : (Jvm.Cond.fieldLink "java/lang/Throwable" (7 : Nat) "java/lang/Throwable" "cause" "Ljava/lang/Throwable;") ∈ lw_all := lw_g (lw_at lw_m1 142 rfl) rfl
theorem q241 : (Jvm.Cond.fieldLink "java/lang/Throwable" (17 : Nat) "java/lang/Throwable" "stackTrace" "[Ljava/lang/StackTraceElement;") ∈ lw_all := lw_g (lw_at lw_m1 143 rfl) rfl
theorem q242 : (Jvm.Cond.fieldLink "java/lang/Throwable" (24 : Nat) "java/lang/Throwable" "suppressedExceptions" "Ljava/util/List;") ∈ lw_all := lw_g (lw_at lw_m1 144 rfl) rfl
theorem q245 : (Jvm.Cond.soleField "java/lang/Throwable" "backtrace") ∈ lw_all := lw_g (lw_at lw_m1 147 rfl) rfl
theorem q246 : (Jvm.Cond.soleField "java/lang/Throwable" "detailMessage") ∈ lw_all := lw_g (lw_at lw_m1 148 rfl) rfl
theorem q247 : (Jvm.Cond.soleField "java/lang/Throwable" "cause") ∈ lw_all := lw_g (lw_at lw_m1 149 rfl) rfl
theorem q248 : (Jvm.Cond.soleField "java/lang/Throwable" "stackTrace") ∈ lw_all := lw_g (lw_at lw_m1 150 rfl) rfl
theorem q250 : (Jvm.Cond.soleField "java/lang/Throwable" "depth") ∈ lw_all := lw_g (lw_at lw_m1 152 rfl) rfl
theorem q251 : (Jvm.Cond.soleField "java/lang/Throwable" "suppressedExceptions") ∈ lw_all := lw_g (lw_at lw_m1 153 rfl) rfl
theorem q1169 : (Jvm.Cond.instanceMethod ({ cls := "java/lang/Throwable", name := "<init>", desc := "(Ljava/lang/String;)V" } : Jvm.MethodName)) ∈ lw_all := lw_g (lw_at lw_m5 111 rfl) rfl
theorem q1170 : (Jvm.Cond.code ({ cls := "java/lang/Throwable", name := "<init>", desc := "(Ljava/lang/String;)V" } : Jvm.MethodName) prog_41_method_2_code (2 : Nat) (Option.none : Option Jvm.ClassFile.FieldType)) ∈ lw_all := lw_g (lw_at lw_m5 112 rfl) rfl
theorem q2072 : (Jvm.Cond.sameMethod "java/lang/Throwable" "java/lang/Throwable" "fillInStackTrace" "(I)Ljava/lang/Throwable;") ∈ lw_all := lw_g (lw_at lw_m9 54 rfl) rfl
theorem q2102 : (Jvm.Cond.castable "java/lang/Throwable" "java/lang/Object") ∈ lw_tbl := lw_at lw_m9 84 rfl
theorem in_J0 : ∀ w ∈ wsJ00, w ∈ lw_all := lw_in wsJ00 [192, 194, 196, 198, 200] (by decide +kernel) (by decide +kernel)
/-! java/lang/Exception -/
def RJ1 : String := "java/lang/Exception"
abbrev cJ1_init : ByteArray := prog_31_method_5_code
def yJ1_init : MethodName := ⟨RJ1, "<init>", "(Ljava/lang/String;Ljava/lang/Throwable;ZZ)V"⟩
abbrev cJ1_init_2 : ByteArray := prog_31_method_1_code
def yJ1_init_2 : MethodName := ⟨RJ1, "<init>", "()V"⟩
abbrev cJ1_init_3 : ByteArray := prog_31_method_2_code
def yJ1_init_3 : MethodName := ⟨RJ1, "<init>", "(Ljava/lang/String;)V"⟩
theorem q105 : (Jvm.Cond.initialized "java/lang/Exception") ∈ lw_all := lw_g (lw_at lw_m1 7 rfl) rfl
theorem q185 : (Jvm.Cond.declares ({ cls := "java/lang/Exception", name := "<init>", desc := "()V" } : Jvm.MethodName)) ∈ lw_tbl := lw_at lw_m1 87 rfl
theorem q186 : (Jvm.Cond.declares ({ cls := "java/lang/Exception", name := "<init>", desc := "(Ljava/lang/String;)V" } : Jvm.MethodName)) ∈ lw_tbl := lw_at lw_m1 88 rfl
theorem q231 : (Jvm.Cond.instanceMethod ({ cls := "java/lang/Exception", name := "<init>", desc := "(Ljava/lang/String;Ljava/lang/Throwable;ZZ)V" } : Jvm.MethodName)) ∈ lw_all := lw_g (lw_at lw_m1 133 rfl) rfl
theorem q232 : (Jvm.Cond.code ({ cls := "java/lang/Exception", name := "<init>", desc := "(Ljava/lang/String;Ljava/lang/Throwable;ZZ)V" } : Jvm.MethodName) prog_31_method_5_code (5 : Nat) (Option.none : Option Jvm.ClassFile.FieldType)) ∈ lw_all := lw_g (lw_at lw_m1 134 rfl) rfl
theorem q233 : (Jvm.Cond.methodLink "java/lang/Exception" (16 : Nat) ({ cls := "java/lang/Throwable", name := "<init>", desc := "(Ljava/lang/String;Ljava/lang/Throwable;ZZ)V" } : Jvm.MethodName)) ∈ lw_all := lw_g (lw_at lw_m1 135 rfl) rfl
theorem q1102 : (Jvm.Cond.instanceMethod ({ cls := "java/lang/Exception", name := "<init>", desc := "()V" } : Jvm.MethodName)) ∈ lw_all := lw_g (lw_at lw_m5 44 rfl) rfl
theorem q1103 : (Jvm.Cond.code ({ cls := "java/lang/Exception", name := "<init>", desc := "()V" } : Jvm.MethodName) prog_31_method_1_code (1 : Nat) (Option.none : Option Jvm.ClassFile.FieldType)) ∈ lw_all := lw_g (lw_at lw_m5 45 rfl) rfl
theorem q1104 : (Jvm.Cond.methodLink "java/lang/Exception" (1 : Nat) ({ cls := "java/lang/Throwable", name := "<init>", desc := "()V" } : Jvm.MethodName)) ∈ lw_all := lw_g (lw_at lw_m5 46 rfl) rfl
theorem q1166 : (Jvm.Cond.instanceMethod ({ cls := "java/lang/Exception", name := "<init>", desc := "(Ljava/lang/String;)V" } : Jvm.MethodName)) ∈ lw_all := lw_g (lw_at lw_m5 108 rfl) rfl
theorem q1167 : (Jvm.Cond.code ({ cls := "java/lang/Exception", name := "<init>", desc := "(Ljava/lang/String;)V" } : Jvm.MethodName) prog_31_method_2_code (2 : Nat) (Option.none : Option Jvm.ClassFile.FieldType)) ∈ lw_all := lw_g (lw_at lw_m5 109 rfl) rfl
theorem q1168 : (Jvm.Cond.methodLink "java/lang/Exception" (7 : Nat) ({ cls := "java/lang/Throwable", name := "<init>", desc := "(Ljava/lang/String;)V" } : Jvm.MethodName)) ∈ lw_all := lw_g (lw_at lw_m5 110 rfl) rfl
/-! java/lang/RuntimeException -/
def RJ2 : String := "java/lang/RuntimeException"
abbrev cJ2_init : ByteArray := prog_36_method_5_code
def yJ2_init : MethodName := ⟨RJ2, "<init>", "(Ljava/lang/String;Ljava/lang/Throwable;ZZ)V"⟩
abbrev cJ2_init_2 : ByteArray := prog_36_method_1_code
def yJ2_init_2 : MethodName := ⟨RJ2, "<init>", "()V"⟩
abbrev cJ2_init_3 : ByteArray := prog_36_method_2_code
def yJ2_init_3 : MethodName := ⟨RJ2, "<init>", "(Ljava/lang/String;)V"⟩
theorem q106 : (Jvm.Cond.initialized "java/lang/RuntimeException") ∈ lw_all := lw_g (lw_at lw_m1 8 rfl) rfl
theorem q183 : (Jvm.Cond.declares ({ cls := "java/lang/RuntimeException", name := "<init>", desc := "()V" } : Jvm.MethodName)) ∈ lw_tbl := lw_at lw_m1 85 rfl
theorem q184 : (Jvm.Cond.declares ({ cls := "java/lang/RuntimeException", name := "<init>", desc := "(Ljava/lang/String;)V" } : Jvm.MethodName)) ∈ lw_tbl := lw_at lw_m1 86 rfl
theorem q228 : (Jvm.Cond.instanceMethod ({ cls := "java/lang/RuntimeException", name := "<init>", desc := "(Ljava/lang/String;Ljava/lang/Throwable;ZZ)V" } : Jvm.MethodName)) ∈ lw_all := lw_g (lw_at lw_m1 130 rfl) rfl
theorem q229 : (Jvm.Cond.code ({ cls := "java/lang/RuntimeException", name := "<init>", desc := "(Ljava/lang/String;Ljava/lang/Throwable;ZZ)V" } : Jvm.MethodName) prog_36_method_5_code (5 : Nat) (Option.none : Option Jvm.ClassFile.FieldType)) ∈ lw_all := lw_g (lw_at lw_m1 131 rfl) rfl
theorem q230 : (Jvm.Cond.methodLink "java/lang/RuntimeException" (16 : Nat) ({ cls := "java/lang/Exception", name := "<init>", desc := "(Ljava/lang/String;Ljava/lang/Throwable;ZZ)V" } : Jvm.MethodName)) ∈ lw_all := lw_g (lw_at lw_m1 132 rfl) rfl
theorem q1099 : (Jvm.Cond.instanceMethod ({ cls := "java/lang/RuntimeException", name := "<init>", desc := "()V" } : Jvm.MethodName)) ∈ lw_all := lw_g (lw_at lw_m5 41 rfl) rfl
theorem q1100 : (Jvm.Cond.code ({ cls := "java/lang/RuntimeException", name := "<init>", desc := "()V" } : Jvm.MethodName) prog_36_method_1_code (1 : Nat) (Option.none : Option Jvm.ClassFile.FieldType)) ∈ lw_all := lw_g (lw_at lw_m5 42 rfl) rfl
theorem q1101 : (Jvm.Cond.methodLink "java/lang/RuntimeException" (1 : Nat) ({ cls := "java/lang/Exception", name := "<init>", desc := "()V" } : Jvm.MethodName)) ∈ lw_all := lw_g (lw_at lw_m5 43 rfl) rfl
theorem q1163 : (Jvm.Cond.instanceMethod ({ cls := "java/lang/RuntimeException", name := "<init>", desc := "(Ljava/lang/String;)V" } : Jvm.MethodName)) ∈ lw_all := lw_g (lw_at lw_m5 105 rfl) rfl
theorem q1164 : (Jvm.Cond.code ({ cls := "java/lang/RuntimeException", name := "<init>", desc := "(Ljava/lang/String;)V" } : Jvm.MethodName) prog_36_method_2_code (2 : Nat) (Option.none : Option Jvm.ClassFile.FieldType)) ∈ lw_all := lw_g (lw_at lw_m5 106 rfl) rfl
theorem q1165 : (Jvm.Cond.methodLink "java/lang/RuntimeException" (7 : Nat) ({ cls := "java/lang/Exception", name := "<init>", desc := "(Ljava/lang/String;)V" } : Jvm.MethodName)) ∈ lw_all := lw_g (lw_at lw_m5 107 rfl) rfl
/-! java/lang/String -/
def RJ3 : String := "java/lang/String"
def TJ3 : u_T := fun k => match k with
  | 0 => ("java/lang/String", "value", "[B", true)
  | _ => ("java/lang/String", "coder", "B", true)
def tyJ3 : Nat → FieldType := fun k => match k with
  | 0 => .array .byte
  | _ => .byte
abbrev wsJ30 : List Cond := u_ws RJ3 TJ3 2
theorem nmJ3 : ∀ a, a < 2 → ∀ b, b < 2 → a ≠ b → (TJ3 a).2.1 ≠ (TJ3 b).2.1 := by decide +kernel
theorem tyJ3_ok : ∀ k, k < 2 → parseFieldDescriptor (TJ3 k).2.2.1 = some (tyJ3 k) := by decide +kernel
abbrev cJ3_length : ByteArray := prog_37_method_54_code
def yJ3_length : MethodName := ⟨RJ3, "length", "()I"⟩
abbrev cJ3_coder : ByteArray := prog_37_method_152_code
def yJ3_coder : MethodName := ⟨RJ3, "coder", "()B"⟩
abbrev cJ3_charAt : ByteArray := prog_37_method_56_code
def yJ3_charAt : MethodName := ⟨RJ3, "charAt", "(I)C"⟩
abbrev cJ3_isLatin1 : ByteArray := prog_37_method_154_code
def yJ3_isLatin1 : MethodName := ⟨RJ3, "isLatin1", "()Z"⟩
abbrev cJ3_checkIndex : ByteArray := prog_37_method_155_code
def yJ3_checkIndex : MethodName := ⟨RJ3, "checkIndex", "(II)V"⟩
theorem q114 : (Jvm.Cond.initialized "java/lang/String") ∈ lw_all := lw_g (lw_at lw_m1 16 rfl) rfl
theorem q870 : (Jvm.Cond.instanceMethod ({ cls := "java/lang/String", name := "length", desc := "()I" } : Jvm.MethodName)) ∈ lw_all := lw_g (lw_at lw_m4 52 rfl) rfl
theorem q871 : (Jvm.Cond.selects "java/lang/String" ({ cls := "java/lang/String", name := "length", desc := "()I" } : Jvm.MethodName) ({ cls := "java/lang/String", name := "length", desc := "()I" } : Jvm.MethodName)) ∈ lw_all := lw_g (lw_at lw_m4 53 rfl) rfl
theorem q872 : (Jvm.Cond.code ({ cls := "java/lang/String", name := "length", desc := "()I" } : Jvm.MethodName) prog_37_method_54_code (1 : Nat) (Option.some Jvm.ClassFile.FieldType.int)) ∈ lw_all := lw_g (lw_at lw_m4 54 rfl) rfl
theorem q873 : (Jvm.Cond.methodLink "java/lang/String" (335 : Nat) ({ cls := "java/lang/String", name := "coder", desc := "()B" } : Jvm.MethodName)) ∈ lw_all := lw_g (lw_at lw_m4 55 rfl) rfl
theorem q874 : (Jvm.Cond.instanceMethod ({ cls := "java/lang/String", name := "coder", desc := "()B" } : Jvm.MethodName)) ∈ lw_all := lw_g (lw_at lw_m4 56 rfl) rfl
theorem q875 : (Jvm.Cond.selects "java/lang/String" ({ cls := "java/lang/String", name := "coder", desc := "()B" } : Jvm.MethodName) ({ cls := "java/lang/String", name := "coder", desc := "()B" } : Jvm.MethodName)) ∈ lw_all := lw_g (lw_at lw_m4 57 rfl) rfl
theorem q876 : (Jvm.Cond.code ({ cls := "java/lang/String", name := "coder", desc := "()B" } : Jvm.MethodName) prog_37_method_152_code (1 : Nat) (Option.some Jvm.ClassFile.FieldType.byte)) ∈ lw_all := lw_g (lw_at lw_m4 58 rfl) rfl
theorem q877 : (Jvm.Cond.fieldLink "java/lang/String" (38 : Nat) "java/lang/String" "COMPACT_STRINGS" "Z") ∈ lw_all := lw_g (lw_at lw_m4 59 rfl) rfl
theorem q878 : (Jvm.Cond.laysStatic "java/lang/String" "COMPACT_STRINGS" "Z") ∈ lw_tbl := lw_at lw_m4 60 rfl
theorem q880 : (Jvm.Cond.instanceMethod ({ cls := "java/lang/String", name := "charAt", desc := "(I)C" } : Jvm.MethodName)) ∈ lw_all := lw_g (lw_at lw_m4 62 rfl) rfl
theorem q881 : (Jvm.Cond.selects "java/lang/String" ({ cls := "java/lang/String", name := "charAt", desc := "(I)C" } : Jvm.MethodName) ({ cls := "java/lang/String", name := "charAt", desc := "(I)C" } : Jvm.MethodName)) ∈ lw_all := lw_g (lw_at lw_m4 63 rfl) rfl
theorem q882 : (Jvm.Cond.code ({ cls := "java/lang/String", name := "charAt", desc := "(I)C" } : Jvm.MethodName) prog_37_method_56_code (2 : Nat) (Option.some Jvm.ClassFile.FieldType.char)) ∈ lw_all := lw_g (lw_at lw_m4 64 rfl) rfl
theorem q883 : (Jvm.Cond.methodLink "java/lang/String" (492 : Nat) ({ cls := "java/lang/String", name := "isLatin1", desc := "()Z" } : Jvm.MethodName)) ∈ lw_all := lw_g (lw_at lw_m4 65 rfl) rfl
theorem q884 : (Jvm.Cond.instanceMethod ({ cls := "java/lang/String", name := "isLatin1", desc := "()Z" } : Jvm.MethodName)) ∈ lw_all := lw_g (lw_at lw_m4 66 rfl) rfl
theorem q885 : (Jvm.Cond.selects "java/lang/String" ({ cls := "java/lang/String", name := "isLatin1", desc := "()Z" } : Jvm.MethodName) ({ cls := "java/lang/String", name := "isLatin1", desc := "()Z" } : Jvm.MethodName)) ∈ lw_all := lw_g (lw_at lw_m4 67 rfl) rfl
theorem q886 : (Jvm.Cond.code ({ cls := "java/lang/String", name := "isLatin1", desc := "()Z" } : Jvm.MethodName) prog_37_method_154_code (1 : Nat) (Option.some Jvm.ClassFile.FieldType.boolean)) ∈ lw_all := lw_g (lw_at lw_m4 68 rfl) rfl
theorem q887 : (Jvm.Cond.methodLink "java/lang/String" (495 : Nat) ({ cls := "java/lang/StringLatin1", name := "charAt", desc := "([BI)C" } : Jvm.MethodName)) ∈ lw_all := lw_g (lw_at lw_m4 69 rfl) rfl
theorem q891 : (Jvm.Cond.static ({ cls := "java/lang/String", name := "checkIndex", desc := "(II)V" } : Jvm.MethodName)) ∈ lw_all := lw_g (lw_at lw_m4 73 rfl) rfl
theorem q892 : (Jvm.Cond.code ({ cls := "java/lang/String", name := "checkIndex", desc := "(II)V" } : Jvm.MethodName) prog_37_method_155_code (2 : Nat) (Option.none : Option Jvm.ClassFile.FieldType)) ∈ lw_all := lw_g (lw_at lw_m4 74 rfl) rfl
theorem q893 : (Jvm.Cond.fieldLink "java/lang/String" (1053 : Nat) "jdk/internal/util/Preconditions" "SIOOBE_FORMATTER" "Ljava/util/function/BiFunction;") ∈ lw_all := lw_g (lw_at lw_m4 75 rfl) rfl
theorem q895 : (Jvm.Cond.methodLink "java/lang/String" (1059 : Nat) ({ cls := "jdk/internal/util/Preconditions", name := "checkIndex", desc := "(IILjava/util/function/BiFunction;)I" } : Jvm.MethodName)) ∈ lw_all := lw_g (lw_at lw_m4 77 rfl) rfl
theorem q898 : (Jvm.Cond.methodLink "java/lang/String" (498 : Nat) ({ cls := "java/lang/StringUTF16", name := "charAt", desc := "([BI)C" } : Jvm.MethodName)) ∈ lw_all := lw_g (lw_at lw_m4 80 rfl) rfl
theorem q1182 : (Jvm.Cond.instantiable "java/lang/String" (4 : Nat)) ∈ lw_all := lw_g (lw_at lw_m5 124 rfl) rfl
theorem q1183 : (Jvm.Cond.laysFinal "java/lang/String" "java/lang/String" "value" "[B") ∈ lw_all := lw_g (lw_at lw_m5 125 rfl) rfl
theorem q1184 : (Jvm.Cond.soleField "java/lang/String" "value") ∈ lw_all := lw_g (lw_at lw_m5 126 rfl) rfl
theorem q1185 : (Jvm.Cond.laysFinal "java/lang/String" "java/lang/String" "coder" "B") ∈ lw_all := lw_g (lw_at lw_m5 127 rfl) rfl
theorem q1186 : (Jvm.Cond.soleField "java/lang/String" "coder") ∈ lw_all := lw_g (lw_at lw_m5 128 rfl) rfl
theorem q2103 : (Jvm.Cond.castable "java/lang/String" "java/lang/Object") ∈ lw_tbl := lw_at lw_m9 85 rfl
theorem q2109 : (Jvm.Cond.fieldLink "java/lang/String" (9 : Nat) "java/lang/String" "value" "[B") ∈ lw_all := lw_g (lw_at lw_m9 91 rfl) rfl
theorem q2110 : (Jvm.Cond.fieldLink "java/lang/String" (15 : Nat) "java/lang/String" "coder" "B") ∈ lw_all := lw_g (lw_at lw_m9 92 rfl) rfl
theorem in_J3 : ∀ w ∈ wsJ30, w ∈ lw_all := lw_in wsJ30 [1183, 1185] (by decide +kernel) (by decide +kernel)
/-! java/lang/StringLatin1 -/
def RJ4 : String := "java/lang/StringLatin1"
abbrev cJ4_charAt : ByteArray := prog_38_method_2_code
def yJ4_charAt : MethodName := ⟨RJ4, "charAt", "([BI)C"⟩
theorem q115 : (Jvm.Cond.initialized "java/lang/StringLatin1") ∈ lw_all := lw_g (lw_at lw_m1 17 rfl) rfl
theorem q888 : (Jvm.Cond.static ({ cls := "java/lang/StringLatin1", name := "charAt", desc := "([BI)C" } : Jvm.MethodName)) ∈ lw_all := lw_g (lw_at lw_m4 70 rfl) rfl
theorem q889 : (Jvm.Cond.code ({ cls := "java/lang/StringLatin1", name := "charAt", desc := "([BI)C" } : Jvm.MethodName) prog_38_method_2_code (2 : Nat) (Option.some Jvm.ClassFile.FieldType.char)) ∈ lw_all := lw_g (lw_at lw_m4 71 rfl) rfl
theorem q890 : (Jvm.Cond.methodLink "java/lang/StringLatin1" (9 : Nat) ({ cls := "java/lang/String", name := "checkIndex", desc := "(II)V" } : Jvm.MethodName)) ∈ lw_all := lw_g (lw_at lw_m4 72 rfl) rfl
/-! jdk/internal/util/Preconditions -/
def RJ5 : String := "jdk/internal/util/Preconditions"
abbrev cJ5_checkIndex : ByteArray := prog_46_method_11_code
def yJ5_checkIndex : MethodName := ⟨RJ5, "checkIndex", "(IILjava/util/function/BiFunction;)I"⟩
theorem q116 : (Jvm.Cond.initialized "jdk/internal/util/Preconditions") ∈ lw_all := lw_g (lw_at lw_m1 18 rfl) rfl
theorem q894 : (Jvm.Cond.laysStatic "jdk/internal/util/Preconditions" "SIOOBE_FORMATTER" "Ljava/util/function/BiFunction;") ∈ lw_tbl := lw_at lw_m4 76 rfl
theorem q896 : (Jvm.Cond.static ({ cls := "jdk/internal/util/Preconditions", name := "checkIndex", desc := "(IILjava/util/function/BiFunction;)I" } : Jvm.MethodName)) ∈ lw_all := lw_g (lw_at lw_m4 78 rfl) rfl
theorem q897 : (Jvm.Cond.code ({ cls := "jdk/internal/util/Preconditions", name := "checkIndex", desc := "(IILjava/util/function/BiFunction;)I" } : Jvm.MethodName) prog_46_method_11_code (3 : Nat) (Option.some Jvm.ClassFile.FieldType.int)) ∈ lw_all := lw_g (lw_at lw_m4 79 rfl) rfl
/-! java/lang/StringUTF16 -/
def RJ6 : String := "java/lang/StringUTF16"
abbrev cJ6_charAt : ByteArray := prog_39_method_83_code
def yJ6_charAt : MethodName := ⟨RJ6, "charAt", "([BI)C"⟩
abbrev cJ6_checkIndex : ByteArray := prog_39_method_91_code
def yJ6_checkIndex : MethodName := ⟨RJ6, "checkIndex", "(I[B)V"⟩
abbrev cJ6_length : ByteArray := prog_39_method_6_code
def yJ6_length : MethodName := ⟨RJ6, "length", "([B)I"⟩
abbrev cJ6_getChar : ByteArray := prog_39_method_5_code
def yJ6_getChar : MethodName := ⟨RJ6, "getChar", "([BI)C"⟩
theorem q117 : (Jvm.Cond.initialized "java/lang/StringUTF16") ∈ lw_all := lw_g (lw_at lw_m1 19 rfl) rfl
theorem q899 : (Jvm.Cond.static ({ cls := "java/lang/StringUTF16", name := "charAt", desc := "([BI)C" } : Jvm.MethodName)) ∈ lw_all := lw_g (lw_at lw_m4 81 rfl) rfl
theorem q900 : (Jvm.Cond.code ({ cls := "java/lang/StringUTF16", name := "charAt", desc := "([BI)C" } : Jvm.MethodName) prog_39_method_83_code (2 : Nat) (Option.some Jvm.ClassFile.FieldType.char)) ∈ lw_all := lw_g (lw_at lw_m4 82 rfl) rfl
theorem q901 : (Jvm.Cond.methodLink "java/lang/StringUTF16" (67 : Nat) ({ cls := "java/lang/StringUTF16", name := "checkIndex", desc := "(I[B)V" } : Jvm.MethodName)) ∈ lw_all := lw_g (lw_at lw_m4 83 rfl) rfl
theorem q902 : (Jvm.Cond.static ({ cls := "java/lang/StringUTF16", name := "checkIndex", desc := "(I[B)V" } : Jvm.MethodName)) ∈ lw_all := lw_g (lw_at lw_m4 84 rfl) rfl
theorem q903 : (Jvm.Cond.code ({ cls := "java/lang/StringUTF16", name := "checkIndex", desc := "(I[B)V" } : Jvm.MethodName) prog_39_method_91_code (2 : Nat) (Option.none : Option Jvm.ClassFile.FieldType)) ∈ lw_all := lw_g (lw_at lw_m4 85 rfl) rfl
theorem q904 : (Jvm.Cond.methodLink "java/lang/StringUTF16" (48 : Nat) ({ cls := "java/lang/StringUTF16", name := "length", desc := "([B)I" } : Jvm.MethodName)) ∈ lw_all := lw_g (lw_at lw_m4 86 rfl) rfl
theorem q905 : (Jvm.Cond.static ({ cls := "java/lang/StringUTF16", name := "length", desc := "([B)I" } : Jvm.MethodName)) ∈ lw_all := lw_g (lw_at lw_m4 87 rfl) rfl
theorem q906 : (Jvm.Cond.code ({ cls := "java/lang/StringUTF16", name := "length", desc := "([B)I" } : Jvm.MethodName) prog_39_method_6_code (1 : Nat) (Option.some Jvm.ClassFile.FieldType.int)) ∈ lw_all := lw_g (lw_at lw_m4 88 rfl) rfl
theorem q907 : (Jvm.Cond.methodLink "java/lang/StringUTF16" (414 : Nat) ({ cls := "java/lang/String", name := "checkIndex", desc := "(II)V" } : Jvm.MethodName)) ∈ lw_all := lw_g (lw_at lw_m4 89 rfl) rfl
theorem q908 : (Jvm.Cond.methodLink "java/lang/StringUTF16" (71 : Nat) ({ cls := "java/lang/StringUTF16", name := "getChar", desc := "([BI)C" } : Jvm.MethodName)) ∈ lw_all := lw_g (lw_at lw_m4 90 rfl) rfl
theorem q909 : (Jvm.Cond.static ({ cls := "java/lang/StringUTF16", name := "getChar", desc := "([BI)C" } : Jvm.MethodName)) ∈ lw_all := lw_g (lw_at lw_m4 91 rfl) rfl
theorem q910 : (Jvm.Cond.code ({ cls := "java/lang/StringUTF16", name := "getChar", desc := "([BI)C" } : Jvm.MethodName) prog_39_method_5_code (2 : Nat) (Option.some Jvm.ClassFile.FieldType.char)) ∈ lw_all := lw_g (lw_at lw_m4 92 rfl) rfl
theorem q911 : (Jvm.Cond.fieldLink "java/lang/StringUTF16" (44 : Nat) "java/lang/StringUTF16" "$assertionsDisabled" "Z") ∈ lw_all := lw_g (lw_at lw_m4 93 rfl) rfl
theorem q912 : (Jvm.Cond.laysStatic "java/lang/StringUTF16" "$assertionsDisabled" "Z") ∈ lw_tbl := lw_at lw_m4 94 rfl
theorem q913 : (Jvm.Cond.fieldLink "java/lang/StringUTF16" (59 : Nat) "java/lang/StringUTF16" "HI_BYTE_SHIFT" "I") ∈ lw_all := lw_g (lw_at lw_m4 95 rfl) rfl
theorem q914 : (Jvm.Cond.laysStatic "java/lang/StringUTF16" "HI_BYTE_SHIFT" "I") ∈ lw_tbl := lw_at lw_m4 96 rfl
theorem q915 : (Jvm.Cond.fieldLink "java/lang/StringUTF16" (63 : Nat) "java/lang/StringUTF16" "LO_BYTE_SHIFT" "I") ∈ lw_all := lw_g (lw_at lw_m4 97 rfl) rfl
theorem q916 : (Jvm.Cond.laysStatic "java/lang/StringUTF16" "LO_BYTE_SHIFT" "I") ∈ lw_tbl := lw_at lw_m4 98 rfl
/-! java/lang/IllegalArgumentException -/
def RJ7 : String := "java/lang/IllegalArgumentException"
def TJ7 : u_T := fun k => match k with
  | 0 => ("java/lang/Throwable", "cause", "Ljava/lang/Throwable;", false)
  | 1 => ("java/lang/Throwable", "stackTrace", "[Ljava/lang/StackTraceElement;", false)
  | 2 => ("java/lang/Throwable", "suppressedExceptions", "Ljava/util/List;", false)
  | 3 => ("java/lang/Throwable", "detailMessage", "Ljava/lang/String;", false)
  | 4 => ("java/lang/Throwable", "backtrace", "Ljava/lang/Object;", false)
  | _ => ("java/lang/Throwable", "depth", "I", false)
def tyJ7 : Nat → FieldType := fun k => match k with
  | 0 => .object "java/lang/Throwable"
  | 1 => .array (.object "java/lang/StackTraceElement")
  | 2 => .object "java/util/List"
  | 3 => .object "java/lang/String"
  | 4 => .object "java/lang/Object"
  | _ => .int
abbrev wsJ70 : List Cond := u_ws RJ7 TJ7 6
theorem nmJ7 : ∀ a, a < 6 → ∀ b, b < 6 → a ≠ b → (TJ7 a).2.1 ≠ (TJ7 b).2.1 := by decide +kernel
theorem tyJ7_ok : ∀ k, k < 6 → parseFieldDescriptor (TJ7 k).2.2.1 = some (tyJ7 k) := by decide +kernel
abbrev cJ7_init : ByteArray := prog_32_method_1_code
def yJ7_init : MethodName := ⟨RJ7, "<init>", "()V"⟩
theorem q128 : (Jvm.Cond.initialized "java/lang/IllegalArgumentException") ∈ lw_all := lw_g (lw_at lw_m1 30 rfl) rfl
theorem q214 : (Jvm.Cond.selects "java/lang/IllegalArgumentException" ({ cls := "java/lang/Throwable", name := "fillInStackTrace", desc := "()Ljava/lang/Throwable;" } : Jvm.MethodName) ({ cls := "java/lang/Throwable", name := "fillInStackTrace", desc := "()Ljava/lang/Throwable;" } : Jvm.MethodName)) ∈ lw_all := lw_g (lw_at lw_m1 116 rfl) rfl
theorem q1087 : (Jvm.Cond.instantiable "java/lang/IllegalArgumentException" (6 : Nat)) ∈ lw_all := lw_g (lw_at lw_m5 29 rfl) rfl
theorem q1088 : (Jvm.Cond.castable "java/lang/IllegalArgumentException" "java/lang/IllegalArgumentException") ∈ lw_tbl := lw_at lw_m5 30 rfl
theorem q1089 : (Jvm.Cond.selects "java/lang/IllegalArgumentException" ({ cls := "java/lang/Throwable", name := "fillInStackTrace", desc := "(I)Ljava/lang/Throwable;" } : Jvm.MethodName) ({ cls := "java/lang/Throwable", name := "fillInStackTrace", desc := "(I)Ljava/lang/Throwable;" } : Jvm.MethodName)) ∈ lw_all := lw_g (lw_at lw_m5 31 rfl) rfl
theorem q1090 : (Jvm.Cond.lays "java/lang/IllegalArgumentException" "java/lang/Throwable" "cause" "Ljava/lang/Throwable;") ∈ lw_all := lw_g (lw_at lw_m5 32 rfl) rfl
theorem q1091 : (Jvm.Cond.lays "java/lang/IllegalArgumentException" "java/lang/Throwable" "stackTrace" "[Ljava/lang/StackTraceElement;") ∈ lw_all := lw_g (lw_at lw_m5 33 rfl) rfl
theorem q1092 : (Jvm.Cond.lays "java/lang/IllegalArgumentException" "java/lang/Throwable" "suppressedExceptions" "Ljava/util/List;") ∈ lw_all := lw_g (lw_at lw_m5 34 rfl) rfl
theorem q1093 : (Jvm.Cond.lays "java/lang/IllegalArgumentException" "java/lang/Throwable" "detailMessage" "Ljava/lang/String;") ∈ lw_all := lw_g (lw_at lw_m5 35 rfl) rfl
theorem q1094 : (Jvm.Cond.lays "java/lang/IllegalArgumentException" "java/lang/Throwable" "backtrace" "Ljava/lang/Object;") ∈ lw_all := lw_g (lw_at lw_m5 36 rfl) rfl
theorem q1096 : (Jvm.Cond.instanceMethod ({ cls := "java/lang/IllegalArgumentException", name := "<init>", desc := "()V" } : Jvm.MethodName)) ∈ lw_all := lw_g (lw_at lw_m5 38 rfl) rfl
theorem q1097 : (Jvm.Cond.code ({ cls := "java/lang/IllegalArgumentException", name := "<init>", desc := "()V" } : Jvm.MethodName) prog_32_method_1_code (1 : Nat) (Option.none : Option Jvm.ClassFile.FieldType)) ∈ lw_all := lw_g (lw_at lw_m5 39 rfl) rfl
theorem q1098 : (Jvm.Cond.methodLink "java/lang/IllegalArgumentException" (1 : Nat) ({ cls := "java/lang/RuntimeException", name := "<init>", desc := "()V" } : Jvm.MethodName)) ∈ lw_all := lw_g (lw_at lw_m5 40 rfl) rfl
theorem q1105 : (Jvm.Cond.lays "java/lang/IllegalArgumentException" "java/lang/Throwable" "depth" "I") ∈ lw_all := lw_g (lw_at lw_m5 47 rfl) rfl
theorem q1106 : (Jvm.Cond.superclass "java/lang/IllegalArgumentException" "java/lang/RuntimeException") ∈ lw_all := lw_g (lw_at lw_m5 48 rfl) rfl
theorem q2094 : (Jvm.Cond.castable "java/lang/IllegalArgumentException" "java/lang/Object") ∈ lw_tbl := lw_at lw_m9 76 rfl
theorem in_J7 : ∀ w ∈ wsJ70, w ∈ lw_all := lw_in wsJ70 [1090, 1091, 1092, 1093, 1094, 1105] (by decide +kernel) (by decide +kernel)
/-! java/lang/UnsupportedOperationException -/
def RJ8 : String := "java/lang/UnsupportedOperationException"
def TJ8 : u_T := fun k => match k with
  | 0 => ("java/lang/Throwable", "cause", "Ljava/lang/Throwable;", false)
  | 1 => ("java/lang/Throwable", "stackTrace", "[Ljava/lang/StackTraceElement;", false)
  | 2 => ("java/lang/Throwable", "suppressedExceptions", "Ljava/util/List;", false)
  | 3 => ("java/lang/Throwable", "detailMessage", "Ljava/lang/String;", false)
  | 4 => ("java/lang/Throwable", "backtrace", "Ljava/lang/Object;", false)
  | _ => ("java/lang/Throwable", "depth", "I", false)
def tyJ8 : Nat → FieldType := fun k => match k with
  | 0 => .object "java/lang/Throwable"
  | 1 => .array (.object "java/lang/StackTraceElement")
  | 2 => .object "java/util/List"
  | 3 => .object "java/lang/String"
  | 4 => .object "java/lang/Object"
  | _ => .int
abbrev wsJ80 : List Cond := u_ws RJ8 TJ8 6
theorem nmJ8 : ∀ a, a < 6 → ∀ b, b < 6 → a ≠ b → (TJ8 a).2.1 ≠ (TJ8 b).2.1 := by decide +kernel
theorem tyJ8_ok : ∀ k, k < 6 → parseFieldDescriptor (TJ8 k).2.2.1 = some (tyJ8 k) := by decide +kernel
abbrev cJ8_init : ByteArray := prog_42_method_1_code
def yJ8_init : MethodName := ⟨RJ8, "<init>", "()V"⟩
theorem q129 : (Jvm.Cond.initialized "java/lang/UnsupportedOperationException") ∈ lw_all := lw_g (lw_at lw_m1 31 rfl) rfl
theorem q216 : (Jvm.Cond.selects "java/lang/UnsupportedOperationException" ({ cls := "java/lang/Throwable", name := "fillInStackTrace", desc := "()Ljava/lang/Throwable;" } : Jvm.MethodName) ({ cls := "java/lang/Throwable", name := "fillInStackTrace", desc := "()Ljava/lang/Throwable;" } : Jvm.MethodName)) ∈ lw_all := lw_g (lw_at lw_m1 118 rfl) rfl
theorem q1114 : (Jvm.Cond.instantiable "java/lang/UnsupportedOperationException" (6 : Nat)) ∈ lw_all := lw_g (lw_at lw_m5 56 rfl) rfl
theorem q1115 : (Jvm.Cond.castable "java/lang/UnsupportedOperationException" "java/lang/UnsupportedOperationException") ∈ lw_tbl := lw_at lw_m5 57 rfl
theorem q1116 : (Jvm.Cond.selects "java/lang/UnsupportedOperationException" ({ cls := "java/lang/Throwable", name := "fillInStackTrace", desc := "(I)Ljava/lang/Throwable;" } : Jvm.MethodName) ({ cls := "java/lang/Throwable", name := "fillInStackTrace", desc := "(I)Ljava/lang/Throwable;" } : Jvm.MethodName)) ∈ lw_all := lw_g (lw_at lw_m5 58 rfl) rfl
theorem q1117 : (Jvm.Cond.lays "java/lang/UnsupportedOperationException" "java/lang/Throwable" "cause" "Ljava/lang/Throwable;") ∈ lw_all := lw_g (lw_at lw_m5 59 rfl) rfl
theorem q1118 : (Jvm.Cond.lays "java/lang/UnsupportedOperationException" "java/lang/Throwable" "stackTrace" "[Ljava/lang/StackTraceElement;") ∈ lw_all := lw_g (lw_at lw_m5 60 rfl) rfl
theorem q1119 : (Jvm.Cond.lays "java/lang/UnsupportedOperationException" "java/lang/Throwable" "suppressedExceptions" "Ljava/util/List;") ∈ lw_all := lw_g (lw_at lw_m5 61 rfl) rfl
theorem q1120 : (Jvm.Cond.lays "java/lang/UnsupportedOperationException" "java/lang/Throwable" "detailMessage" "Ljava/lang/String;") ∈ lw_all := lw_g (lw_at lw_m5 62 rfl) rfl
theorem q1121 : (Jvm.Cond.lays "java/lang/UnsupportedOperationException" "java/lang/Throwable" "backtrace" "Ljava/lang/Object;") ∈ lw_all := lw_g (lw_at lw_m5 63 rfl) rfl
theorem q1123 : (Jvm.Cond.instanceMethod ({ cls := "java/lang/UnsupportedOperationException", name := "<init>", desc := "()V" } : Jvm.MethodName)) ∈ lw_all := lw_g (lw_at lw_m5 65 rfl) rfl
theorem q1124 : (Jvm.Cond.code ({ cls := "java/lang/UnsupportedOperationException", name := "<init>", desc := "()V" } : Jvm.MethodName) prog_42_method_1_code (1 : Nat) (Option.none : Option Jvm.ClassFile.FieldType)) ∈ lw_all := lw_g (lw_at lw_m5 66 rfl) rfl
theorem q1125 : (Jvm.Cond.methodLink "java/lang/UnsupportedOperationException" (1 : Nat) ({ cls := "java/lang/RuntimeException", name := "<init>", desc := "()V" } : Jvm.MethodName)) ∈ lw_all := lw_g (lw_at lw_m5 67 rfl) rfl
theorem q1126 : (Jvm.Cond.lays "java/lang/UnsupportedOperationException" "java/lang/Throwable" "depth" "I") ∈ lw_all := lw_g (lw_at lw_m5 68 rfl) rfl
theorem q1127 : (Jvm.Cond.superclass "java/lang/UnsupportedOperationException" "java/lang/RuntimeException") ∈ lw_all := lw_g (lw_at lw_m5 69 rfl) rfl
theorem q2095 : (Jvm.Cond.castable "java/lang/UnsupportedOperationException" "java/lang/Object") ∈ lw_tbl := lw_at lw_m9 77 rfl
theorem in_J8 : ∀ w ∈ wsJ80, w ∈ lw_all := lw_in wsJ80 [1117, 1118, 1119, 1120, 1121, 1126] (by decide +kernel) (by decide +kernel)
/-! java/lang/IndexOutOfBoundsException -/
def RJ9 : String := "java/lang/IndexOutOfBoundsException"
def TJ9 : u_T := fun k => match k with
  | 0 => ("java/lang/Throwable", "cause", "Ljava/lang/Throwable;", false)
  | 1 => ("java/lang/Throwable", "stackTrace", "[Ljava/lang/StackTraceElement;", false)
  | 2 => ("java/lang/Throwable", "suppressedExceptions", "Ljava/util/List;", false)
  | 3 => ("java/lang/Throwable", "detailMessage", "Ljava/lang/String;", false)
  | 4 => ("java/lang/Throwable", "backtrace", "Ljava/lang/Object;", false)
  | _ => ("java/lang/Throwable", "depth", "I", false)
def tyJ9 : Nat → FieldType := fun k => match k with
  | 0 => .object "java/lang/Throwable"
  | 1 => .array (.object "java/lang/StackTraceElement")
  | 2 => .object "java/util/List"
  | 3 => .object "java/lang/String"
  | 4 => .object "java/lang/Object"
  | _ => .int
abbrev wsJ90 : List Cond := u_ws RJ9 TJ9 6
theorem nmJ9 : ∀ a, a < 6 → ∀ b, b < 6 → a ≠ b → (TJ9 a).2.1 ≠ (TJ9 b).2.1 := by decide +kernel
theorem tyJ9_ok : ∀ k, k < 6 → parseFieldDescriptor (TJ9 k).2.2.1 = some (tyJ9 k) := by decide +kernel
abbrev cJ9_init : ByteArray := prog_33_method_2_code
def yJ9_init : MethodName := ⟨RJ9, "<init>", "(Ljava/lang/String;)V"⟩
abbrev cJ9_init_2 : ByteArray := prog_33_method_1_code
def yJ9_init_2 : MethodName := ⟨RJ9, "<init>", "()V"⟩
theorem q131 : (Jvm.Cond.initialized "java/lang/IndexOutOfBoundsException") ∈ lw_all := lw_g (lw_at lw_m1 33 rfl) rfl
theorem q215 : (Jvm.Cond.selects "java/lang/IndexOutOfBoundsException" ({ cls := "java/lang/Throwable", name := "fillInStackTrace", desc := "()Ljava/lang/Throwable;" } : Jvm.MethodName) ({ cls := "java/lang/Throwable", name := "fillInStackTrace", desc := "()Ljava/lang/Throwable;" } : Jvm.MethodName)) ∈ lw_all := lw_g (lw_at lw_m1 117 rfl) rfl
theorem q1160 : (Jvm.Cond.instanceMethod ({ cls := "java/lang/IndexOutOfBoundsException", name := "<init>", desc := "(Ljava/lang/String;)V" } : Jvm.MethodName)) ∈ lw_all := lw_g (lw_at lw_m5 102 rfl) rfl
theorem q1161 : (Jvm.Cond.code ({ cls := "java/lang/IndexOutOfBoundsException", name := "<init>", desc := "(Ljava/lang/String;)V" } : Jvm.MethodName) prog_33_method_2_code (2 : Nat) (Option.none : Option Jvm.ClassFile.FieldType)) ∈ lw_all := lw_g (lw_at lw_m5 103 rfl) rfl
theorem q1162 : (Jvm.Cond.methodLink "java/lang/IndexOutOfBoundsException" (7 : Nat) ({ cls := "java/lang/RuntimeException", name := "<init>", desc := "(Ljava/lang/String;)V" } : Jvm.MethodName)) ∈ lw_all := lw_g (lw_at lw_m5 104 rfl) rfl
theorem q1179 : (Jvm.Cond.declares ({ cls := "java/lang/IndexOutOfBoundsException", name := "<init>", desc := "()V" } : Jvm.MethodName)) ∈ lw_tbl := lw_at lw_m5 121 rfl
theorem q1180 : (Jvm.Cond.declares ({ cls := "java/lang/IndexOutOfBoundsException", name := "<init>", desc := "(Ljava/lang/String;)V" } : Jvm.MethodName)) ∈ lw_tbl := lw_at lw_m5 122 rfl
theorem q1198 : (Jvm.Cond.instantiable "java/lang/IndexOutOfBoundsException" (6 : Nat)) ∈ lw_all := lw_g (lw_at lw_m5 140 rfl) rfl
theorem q1199 : (Jvm.Cond.castable "java/lang/IndexOutOfBoundsException" "java/lang/IndexOutOfBoundsException") ∈ lw_tbl := lw_at lw_m5 141 rfl
theorem q1200 : (Jvm.Cond.selects "java/lang/IndexOutOfBoundsException" ({ cls := "java/lang/Throwable", name := "fillInStackTrace", desc := "(I)Ljava/lang/Throwable;" } : Jvm.MethodName) ({ cls := "java/lang/Throwable", name := "fillInStackTrace", desc := "(I)Ljava/lang/Throwable;" } : Jvm.MethodName)) ∈ lw_all := lw_g (lw_at lw_m5 142 rfl) rfl
theorem q1201 : (Jvm.Cond.lays "java/lang/IndexOutOfBoundsException" "java/lang/Throwable" "cause" "Ljava/lang/Throwable;") ∈ lw_all := lw_g (lw_at lw_m5 143 rfl) rfl
theorem q1202 : (Jvm.Cond.lays "java/lang/IndexOutOfBoundsException" "java/lang/Throwable" "stackTrace" "[Ljava/lang/StackTraceElement;") ∈ lw_all := lw_g (lw_at lw_m5 144 rfl) rfl
theorem q1203 : (Jvm.Cond.lays "java/lang/IndexOutOfBoundsException" "java/lang/Throwable" "suppressedExceptions" "Ljava/util/List;") ∈ lw_all := lw_g (lw_at lw_m5 145 rfl) rfl
theorem q1204 : (Jvm.Cond.lays "java/lang/IndexOutOfBoundsException" "java/lang/Throwable" "detailMessage" "Ljava/lang/String;") ∈ lw_all := lw_g (lw_at lw_m5 146 rfl) rfl
theorem q1205 : (Jvm.Cond.lays "java/lang/IndexOutOfBoundsException" "java/lang/Throwable" "backtrace" "Ljava/lang/Object;") ∈ lw_all := lw_g (lw_at lw_m5 147 rfl) rfl
theorem q1207 : (Jvm.Cond.instanceMethod ({ cls := "java/lang/IndexOutOfBoundsException", name := "<init>", desc := "()V" } : Jvm.MethodName)) ∈ lw_all := lw_g (lw_at lw_m5 149 rfl) rfl
theorem q1208 : (Jvm.Cond.code ({ cls := "java/lang/IndexOutOfBoundsException", name := "<init>", desc := "()V" } : Jvm.MethodName) prog_33_method_1_code (1 : Nat) (Option.none : Option Jvm.ClassFile.FieldType)) ∈ lw_all := lw_g (lw_at lw_m5 150 rfl) rfl
theorem q1209 : (Jvm.Cond.methodLink "java/lang/IndexOutOfBoundsException" (1 : Nat) ({ cls := "java/lang/RuntimeException", name := "<init>", desc := "()V" } : Jvm.MethodName)) ∈ lw_all := lw_g (lw_at lw_m5 151 rfl) rfl
theorem q1210 : (Jvm.Cond.lays "java/lang/IndexOutOfBoundsException" "java/lang/Throwable" "depth" "I") ∈ lw_all := lw_g (lw_at lw_m5 152 rfl) rfl
theorem q1211 : (Jvm.Cond.superclass "java/lang/IndexOutOfBoundsException" "java/lang/RuntimeException") ∈ lw_all := lw_g (lw_at lw_m5 153 rfl) rfl
theorem q2098 : (Jvm.Cond.castable "java/lang/IndexOutOfBoundsException" "java/lang/Object") ∈ lw_tbl := lw_at lw_m9 80 rfl
theorem in_J9 : ∀ w ∈ wsJ90, w ∈ lw_all := lw_in wsJ90 [1201, 1202, 1203, 1204, 1205, 1210] (by decide +kernel) (by decide +kernel)
/-! java/lang/ArrayIndexOutOfBoundsException -/
def RJ10 : String := "java/lang/ArrayIndexOutOfBoundsException"
def TJ10 : u_T := fun k => match k with
  | 0 => ("java/lang/Throwable", "backtrace", "Ljava/lang/Object;", false)
  | 1 => ("java/lang/Throwable", "detailMessage", "Ljava/lang/String;", false)
  | 2 => ("java/lang/Throwable", "cause", "Ljava/lang/Throwable;", false)
  | 3 => ("java/lang/Throwable", "stackTrace", "[Ljava/lang/StackTraceElement;", false)
  | 4 => ("java/lang/Throwable", "depth", "I", false)
  | _ => ("java/lang/Throwable", "suppressedExceptions", "Ljava/util/List;", false)
def tyJ10 : Nat → FieldType := fun k => match k with
  | 0 => .object "java/lang/Object"
  | 1 => .object "java/lang/String"
  | 2 => .object "java/lang/Throwable"
  | 3 => .array (.object "java/lang/StackTraceElement")
  | 4 => .int
  | _ => .object "java/util/List"
abbrev wsJ100 : List Cond := u_ws RJ10 TJ10 6
theorem nmJ10 : ∀ a, a < 6 → ∀ b, b < 6 → a ≠ b → (TJ10 a).2.1 ≠ (TJ10 b).2.1 := by decide +kernel
theorem tyJ10_ok : ∀ k, k < 6 → parseFieldDescriptor (TJ10 k).2.2.1 = some (tyJ10 k) := by decide +kernel
abbrev cJ10_init : ByteArray := prog_28_method_2_code
def yJ10_init : MethodName := ⟨RJ10, "<init>", "(Ljava/lang/String;)V"⟩
theorem q132 : (Jvm.Cond.initialized "java/lang/ArrayIndexOutOfBoundsException") ∈ lw_all := lw_g (lw_at lw_m1 34 rfl) rfl
theorem q213 : (Jvm.Cond.selects "java/lang/ArrayIndexOutOfBoundsException" ({ cls := "java/lang/Throwable", name := "fillInStackTrace", desc := "()Ljava/lang/Throwable;" } : Jvm.MethodName) ({ cls := "java/lang/Throwable", name := "fillInStackTrace", desc := "()Ljava/lang/Throwable;" } : Jvm.MethodName)) ∈ lw_all := lw_g (lw_at lw_m1 115 rfl) rfl
theorem q1156 : (Jvm.Cond.instantiable "java/lang/ArrayIndexOutOfBoundsException" (6 : Nat)) ∈ lw_all := lw_g (lw_at lw_m5 98 rfl) rfl
theorem q1157 : (Jvm.Cond.instanceMethod ({ cls := "java/lang/ArrayIndexOutOfBoundsException", name := "<init>", desc := "(Ljava/lang/String;)V" } : Jvm.MethodName)) ∈ lw_all := lw_g (lw_at lw_m5 99 rfl) rfl
theorem q1158 : (Jvm.Cond.code ({ cls := "java/lang/ArrayIndexOutOfBoundsException", name := "<init>", desc := "(Ljava/lang/String;)V" } : Jvm.MethodName) prog_28_method_2_code (2 : Nat) (Option.none : Option Jvm.ClassFile.FieldType)) ∈ lw_all := lw_g (lw_at lw_m5 100 rfl) rfl
theorem q1159 : (Jvm.Cond.methodLink "java/lang/ArrayIndexOutOfBoundsException" (7 : Nat) ({ cls := "java/lang/IndexOutOfBoundsException", name := "<init>", desc := "(Ljava/lang/String;)V" } : Jvm.MethodName)) ∈ lw_all := lw_g (lw_at lw_m5 101 rfl) rfl
theorem q1171 : (Jvm.Cond.lays "java/lang/ArrayIndexOutOfBoundsException" "java/lang/Throwable" "backtrace" "Ljava/lang/Object;") ∈ lw_all := lw_g (lw_at lw_m5 113 rfl) rfl
theorem q1172 : (Jvm.Cond.lays "java/lang/ArrayIndexOutOfBoundsException" "java/lang/Throwable" "detailMessage" "Ljava/lang/String;") ∈ lw_all := lw_g (lw_at lw_m5 114 rfl) rfl
theorem q1173 : (Jvm.Cond.lays "java/lang/ArrayIndexOutOfBoundsException" "java/lang/Throwable" "cause" "Ljava/lang/Throwable;") ∈ lw_all := lw_g (lw_at lw_m5 115 rfl) rfl
theorem q1174 : (Jvm.Cond.lays "java/lang/ArrayIndexOutOfBoundsException" "java/lang/Throwable" "stackTrace" "[Ljava/lang/StackTraceElement;") ∈ lw_all := lw_g (lw_at lw_m5 116 rfl) rfl
theorem q1175 : (Jvm.Cond.lays "java/lang/ArrayIndexOutOfBoundsException" "java/lang/Throwable" "depth" "I") ∈ lw_all := lw_g (lw_at lw_m5 117 rfl) rfl
theorem q1176 : (Jvm.Cond.lays "java/lang/ArrayIndexOutOfBoundsException" "java/lang/Throwable" "suppressedExceptions" "Ljava/util/List;") ∈ lw_all := lw_g (lw_at lw_m5 118 rfl) rfl
theorem q1177 : (Jvm.Cond.superclass "java/lang/ArrayIndexOutOfBoundsException" "java/lang/IndexOutOfBoundsException") ∈ lw_all := lw_g (lw_at lw_m5 119 rfl) rfl
theorem q1178 : (Jvm.Cond.castable "java/lang/ArrayIndexOutOfBoundsException" "java/lang/ArrayIndexOutOfBoundsException") ∈ lw_tbl := lw_at lw_m5 120 rfl
theorem q1181 : (Jvm.Cond.selects "java/lang/ArrayIndexOutOfBoundsException" ({ cls := "java/lang/Throwable", name := "fillInStackTrace", desc := "(I)Ljava/lang/Throwable;" } : Jvm.MethodName) ({ cls := "java/lang/Throwable", name := "fillInStackTrace", desc := "(I)Ljava/lang/Throwable;" } : Jvm.MethodName)) ∈ lw_all := lw_g (lw_at lw_m5 123 rfl) rfl
theorem q2073 : (Jvm.Cond.castable "java/lang/ArrayIndexOutOfBoundsException" "java/lang/IndexOutOfBoundsException") ∈ lw_tbl := lw_at lw_m9 55 rfl
theorem q2097 : (Jvm.Cond.castable "java/lang/ArrayIndexOutOfBoundsException" "java/lang/Object") ∈ lw_tbl := lw_at lw_m9 79 rfl
theorem in_J10 : ∀ w ∈ wsJ100, w ∈ lw_all := lw_in wsJ100 [1171, 1172, 1173, 1174, 1175, 1176] (by decide +kernel) (by decide +kernel)
/-! java/lang/Math -/
def RJ11 : String := "java/lang/Math"
abbrev cJ11_max : ByteArray := prog_35_method_65_code
def yJ11_max : MethodName := ⟨RJ11, "max", "(II)I"⟩
abbrev cJ11_min : ByteArray := prog_35_method_69_code
def yJ11_min : MethodName := ⟨RJ11, "min", "(II)I"⟩
abbrev cJ11_abs : ByteArray := prog_35_method_59_code
def yJ11_abs : MethodName := ⟨RJ11, "abs", "(I)I"⟩
theorem q133 : (Jvm.Cond.initialized "java/lang/Math") ∈ lw_all := lw_g (lw_at lw_m1 35 rfl) rfl
theorem q637 : (Jvm.Cond.static ({ cls := "java/lang/Math", name := "max", desc := "(II)I" } : Jvm.MethodName)) ∈ lw_all := lw_g (lw_at lw_m3 59 rfl) rfl
theorem q638 : (Jvm.Cond.code ({ cls := "java/lang/Math", name := "max", desc := "(II)I" } : Jvm.MethodName) prog_35_method_65_code (2 : Nat) (Option.some Jvm.ClassFile.FieldType.int)) ∈ lw_all := lw_g (lw_at lw_m3 60 rfl) rfl
theorem q648 : (Jvm.Cond.static ({ cls := "java/lang/Math", name := "min", desc := "(II)I" } : Jvm.MethodName)) ∈ lw_all := lw_g (lw_at lw_m3 70 rfl) rfl
theorem q649 : (Jvm.Cond.code ({ cls := "java/lang/Math", name := "min", desc := "(II)I" } : Jvm.MethodName) prog_35_method_69_code (2 : Nat) (Option.some Jvm.ClassFile.FieldType.int)) ∈ lw_all := lw_g (lw_at lw_m3 71 rfl) rfl
theorem q692 : (Jvm.Cond.static ({ cls := "java/lang/Math", name := "abs", desc := "(I)I" } : Jvm.MethodName)) ∈ lw_all := lw_g (lw_at lw_m3 114 rfl) rfl
theorem q693 : (Jvm.Cond.code ({ cls := "java/lang/Math", name := "abs", desc := "(I)I" } : Jvm.MethodName) prog_35_method_59_code (1 : Nat) (Option.some Jvm.ClassFile.FieldType.int)) ∈ lw_all := lw_g (lw_at lw_m3 115 rfl) rfl
/-! java/util/NoSuchElementException -/
def RJ12 : String := "java/util/NoSuchElementException"
def TJ12 : u_T := fun k => match k with
  | 0 => ("java/lang/Throwable", "cause", "Ljava/lang/Throwable;", false)
  | 1 => ("java/lang/Throwable", "stackTrace", "[Ljava/lang/StackTraceElement;", false)
  | 2 => ("java/lang/Throwable", "suppressedExceptions", "Ljava/util/List;", false)
  | 3 => ("java/lang/Throwable", "detailMessage", "Ljava/lang/String;", false)
  | 4 => ("java/lang/Throwable", "backtrace", "Ljava/lang/Object;", false)
  | _ => ("java/lang/Throwable", "depth", "I", false)
def tyJ12 : Nat → FieldType := fun k => match k with
  | 0 => .object "java/lang/Throwable"
  | 1 => .array (.object "java/lang/StackTraceElement")
  | 2 => .object "java/util/List"
  | 3 => .object "java/lang/String"
  | 4 => .object "java/lang/Object"
  | _ => .int
abbrev wsJ120 : List Cond := u_ws RJ12 TJ12 6
theorem nmJ12 : ∀ a, a < 6 → ∀ b, b < 6 → a ≠ b → (TJ12 a).2.1 ≠ (TJ12 b).2.1 := by decide +kernel
theorem tyJ12_ok : ∀ k, k < 6 → parseFieldDescriptor (TJ12 k).2.2.1 = some (tyJ12 k) := by decide +kernel
abbrev cJ12_init : ByteArray := prog_45_method_1_code
def yJ12_init : MethodName := ⟨RJ12, "<init>", "()V"⟩
theorem q135 : (Jvm.Cond.initialized "java/util/NoSuchElementException") ∈ lw_all := lw_g (lw_at lw_m1 37 rfl) rfl
theorem q217 : (Jvm.Cond.selects "java/util/NoSuchElementException" ({ cls := "java/lang/Throwable", name := "fillInStackTrace", desc := "()Ljava/lang/Throwable;" } : Jvm.MethodName) ({ cls := "java/lang/Throwable", name := "fillInStackTrace", desc := "()Ljava/lang/Throwable;" } : Jvm.MethodName)) ∈ lw_all := lw_g (lw_at lw_m1 119 rfl) rfl
theorem q1293 : (Jvm.Cond.instantiable "java/util/NoSuchElementException" (6 : Nat)) ∈ lw_all := lw_g (lw_at lw_m5 235 rfl) rfl
theorem q1294 : (Jvm.Cond.castable "java/util/NoSuchElementException" "java/util/NoSuchElementException") ∈ lw_tbl := lw_at lw_m5 236 rfl
theorem q1295 : (Jvm.Cond.selects "java/util/NoSuchElementException" ({ cls := "java/lang/Throwable", name := "fillInStackTrace", desc := "(I)Ljava/lang/Throwable;" } : Jvm.MethodName) ({ cls := "java/lang/Throwable", name := "fillInStackTrace", desc := "(I)Ljava/lang/Throwable;" } : Jvm.MethodName)) ∈ lw_all := lw_g (lw_at lw_m5 237 rfl) rfl
theorem q1296 : (Jvm.Cond.lays "java/util/NoSuchElementException" "java/lang/Throwable" "cause" "Ljava/lang/Throwable;") ∈ lw_all := lw_g (lw_at lw_m5 238 rfl) rfl
theorem q1297 : (Jvm.Cond.lays "java/util/NoSuchElementException" "java/lang/Throwable" "stackTrace" "[Ljava/lang/StackTraceElement;") ∈ lw_all := lw_g (lw_at lw_m5 239 rfl) rfl
theorem q1298 : (Jvm.Cond.lays "java/util/NoSuchElementException" "java/lang/Throwable" "suppressedExceptions" "Ljava/util/List;") ∈ lw_all := lw_g (lw_at lw_m6 0 rfl) rfl
theorem q1299 : (Jvm.Cond.lays "java/util/NoSuchElementException" "java/lang/Throwable" "detailMessage" "Ljava/lang/String;") ∈ lw_all := lw_g (lw_at lw_m6 1 rfl) rfl
theorem q1300 : (Jvm.Cond.lays "java/util/NoSuchElementException" "java/lang/Throwable" "backtrace" "Ljava/lang/Object;") ∈ lw_all := lw_g (lw_at lw_m6 2 rfl) rfl
theorem q1302 : (Jvm.Cond.instanceMethod ({ cls := "java/util/NoSuchElementException", name := "<init>", desc := "()V" } : Jvm.MethodName)) ∈ lw_all := lw_g (lw_at lw_m6 4 rfl) rfl
theorem q1303 : (Jvm.Cond.code ({ cls := "java/util/NoSuchElementException", name := "<init>", desc := "()V" } : Jvm.MethodName) prog_45_method_1_code (1 : Nat) (Option.none : Option Jvm.ClassFile.FieldType)) ∈ lw_all := lw_g (lw_at lw_m6 5 rfl) rfl
theorem q1304 : (Jvm.Cond.methodLink "java/util/NoSuchElementException" (1 : Nat) ({ cls := "java/lang/RuntimeException", name := "<init>", desc := "()V" } : Jvm.MethodName)) ∈ lw_all := lw_g (lw_at lw_m6 6 rfl) rfl
theorem q1305 : (Jvm.Cond.lays "java/util/NoSuchElementException" "java/lang/Throwable" "depth" "I") ∈ lw_all := lw_g (lw_at lw_m6 7 rfl) rfl
theorem q1306 : (Jvm.Cond.superclass "java/util/NoSuchElementException" "java/lang/RuntimeException") ∈ lw_all := lw_g (lw_at lw_m6 8 rfl) rfl
theorem q2100 : (Jvm.Cond.castable "java/util/NoSuchElementException" "java/lang/Object") ∈ lw_tbl := lw_at lw_m9 82 rfl
theorem in_J12 : ∀ w ∈ wsJ120, w ∈ lw_all := lw_in wsJ120 [1296, 1297, 1298, 1299, 1300, 1305] (by decide +kernel) (by decide +kernel)
/-! java/lang/Integer -/
def RJ13 : String := "java/lang/Integer"
abbrev cJ13_bitCount : ByteArray := prog_34_method_49_code
def yJ13_bitCount : MethodName := ⟨RJ13, "bitCount", "(I)I"⟩
abbrev cJ13_numberOfTrailingZeros : ByteArray := prog_34_method_48_code
def yJ13_numberOfTrailingZeros : MethodName := ⟨RJ13, "numberOfTrailingZeros", "(I)I"⟩
theorem q137 : (Jvm.Cond.initialized "java/lang/Integer") ∈ lw_all := lw_g (lw_at lw_m1 39 rfl) rfl
theorem q761 : (Jvm.Cond.static ({ cls := "java/lang/Integer", name := "bitCount", desc := "(I)I" } : Jvm.MethodName)) ∈ lw_all := lw_g (lw_at lw_m3 183 rfl) rfl
theorem q762 : (Jvm.Cond.code ({ cls := "java/lang/Integer", name := "bitCount", desc := "(I)I" } : Jvm.MethodName) prog_34_method_49_code (1 : Nat) (Option.some Jvm.ClassFile.FieldType.int)) ∈ lw_all := lw_g (lw_at lw_m3 184 rfl) rfl
theorem q763 : (Jvm.Cond.constant "java/lang/Integer" (265 : Nat) (1431655765 : Int32)) ∈ lw_all := lw_g (lw_at lw_m3 185 rfl) rfl
theorem q764 : (Jvm.Cond.constant "java/lang/Integer" (266 : Nat) (858993459 : Int32)) ∈ lw_all := lw_g (lw_at lw_m3 186 rfl) rfl
theorem q765 : (Jvm.Cond.constant "java/lang/Integer" (267 : Nat) (252645135 : Int32)) ∈ lw_all := lw_g (lw_at lw_m3 187 rfl) rfl
theorem q767 : (Jvm.Cond.static ({ cls := "java/lang/Integer", name := "numberOfTrailingZeros", desc := "(I)I" } : Jvm.MethodName)) ∈ lw_all := lw_g (lw_at lw_m3 189 rfl) rfl
theorem q768 : (Jvm.Cond.code ({ cls := "java/lang/Integer", name := "numberOfTrailingZeros", desc := "(I)I" } : Jvm.MethodName) prog_34_method_48_code (2 : Nat) (Option.some Jvm.ClassFile.FieldType.int)) ∈ lw_all := lw_g (lw_at lw_m3 190 rfl) rfl
theorem q769 : (Jvm.Cond.constant "java/lang/Integer" (264 : Nat) (65536 : Int32)) ∈ lw_all := lw_g (lw_at lw_m3 191 rfl) rfl
/-! java/lang/Object -/
def RJ14 : String := "java/lang/Object"
abbrev cJ14_init : ByteArray := object_method_1_code
def yJ14_init : MethodName := ⟨RJ14, "<init>", "()V"⟩
theorem q144 : (Jvm.Cond.instanceMethod ({ cls := "java/lang/Object", name := "<init>", desc := "()V" } : Jvm.MethodName)) ∈ lw_all := lw_g (lw_at lw_m1 46 rfl) rfl
theorem q145 : (Jvm.Cond.code ({ cls := "java/lang/Object", name := "<init>", desc := "()V" } : Jvm.MethodName) object_method_1_code (1 : Nat) (Option.none : Option Jvm.ClassFile.FieldType)) ∈ lw_all := lw_g (lw_at lw_m1 47 rfl) rfl
/-! MoveNotesLaw -/
def RX0 : String := "MoveNotesLaw"
abbrev cX0_kind : ByteArray := method_3_code
def yX0_kind : MethodName := ⟨RX0, "kind", "(LMoveNotes;I[J)I"⟩
abbrev cX0_measure : ByteArray := method_4_code
def yX0_measure : MethodName := ⟨RX0, "measure", "(LMoveNotes;[J)I"⟩
abbrev cX0_put : ByteArray := method_5_code
def yX0_put : MethodName := ⟨RX0, "put", "(LMoveNotes;III)I"⟩
abbrev cX0_moves : ByteArray := method_6_code
def yX0_moves : MethodName := ⟨RX0, "moves", "(LMoveNotes;II[J)I"⟩
abbrev cX0_book : ByteArray := method_7_code
def yX0_book : MethodName := ⟨RX0, "book", "(LMoveNotes;I[J)I"⟩
abbrev cX0_note : ByteArray := method_8_code
def yX0_note : MethodName := ⟨RX0, "note", "(LMoveNotes;IIIII[J)I"⟩
abbrev cX0_change : ByteArray := method_9_code
def yX0_change : MethodName := ⟨RX0, "change", "(LMoveNotes;IIIIII[J)I"⟩
abbrev cX0_look : ByteArray := method_10_code
def yX0_look : MethodName := ⟨RX0, "look", "(LMoveNotes;III[J)I"⟩
abbrev cX0_write : ByteArray := method_11_code
def yX0_write : MethodName := ⟨RX0, "write", "(LMoveNotes;IIII[J)I"⟩
abbrev cX0_price : ByteArray := method_12_code
def yX0_price : MethodName := ⟨RX0, "price", "(LMoveNotes;II[J)I"⟩
abbrev cX0_length : ByteArray := method_13_code
def yX0_length : MethodName := ⟨RX0, "length", "(LMoveNotes;I)I"⟩
abbrev cX0_picture : ByteArray := method_14_code
def yX0_picture : MethodName := ⟨RX0, "picture", "(LMoveNotes;IIII[J)I"⟩
abbrev cX0_read : ByteArray := method_15_code
def yX0_read : MethodName := ⟨RX0, "read", "(LMoveNotes;I[J)I"⟩
abbrev cX0_readNext : ByteArray := method_16_code
def yX0_readNext : MethodName := ⟨RX0, "readNext", "(LMoveNotes;I[J)I"⟩
abbrev cX0_slip : ByteArray := method_17_code
def yX0_slip : MethodName := ⟨RX0, "slip", "(LMoveNotes;II[J)I"⟩
abbrev cX0_slips : ByteArray := method_18_code
def yX0_slips : MethodName := ⟨RX0, "slips", "(LMoveNotes;II[J)I"⟩
abbrev cX0_breaks : ByteArray := method_19_code
def yX0_breaks : MethodName := ⟨RX0, "breaks", "(LMoveNotes;I[J)I"⟩
abbrev cX0_brief : ByteArray := method_20_code
def yX0_brief : MethodName := ⟨RX0, "brief", "(LMoveNotes;I[J)I"⟩
abbrev cX0_best : ByteArray := method_21_code
def yX0_best : MethodName := ⟨RX0, "best", "(LMoveNotes;I[J)I"⟩
abbrev cX0_odds : ByteArray := method_22_code
def yX0_odds : MethodName := ⟨RX0, "odds", "(LMoveNotes;IIZ[J)I"⟩
abbrev cX0_shared : ByteArray := method_23_code
def yX0_shared : MethodName := ⟨RX0, "shared", "(LMoveNotes;IIZ[J)I"⟩
abbrev cX0_alike : ByteArray := method_24_code
def yX0_alike : MethodName := ⟨RX0, "alike", "(LMoveNotes;II[J)I"⟩
abbrev cX0_way : ByteArray := method_25_code
def yX0_way : MethodName := ⟨RX0, "way", "(LMoveNotes;I[J)I"⟩
abbrev cX0_cheaper : ByteArray := method_26_code
def yX0_cheaper : MethodName := ⟨RX0, "cheaper", "(LMoveNotes;I[J)I"⟩
theorem q98 : (Jvm.Cond.initialized "MoveNotesLaw") ∈ lw_all := lw_g (lw_at lw_m1 0 rfl) rfl
theorem q138 : (Jvm.Cond.classLink "MoveNotesLaw" (8 : Nat) "MoveNotes") ∈ lw_all := lw_g (lw_at lw_m1 40 rfl) rfl
theorem q140 : (Jvm.Cond.methodLink "MoveNotesLaw" (100 : Nat) ({ cls := "MoveNotes", name := "<init>", desc := "()V" } : Jvm.MethodName)) ∈ lw_all := lw_g (lw_at lw_m1 42 rfl) rfl
theorem q573 : (Jvm.Cond.methodLink "MoveNotesLaw" (104 : Nat) ({ cls := "MoveNotes", name := "feed", desc := "(IIIII)I" } : Jvm.MethodName)) ∈ lw_all := lw_g (lw_at lw_m2 235 rfl) rfl
theorem q581 : (Jvm.Cond.methodLink "MoveNotesLaw" (108 : Nat) ({ cls := "MoveNotes", name := "end", desc := "(I)Z" } : Jvm.MethodName)) ∈ lw_all := lw_g (lw_at lw_m3 3 rfl) rfl
theorem q588 : (Jvm.Cond.methodLink "MoveNotesLaw" (126 : Nat) ({ cls := "MoveNotes", name := "fault", desc := "()I" } : Jvm.MethodName)) ∈ lw_all := lw_g (lw_at lw_m3 10 rfl) rfl
theorem q592 : (Jvm.Cond.methodLink "MoveNotesLaw" (167 : Nat) ({ cls := "MoveNotes", name := "least", desc := "()I" } : Jvm.MethodName)) ∈ lw_all := lw_g (lw_at lw_m3 14 rfl) rfl
theorem q796 : (Jvm.Cond.methodLink "MoveNotesLaw" (171 : Nat) ({ cls := "MoveNotes", name := "many", desc := "()I" } : Jvm.MethodName)) ∈ lw_all := lw_g (lw_at lw_m3 218 rfl) rfl
theorem q800 : (Jvm.Cond.methodLink "MoveNotesLaw" (193 : Nat) ({ cls := "MoveNotes", name := "part", desc := "()I" } : Jvm.MethodName)) ∈ lw_all := lw_g (lw_at lw_m3 222 rfl) rfl
theorem q804 : (Jvm.Cond.methodLink "MoveNotesLaw" (216 : Nat) ({ cls := "MoveNotes", name := "image", desc := "()V" } : Jvm.MethodName)) ∈ lw_all := lw_g (lw_at lw_m3 226 rfl) rfl
theorem q819 : (Jvm.Cond.methodLink "MoveNotesLaw" (220 : Nat) ({ cls := "MoveNotes", name := "back", desc := "()Z" } : Jvm.MethodName)) ∈ lw_all := lw_g (lw_at lw_m4 1 rfl) rfl
theorem q823 : (Jvm.Cond.methodLink "MoveNotesLaw" (225 : Nat) ({ cls := "MoveNotes", name := "count", desc := "(I)I" } : Jvm.MethodName)) ∈ lw_all := lw_g (lw_at lw_m4 5 rfl) rfl
theorem q828 : (Jvm.Cond.methodLink "MoveNotesLaw" (113 : Nat) ({ cls := "MoveNotesLaw", name := "kind", desc := "(LMoveNotes;I[J)I" } : Jvm.MethodName)) ∈ lw_all := lw_g (lw_at lw_m4 10 rfl) rfl
theorem q829 : (Jvm.Cond.static ({ cls := "MoveNotesLaw", name := "kind", desc := "(LMoveNotes;I[J)I" } : Jvm.MethodName)) ∈ lw_all := lw_g (lw_at lw_m4 11 rfl) rfl
theorem q830 : (Jvm.Cond.codeWith ({ cls := "MoveNotesLaw", name := "kind", desc := "(LMoveNotes;I[J)I" } : Jvm.MethodName) method_3_code (4 : Nat) (Option.some Jvm.ClassFile.FieldType.int) [((0 : Nat), (9 : Nat), (12 : Nat), (13 : Nat)), ((0 : Nat), (9 : Nat), (15 : Nat), (15 : Nat))]) ∈ lw_all := lw_g (lw_at lw_m4 12 rfl) rfl
theorem q831 : (Jvm.Cond.classLink "MoveNotesLaw" (13 : Nat) "java/lang/IllegalArgumentException") ∈ lw_all := lw_g (lw_at lw_m4 13 rfl) rfl
theorem q832 : (Jvm.Cond.classLink "MoveNotesLaw" (15 : Nat) "java/lang/UnsupportedOperationException") ∈ lw_all := lw_g (lw_at lw_m4 14 rfl) rfl
theorem q833 : (Jvm.Cond.methodLink "MoveNotesLaw" (7 : Nat) ({ cls := "MoveNotes", name := "kind", desc := "(I)I" } : Jvm.MethodName)) ∈ lw_all := lw_g (lw_at lw_m4 15 rfl) rfl
theorem q1128 : (Jvm.Cond.methodLink "MoveNotesLaw" (122 : Nat) ({ cls := "MoveNotesLaw", name := "measure", desc := "(LMoveNotes;[J)I" } : Jvm.MethodName)) ∈ lw_all := lw_g (lw_at lw_m5 70 rfl) rfl
theorem q1129 : (Jvm.Cond.static ({ cls := "MoveNotesLaw", name := "measure", desc := "(LMoveNotes;[J)I" } : Jvm.MethodName)) ∈ lw_all := lw_g (lw_at lw_m5 71 rfl) rfl
theorem q1130 : (Jvm.Cond.codeWith ({ cls := "MoveNotesLaw", name := "measure", desc := "(LMoveNotes;[J)I" } : Jvm.MethodName) method_4_code (3 : Nat) (Option.some Jvm.ClassFile.FieldType.int) [((0 : Nat), (8 : Nat), (11 : Nat), (13 : Nat))]) ∈ lw_all := lw_g (lw_at lw_m5 72 rfl) rfl
theorem q1131 : (Jvm.Cond.methodLink "MoveNotesLaw" (17 : Nat) ({ cls := "MoveNotes", name := "measure", desc := "()I" } : Jvm.MethodName)) ∈ lw_all := lw_g (lw_at lw_m5 73 rfl) rfl
theorem q1152 : (Jvm.Cond.methodLink "MoveNotesLaw" (130 : Nat) ({ cls := "MoveNotesLaw", name := "put", desc := "(LMoveNotes;III)I" } : Jvm.MethodName)) ∈ lw_all := lw_g (lw_at lw_m5 94 rfl) rfl
theorem q1153 : (Jvm.Cond.static ({ cls := "MoveNotesLaw", name := "put", desc := "(LMoveNotes;III)I" } : Jvm.MethodName)) ∈ lw_all := lw_g (lw_at lw_m5 95 rfl) rfl
theorem q1154 : (Jvm.Cond.codeWith ({ cls := "MoveNotesLaw", name := "put", desc := "(LMoveNotes;III)I" } : Jvm.MethodName) method_5_code (5 : Nat) (Option.some Jvm.ClassFile.FieldType.int) [((0 : Nat), (7 : Nat), (10 : Nat), (25 : Nat)), ((0 : Nat), (7 : Nat), (14 : Nat), (13 : Nat))]) ∈ lw_all := lw_g (lw_at lw_m5 96 rfl) rfl
theorem q1155 : (Jvm.Cond.classLink "MoveNotesLaw" (25 : Nat) "java/lang/IndexOutOfBoundsException") ∈ lw_all := lw_g (lw_at lw_m5 97 rfl) rfl
theorem q1187 : (Jvm.Cond.methodLink "MoveNotesLaw" (21 : Nat) ({ cls := "MoveNotes", name := "put", desc := "(III)V" } : Jvm.MethodName)) ∈ lw_all := lw_g (lw_at lw_m5 129 rfl) rfl
theorem q1216 : (Jvm.Cond.methodLink "MoveNotesLaw" (134 : Nat) ({ cls := "MoveNotesLaw", name := "moves", desc := "(LMoveNotes;II[J)I" } : Jvm.MethodName)) ∈ lw_all := lw_g (lw_at lw_m5 158 rfl) rfl
theorem q1217 : (Jvm.Cond.static ({ cls := "MoveNotesLaw", name := "moves", desc := "(LMoveNotes;II[J)I" } : Jvm.MethodName)) ∈ lw_all := lw_g (lw_at lw_m5 159 rfl) rfl
theorem q1218 : (Jvm.Cond.codeWith ({ cls := "MoveNotesLaw", name := "moves", desc := "(LMoveNotes;II[J)I" } : Jvm.MethodName) method_6_code (5 : Nat) (Option.some Jvm.ClassFile.FieldType.int) [((0 : Nat), (10 : Nat), (13 : Nat), (13 : Nat))]) ∈ lw_all := lw_g (lw_at lw_m5 160 rfl) rfl
theorem q1219 : (Jvm.Cond.methodLink "MoveNotesLaw" (27 : Nat) ({ cls := "MoveNotes", name := "moves", desc := "(II)I" } : Jvm.MethodName)) ∈ lw_all := lw_g (lw_at lw_m5 161 rfl) rfl
theorem q1224 : (Jvm.Cond.methodLink "MoveNotesLaw" (138 : Nat) ({ cls := "MoveNotesLaw", name := "book", desc := "(LMoveNotes;I[J)I" } : Jvm.MethodName)) ∈ lw_all := lw_g (lw_at lw_m5 166 rfl) rfl
theorem q1225 : (Jvm.Cond.static ({ cls := "MoveNotesLaw", name := "book", desc := "(LMoveNotes;I[J)I" } : Jvm.MethodName)) ∈ lw_all := lw_g (lw_at lw_m5 167 rfl) rfl
theorem q1226 : (Jvm.Cond.codeWith ({ cls := "MoveNotesLaw", name := "book", desc := "(LMoveNotes;I[J)I" } : Jvm.MethodName) method_7_code (4 : Nat) (Option.some Jvm.ClassFile.FieldType.int) [((0 : Nat), (9 : Nat), (12 : Nat), (13 : Nat)), ((0 : Nat), (9 : Nat), (15 : Nat), (15 : Nat))]) ∈ lw_all := lw_g (lw_at lw_m5 168 rfl) rfl
theorem q1227 : (Jvm.Cond.methodLink "MoveNotesLaw" (31 : Nat) ({ cls := "MoveNotes", name := "book", desc := "(I)I" } : Jvm.MethodName)) ∈ lw_all := lw_g (lw_at lw_m5 169 rfl) rfl
theorem q1235 : (Jvm.Cond.methodLink "MoveNotesLaw" (141 : Nat) ({ cls := "MoveNotesLaw", name := "note", desc := "(LMoveNotes;IIIII[J)I" } : Jvm.MethodName)) ∈ lw_all := lw_g (lw_at lw_m5 177 rfl) rfl
theorem q1236 : (Jvm.Cond.static ({ cls := "MoveNotesLaw", name := "note", desc := "(LMoveNotes;IIIII[J)I" } : Jvm.MethodName)) ∈ lw_all := lw_g (lw_at lw_m5 178 rfl) rfl
theorem q1237 : (Jvm.Cond.codeWith ({ cls := "MoveNotesLaw", name := "note", desc := "(LMoveNotes;IIIII[J)I" } : Jvm.MethodName) method_8_code (8 : Nat) (Option.some Jvm.ClassFile.FieldType.int) [((0 : Nat), (16 : Nat), (19 : Nat), (25 : Nat)), ((0 : Nat), (16 : Nat), (23 : Nat), (13 : Nat)), ((0 : Nat), (16 : Nat), (27 : Nat), (15 : Nat))]) ∈ lw_all := lw_g (lw_at lw_m5 179 rfl) rfl
theorem q1238 : (Jvm.Cond.methodLink "MoveNotesLaw" (34 : Nat) ({ cls := "MoveNotes", name := "note", desc := "(IIIII)I" } : Jvm.MethodName)) ∈ lw_all := lw_g (lw_at lw_m5 180 rfl) rfl
theorem q1272 : (Jvm.Cond.methodLink "MoveNotesLaw" (145 : Nat) ({ cls := "MoveNotesLaw", name := "change", desc := "(LMoveNotes;IIIIII[J)I" } : Jvm.MethodName)) ∈ lw_all := lw_g (lw_at lw_m5 214 rfl) rfl
theorem q1273 : (Jvm.Cond.static ({ cls := "MoveNotesLaw", name := "change", desc := "(LMoveNotes;IIIIII[J)I" } : Jvm.MethodName)) ∈ lw_all := lw_g (lw_at lw_m5 215 rfl) rfl
theorem q1274 : (Jvm.Cond.codeWith ({ cls := "MoveNotesLaw", name := "change", desc := "(LMoveNotes;IIIIII[J)I" } : Jvm.MethodName) method_9_code (9 : Nat) (Option.some Jvm.ClassFile.FieldType.int) [((0 : Nat), (25 : Nat), (28 : Nat), (25 : Nat)), ((0 : Nat), (25 : Nat), (32 : Nat), (13 : Nat))]) ∈ lw_all := lw_g (lw_at lw_m5 216 rfl) rfl
theorem q1275 : (Jvm.Cond.methodLink "MoveNotesLaw" (38 : Nat) ({ cls := "MoveNotes", name := "change", desc := "(IIIIII)Z" } : Jvm.MethodName)) ∈ lw_all := lw_g (lw_at lw_m5 217 rfl) rfl
theorem q1284 : (Jvm.Cond.methodLink "MoveNotesLaw" (149 : Nat) ({ cls := "MoveNotesLaw", name := "look", desc := "(LMoveNotes;III[J)I" } : Jvm.MethodName)) ∈ lw_all := lw_g (lw_at lw_m5 226 rfl) rfl
theorem q1285 : (Jvm.Cond.static ({ cls := "MoveNotesLaw", name := "look", desc := "(LMoveNotes;III[J)I" } : Jvm.MethodName)) ∈ lw_all := lw_g (lw_at lw_m5 227 rfl) rfl
theorem q1286 : (Jvm.Cond.codeWith ({ cls := "MoveNotesLaw", name := "look", desc := "(LMoveNotes;III[J)I" } : Jvm.MethodName) method_10_code (6 : Nat) (Option.some Jvm.ClassFile.FieldType.int) [((0 : Nat), (12 : Nat), (15 : Nat), (25 : Nat)), ((0 : Nat), (12 : Nat), (19 : Nat), (46 : Nat))]) ∈ lw_all := lw_g (lw_at lw_m5 228 rfl) rfl
theorem q1287 : (Jvm.Cond.classLink "MoveNotesLaw" (46 : Nat) "java/util/NoSuchElementException") ∈ lw_all := lw_g (lw_at lw_m5 229 rfl) rfl
theorem q1288 : (Jvm.Cond.methodLink "MoveNotesLaw" (42 : Nat) ({ cls := "MoveNotes", name := "look", desc := "(III)I" } : Jvm.MethodName)) ∈ lw_all := lw_g (lw_at lw_m5 230 rfl) rfl
theorem q1307 : (Jvm.Cond.methodLink "MoveNotesLaw" (153 : Nat) ({ cls := "MoveNotesLaw", name := "write", desc := "(LMoveNotes;IIII[J)I" } : Jvm.MethodName)) ∈ lw_all := lw_g (lw_at lw_m6 9 rfl) rfl
theorem q1308 : (Jvm.Cond.static ({ cls := "MoveNotesLaw", name := "write", desc := "(LMoveNotes;IIII[J)I" } : Jvm.MethodName)) ∈ lw_all := lw_g (lw_at lw_m6 10 rfl) rfl
theorem q1309 : (Jvm.Cond.codeWith ({ cls := "MoveNotesLaw", name := "write", desc := "(LMoveNotes;IIII[J)I" } : Jvm.MethodName) method_11_code (7 : Nat) (Option.some Jvm.ClassFile.FieldType.int) [((0 : Nat), (14 : Nat), (17 : Nat), (13 : Nat)), ((0 : Nat), (14 : Nat), (21 : Nat), (15 : Nat))]) ∈ lw_all := lw_g (lw_at lw_m6 11 rfl) rfl
theorem q1310 : (Jvm.Cond.methodLink "MoveNotesLaw" (48 : Nat) ({ cls := "MoveNotes", name := "write", desc := "(IIII)I" } : Jvm.MethodName)) ∈ lw_all := lw_g (lw_at lw_m6 12 rfl) rfl
theorem q1319 : (Jvm.Cond.methodLink "MoveNotesLaw" (157 : Nat) ({ cls := "MoveNotesLaw", name := "price", desc := "(LMoveNotes;II[J)I" } : Jvm.MethodName)) ∈ lw_all := lw_g (lw_at lw_m6 21 rfl) rfl
theorem q1320 : (Jvm.Cond.static ({ cls := "MoveNotesLaw", name := "price", desc := "(LMoveNotes;II[J)I" } : Jvm.MethodName)) ∈ lw_all := lw_g (lw_at lw_m6 22 rfl) rfl
theorem q1321 : (Jvm.Cond.codeWith ({ cls := "MoveNotesLaw", name := "price", desc := "(LMoveNotes;II[J)I" } : Jvm.MethodName) method_12_code (5 : Nat) (Option.some Jvm.ClassFile.FieldType.int) [((0 : Nat), (10 : Nat), (13 : Nat), (25 : Nat)), ((0 : Nat), (10 : Nat), (17 : Nat), (13 : Nat))]) ∈ lw_all := lw_g (lw_at lw_m6 23 rfl) rfl
theorem q1322 : (Jvm.Cond.methodLink "MoveNotesLaw" (52 : Nat) ({ cls := "MoveNotes", name := "price", desc := "(II)I" } : Jvm.MethodName)) ∈ lw_all := lw_g (lw_at lw_m6 24 rfl) rfl
theorem q1329 : (Jvm.Cond.methodLink "MoveNotesLaw" (160 : Nat) ({ cls := "MoveNotesLaw", name := "length", desc := "(LMoveNotes;I)I" } : Jvm.MethodName)) ∈ lw_all := lw_g (lw_at lw_m6 31 rfl) rfl
theorem q1330 : (Jvm.Cond.static ({ cls := "MoveNotesLaw", name := "length", desc := "(LMoveNotes;I)I" } : Jvm.MethodName)) ∈ lw_all := lw_g (lw_at lw_m6 32 rfl) rfl
theorem q1331 : (Jvm.Cond.codeWith ({ cls := "MoveNotesLaw", name := "length", desc := "(LMoveNotes;I)I" } : Jvm.MethodName) method_13_code (3 : Nat) (Option.some Jvm.ClassFile.FieldType.int) [((0 : Nat), (5 : Nat), (8 : Nat), (13 : Nat))]) ∈ lw_all := lw_g (lw_at lw_m6 33 rfl) rfl
theorem q1332 : (Jvm.Cond.methodLink "MoveNotesLaw" (55 : Nat) ({ cls := "MoveNotes", name := "length", desc := "(I)V" } : Jvm.MethodName)) ∈ lw_all := lw_g (lw_at lw_m6 34 rfl) rfl
theorem q1336 : (Jvm.Cond.methodLink "MoveNotesLaw" (164 : Nat) ({ cls := "MoveNotesLaw", name := "picture", desc := "(LMoveNotes;IIII[J)I" } : Jvm.MethodName)) ∈ lw_all := lw_g (lw_at lw_m6 38 rfl) rfl
theorem q1337 : (Jvm.Cond.static ({ cls := "MoveNotesLaw", name := "picture", desc := "(LMoveNotes;IIII[J)I" } : Jvm.MethodName)) ∈ lw_all := lw_g (lw_at lw_m6 39 rfl) rfl
theorem q1338 : (Jvm.Cond.codeWith ({ cls := "MoveNotesLaw", name := "picture", desc := "(LMoveNotes;IIII[J)I" } : Jvm.MethodName) method_14_code (7 : Nat) (Option.some Jvm.ClassFile.FieldType.int) [((0 : Nat), (14 : Nat), (17 : Nat), (25 : Nat)), ((0 : Nat), (14 : Nat), (21 : Nat), (13 : Nat)), ((0 : Nat), (14 : Nat), (25 : Nat), (15 : Nat))]) ∈ lw_all := lw_g (lw_at lw_m6 40 rfl) rfl
theorem q1339 : (Jvm.Cond.methodLink "MoveNotesLaw" (59 : Nat) ({ cls := "MoveNotes", name := "picture", desc := "(IIII)I" } : Jvm.MethodName)) ∈ lw_all := lw_g (lw_at lw_m6 41 rfl) rfl
theorem q1363 : (Jvm.Cond.methodLink "MoveNotesLaw" (175 : Nat) ({ cls := "MoveNotesLaw", name := "read", desc := "(LMoveNotes;I[J)I" } : Jvm.MethodName)) ∈ lw_all := lw_g (lw_at lw_m6 65 rfl) rfl
theorem q1364 : (Jvm.Cond.static ({ cls := "MoveNotesLaw", name := "read", desc := "(LMoveNotes;I[J)I" } : Jvm.MethodName)) ∈ lw_all := lw_g (lw_at lw_m6 66 rfl) rfl
theorem q1365 : (Jvm.Cond.codeWith ({ cls := "MoveNotesLaw", name := "read", desc := "(LMoveNotes;I[J)I" } : Jvm.MethodName) method_15_code (4 : Nat) (Option.some Jvm.ClassFile.FieldType.int) [((0 : Nat), (9 : Nat), (12 : Nat), (13 : Nat))]) ∈ lw_all := lw_g (lw_at lw_m6 67 rfl) rfl
theorem q1366 : (Jvm.Cond.methodLink "MoveNotesLaw" (62 : Nat) ({ cls := "MoveNotes", name := "read", desc := "(I)I" } : Jvm.MethodName)) ∈ lw_all := lw_g (lw_at lw_m6 68 rfl) rfl
theorem q1370 : (Jvm.Cond.methodLink "MoveNotesLaw" (178 : Nat) ({ cls := "MoveNotesLaw", name := "readNext", desc := "(LMoveNotes;I[J)I" } : Jvm.MethodName)) ∈ lw_all := lw_g (lw_at lw_m6 72 rfl) rfl
theorem q1371 : (Jvm.Cond.static ({ cls := "MoveNotesLaw", name := "readNext", desc := "(LMoveNotes;I[J)I" } : Jvm.MethodName)) ∈ lw_all := lw_g (lw_at lw_m6 73 rfl) rfl
theorem q1372 : (Jvm.Cond.codeWith ({ cls := "MoveNotesLaw", name := "readNext", desc := "(LMoveNotes;I[J)I" } : Jvm.MethodName) method_16_code (4 : Nat) (Option.some Jvm.ClassFile.FieldType.int) [((0 : Nat), (9 : Nat), (12 : Nat), (13 : Nat))]) ∈ lw_all := lw_g (lw_at lw_m6 74 rfl) rfl
theorem q1373 : (Jvm.Cond.methodLink "MoveNotesLaw" (65 : Nat) ({ cls := "MoveNotes", name := "readNext", desc := "(I)I" } : Jvm.MethodName)) ∈ lw_all := lw_g (lw_at lw_m6 75 rfl) rfl
theorem q1377 : (Jvm.Cond.methodLink "MoveNotesLaw" (181 : Nat) ({ cls := "MoveNotesLaw", name := "slip", desc := "(LMoveNotes;II[J)I" } : Jvm.MethodName)) ∈ lw_all := lw_g (lw_at lw_m6 79 rfl) rfl
theorem q1378 : (Jvm.Cond.static ({ cls := "MoveNotesLaw", name := "slip", desc := "(LMoveNotes;II[J)I" } : Jvm.MethodName)) ∈ lw_all := lw_g (lw_at lw_m6 80 rfl) rfl
theorem q1379 : (Jvm.Cond.codeWith ({ cls := "MoveNotesLaw", name := "slip", desc := "(LMoveNotes;II[J)I" } : Jvm.MethodName) method_17_code (5 : Nat) (Option.some Jvm.ClassFile.FieldType.int) [((0 : Nat), (10 : Nat), (13 : Nat), (25 : Nat))]) ∈ lw_all := lw_g (lw_at lw_m6 81 rfl) rfl
theorem q1380 : (Jvm.Cond.methodLink "MoveNotesLaw" (68 : Nat) ({ cls := "MoveNotes", name := "slip", desc := "(II)I" } : Jvm.MethodName)) ∈ lw_all := lw_g (lw_at lw_m6 82 rfl) rfl
theorem q1384 : (Jvm.Cond.methodLink "MoveNotesLaw" (184 : Nat) ({ cls := "MoveNotesLaw", name := "slips", desc := "(LMoveNotes;II[J)I" } : Jvm.MethodName)) ∈ lw_all := lw_g (lw_at lw_m6 86 rfl) rfl
theorem q1385 : (Jvm.Cond.static ({ cls := "MoveNotesLaw", name := "slips", desc := "(LMoveNotes;II[J)I" } : Jvm.MethodName)) ∈ lw_all := lw_g (lw_at lw_m6 87 rfl) rfl
theorem q1386 : (Jvm.Cond.codeWith ({ cls := "MoveNotesLaw", name := "slips", desc := "(LMoveNotes;II[J)I" } : Jvm.MethodName) method_18_code (5 : Nat) (Option.some Jvm.ClassFile.FieldType.int) [((0 : Nat), (10 : Nat), (13 : Nat), (25 : Nat))]) ∈ lw_all := lw_g (lw_at lw_m6 88 rfl) rfl
theorem q1387 : (Jvm.Cond.methodLink "MoveNotesLaw" (71 : Nat) ({ cls := "MoveNotes", name := "slips", desc := "(II)I" } : Jvm.MethodName)) ∈ lw_all := lw_g (lw_at lw_m6 89 rfl) rfl
theorem q1391 : (Jvm.Cond.methodLink "MoveNotesLaw" (187 : Nat) ({ cls := "MoveNotesLaw", name := "breaks", desc := "(LMoveNotes;I[J)I" } : Jvm.MethodName)) ∈ lw_all := lw_g (lw_at lw_m6 93 rfl) rfl
theorem q1392 : (Jvm.Cond.static ({ cls := "MoveNotesLaw", name := "breaks", desc := "(LMoveNotes;I[J)I" } : Jvm.MethodName)) ∈ lw_all := lw_g (lw_at lw_m6 94 rfl) rfl
theorem q1393 : (Jvm.Cond.codeWith ({ cls := "MoveNotesLaw", name := "breaks", desc := "(LMoveNotes;I[J)I" } : Jvm.MethodName) method_19_code (4 : Nat) (Option.some Jvm.ClassFile.FieldType.int) [((0 : Nat), (9 : Nat), (12 : Nat), (25 : Nat))]) ∈ lw_all := lw_g (lw_at lw_m6 95 rfl) rfl
theorem q1394 : (Jvm.Cond.methodLink "MoveNotesLaw" (74 : Nat) ({ cls := "MoveNotes", name := "breaks", desc := "(I)I" } : Jvm.MethodName)) ∈ lw_all := lw_g (lw_at lw_m6 96 rfl) rfl
theorem q1402 : (Jvm.Cond.methodLink "MoveNotesLaw" (190 : Nat) ({ cls := "MoveNotesLaw", name := "brief", desc := "(LMoveNotes;I[J)I" } : Jvm.MethodName)) ∈ lw_all := lw_g (lw_at lw_m6 104 rfl) rfl
theorem q1403 : (Jvm.Cond.static ({ cls := "MoveNotesLaw", name := "brief", desc := "(LMoveNotes;I[J)I" } : Jvm.MethodName)) ∈ lw_all := lw_g (lw_at lw_m6 105 rfl) rfl
theorem q1404 : (Jvm.Cond.codeWith ({ cls := "MoveNotesLaw", name := "brief", desc := "(LMoveNotes;I[J)I" } : Jvm.MethodName) method_20_code (4 : Nat) (Option.some Jvm.ClassFile.FieldType.int) [((0 : Nat), (9 : Nat), (12 : Nat), (13 : Nat))]) ∈ lw_all := lw_g (lw_at lw_m6 106 rfl) rfl
theorem q1405 : (Jvm.Cond.methodLink "MoveNotesLaw" (77 : Nat) ({ cls := "MoveNotes", name := "brief", desc := "(I)I" } : Jvm.MethodName)) ∈ lw_all := lw_g (lw_at lw_m6 107 rfl) rfl
theorem q1409 : (Jvm.Cond.methodLink "MoveNotesLaw" (197 : Nat) ({ cls := "MoveNotesLaw", name := "best", desc := "(LMoveNotes;I[J)I" } : Jvm.MethodName)) ∈ lw_all := lw_g (lw_at lw_m6 111 rfl) rfl
theorem q1410 : (Jvm.Cond.static ({ cls := "MoveNotesLaw", name := "best", desc := "(LMoveNotes;I[J)I" } : Jvm.MethodName)) ∈ lw_all := lw_g (lw_at lw_m6 112 rfl) rfl
theorem q1411 : (Jvm.Cond.codeWith ({ cls := "MoveNotesLaw", name := "best", desc := "(LMoveNotes;I[J)I" } : Jvm.MethodName) method_21_code (4 : Nat) (Option.some Jvm.ClassFile.FieldType.int) [((0 : Nat), (9 : Nat), (12 : Nat), (13 : Nat))]) ∈ lw_all := lw_g (lw_at lw_m6 113 rfl) rfl
theorem q1412 : (Jvm.Cond.methodLink "MoveNotesLaw" (80 : Nat) ({ cls := "MoveNotes", name := "best", desc := "(I)I" } : Jvm.MethodName)) ∈ lw_all := lw_g (lw_at lw_m6 114 rfl) rfl
theorem q1416 : (Jvm.Cond.methodLink "MoveNotesLaw" (200 : Nat) ({ cls := "MoveNotesLaw", name := "odds", desc := "(LMoveNotes;IIZ[J)I" } : Jvm.MethodName)) ∈ lw_all := lw_g (lw_at lw_m6 118 rfl) rfl
theorem q1417 : (Jvm.Cond.static ({ cls := "MoveNotesLaw", name := "odds", desc := "(LMoveNotes;IIZ[J)I" } : Jvm.MethodName)) ∈ lw_all := lw_g (lw_at lw_m6 119 rfl) rfl
theorem q1418 : (Jvm.Cond.codeWith ({ cls := "MoveNotesLaw", name := "odds", desc := "(LMoveNotes;IIZ[J)I" } : Jvm.MethodName) method_22_code (6 : Nat) (Option.some Jvm.ClassFile.FieldType.int) [((0 : Nat), (11 : Nat), (14 : Nat), (13 : Nat))]) ∈ lw_all := lw_g (lw_at lw_m6 120 rfl) rfl
theorem q1419 : (Jvm.Cond.methodLink "MoveNotesLaw" (83 : Nat) ({ cls := "MoveNotes", name := "odds", desc := "(IIZ)J" } : Jvm.MethodName)) ∈ lw_all := lw_g (lw_at lw_m6 121 rfl) rfl
theorem q1433 : (Jvm.Cond.methodLink "MoveNotesLaw" (204 : Nat) ({ cls := "MoveNotesLaw", name := "shared", desc := "(LMoveNotes;IIZ[J)I" } : Jvm.MethodName)) ∈ lw_all := lw_g (lw_at lw_m6 135 rfl) rfl
theorem q1434 : (Jvm.Cond.static ({ cls := "MoveNotesLaw", name := "shared", desc := "(LMoveNotes;IIZ[J)I" } : Jvm.MethodName)) ∈ lw_all := lw_g (lw_at lw_m6 136 rfl) rfl
theorem q1435 : (Jvm.Cond.codeWith ({ cls := "MoveNotesLaw", name := "shared", desc := "(LMoveNotes;IIZ[J)I" } : Jvm.MethodName) method_23_code (6 : Nat) (Option.some Jvm.ClassFile.FieldType.int) [((0 : Nat), (12 : Nat), (15 : Nat), (25 : Nat))]) ∈ lw_all := lw_g (lw_at lw_m6 137 rfl) rfl
theorem q1436 : (Jvm.Cond.methodLink "MoveNotesLaw" (87 : Nat) ({ cls := "MoveNotes", name := "shared", desc := "(IIZ)I" } : Jvm.MethodName)) ∈ lw_all := lw_g (lw_at lw_m6 138 rfl) rfl
theorem q1441 : (Jvm.Cond.methodLink "MoveNotesLaw" (207 : Nat) ({ cls := "MoveNotesLaw", name := "alike", desc := "(LMoveNotes;II[J)I" } : Jvm.MethodName)) ∈ lw_all := lw_g (lw_at lw_m6 143 rfl) rfl
theorem q1442 : (Jvm.Cond.static ({ cls := "MoveNotesLaw", name := "alike", desc := "(LMoveNotes;II[J)I" } : Jvm.MethodName)) ∈ lw_all := lw_g (lw_at lw_m6 144 rfl) rfl
theorem q1443 : (Jvm.Cond.codeWith ({ cls := "MoveNotesLaw", name := "alike", desc := "(LMoveNotes;II[J)I" } : Jvm.MethodName) method_24_code (5 : Nat) (Option.some Jvm.ClassFile.FieldType.int) [((0 : Nat), (10 : Nat), (13 : Nat), (25 : Nat))]) ∈ lw_all := lw_g (lw_at lw_m6 145 rfl) rfl
theorem q1444 : (Jvm.Cond.methodLink "MoveNotesLaw" (91 : Nat) ({ cls := "MoveNotes", name := "alike", desc := "(II)I" } : Jvm.MethodName)) ∈ lw_all := lw_g (lw_at lw_m6 146 rfl) rfl
theorem q1449 : (Jvm.Cond.methodLink "MoveNotesLaw" (210 : Nat) ({ cls := "MoveNotesLaw", name := "way", desc := "(LMoveNotes;I[J)I" } : Jvm.MethodName)) ∈ lw_all := lw_g (lw_at lw_m6 151 rfl) rfl
theorem q1450 : (Jvm.Cond.static ({ cls := "MoveNotesLaw", name := "way", desc := "(LMoveNotes;I[J)I" } : Jvm.MethodName)) ∈ lw_all := lw_g (lw_at lw_m6 152 rfl) rfl
theorem q1451 : (Jvm.Cond.codeWith ({ cls := "MoveNotesLaw", name := "way", desc := "(LMoveNotes;I[J)I" } : Jvm.MethodName) method_25_code (4 : Nat) (Option.some Jvm.ClassFile.FieldType.int) [((0 : Nat), (9 : Nat), (12 : Nat), (25 : Nat))]) ∈ lw_all := lw_g (lw_at lw_m6 153 rfl) rfl
theorem q1452 : (Jvm.Cond.methodLink "MoveNotesLaw" (94 : Nat) ({ cls := "MoveNotes", name := "way", desc := "(I)I" } : Jvm.MethodName)) ∈ lw_all := lw_g (lw_at lw_m6 154 rfl) rfl
theorem q1456 : (Jvm.Cond.methodLink "MoveNotesLaw" (213 : Nat) ({ cls := "MoveNotesLaw", name := "cheaper", desc := "(LMoveNotes;I[J)I" } : Jvm.MethodName)) ∈ lw_all := lw_g (lw_at lw_m6 158 rfl) rfl
theorem q1457 : (Jvm.Cond.static ({ cls := "MoveNotesLaw", name := "cheaper", desc := "(LMoveNotes;I[J)I" } : Jvm.MethodName)) ∈ lw_all := lw_g (lw_at lw_m6 159 rfl) rfl
theorem q1458 : (Jvm.Cond.codeWith ({ cls := "MoveNotesLaw", name := "cheaper", desc := "(LMoveNotes;I[J)I" } : Jvm.MethodName) method_26_code (4 : Nat) (Option.some Jvm.ClassFile.FieldType.int) [((0 : Nat), (9 : Nat), (12 : Nat), (25 : Nat))]) ∈ lw_all := lw_g (lw_at lw_m6 160 rfl) rfl
theorem q1459 : (Jvm.Cond.methodLink "MoveNotesLaw" (97 : Nat) ({ cls := "MoveNotes", name := "cheaper", desc := "(I)I" } : Jvm.MethodName)) ∈ lw_all := lw_g (lw_at lw_m6 161 rfl) rfl
theorem q1463 : (Jvm.Cond.methodLink "MoveNotesLaw" (119 : Nat) ({ cls := "MoveNotesModel", name := "thrown", desc := "()I" } : Jvm.MethodName)) ∈ lw_all := lw_g (lw_at lw_m6 165 rfl) rfl
theorem q1467 : (Jvm.Cond.classLink "MoveNotesLaw" (101 : Nat) "MoveNotesModel") ∈ lw_all := lw_g (lw_at lw_m6 169 rfl) rfl
theorem q1469 : (Jvm.Cond.methodLink "MoveNotesLaw" (103 : Nat) ({ cls := "MoveNotesModel", name := "<init>", desc := "()V" } : Jvm.MethodName)) ∈ lw_all := lw_g (lw_at lw_m6 171 rfl) rfl
theorem q1631 : (Jvm.Cond.methodLink "MoveNotesLaw" (219 : Nat) ({ cls := "MoveNotesModel", name := "image", desc := "()V" } : Jvm.MethodName)) ∈ lw_all := lw_g (lw_at lw_m7 93 rfl) rfl
theorem q1635 : (Jvm.Cond.methodLink "MoveNotesLaw" (224 : Nat) ({ cls := "MoveNotesModel", name := "back", desc := "()Z" } : Jvm.MethodName)) ∈ lw_all := lw_g (lw_at lw_m7 97 rfl) rfl
theorem q1639 : (Jvm.Cond.methodLink "MoveNotesLaw" (107 : Nat) ({ cls := "MoveNotesModel", name := "feed", desc := "(IIIII)I" } : Jvm.MethodName)) ∈ lw_all := lw_g (lw_at lw_m7 101 rfl) rfl
theorem q1643 : (Jvm.Cond.methodLink "MoveNotesLaw" (112 : Nat) ({ cls := "MoveNotesModel", name := "end", desc := "(I)Z" } : Jvm.MethodName)) ∈ lw_all := lw_g (lw_at lw_m7 105 rfl) rfl
theorem q1647 : (Jvm.Cond.methodLink "MoveNotesLaw" (129 : Nat) ({ cls := "MoveNotesModel", name := "fault", desc := "()I" } : Jvm.MethodName)) ∈ lw_all := lw_g (lw_at lw_m7 109 rfl) rfl
theorem q1651 : (Jvm.Cond.methodLink "MoveNotesLaw" (118 : Nat) ({ cls := "MoveNotesModel", name := "kind", desc := "(I)I" } : Jvm.MethodName)) ∈ lw_all := lw_g (lw_at lw_m7 113 rfl) rfl
theorem q1752 : (Jvm.Cond.methodLink "MoveNotesLaw" (125 : Nat) ({ cls := "MoveNotesModel", name := "measure", desc := "()I" } : Jvm.MethodName)) ∈ lw_all := lw_g (lw_at lw_m7 214 rfl) rfl
theorem q1756 : (Jvm.Cond.methodLink "MoveNotesLaw" (133 : Nat) ({ cls := "MoveNotesModel", name := "put", desc := "(III)V" } : Jvm.MethodName)) ∈ lw_all := lw_g (lw_at lw_m7 218 rfl) rfl
theorem q1774 : (Jvm.Cond.methodLink "MoveNotesLaw" (140 : Nat) ({ cls := "MoveNotesModel", name := "book", desc := "(I)I" } : Jvm.MethodName)) ∈ lw_all := lw_g (lw_at lw_m7 236 rfl) rfl
theorem q1778 : (Jvm.Cond.methodLink "MoveNotesLaw" (144 : Nat) ({ cls := "MoveNotesModel", name := "note", desc := "(IIIII)I" } : Jvm.MethodName)) ∈ lw_all := lw_g (lw_at lw_m8 0 rfl) rfl
theorem q1805 : (Jvm.Cond.methodLink "MoveNotesLaw" (148 : Nat) ({ cls := "MoveNotesModel", name := "change", desc := "(IIIIII)Z" } : Jvm.MethodName)) ∈ lw_all := lw_g (lw_at lw_m8 27 rfl) rfl
theorem q1817 : (Jvm.Cond.methodLink "MoveNotesLaw" (152 : Nat) ({ cls := "MoveNotesModel", name := "look", desc := "(III)I" } : Jvm.MethodName)) ∈ lw_all := lw_g (lw_at lw_m8 39 rfl) rfl
theorem q1821 : (Jvm.Cond.methodLink "MoveNotesLaw" (159 : Nat) ({ cls := "MoveNotesModel", name := "price", desc := "(II)I" } : Jvm.MethodName)) ∈ lw_all := lw_g (lw_at lw_m8 43 rfl) rfl
theorem q1825 : (Jvm.Cond.methodLink "MoveNotesLaw" (163 : Nat) ({ cls := "MoveNotesModel", name := "length", desc := "(I)V" } : Jvm.MethodName)) ∈ lw_all := lw_g (lw_at lw_m8 47 rfl) rfl
theorem q1829 : (Jvm.Cond.methodLink "MoveNotesLaw" (166 : Nat) ({ cls := "MoveNotesModel", name := "picture", desc := "(IIII)I" } : Jvm.MethodName)) ∈ lw_all := lw_g (lw_at lw_m8 51 rfl) rfl
theorem q1833 : (Jvm.Cond.methodLink "MoveNotesLaw" (137 : Nat) ({ cls := "MoveNotesModel", name := "moves", desc := "(II)I" } : Jvm.MethodName)) ∈ lw_all := lw_g (lw_at lw_m8 55 rfl) rfl
theorem q1883 : (Jvm.Cond.methodLink "MoveNotesLaw" (170 : Nat) ({ cls := "MoveNotesModel", name := "least", desc := "()I" } : Jvm.MethodName)) ∈ lw_all := lw_g (lw_at lw_m8 105 rfl) rfl
theorem q1991 : (Jvm.Cond.methodLink "MoveNotesLaw" (174 : Nat) ({ cls := "MoveNotesModel", name := "many", desc := "()I" } : Jvm.MethodName)) ∈ lw_all := lw_g (lw_at lw_m8 213 rfl) rfl
theorem q1995 : (Jvm.Cond.methodLink "MoveNotesLaw" (177 : Nat) ({ cls := "MoveNotesModel", name := "read", desc := "(I)I" } : Jvm.MethodName)) ∈ lw_all := lw_g (lw_at lw_m8 217 rfl) rfl
theorem q1999 : (Jvm.Cond.methodLink "MoveNotesLaw" (180 : Nat) ({ cls := "MoveNotesModel", name := "readNext", desc := "(I)I" } : Jvm.MethodName)) ∈ lw_all := lw_g (lw_at lw_m8 221 rfl) rfl
theorem q2003 : (Jvm.Cond.methodLink "MoveNotesLaw" (183 : Nat) ({ cls := "MoveNotesModel", name := "slip", desc := "(II)I" } : Jvm.MethodName)) ∈ lw_all := lw_g (lw_at lw_m8 225 rfl) rfl
theorem q2011 : (Jvm.Cond.methodLink "MoveNotesLaw" (186 : Nat) ({ cls := "MoveNotesModel", name := "slips", desc := "(II)I" } : Jvm.MethodName)) ∈ lw_all := lw_g (lw_at lw_m8 233 rfl) rfl
theorem q2015 : (Jvm.Cond.methodLink "MoveNotesLaw" (189 : Nat) ({ cls := "MoveNotesModel", name := "breaks", desc := "(I)I" } : Jvm.MethodName)) ∈ lw_all := lw_g (lw_at lw_m8 237 rfl) rfl
theorem q2019 : (Jvm.Cond.methodLink "MoveNotesLaw" (192 : Nat) ({ cls := "MoveNotesModel", name := "brief", desc := "(I)I" } : Jvm.MethodName)) ∈ lw_all := lw_g (lw_at lw_m9 1 rfl) rfl
theorem q2023 : (Jvm.Cond.methodLink "MoveNotesLaw" (196 : Nat) ({ cls := "MoveNotesModel", name := "part", desc := "()I" } : Jvm.MethodName)) ∈ lw_all := lw_g (lw_at lw_m9 5 rfl) rfl
theorem q2027 : (Jvm.Cond.methodLink "MoveNotesLaw" (199 : Nat) ({ cls := "MoveNotesModel", name := "best", desc := "(I)I" } : Jvm.MethodName)) ∈ lw_all := lw_g (lw_at lw_m9 9 rfl) rfl
theorem q2031 : (Jvm.Cond.methodLink "MoveNotesLaw" (203 : Nat) ({ cls := "MoveNotesModel", name := "odds", desc := "(IIZ)J" } : Jvm.MethodName)) ∈ lw_all := lw_g (lw_at lw_m9 13 rfl) rfl
theorem q2040 : (Jvm.Cond.methodLink "MoveNotesLaw" (206 : Nat) ({ cls := "MoveNotesModel", name := "shared", desc := "(IIZ)I" } : Jvm.MethodName)) ∈ lw_all := lw_g (lw_at lw_m9 22 rfl) rfl
theorem q2047 : (Jvm.Cond.methodLink "MoveNotesLaw" (209 : Nat) ({ cls := "MoveNotesModel", name := "alike", desc := "(II)I" } : Jvm.MethodName)) ∈ lw_all := lw_g (lw_at lw_m9 29 rfl) rfl
theorem q2051 : (Jvm.Cond.methodLink "MoveNotesLaw" (212 : Nat) ({ cls := "MoveNotesModel", name := "way", desc := "(I)I" } : Jvm.MethodName)) ∈ lw_all := lw_g (lw_at lw_m9 33 rfl) rfl
theorem q2055 : (Jvm.Cond.methodLink "MoveNotesLaw" (215 : Nat) ({ cls := "MoveNotesModel", name := "cheaper", desc := "(I)I" } : Jvm.MethodName)) ∈ lw_all := lw_g (lw_at lw_m9 37 rfl) rfl
theorem q2059 : (Jvm.Cond.methodLink "MoveNotesLaw" (156 : Nat) ({ cls := "MoveNotesModel", name := "write", desc := "(IIII)I" } : Jvm.MethodName)) ∈ lw_all := lw_g (lw_at lw_m9 41 rfl) rfl
theorem q2068 : (Jvm.Cond.methodLink "MoveNotesLaw" (228 : Nat) ({ cls := "MoveNotesModel", name := "count", desc := "(I)I" } : Jvm.MethodName)) ∈ lw_all := lw_g (lw_at lw_m9 50 rfl) rfl
/-! MoveNotes -/
def RX1 : String := "MoveNotes"
def TX1 : u_T := fun k => match k with
  | 0 => ("MoveNotes", "reader", "LMoveNotes$Reader;", true)
  | 1 => ("MoveNotes", "now", "LMoveNotes$State;", true)
  | 2 => ("MoveNotes", "image", "LMoveNotes$State;", true)
  | 3 => ("MoveNotes", "search", "LMoveNotes$Search;", true)
  | 4 => ("MoveNotes", "other", "LMoveNotes$Search;", true)
  | 5 => ("MoveNotes", "slipOf", "[[I", true)
  | 6 => ("MoveNotes", "noteOf", "[[I", true)
  | 7 => ("MoveNotes", "costs", "[[I", true)
  | 8 => ("MoveNotes", "longest", "[[I", true)
  | 9 => ("MoveNotes", "lostOf", "[I", true)
  | 10 => ("MoveNotes", "kindOf", "[I", true)
  | 11 => ("MoveNotes", "row", "[I", true)
  | 12 => ("MoveNotes", "board", "LMoveNotes$Board;", true)
  | 13 => ("MoveNotes", "wrongAt", "I", false)
  | 14 => ("MoveNotes", "price", "I", false)
  | 15 => ("MoveNotes", "seed", "I", false)
  | 16 => ("MoveNotes", "fresh", "Z", false)
  | _ => ("MoveNotes", "kept", "Z", false)
def tyX1 : Nat → FieldType := fun k => match k with
  | 0 => .object "MoveNotes$Reader"
  | 1 => .object "MoveNotes$State"
  | 2 => .object "MoveNotes$State"
  | 3 => .object "MoveNotes$Search"
  | 4 => .object "MoveNotes$Search"
  | 5 => .array (.array .int)
  | 6 => .array (.array .int)
  | 7 => .array (.array .int)
  | 8 => .array (.array .int)
  | 9 => .array .int
  | 10 => .array .int
  | 11 => .array .int
  | 12 => .object "MoveNotes$Board"
  | 13 => .int
  | 14 => .int
  | 15 => .int
  | 16 => .boolean
  | _ => .boolean
abbrev wsX10 : List Cond := u_ws RX1 TX1 18
theorem nmX1 : ∀ a, a < 18 → ∀ b, b < 18 → a ≠ b → (TX1 a).2.1 ≠ (TX1 b).2.1 := by decide +kernel
theorem tyX1_ok : ∀ k, k < 18 → parseFieldDescriptor (TX1 k).2.2.1 = some (tyX1 k) := by decide +kernel
abbrev cX1_init : ByteArray := prog_1_method_1_code
def yX1_init : MethodName := ⟨RX1, "<init>", "()V"⟩
abbrev cX1_feed : ByteArray := prog_1_method_13_code
def yX1_feed : MethodName := ⟨RX1, "feed", "(IIIII)I"⟩
abbrev cX1_four : ByteArray := prog_1_method_12_code
def yX1_four : MethodName := ⟨RX1, "four", "(I)V"⟩
abbrev cX1_end : ByteArray := prog_1_method_14_code
def yX1_end : MethodName := ⟨RX1, "end", "(I)Z"⟩
abbrev cX1_isIn : ByteArray := prog_1_method_6_code
def yX1_isIn : MethodName := ⟨RX1, "isIn", "(III)Z"⟩
abbrev cX1_fault : ByteArray := prog_1_method_18_code
def yX1_fault : MethodName := ⟨RX1, "fault", "()I"⟩
abbrev cX1_least : ByteArray := prog_1_method_35_code
def yX1_least : MethodName := ⟨RX1, "least", "()I"⟩
abbrev cX1_reads : ByteArray := prog_1_method_33_code
def yX1_reads : MethodName := ⟨RX1, "reads", "()I"⟩
abbrev cX1_allBooks : ByteArray := prog_1_method_32_code
def yX1_allBooks : MethodName := ⟨RX1, "allBooks", "()I"⟩
abbrev cX1_lays : ByteArray := prog_1_method_34_code
def yX1_lays : MethodName := ⟨RX1, "lays", "(I)V"⟩
abbrev cX1_many : ByteArray := prog_1_method_36_code
def yX1_many : MethodName := ⟨RX1, "many", "()I"⟩
abbrev cX1_part : ByteArray := prog_1_method_43_code
def yX1_part : MethodName := ⟨RX1, "part", "()I"⟩
abbrev cX1_image : ByteArray := prog_1_method_51_code
def yX1_image : MethodName := ⟨RX1, "image", "()V"⟩
abbrev cX1_back : ByteArray := prog_1_method_52_code
def yX1_back : MethodName := ⟨RX1, "back", "()Z"⟩
abbrev cX1_count : ByteArray := prog_1_method_53_code
def yX1_count : MethodName := ⟨RX1, "count", "(I)I"⟩
abbrev cX1_kind : ByteArray := prog_1_method_16_code
def yX1_kind : MethodName := ⟨RX1, "kind", "(I)I"⟩
abbrev cX1_use : ByteArray := prog_1_method_15_code
def yX1_use : MethodName := ⟨RX1, "use", "()I"⟩
abbrev cX1_must : ByteArray := prog_1_method_2_code
def yX1_must : MethodName := ⟨RX1, "must", "(Z)V"⟩
abbrev cX1_mayBe : ByteArray := prog_1_method_3_code
def yX1_mayBe : MethodName := ⟨RX1, "mayBe", "(Z)V"⟩
abbrev cX1_measure : ByteArray := prog_1_method_17_code
def yX1_measure : MethodName := ⟨RX1, "measure", "()I"⟩
abbrev cX1_put : ByteArray := prog_1_method_19_code
def yX1_put : MethodName := ⟨RX1, "put", "(III)V"⟩
abbrev cX1_isSquare : ByteArray := prog_1_method_7_code
def yX1_isSquare : MethodName := ⟨RX1, "isSquare", "(I)V"⟩
abbrev cX1_mustBe : ByteArray := prog_1_method_4_code
def yX1_mustBe : MethodName := ⟨RX1, "mustBe", "(Z)V"⟩
abbrev cX1_isKind : ByteArray := prog_1_method_8_code
def yX1_isKind : MethodName := ⟨RX1, "isKind", "(II)V"⟩
abbrev cX1_moves : ByteArray := prog_1_method_20_code
def yX1_moves : MethodName := ⟨RX1, "moves", "(II)I"⟩
abbrev cX1_book : ByteArray := prog_1_method_22_code
def yX1_book : MethodName := ⟨RX1, "book", "(I)I"⟩
abbrev cX1_newBook : ByteArray := prog_1_method_21_code
def yX1_newBook : MethodName := ⟨RX1, "newBook", "(I)I"⟩
abbrev cX1_note : ByteArray := prog_1_method_24_code
def yX1_note : MethodName := ⟨RX1, "note", "(IIIII)I"⟩
abbrev cX1_bookAt : ByteArray := prog_1_method_9_code
def yX1_bookAt : MethodName := ⟨RX1, "bookAt", "(I)LMoveNotes$Book;"⟩
abbrev cX1_isNoted : ByteArray := prog_1_method_23_code
def yX1_isNoted : MethodName := ⟨RX1, "isNoted", "(III)V"⟩
abbrev cX1_change : ByteArray := prog_1_method_25_code
def yX1_change : MethodName := ⟨RX1, "change", "(IIIIII)Z"⟩
abbrev cX1_isNote : ByteArray := prog_1_method_10_code
def yX1_isNote : MethodName := ⟨RX1, "isNote", "(II)V"⟩
abbrev cX1_look : ByteArray := prog_1_method_26_code
def yX1_look : MethodName := ⟨RX1, "look", "(III)I"⟩
abbrev cX1_write : ByteArray := prog_1_method_28_code
def yX1_write : MethodName := ⟨RX1, "write", "(IIII)I"⟩
abbrev cX1_draw : ByteArray := prog_1_method_27_code
def yX1_draw : MethodName := ⟨RX1, "draw", "()I"⟩
abbrev cX1_price : ByteArray := prog_1_method_29_code
def yX1_price : MethodName := ⟨RX1, "price", "(II)I"⟩
abbrev cX1_isSlip : ByteArray := prog_1_method_11_code
def yX1_isSlip : MethodName := ⟨RX1, "isSlip", "(I)V"⟩
abbrev cX1_length : ByteArray := prog_1_method_30_code
def yX1_length : MethodName := ⟨RX1, "length", "(I)V"⟩
abbrev cX1_picture : ByteArray := prog_1_method_31_code
def yX1_picture : MethodName := ⟨RX1, "picture", "(IIII)I"⟩
abbrev cX1_read : ByteArray := prog_1_method_37_code
def yX1_read : MethodName := ⟨RX1, "read", "(I)I"⟩
abbrev cX1_readNext : ByteArray := prog_1_method_38_code
def yX1_readNext : MethodName := ⟨RX1, "readNext", "(I)I"⟩
abbrev cX1_slip : ByteArray := prog_1_method_39_code
def yX1_slip : MethodName := ⟨RX1, "slip", "(II)I"⟩
abbrev cX1_slips : ByteArray := prog_1_method_40_code
def yX1_slips : MethodName := ⟨RX1, "slips", "(II)I"⟩
abbrev cX1_breaks : ByteArray := prog_1_method_41_code
def yX1_breaks : MethodName := ⟨RX1, "breaks", "(I)I"⟩
abbrev cX1_brief : ByteArray := prog_1_method_42_code
def yX1_brief : MethodName := ⟨RX1, "brief", "(I)I"⟩
abbrev cX1_best : ByteArray := prog_1_method_44_code
def yX1_best : MethodName := ⟨RX1, "best", "(I)I"⟩
abbrev cX1_odds : ByteArray := prog_1_method_46_code
def yX1_odds : MethodName := ⟨RX1, "odds", "(IIZ)J"⟩
abbrev cX1_common : ByteArray := prog_1_method_45_code
def yX1_common : MethodName := ⟨RX1, "common", "(JJ)J"⟩
abbrev cX1_shared : ByteArray := prog_1_method_47_code
def yX1_shared : MethodName := ⟨RX1, "shared", "(IIZ)I"⟩
abbrev cX1_alike : ByteArray := prog_1_method_48_code
def yX1_alike : MethodName := ⟨RX1, "alike", "(II)I"⟩
abbrev cX1_way : ByteArray := prog_1_method_49_code
def yX1_way : MethodName := ⟨RX1, "way", "(I)I"⟩
abbrev cX1_cheaper : ByteArray := prog_1_method_50_code
def yX1_cheaper : MethodName := ⟨RX1, "cheaper", "(I)I"⟩
theorem q99 : (Jvm.Cond.initialized "MoveNotes") ∈ lw_all := lw_g (lw_at lw_m1 1 rfl) rfl
theorem q139 : (Jvm.Cond.instantiable "MoveNotes" (18 : Nat)) ∈ lw_all := lw_g (lw_at lw_m1 41 rfl) rfl
theorem q141 : (Jvm.Cond.instanceMethod ({ cls := "MoveNotes", name := "<init>", desc := "()V" } : Jvm.MethodName)) ∈ lw_all := lw_g (lw_at lw_m1 43 rfl) rfl
theorem q142 : (Jvm.Cond.code ({ cls := "MoveNotes", name := "<init>", desc := "()V" } : Jvm.MethodName) prog_1_method_1_code (1 : Nat) (Option.none : Option Jvm.ClassFile.FieldType)) ∈ lw_all := lw_g (lw_at lw_m1 44 rfl) rfl
theorem q143 : (Jvm.Cond.methodLink "MoveNotes" (1 : Nat) ({ cls := "java/lang/Object", name := "<init>", desc := "()V" } : Jvm.MethodName)) ∈ lw_all := lw_g (lw_at lw_m1 45 rfl) rfl
theorem q146 : (Jvm.Cond.classLink "MoveNotes" (7 : Nat) "MoveNotes$Reader") ∈ lw_all := lw_g (lw_at lw_m1 48 rfl) rfl
theorem q148 : (Jvm.Cond.methodLinkNest "MoveNotes" (9 : Nat) ({ cls := "MoveNotes$Reader", name := "<init>", desc := "()V" } : Jvm.MethodName) "MoveNotes") ∈ lw_tbl := lw_at lw_m1 50 rfl
theorem q237 : (Jvm.Cond.fieldLinkNest "MoveNotes" (133 : Nat) "MoveNotes$Wrong" "place" "I" "MoveNotes") ∈ lw_tbl := lw_at lw_m1 139 rfl
theorem q254 : (Jvm.Cond.fieldLinkNest "MoveNotes" (112 : Nat) "MoveNotes$Reader" "tape" "[B" "MoveNotes") ∈ lw_tbl := lw_at lw_m1 156 rfl
theorem q261 : (Jvm.Cond.fieldLinkNest "MoveNotes" (116 : Nat) "MoveNotes$Reader" "size" "I" "MoveNotes") ∈ lw_tbl := lw_at lw_m1 163 rfl
theorem q288 : (Jvm.Cond.classLink "MoveNotes" (16 : Nat) "MoveNotes$State") ∈ lw_all := lw_g (lw_at lw_m1 190 rfl) rfl
theorem q290 : (Jvm.Cond.methodLink "MoveNotes" (18 : Nat) ({ cls := "MoveNotes$State", name := "<init>", desc := "()V" } : Jvm.MethodName)) ∈ lw_all := lw_g (lw_at lw_m1 192 rfl) rfl
theorem q308 : (Jvm.Cond.fieldLinkNest "MoveNotes" (169 : Nat) "MoveNotes$Board" "kind" "[I" "MoveNotes") ∈ lw_tbl := lw_at lw_m1 210 rfl
theorem q315 : (Jvm.Cond.fieldLinkNest "MoveNotes" (171 : Nat) "MoveNotes$Board" "side" "[I" "MoveNotes") ∈ lw_tbl := lw_at lw_m1 217 rfl
theorem q335 : (Jvm.Cond.fieldLinkNest "MoveNotes" (193 : Nat) "MoveNotes$Book" "notes" "[LMoveNotes$Note;" "MoveNotes") ∈ lw_tbl := lw_at lw_m1 237 rfl
theorem q338 : (Jvm.Cond.fieldLinkNest "MoveNotes" (182 : Nat) "MoveNotes$Book" "way" "I" "MoveNotes") ∈ lw_tbl := lw_at lw_m2 0 rfl
theorem q341 : (Jvm.Cond.fieldLinkNest "MoveNotes" (107 : Nat) "MoveNotes$Book" "many" "I" "MoveNotes") ∈ lw_tbl := lw_at lw_m2 3 rfl
theorem q351 : (Jvm.Cond.fieldLinkNest "MoveNotes" (142 : Nat) "MoveNotes$State" "kinds" "[LMoveNotes$Kind;" "MoveNotes") ∈ lw_tbl := lw_at lw_m2 13 rfl
theorem q354 : (Jvm.Cond.fieldLinkNest "MoveNotes" (166 : Nat) "MoveNotes$State" "start" "LMoveNotes$Board;" "MoveNotes") ∈ lw_tbl := lw_at lw_m2 16 rfl
theorem q357 : (Jvm.Cond.fieldLinkNest "MoveNotes" (99 : Nat) "MoveNotes$State" "books" "[LMoveNotes$Book;" "MoveNotes") ∈ lw_tbl := lw_at lw_m2 19 rfl
theorem q360 : (Jvm.Cond.fieldLinkNest "MoveNotes" (246 : Nat) "MoveNotes$State" "pictures" "[LMoveNotes$Picture;" "MoveNotes") ∈ lw_tbl := lw_at lw_m2 22 rfl
theorem q363 : (Jvm.Cond.fieldLinkNest "MoveNotes" (237 : Nat) "MoveNotes$State" "prices" "[I" "MoveNotes") ∈ lw_tbl := lw_at lw_m2 25 rfl
theorem q366 : (Jvm.Cond.fieldLinkNest "MoveNotes" (150 : Nat) "MoveNotes$State" "measure" "LMoveNotes$Measure;" "MoveNotes") ∈ lw_tbl := lw_at lw_m2 28 rfl
theorem q368 : (Jvm.Cond.fieldLinkNest "MoveNotes" (93 : Nat) "MoveNotes$State" "kindMany" "I" "MoveNotes") ∈ lw_tbl := lw_at lw_m2 30 rfl
theorem q371 : (Jvm.Cond.fieldLinkNest "MoveNotes" (96 : Nat) "MoveNotes$State" "bookMany" "I" "MoveNotes") ∈ lw_tbl := lw_at lw_m2 33 rfl
theorem q374 : (Jvm.Cond.fieldLinkNest "MoveNotes" (243 : Nat) "MoveNotes$State" "pictureMany" "I" "MoveNotes") ∈ lw_tbl := lw_at lw_m2 36 rfl
theorem q377 : (Jvm.Cond.fieldLinkNest "MoveNotes" (240 : Nat) "MoveNotes$State" "length" "I" "MoveNotes") ∈ lw_tbl := lw_at lw_m2 39 rfl
theorem q399 : (Jvm.Cond.classLink "MoveNotes" (26 : Nat) "MoveNotes$Search") ∈ lw_all := lw_g (lw_at lw_m2 61 rfl) rfl
theorem q401 : (Jvm.Cond.methodLink "MoveNotes" (28 : Nat) ({ cls := "MoveNotes$Search", name := "<init>", desc := "(LMoveNotes$State;)V" } : Jvm.MethodName)) ∈ lw_all := lw_g (lw_at lw_m2 63 rfl) rfl
theorem q418 : (Jvm.Cond.fieldLinkNest "MoveNotes" (272 : Nat) "MoveNotes$Search" "first" "[I" "MoveNotes") ∈ lw_tbl := lw_at lw_m2 80 rfl
theorem q420 : (Jvm.Cond.fieldLinkNest "MoveNotes" (290 : Nat) "MoveNotes$Search" "second" "[I" "MoveNotes") ∈ lw_tbl := lw_at lw_m2 82 rfl
theorem q422 : (Jvm.Cond.fieldLinkNest "MoveNotes" (302 : Nat) "MoveNotes$Search" "best" "[I" "MoveNotes") ∈ lw_tbl := lw_at lw_m2 84 rfl
theorem q428 : (Jvm.Cond.fieldLinkNest "MoveNotes" (347 : Nat) "MoveNotes$Search" "laid" "I" "MoveNotes") ∈ lw_tbl := lw_at lw_m2 90 rfl
theorem q431 : (Jvm.Cond.fieldLinkNest "MoveNotes" (286 : Nat) "MoveNotes$Search" "many" "I" "MoveNotes") ∈ lw_tbl := lw_at lw_m2 93 rfl
theorem q433 : (Jvm.Cond.fieldLinkNest "MoveNotes" (269 : Nat) "MoveNotes$Search" "firstMany" "I" "MoveNotes") ∈ lw_tbl := lw_at lw_m2 95 rfl
theorem q435 : (Jvm.Cond.fieldLinkNest "MoveNotes" (287 : Nat) "MoveNotes$Search" "secondMany" "I" "MoveNotes") ∈ lw_tbl := lw_at lw_m2 97 rfl
theorem q437 : (Jvm.Cond.fieldLinkNest "MoveNotes" (299 : Nat) "MoveNotes$Search" "bestMany" "I" "MoveNotes") ∈ lw_tbl := lw_at lw_m2 99 rfl
theorem q439 : (Jvm.Cond.fieldLinkNest "MoveNotes" (296 : Nat) "MoveNotes$Search" "bestPlayed" "I" "MoveNotes") ∈ lw_tbl := lw_at lw_m2 101 rfl
theorem q444 : (Jvm.Cond.fieldLinkNest "MoveNotes" (319 : Nat) "MoveNotes$Search" "like" "J" "MoveNotes") ∈ lw_tbl := lw_at lw_m2 106 rfl
theorem q446 : (Jvm.Cond.fieldLinkNest "MoveNotes" (323 : Nat) "MoveNotes$Search" "all" "J" "MoveNotes") ∈ lw_tbl := lw_at lw_m2 108 rfl
theorem q452 : (Jvm.Cond.fieldLinkNest "MoveNotes" (256 : Nat) "MoveNotes$Search" "plays" "Z" "MoveNotes") ∈ lw_tbl := lw_at lw_m2 114 rfl
theorem q515 : (Jvm.Cond.classLink "MoveNotes" (38 : Nat) "[[I") ∈ lw_all := lw_g (lw_at lw_m2 177 rfl) rfl
theorem q516 : (Jvm.Cond.classLink "MoveNotes" (62 : Nat) "MoveNotes$Board") ∈ lw_all := lw_g (lw_at lw_m2 178 rfl) rfl
theorem q517 : (Jvm.Cond.methodLink "MoveNotes" (64 : Nat) ({ cls := "MoveNotes$Board", name := "<init>", desc := "()V" } : Jvm.MethodName)) ∈ lw_all := lw_g (lw_at lw_m2 179 rfl) rfl
theorem q518 : (Jvm.Cond.fieldLink "MoveNotes" (10 : Nat) "MoveNotes" "reader" "LMoveNotes$Reader;") ∈ lw_all := lw_g (lw_at lw_m2 180 rfl) rfl
theorem q519 : (Jvm.Cond.fieldLink "MoveNotes" (19 : Nat) "MoveNotes" "now" "LMoveNotes$State;") ∈ lw_all := lw_g (lw_at lw_m2 181 rfl) rfl
theorem q520 : (Jvm.Cond.fieldLink "MoveNotes" (23 : Nat) "MoveNotes" "image" "LMoveNotes$State;") ∈ lw_all := lw_g (lw_at lw_m2 182 rfl) rfl
theorem q521 : (Jvm.Cond.fieldLink "MoveNotes" (31 : Nat) "MoveNotes" "search" "LMoveNotes$Search;") ∈ lw_all := lw_g (lw_at lw_m2 183 rfl) rfl
theorem q522 : (Jvm.Cond.fieldLink "MoveNotes" (35 : Nat) "MoveNotes" "other" "LMoveNotes$Search;") ∈ lw_all := lw_g (lw_at lw_m2 184 rfl) rfl
theorem q523 : (Jvm.Cond.fieldLink "MoveNotes" (40 : Nat) "MoveNotes" "slipOf" "[[I") ∈ lw_all := lw_g (lw_at lw_m2 185 rfl) rfl
theorem q524 : (Jvm.Cond.fieldLink "MoveNotes" (43 : Nat) "MoveNotes" "noteOf" "[[I") ∈ lw_all := lw_g (lw_at lw_m2 186 rfl) rfl
theorem q525 : (Jvm.Cond.fieldLink "MoveNotes" (46 : Nat) "MoveNotes" "costs" "[[I") ∈ lw_all := lw_g (lw_at lw_m2 187 rfl) rfl
theorem q526 : (Jvm.Cond.fieldLink "MoveNotes" (49 : Nat) "MoveNotes" "longest" "[[I") ∈ lw_all := lw_g (lw_at lw_m2 188 rfl) rfl
theorem q527 : (Jvm.Cond.fieldLink "MoveNotes" (52 : Nat) "MoveNotes" "lostOf" "[I") ∈ lw_all := lw_g (lw_at lw_m2 189 rfl) rfl
theorem q528 : (Jvm.Cond.fieldLink "MoveNotes" (56 : Nat) "MoveNotes" "kindOf" "[I") ∈ lw_all := lw_g (lw_at lw_m2 190 rfl) rfl
theorem q529 : (Jvm.Cond.fieldLink "MoveNotes" (59 : Nat) "MoveNotes" "row" "[I") ∈ lw_all := lw_g (lw_at lw_m2 191 rfl) rfl
theorem q530 : (Jvm.Cond.fieldLink "MoveNotes" (65 : Nat) "MoveNotes" "board" "LMoveNotes$Board;") ∈ lw_all := lw_g (lw_at lw_m2 192 rfl) rfl
theorem q531 : (Jvm.Cond.fieldLink "MoveNotes" (69 : Nat) "MoveNotes" "wrongAt" "I") ∈ lw_all := lw_g (lw_at lw_m2 193 rfl) rfl
theorem q532 : (Jvm.Cond.fieldLink "MoveNotes" (253 : Nat) "MoveNotes" "price" "I") ∈ lw_all := lw_g (lw_at lw_m2 194 rfl) rfl
theorem q533 : (Jvm.Cond.fieldLink "MoveNotes" (221 : Nat) "MoveNotes" "seed" "I") ∈ lw_all := lw_g (lw_at lw_m2 195 rfl) rfl
theorem q534 : (Jvm.Cond.fieldLink "MoveNotes" (174 : Nat) "MoveNotes" "fresh" "Z") ∈ lw_all := lw_g (lw_at lw_m2 196 rfl) rfl
theorem q535 : (Jvm.Cond.fieldLink "MoveNotes" (341 : Nat) "MoveNotes" "kept" "Z") ∈ lw_all := lw_g (lw_at lw_m2 197 rfl) rfl
theorem q536 : (Jvm.Cond.laysFinal "MoveNotes" "MoveNotes" "reader" "LMoveNotes$Reader;") ∈ lw_all := lw_g (lw_at lw_m2 198 rfl) rfl
theorem q537 : (Jvm.Cond.soleField "MoveNotes" "reader") ∈ lw_all := lw_g (lw_at lw_m2 199 rfl) rfl
theorem q538 : (Jvm.Cond.laysFinal "MoveNotes" "MoveNotes" "now" "LMoveNotes$State;") ∈ lw_all := lw_g (lw_at lw_m2 200 rfl) rfl
theorem q539 : (Jvm.Cond.soleField "MoveNotes" "now") ∈ lw_all := lw_g (lw_at lw_m2 201 rfl) rfl
theorem q540 : (Jvm.Cond.laysFinal "MoveNotes" "MoveNotes" "image" "LMoveNotes$State;") ∈ lw_all := lw_g (lw_at lw_m2 202 rfl) rfl
theorem q541 : (Jvm.Cond.soleField "MoveNotes" "image") ∈ lw_all := lw_g (lw_at lw_m2 203 rfl) rfl
theorem q542 : (Jvm.Cond.laysFinal "MoveNotes" "MoveNotes" "search" "LMoveNotes$Search;") ∈ lw_all := lw_g (lw_at lw_m2 204 rfl) rfl
theorem q543 : (Jvm.Cond.soleField "MoveNotes" "search") ∈ lw_all := lw_g (lw_at lw_m2 205 rfl) rfl
theorem q544 : (Jvm.Cond.laysFinal "MoveNotes" "MoveNotes" "other" "LMoveNotes$Search;") ∈ lw_all := lw_g (lw_at lw_m2 206 rfl) rfl
theorem q545 : (Jvm.Cond.soleField "MoveNotes" "other") ∈ lw_all := lw_g (lw_at lw_m2 207 rfl) rfl
theorem q546 : (Jvm.Cond.laysFinal "MoveNotes" "MoveNotes" "slipOf" "[[I") ∈ lw_all := lw_g (lw_at lw_m2 208 rfl) rfl
theorem q547 : (Jvm.Cond.soleField "MoveNotes" "slipOf") ∈ lw_all := lw_g (lw_at lw_m2 209 rfl) rfl
theorem q548 : (Jvm.Cond.laysFinal "MoveNotes" "MoveNotes" "noteOf" "[[I") ∈ lw_all := lw_g (lw_at lw_m2 210 rfl) rfl
theorem q549 : (Jvm.Cond.soleField "MoveNotes" "noteOf") ∈ lw_all := lw_g (lw_at lw_m2 211 rfl) rfl
theorem q550 : (Jvm.Cond.laysFinal "MoveNotes" "MoveNotes" "costs" "[[I") ∈ lw_all := lw_g (lw_at lw_m2 212 rfl) rfl
theorem q551 : (Jvm.Cond.soleField "MoveNotes" "costs") ∈ lw_all := lw_g (lw_at lw_m2 213 rfl) rfl
theorem q552 : (Jvm.Cond.laysFinal "MoveNotes" "MoveNotes" "longest" "[[I") ∈ lw_all := lw_g (lw_at lw_m2 214 rfl) rfl
theorem q553 : (Jvm.Cond.soleField "MoveNotes" "longest") ∈ lw_all := lw_g (lw_at lw_m2 215 rfl) rfl
theorem q554 : (Jvm.Cond.laysFinal "MoveNotes" "MoveNotes" "lostOf" "[I") ∈ lw_all := lw_g (lw_at lw_m2 216 rfl) rfl
theorem q555 : (Jvm.Cond.soleField "MoveNotes" "lostOf") ∈ lw_all := lw_g (lw_at lw_m2 217 rfl) rfl
theorem q556 : (Jvm.Cond.laysFinal "MoveNotes" "MoveNotes" "kindOf" "[I") ∈ lw_all := lw_g (lw_at lw_m2 218 rfl) rfl
theorem q557 : (Jvm.Cond.soleField "MoveNotes" "kindOf") ∈ lw_all := lw_g (lw_at lw_m2 219 rfl) rfl
theorem q558 : (Jvm.Cond.laysFinal "MoveNotes" "MoveNotes" "row" "[I") ∈ lw_all := lw_g (lw_at lw_m2 220 rfl) rfl
theorem q559 : (Jvm.Cond.soleField "MoveNotes" "row") ∈ lw_all := lw_g (lw_at lw_m2 221 rfl) rfl
theorem q560 : (Jvm.Cond.laysFinal "MoveNotes" "MoveNotes" "board" "LMoveNotes$Board;") ∈ lw_all := lw_g (lw_at lw_m2 222 rfl) rfl
theorem q561 : (Jvm.Cond.soleField "MoveNotes" "board") ∈ lw_all := lw_g (lw_at lw_m2 223 rfl) rfl
theorem q562 : (Jvm.Cond.lays "MoveNotes" "MoveNotes" "wrongAt" "I") ∈ lw_all := lw_g (lw_at lw_m2 224 rfl) rfl
theorem q563 : (Jvm.Cond.soleField "MoveNotes" "wrongAt") ∈ lw_all := lw_g (lw_at lw_m2 225 rfl) rfl
theorem q564 : (Jvm.Cond.lays "MoveNotes" "MoveNotes" "price" "I") ∈ lw_all := lw_g (lw_at lw_m2 226 rfl) rfl
theorem q565 : (Jvm.Cond.soleField "MoveNotes" "price") ∈ lw_all := lw_g (lw_at lw_m2 227 rfl) rfl
theorem q566 : (Jvm.Cond.lays "MoveNotes" "MoveNotes" "seed" "I") ∈ lw_all := lw_g (lw_at lw_m2 228 rfl) rfl
theorem q567 : (Jvm.Cond.soleField "MoveNotes" "seed") ∈ lw_all := lw_g (lw_at lw_m2 229 rfl) rfl
theorem q568 : (Jvm.Cond.lays "MoveNotes" "MoveNotes" "fresh" "Z") ∈ lw_all := lw_g (lw_at lw_m2 230 rfl) rfl
theorem q569 : (Jvm.Cond.soleField "MoveNotes" "fresh") ∈ lw_all := lw_g (lw_at lw_m2 231 rfl) rfl
theorem q570 : (Jvm.Cond.lays "MoveNotes" "MoveNotes" "kept" "Z") ∈ lw_all := lw_g (lw_at lw_m2 232 rfl) rfl
theorem q571 : (Jvm.Cond.soleField "MoveNotes" "kept") ∈ lw_all := lw_g (lw_at lw_m2 233 rfl) rfl
theorem q572 : (Jvm.Cond.superclass "MoveNotes" "java/lang/Object") ∈ lw_all := lw_g (lw_at lw_m2 234 rfl) rfl
theorem q574 : (Jvm.Cond.instanceMethod ({ cls := "MoveNotes", name := "feed", desc := "(IIIII)I" } : Jvm.MethodName)) ∈ lw_all := lw_g (lw_at lw_m2 236 rfl) rfl
theorem q575 : (Jvm.Cond.selects "MoveNotes" ({ cls := "MoveNotes", name := "feed", desc := "(IIIII)I" } : Jvm.MethodName) ({ cls := "MoveNotes", name := "feed", desc := "(IIIII)I" } : Jvm.MethodName)) ∈ lw_all := lw_g (lw_at lw_m2 237 rfl) rfl
theorem q576 : (Jvm.Cond.code ({ cls := "MoveNotes", name := "feed", desc := "(IIIII)I" } : Jvm.MethodName) prog_1_method_13_code (6 : Nat) (Option.some Jvm.ClassFile.FieldType.int)) ∈ lw_all := lw_g (lw_at lw_m2 238 rfl) rfl
theorem q577 : (Jvm.Cond.methodLink "MoveNotes" (119 : Nat) ({ cls := "MoveNotes", name := "four", desc := "(I)V" } : Jvm.MethodName)) ∈ lw_all := lw_g (lw_at lw_m2 239 rfl) rfl
theorem q578 : (Jvm.Cond.privateMethod ({ cls := "MoveNotes", name := "four", desc := "(I)V" } : Jvm.MethodName)) ∈ lw_tbl := lw_at lw_m3 0 rfl
theorem q579 : (Jvm.Cond.instanceMethod ({ cls := "MoveNotes", name := "four", desc := "(I)V" } : Jvm.MethodName)) ∈ lw_all := lw_g (lw_at lw_m3 1 rfl) rfl
theorem q580 : (Jvm.Cond.code ({ cls := "MoveNotes", name := "four", desc := "(I)V" } : Jvm.MethodName) prog_1_method_12_code (3 : Nat) (Option.none : Option Jvm.ClassFile.FieldType)) ∈ lw_all := lw_g (lw_at lw_m3 2 rfl) rfl
theorem q582 : (Jvm.Cond.instanceMethod ({ cls := "MoveNotes", name := "end", desc := "(I)Z" } : Jvm.MethodName)) ∈ lw_all := lw_g (lw_at lw_m3 4 rfl) rfl
theorem q583 : (Jvm.Cond.selects "MoveNotes" ({ cls := "MoveNotes", name := "end", desc := "(I)Z" } : Jvm.MethodName) ({ cls := "MoveNotes", name := "end", desc := "(I)Z" } : Jvm.MethodName)) ∈ lw_all := lw_g (lw_at lw_m3 5 rfl) rfl
theorem q584 : (Jvm.Cond.code ({ cls := "MoveNotes", name := "end", desc := "(I)Z" } : Jvm.MethodName) prog_1_method_14_code (2 : Nat) (Option.some Jvm.ClassFile.FieldType.boolean)) ∈ lw_all := lw_g (lw_at lw_m3 6 rfl) rfl
theorem q585 : (Jvm.Cond.methodLink "MoveNotes" (85 : Nat) ({ cls := "MoveNotes", name := "isIn", desc := "(III)Z" } : Jvm.MethodName)) ∈ lw_all := lw_g (lw_at lw_m3 7 rfl) rfl
theorem q586 : (Jvm.Cond.static ({ cls := "MoveNotes", name := "isIn", desc := "(III)Z" } : Jvm.MethodName)) ∈ lw_all := lw_g (lw_at lw_m3 8 rfl) rfl
theorem q587 : (Jvm.Cond.code ({ cls := "MoveNotes", name := "isIn", desc := "(III)Z" } : Jvm.MethodName) prog_1_method_6_code (3 : Nat) (Option.some Jvm.ClassFile.FieldType.boolean)) ∈ lw_all := lw_g (lw_at lw_m3 9 rfl) rfl
theorem q589 : (Jvm.Cond.instanceMethod ({ cls := "MoveNotes", name := "fault", desc := "()I" } : Jvm.MethodName)) ∈ lw_all := lw_g (lw_at lw_m3 11 rfl) rfl
theorem q590 : (Jvm.Cond.selects "MoveNotes" ({ cls := "MoveNotes", name := "fault", desc := "()I" } : Jvm.MethodName) ({ cls := "MoveNotes", name := "fault", desc := "()I" } : Jvm.MethodName)) ∈ lw_all := lw_g (lw_at lw_m3 12 rfl) rfl
theorem q591 : (Jvm.Cond.code ({ cls := "MoveNotes", name := "fault", desc := "()I" } : Jvm.MethodName) prog_1_method_18_code (1 : Nat) (Option.some Jvm.ClassFile.FieldType.int)) ∈ lw_all := lw_g (lw_at lw_m3 13 rfl) rfl
theorem q593 : (Jvm.Cond.instanceMethod ({ cls := "MoveNotes", name := "least", desc := "()I" } : Jvm.MethodName)) ∈ lw_all := lw_g (lw_at lw_m3 15 rfl) rfl
theorem q594 : (Jvm.Cond.selects "MoveNotes" ({ cls := "MoveNotes", name := "least", desc := "()I" } : Jvm.MethodName) ({ cls := "MoveNotes", name := "least", desc := "()I" } : Jvm.MethodName)) ∈ lw_all := lw_g (lw_at lw_m3 16 rfl) rfl
theorem q595 : (Jvm.Cond.code ({ cls := "MoveNotes", name := "least", desc := "()I" } : Jvm.MethodName) prog_1_method_35_code (1 : Nat) (Option.some Jvm.ClassFile.FieldType.int)) ∈ lw_all := lw_g (lw_at lw_m3 17 rfl) rfl
theorem q596 : (Jvm.Cond.methodLink "MoveNotes" (283 : Nat) ({ cls := "MoveNotes", name := "reads", desc := "()I" } : Jvm.MethodName)) ∈ lw_all := lw_g (lw_at lw_m3 18 rfl) rfl
theorem q597 : (Jvm.Cond.privateMethod ({ cls := "MoveNotes", name := "reads", desc := "()I" } : Jvm.MethodName)) ∈ lw_tbl := lw_at lw_m3 19 rfl
theorem q598 : (Jvm.Cond.instanceMethod ({ cls := "MoveNotes", name := "reads", desc := "()I" } : Jvm.MethodName)) ∈ lw_all := lw_g (lw_at lw_m3 20 rfl) rfl
theorem q599 : (Jvm.Cond.code ({ cls := "MoveNotes", name := "reads", desc := "()I" } : Jvm.MethodName) prog_1_method_33_code (2 : Nat) (Option.some Jvm.ClassFile.FieldType.int)) ∈ lw_all := lw_g (lw_at lw_m3 21 rfl) rfl
theorem q600 : (Jvm.Cond.methodLink "MoveNotes" (259 : Nat) ({ cls := "MoveNotes", name := "allBooks", desc := "()I" } : Jvm.MethodName)) ∈ lw_all := lw_g (lw_at lw_m3 22 rfl) rfl
theorem q601 : (Jvm.Cond.privateMethod ({ cls := "MoveNotes", name := "allBooks", desc := "()I" } : Jvm.MethodName)) ∈ lw_tbl := lw_at lw_m3 23 rfl
theorem q602 : (Jvm.Cond.instanceMethod ({ cls := "MoveNotes", name := "allBooks", desc := "()I" } : Jvm.MethodName)) ∈ lw_all := lw_g (lw_at lw_m3 24 rfl) rfl
theorem q603 : (Jvm.Cond.code ({ cls := "MoveNotes", name := "allBooks", desc := "()I" } : Jvm.MethodName) prog_1_method_32_code (1 : Nat) (Option.some Jvm.ClassFile.FieldType.int)) ∈ lw_all := lw_g (lw_at lw_m3 25 rfl) rfl
theorem q604 : (Jvm.Cond.methodLink "MoveNotes" (262 : Nat) ({ cls := "MoveNotes$Search", name := "least", desc := "(I)I" } : Jvm.MethodName)) ∈ lw_all := lw_g (lw_at lw_m3 26 rfl) rfl
theorem q787 : (Jvm.Cond.methodLink "MoveNotes" (265 : Nat) ({ cls := "MoveNotes", name := "lays", desc := "(I)V" } : Jvm.MethodName)) ∈ lw_all := lw_g (lw_at lw_m3 209 rfl) rfl
theorem q788 : (Jvm.Cond.privateMethod ({ cls := "MoveNotes", name := "lays", desc := "(I)V" } : Jvm.MethodName)) ∈ lw_tbl := lw_at lw_m3 210 rfl
theorem q789 : (Jvm.Cond.instanceMethod ({ cls := "MoveNotes", name := "lays", desc := "(I)V" } : Jvm.MethodName)) ∈ lw_all := lw_g (lw_at lw_m3 211 rfl) rfl
theorem q790 : (Jvm.Cond.code ({ cls := "MoveNotes", name := "lays", desc := "(I)V" } : Jvm.MethodName) prog_1_method_34_code (6 : Nat) (Option.none : Option Jvm.ClassFile.FieldType)) ∈ lw_all := lw_g (lw_at lw_m3 212 rfl) rfl
theorem q791 : (Jvm.Cond.methodLink "MoveNotes" (224 : Nat) ({ cls := "MoveNotes$Board", name := "be", desc := "(LMoveNotes$Board;)V" } : Jvm.MethodName)) ∈ lw_all := lw_g (lw_at lw_m3 213 rfl) rfl
theorem q792 : (Jvm.Cond.constant "MoveNotes" (268 : Nat) (1000000 : Int32)) ∈ lw_all := lw_g (lw_at lw_m3 214 rfl) rfl
theorem q793 : (Jvm.Cond.methodLinkNest "MoveNotes" (275 : Nat) ({ cls := "MoveNotes$Search", name := "leads", desc := "(LMoveNotes$Book;[I[IIII)I" } : Jvm.MethodName) "MoveNotes") ∈ lw_tbl := lw_at lw_m3 215 rfl
theorem q794 : (Jvm.Cond.methodLink "MoveNotes" (231 : Nat) ({ cls := "MoveNotes$Board", name := "goes", desc := "(I)I" } : Jvm.MethodName)) ∈ lw_all := lw_g (lw_at lw_m3 216 rfl) rfl
theorem q795 : (Jvm.Cond.methodLink "MoveNotes" (279 : Nat) ({ cls := "MoveNotes$Note", name := "slip", desc := "(IIII[I)I" } : Jvm.MethodName)) ∈ lw_all := lw_g (lw_at lw_m3 217 rfl) rfl
theorem q797 : (Jvm.Cond.instanceMethod ({ cls := "MoveNotes", name := "many", desc := "()I" } : Jvm.MethodName)) ∈ lw_all := lw_g (lw_at lw_m3 219 rfl) rfl
theorem q798 : (Jvm.Cond.selects "MoveNotes" ({ cls := "MoveNotes", name := "many", desc := "()I" } : Jvm.MethodName) ({ cls := "MoveNotes", name := "many", desc := "()I" } : Jvm.MethodName)) ∈ lw_all := lw_g (lw_at lw_m3 220 rfl) rfl
theorem q799 : (Jvm.Cond.code ({ cls := "MoveNotes", name := "many", desc := "()I" } : Jvm.MethodName) prog_1_method_36_code (1 : Nat) (Option.some Jvm.ClassFile.FieldType.int)) ∈ lw_all := lw_g (lw_at lw_m3 221 rfl) rfl
theorem q801 : (Jvm.Cond.instanceMethod ({ cls := "MoveNotes", name := "part", desc := "()I" } : Jvm.MethodName)) ∈ lw_all := lw_g (lw_at lw_m3 223 rfl) rfl
theorem q802 : (Jvm.Cond.selects "MoveNotes" ({ cls := "MoveNotes", name := "part", desc := "()I" } : Jvm.MethodName) ({ cls := "MoveNotes", name := "part", desc := "()I" } : Jvm.MethodName)) ∈ lw_all := lw_g (lw_at lw_m3 224 rfl) rfl
theorem q803 : (Jvm.Cond.code ({ cls := "MoveNotes", name := "part", desc := "()I" } : Jvm.MethodName) prog_1_method_43_code (2 : Nat) (Option.some Jvm.ClassFile.FieldType.int)) ∈ lw_all := lw_g (lw_at lw_m3 225 rfl) rfl
theorem q805 : (Jvm.Cond.instanceMethod ({ cls := "MoveNotes", name := "image", desc := "()V" } : Jvm.MethodName)) ∈ lw_all := lw_g (lw_at lw_m3 227 rfl) rfl
theorem q806 : (Jvm.Cond.selects "MoveNotes" ({ cls := "MoveNotes", name := "image", desc := "()V" } : Jvm.MethodName) ({ cls := "MoveNotes", name := "image", desc := "()V" } : Jvm.MethodName)) ∈ lw_all := lw_g (lw_at lw_m3 228 rfl) rfl
theorem q807 : (Jvm.Cond.code ({ cls := "MoveNotes", name := "image", desc := "()V" } : Jvm.MethodName) prog_1_method_51_code (1 : Nat) (Option.none : Option Jvm.ClassFile.FieldType)) ∈ lw_all := lw_g (lw_at lw_m3 229 rfl) rfl
theorem q808 : (Jvm.Cond.methodLink "MoveNotes" (339 : Nat) ({ cls := "MoveNotes$State", name := "be", desc := "(LMoveNotes$State;)V" } : Jvm.MethodName)) ∈ lw_all := lw_g (lw_at lw_m3 230 rfl) rfl
theorem q820 : (Jvm.Cond.instanceMethod ({ cls := "MoveNotes", name := "back", desc := "()Z" } : Jvm.MethodName)) ∈ lw_all := lw_g (lw_at lw_m4 2 rfl) rfl
theorem q821 : (Jvm.Cond.selects "MoveNotes" ({ cls := "MoveNotes", name := "back", desc := "()Z" } : Jvm.MethodName) ({ cls := "MoveNotes", name := "back", desc := "()Z" } : Jvm.MethodName)) ∈ lw_all := lw_g (lw_at lw_m4 3 rfl) rfl
theorem q822 : (Jvm.Cond.code ({ cls := "MoveNotes", name := "back", desc := "()Z" } : Jvm.MethodName) prog_1_method_52_code (1 : Nat) (Option.some Jvm.ClassFile.FieldType.boolean)) ∈ lw_all := lw_g (lw_at lw_m4 4 rfl) rfl
theorem q824 : (Jvm.Cond.instanceMethod ({ cls := "MoveNotes", name := "count", desc := "(I)I" } : Jvm.MethodName)) ∈ lw_all := lw_g (lw_at lw_m4 6 rfl) rfl
theorem q825 : (Jvm.Cond.selects "MoveNotes" ({ cls := "MoveNotes", name := "count", desc := "(I)I" } : Jvm.MethodName) ({ cls := "MoveNotes", name := "count", desc := "(I)I" } : Jvm.MethodName)) ∈ lw_all := lw_g (lw_at lw_m4 7 rfl) rfl
theorem q826 : (Jvm.Cond.code ({ cls := "MoveNotes", name := "count", desc := "(I)I" } : Jvm.MethodName) prog_1_method_53_code (4 : Nat) (Option.some Jvm.ClassFile.FieldType.int)) ∈ lw_all := lw_g (lw_at lw_m4 8 rfl) rfl
theorem q827 : (Jvm.Cond.methodLink "MoveNotes" (344 : Nat) ({ cls := "MoveNotes$Board", name := "men", desc := "(I)I" } : Jvm.MethodName)) ∈ lw_all := lw_g (lw_at lw_m4 9 rfl) rfl
theorem q834 : (Jvm.Cond.instanceMethod ({ cls := "MoveNotes", name := "kind", desc := "(I)I" } : Jvm.MethodName)) ∈ lw_all := lw_g (lw_at lw_m4 16 rfl) rfl
theorem q835 : (Jvm.Cond.selects "MoveNotes" ({ cls := "MoveNotes", name := "kind", desc := "(I)I" } : Jvm.MethodName) ({ cls := "MoveNotes", name := "kind", desc := "(I)I" } : Jvm.MethodName)) ∈ lw_all := lw_g (lw_at lw_m4 17 rfl) rfl
theorem q836 : (Jvm.Cond.codeWith ({ cls := "MoveNotes", name := "kind", desc := "(I)I" } : Jvm.MethodName) prog_1_method_16_code (5 : Nat) (Option.some Jvm.ClassFile.FieldType.int) [((5 : Nat), (15 : Nat), (18 : Nat), (131 : Nat))]) ∈ lw_all := lw_g (lw_at lw_m4 18 rfl) rfl
theorem q837 : (Jvm.Cond.classLink "MoveNotes" (131 : Nat) "MoveNotes$Wrong") ∈ lw_all := lw_g (lw_at lw_m4 19 rfl) rfl
theorem q838 : (Jvm.Cond.methodLink "MoveNotes" (123 : Nat) ({ cls := "MoveNotes", name := "use", desc := "()I" } : Jvm.MethodName)) ∈ lw_all := lw_g (lw_at lw_m4 20 rfl) rfl
theorem q839 : (Jvm.Cond.privateMethod ({ cls := "MoveNotes", name := "use", desc := "()I" } : Jvm.MethodName)) ∈ lw_tbl := lw_at lw_m4 21 rfl
theorem q840 : (Jvm.Cond.instanceMethod ({ cls := "MoveNotes", name := "use", desc := "()I" } : Jvm.MethodName)) ∈ lw_all := lw_g (lw_at lw_m4 22 rfl) rfl
theorem q841 : (Jvm.Cond.code ({ cls := "MoveNotes", name := "use", desc := "()I" } : Jvm.MethodName) prog_1_method_15_code (2 : Nat) (Option.some Jvm.ClassFile.FieldType.int)) ∈ lw_all := lw_g (lw_at lw_m4 23 rfl) rfl
theorem q842 : (Jvm.Cond.methodLink "MoveNotes" (127 : Nat) ({ cls := "MoveNotes$Reader", name := "kind", desc := "(II)LMoveNotes$Kind;" } : Jvm.MethodName)) ∈ lw_all := lw_g (lw_at lw_m4 24 rfl) rfl
theorem q1078 : (Jvm.Cond.fieldLinkNest "MoveNotes" (350 : Nat) "MoveNotes$Kind" "value" "I" "MoveNotes") ∈ lw_tbl := lw_at lw_m5 20 rfl
theorem q1086 : (Jvm.Cond.classLink "MoveNotes" (73 : Nat) "java/lang/IllegalArgumentException") ∈ lw_all := lw_g (lw_at lw_m5 28 rfl) rfl
theorem q1095 : (Jvm.Cond.methodLink "MoveNotes" (75 : Nat) ({ cls := "java/lang/IllegalArgumentException", name := "<init>", desc := "()V" } : Jvm.MethodName)) ∈ lw_all := lw_g (lw_at lw_m5 37 rfl) rfl
theorem q1107 : (Jvm.Cond.methodLink "MoveNotes" (136 : Nat) ({ cls := "MoveNotes", name := "must", desc := "(Z)V" } : Jvm.MethodName)) ∈ lw_all := lw_g (lw_at lw_m5 49 rfl) rfl
theorem q1108 : (Jvm.Cond.static ({ cls := "MoveNotes", name := "must", desc := "(Z)V" } : Jvm.MethodName)) ∈ lw_all := lw_g (lw_at lw_m5 50 rfl) rfl
theorem q1109 : (Jvm.Cond.code ({ cls := "MoveNotes", name := "must", desc := "(Z)V" } : Jvm.MethodName) prog_1_method_2_code (1 : Nat) (Option.none : Option Jvm.ClassFile.FieldType)) ∈ lw_all := lw_g (lw_at lw_m5 51 rfl) rfl
theorem q1110 : (Jvm.Cond.methodLink "MoveNotes" (139 : Nat) ({ cls := "MoveNotes", name := "mayBe", desc := "(Z)V" } : Jvm.MethodName)) ∈ lw_all := lw_g (lw_at lw_m5 52 rfl) rfl
theorem q1111 : (Jvm.Cond.static ({ cls := "MoveNotes", name := "mayBe", desc := "(Z)V" } : Jvm.MethodName)) ∈ lw_all := lw_g (lw_at lw_m5 53 rfl) rfl
theorem q1112 : (Jvm.Cond.code ({ cls := "MoveNotes", name := "mayBe", desc := "(Z)V" } : Jvm.MethodName) prog_1_method_3_code (1 : Nat) (Option.none : Option Jvm.ClassFile.FieldType)) ∈ lw_all := lw_g (lw_at lw_m5 54 rfl) rfl
theorem q1113 : (Jvm.Cond.classLink "MoveNotes" (76 : Nat) "java/lang/UnsupportedOperationException") ∈ lw_all := lw_g (lw_at lw_m5 55 rfl) rfl
theorem q1122 : (Jvm.Cond.methodLink "MoveNotes" (78 : Nat) ({ cls := "java/lang/UnsupportedOperationException", name := "<init>", desc := "()V" } : Jvm.MethodName)) ∈ lw_all := lw_g (lw_at lw_m5 64 rfl) rfl
theorem q1132 : (Jvm.Cond.instanceMethod ({ cls := "MoveNotes", name := "measure", desc := "()I" } : Jvm.MethodName)) ∈ lw_all := lw_g (lw_at lw_m5 74 rfl) rfl
theorem q1133 : (Jvm.Cond.selects "MoveNotes" ({ cls := "MoveNotes", name := "measure", desc := "()I" } : Jvm.MethodName) ({ cls := "MoveNotes", name := "measure", desc := "()I" } : Jvm.MethodName)) ∈ lw_all := lw_g (lw_at lw_m5 75 rfl) rfl
theorem q1134 : (Jvm.Cond.codeWith ({ cls := "MoveNotes", name := "measure", desc := "()I" } : Jvm.MethodName) prog_1_method_17_code (3 : Nat) (Option.some Jvm.ClassFile.FieldType.int) [((5 : Nat), (20 : Nat), (23 : Nat), (131 : Nat))]) ∈ lw_all := lw_g (lw_at lw_m5 76 rfl) rfl
theorem q1135 : (Jvm.Cond.methodLink "MoveNotes" (146 : Nat) ({ cls := "MoveNotes$Reader", name := "measure", desc := "(I)LMoveNotes$Measure;" } : Jvm.MethodName)) ∈ lw_all := lw_g (lw_at lw_m5 77 rfl) rfl
theorem q1148 : (Jvm.Cond.fieldLinkNest "MoveNotes" (153 : Nat) "MoveNotes$Measure" "lines" "[LMoveNotes$PlayLine;" "MoveNotes") ∈ lw_tbl := lw_at lw_m5 90 rfl
theorem q1188 : (Jvm.Cond.instanceMethod ({ cls := "MoveNotes", name := "put", desc := "(III)V" } : Jvm.MethodName)) ∈ lw_all := lw_g (lw_at lw_m5 130 rfl) rfl
theorem q1189 : (Jvm.Cond.selects "MoveNotes" ({ cls := "MoveNotes", name := "put", desc := "(III)V" } : Jvm.MethodName) ({ cls := "MoveNotes", name := "put", desc := "(III)V" } : Jvm.MethodName)) ∈ lw_all := lw_g (lw_at lw_m5 131 rfl) rfl
theorem q1190 : (Jvm.Cond.code ({ cls := "MoveNotes", name := "put", desc := "(III)V" } : Jvm.MethodName) prog_1_method_19_code (4 : Nat) (Option.none : Option Jvm.ClassFile.FieldType)) ∈ lw_all := lw_g (lw_at lw_m5 132 rfl) rfl
theorem q1191 : (Jvm.Cond.methodLink "MoveNotes" (159 : Nat) ({ cls := "MoveNotes", name := "isSquare", desc := "(I)V" } : Jvm.MethodName)) ∈ lw_all := lw_g (lw_at lw_m5 133 rfl) rfl
theorem q1192 : (Jvm.Cond.static ({ cls := "MoveNotes", name := "isSquare", desc := "(I)V" } : Jvm.MethodName)) ∈ lw_all := lw_g (lw_at lw_m5 134 rfl) rfl
theorem q1193 : (Jvm.Cond.code ({ cls := "MoveNotes", name := "isSquare", desc := "(I)V" } : Jvm.MethodName) prog_1_method_7_code (1 : Nat) (Option.none : Option Jvm.ClassFile.FieldType)) ∈ lw_all := lw_g (lw_at lw_m5 135 rfl) rfl
theorem q1194 : (Jvm.Cond.methodLink "MoveNotes" (89 : Nat) ({ cls := "MoveNotes", name := "mustBe", desc := "(Z)V" } : Jvm.MethodName)) ∈ lw_all := lw_g (lw_at lw_m5 136 rfl) rfl
theorem q1195 : (Jvm.Cond.static ({ cls := "MoveNotes", name := "mustBe", desc := "(Z)V" } : Jvm.MethodName)) ∈ lw_all := lw_g (lw_at lw_m5 137 rfl) rfl
theorem q1196 : (Jvm.Cond.code ({ cls := "MoveNotes", name := "mustBe", desc := "(Z)V" } : Jvm.MethodName) prog_1_method_4_code (1 : Nat) (Option.none : Option Jvm.ClassFile.FieldType)) ∈ lw_all := lw_g (lw_at lw_m5 138 rfl) rfl
theorem q1197 : (Jvm.Cond.classLink "MoveNotes" (79 : Nat) "java/lang/IndexOutOfBoundsException") ∈ lw_all := lw_g (lw_at lw_m5 139 rfl) rfl
theorem q1206 : (Jvm.Cond.methodLink "MoveNotes" (81 : Nat) ({ cls := "java/lang/IndexOutOfBoundsException", name := "<init>", desc := "()V" } : Jvm.MethodName)) ∈ lw_all := lw_g (lw_at lw_m5 148 rfl) rfl
theorem q1212 : (Jvm.Cond.methodLink "MoveNotes" (162 : Nat) ({ cls := "MoveNotes", name := "isKind", desc := "(II)V" } : Jvm.MethodName)) ∈ lw_all := lw_g (lw_at lw_m5 154 rfl) rfl
theorem q1213 : (Jvm.Cond.privateMethod ({ cls := "MoveNotes", name := "isKind", desc := "(II)V" } : Jvm.MethodName)) ∈ lw_tbl := lw_at lw_m5 155 rfl
theorem q1214 : (Jvm.Cond.instanceMethod ({ cls := "MoveNotes", name := "isKind", desc := "(II)V" } : Jvm.MethodName)) ∈ lw_all := lw_g (lw_at lw_m5 156 rfl) rfl
theorem q1215 : (Jvm.Cond.code ({ cls := "MoveNotes", name := "isKind", desc := "(II)V" } : Jvm.MethodName) prog_1_method_8_code (3 : Nat) (Option.none : Option Jvm.ClassFile.FieldType)) ∈ lw_all := lw_g (lw_at lw_m5 157 rfl) rfl
theorem q1220 : (Jvm.Cond.instanceMethod ({ cls := "MoveNotes", name := "moves", desc := "(II)I" } : Jvm.MethodName)) ∈ lw_all := lw_g (lw_at lw_m5 162 rfl) rfl
theorem q1221 : (Jvm.Cond.selects "MoveNotes" ({ cls := "MoveNotes", name := "moves", desc := "(II)I" } : Jvm.MethodName) ({ cls := "MoveNotes", name := "moves", desc := "(II)I" } : Jvm.MethodName)) ∈ lw_all := lw_g (lw_at lw_m5 163 rfl) rfl
theorem q1222 : (Jvm.Cond.code ({ cls := "MoveNotes", name := "moves", desc := "(II)I" } : Jvm.MethodName) prog_1_method_20_code (4 : Nat) (Option.some Jvm.ClassFile.FieldType.int)) ∈ lw_all := lw_g (lw_at lw_m5 164 rfl) rfl
theorem q1223 : (Jvm.Cond.methodLink "MoveNotes" (178 : Nat) ({ cls := "MoveNotes$Search", name := "gathers", desc := "(LMoveNotes$Board;I[I)I" } : Jvm.MethodName)) ∈ lw_all := lw_g (lw_at lw_m5 165 rfl) rfl
theorem q1228 : (Jvm.Cond.instanceMethod ({ cls := "MoveNotes", name := "book", desc := "(I)I" } : Jvm.MethodName)) ∈ lw_all := lw_g (lw_at lw_m5 170 rfl) rfl
theorem q1229 : (Jvm.Cond.selects "MoveNotes" ({ cls := "MoveNotes", name := "book", desc := "(I)I" } : Jvm.MethodName) ({ cls := "MoveNotes", name := "book", desc := "(I)I" } : Jvm.MethodName)) ∈ lw_all := lw_g (lw_at lw_m5 171 rfl) rfl
theorem q1230 : (Jvm.Cond.code ({ cls := "MoveNotes", name := "book", desc := "(I)I" } : Jvm.MethodName) prog_1_method_22_code (2 : Nat) (Option.some Jvm.ClassFile.FieldType.int)) ∈ lw_all := lw_g (lw_at lw_m5 172 rfl) rfl
theorem q1231 : (Jvm.Cond.methodLink "MoveNotes" (185 : Nat) ({ cls := "MoveNotes", name := "newBook", desc := "(I)I" } : Jvm.MethodName)) ∈ lw_all := lw_g (lw_at lw_m5 173 rfl) rfl
theorem q1232 : (Jvm.Cond.privateMethod ({ cls := "MoveNotes", name := "newBook", desc := "(I)I" } : Jvm.MethodName)) ∈ lw_tbl := lw_at lw_m5 174 rfl
theorem q1233 : (Jvm.Cond.instanceMethod ({ cls := "MoveNotes", name := "newBook", desc := "(I)I" } : Jvm.MethodName)) ∈ lw_all := lw_g (lw_at lw_m5 175 rfl) rfl
theorem q1234 : (Jvm.Cond.code ({ cls := "MoveNotes", name := "newBook", desc := "(I)I" } : Jvm.MethodName) prog_1_method_21_code (3 : Nat) (Option.some Jvm.ClassFile.FieldType.int)) ∈ lw_all := lw_g (lw_at lw_m5 176 rfl) rfl
theorem q1239 : (Jvm.Cond.instanceMethod ({ cls := "MoveNotes", name := "note", desc := "(IIIII)I" } : Jvm.MethodName)) ∈ lw_all := lw_g (lw_at lw_m5 181 rfl) rfl
theorem q1240 : (Jvm.Cond.selects "MoveNotes" ({ cls := "MoveNotes", name := "note", desc := "(IIIII)I" } : Jvm.MethodName) ({ cls := "MoveNotes", name := "note", desc := "(IIIII)I" } : Jvm.MethodName)) ∈ lw_all := lw_g (lw_at lw_m5 182 rfl) rfl
theorem q1241 : (Jvm.Cond.code ({ cls := "MoveNotes", name := "note", desc := "(IIIII)I" } : Jvm.MethodName) prog_1_method_24_code (7 : Nat) (Option.some Jvm.ClassFile.FieldType.int)) ∈ lw_all := lw_g (lw_at lw_m5 183 rfl) rfl
theorem q1242 : (Jvm.Cond.methodLink "MoveNotes" (103 : Nat) ({ cls := "MoveNotes", name := "bookAt", desc := "(I)LMoveNotes$Book;" } : Jvm.MethodName)) ∈ lw_all := lw_g (lw_at lw_m5 184 rfl) rfl
theorem q1243 : (Jvm.Cond.privateMethod ({ cls := "MoveNotes", name := "bookAt", desc := "(I)LMoveNotes$Book;" } : Jvm.MethodName)) ∈ lw_tbl := lw_at lw_m5 185 rfl
theorem q1244 : (Jvm.Cond.instanceMethod ({ cls := "MoveNotes", name := "bookAt", desc := "(I)LMoveNotes$Book;" } : Jvm.MethodName)) ∈ lw_all := lw_g (lw_at lw_m5 186 rfl) rfl
theorem q1245 : (Jvm.Cond.code ({ cls := "MoveNotes", name := "bookAt", desc := "(I)LMoveNotes$Book;" } : Jvm.MethodName) prog_1_method_9_code (2 : Nat) (Option.some (Jvm.ClassFile.FieldType.object "MoveNotes$Book"))) ∈ lw_all := lw_g (lw_at lw_m5 187 rfl) rfl
theorem q1246 : (Jvm.Cond.methodLink "MoveNotes" (189 : Nat) ({ cls := "MoveNotes", name := "isNoted", desc := "(III)V" } : Jvm.MethodName)) ∈ lw_all := lw_g (lw_at lw_m5 188 rfl) rfl
theorem q1247 : (Jvm.Cond.static ({ cls := "MoveNotes", name := "isNoted", desc := "(III)V" } : Jvm.MethodName)) ∈ lw_all := lw_g (lw_at lw_m5 189 rfl) rfl
theorem q1248 : (Jvm.Cond.code ({ cls := "MoveNotes", name := "isNoted", desc := "(III)V" } : Jvm.MethodName) prog_1_method_23_code (3 : Nat) (Option.none : Option Jvm.ClassFile.FieldType)) ∈ lw_all := lw_g (lw_at lw_m5 190 rfl) rfl
theorem q1249 : (Jvm.Cond.classLink "MoveNotes" (197 : Nat) "MoveNotes$Note") ∈ lw_all := lw_g (lw_at lw_m5 191 rfl) rfl
theorem q1251 : (Jvm.Cond.methodLink "MoveNotes" (199 : Nat) ({ cls := "MoveNotes$Note", name := "<init>", desc := "(IIII)V" } : Jvm.MethodName)) ∈ lw_all := lw_g (lw_at lw_m5 193 rfl) rfl
theorem q1256 : (Jvm.Cond.fieldLinkNest "MoveNotes" (209 : Nat) "MoveNotes$Note" "kind" "I" "MoveNotes") ∈ lw_tbl := lw_at lw_m5 198 rfl
theorem q1258 : (Jvm.Cond.fieldLinkNest "MoveNotes" (211 : Nat) "MoveNotes$Note" "from" "I" "MoveNotes") ∈ lw_tbl := lw_at lw_m5 200 rfl
theorem q1260 : (Jvm.Cond.fieldLinkNest "MoveNotes" (214 : Nat) "MoveNotes$Note" "file" "I" "MoveNotes") ∈ lw_tbl := lw_at lw_m5 202 rfl
theorem q1262 : (Jvm.Cond.fieldLinkNest "MoveNotes" (217 : Nat) "MoveNotes$Note" "rank" "I" "MoveNotes") ∈ lw_tbl := lw_at lw_m5 204 rfl
theorem q1276 : (Jvm.Cond.instanceMethod ({ cls := "MoveNotes", name := "change", desc := "(IIIIII)Z" } : Jvm.MethodName)) ∈ lw_all := lw_g (lw_at lw_m5 218 rfl) rfl
theorem q1277 : (Jvm.Cond.selects "MoveNotes" ({ cls := "MoveNotes", name := "change", desc := "(IIIIII)Z" } : Jvm.MethodName) ({ cls := "MoveNotes", name := "change", desc := "(IIIIII)Z" } : Jvm.MethodName)) ∈ lw_all := lw_g (lw_at lw_m5 219 rfl) rfl
theorem q1278 : (Jvm.Cond.code ({ cls := "MoveNotes", name := "change", desc := "(IIIIII)Z" } : Jvm.MethodName) prog_1_method_25_code (9 : Nat) (Option.some Jvm.ClassFile.FieldType.boolean)) ∈ lw_all := lw_g (lw_at lw_m5 220 rfl) rfl
theorem q1279 : (Jvm.Cond.methodLink "MoveNotes" (202 : Nat) ({ cls := "MoveNotes", name := "isNote", desc := "(II)V" } : Jvm.MethodName)) ∈ lw_all := lw_g (lw_at lw_m5 221 rfl) rfl
theorem q1280 : (Jvm.Cond.privateMethod ({ cls := "MoveNotes", name := "isNote", desc := "(II)V" } : Jvm.MethodName)) ∈ lw_tbl := lw_at lw_m5 222 rfl
theorem q1281 : (Jvm.Cond.instanceMethod ({ cls := "MoveNotes", name := "isNote", desc := "(II)V" } : Jvm.MethodName)) ∈ lw_all := lw_g (lw_at lw_m5 223 rfl) rfl
theorem q1282 : (Jvm.Cond.code ({ cls := "MoveNotes", name := "isNote", desc := "(II)V" } : Jvm.MethodName) prog_1_method_10_code (3 : Nat) (Option.none : Option Jvm.ClassFile.FieldType)) ∈ lw_all := lw_g (lw_at lw_m5 224 rfl) rfl
theorem q1283 : (Jvm.Cond.methodLink "MoveNotes" (205 : Nat) ({ cls := "MoveNotes$Note", name := "isLike", desc := "(LMoveNotes$Note;)Z" } : Jvm.MethodName)) ∈ lw_all := lw_g (lw_at lw_m5 225 rfl) rfl
theorem q1289 : (Jvm.Cond.instanceMethod ({ cls := "MoveNotes", name := "look", desc := "(III)I" } : Jvm.MethodName)) ∈ lw_all := lw_g (lw_at lw_m5 231 rfl) rfl
theorem q1290 : (Jvm.Cond.selects "MoveNotes" ({ cls := "MoveNotes", name := "look", desc := "(III)I" } : Jvm.MethodName) ({ cls := "MoveNotes", name := "look", desc := "(III)I" } : Jvm.MethodName)) ∈ lw_all := lw_g (lw_at lw_m5 232 rfl) rfl
theorem q1291 : (Jvm.Cond.code ({ cls := "MoveNotes", name := "look", desc := "(III)I" } : Jvm.MethodName) prog_1_method_26_code (5 : Nat) (Option.some Jvm.ClassFile.FieldType.int)) ∈ lw_all := lw_g (lw_at lw_m5 233 rfl) rfl
theorem q1292 : (Jvm.Cond.classLink "MoveNotes" (82 : Nat) "java/util/NoSuchElementException") ∈ lw_all := lw_g (lw_at lw_m5 234 rfl) rfl
theorem q1301 : (Jvm.Cond.methodLink "MoveNotes" (84 : Nat) ({ cls := "java/util/NoSuchElementException", name := "<init>", desc := "()V" } : Jvm.MethodName)) ∈ lw_all := lw_g (lw_at lw_m6 3 rfl) rfl
theorem q1311 : (Jvm.Cond.instanceMethod ({ cls := "MoveNotes", name := "write", desc := "(IIII)I" } : Jvm.MethodName)) ∈ lw_all := lw_g (lw_at lw_m6 13 rfl) rfl
theorem q1312 : (Jvm.Cond.selects "MoveNotes" ({ cls := "MoveNotes", name := "write", desc := "(IIII)I" } : Jvm.MethodName) ({ cls := "MoveNotes", name := "write", desc := "(IIII)I" } : Jvm.MethodName)) ∈ lw_all := lw_g (lw_at lw_m6 14 rfl) rfl
theorem q1313 : (Jvm.Cond.code ({ cls := "MoveNotes", name := "write", desc := "(IIII)I" } : Jvm.MethodName) prog_1_method_28_code (15 : Nat) (Option.some Jvm.ClassFile.FieldType.int)) ∈ lw_all := lw_g (lw_at lw_m6 15 rfl) rfl
theorem q1314 : (Jvm.Cond.methodLink "MoveNotes" (228 : Nat) ({ cls := "MoveNotes", name := "draw", desc := "()I" } : Jvm.MethodName)) ∈ lw_all := lw_g (lw_at lw_m6 16 rfl) rfl
theorem q1315 : (Jvm.Cond.privateMethod ({ cls := "MoveNotes", name := "draw", desc := "()I" } : Jvm.MethodName)) ∈ lw_tbl := lw_at lw_m6 17 rfl
theorem q1316 : (Jvm.Cond.instanceMethod ({ cls := "MoveNotes", name := "draw", desc := "()I" } : Jvm.MethodName)) ∈ lw_all := lw_g (lw_at lw_m6 18 rfl) rfl
theorem q1317 : (Jvm.Cond.code ({ cls := "MoveNotes", name := "draw", desc := "()I" } : Jvm.MethodName) prog_1_method_27_code (1 : Nat) (Option.some Jvm.ClassFile.FieldType.int)) ∈ lw_all := lw_g (lw_at lw_m6 19 rfl) rfl
theorem q1318 : (Jvm.Cond.constant "MoveNotes" (220 : Nat) (1103515245 : Int32)) ∈ lw_all := lw_g (lw_at lw_m6 20 rfl) rfl
theorem q1323 : (Jvm.Cond.instanceMethod ({ cls := "MoveNotes", name := "price", desc := "(II)I" } : Jvm.MethodName)) ∈ lw_all := lw_g (lw_at lw_m6 25 rfl) rfl
theorem q1324 : (Jvm.Cond.selects "MoveNotes" ({ cls := "MoveNotes", name := "price", desc := "(II)I" } : Jvm.MethodName) ({ cls := "MoveNotes", name := "price", desc := "(II)I" } : Jvm.MethodName)) ∈ lw_all := lw_g (lw_at lw_m6 26 rfl) rfl
theorem q1325 : (Jvm.Cond.code ({ cls := "MoveNotes", name := "price", desc := "(II)I" } : Jvm.MethodName) prog_1_method_29_code (4 : Nat) (Option.some Jvm.ClassFile.FieldType.int)) ∈ lw_all := lw_g (lw_at lw_m6 27 rfl) rfl
theorem q1326 : (Jvm.Cond.methodLink "MoveNotes" (234 : Nat) ({ cls := "MoveNotes", name := "isSlip", desc := "(I)V" } : Jvm.MethodName)) ∈ lw_all := lw_g (lw_at lw_m6 28 rfl) rfl
theorem q1327 : (Jvm.Cond.static ({ cls := "MoveNotes", name := "isSlip", desc := "(I)V" } : Jvm.MethodName)) ∈ lw_all := lw_g (lw_at lw_m6 29 rfl) rfl
theorem q1328 : (Jvm.Cond.code ({ cls := "MoveNotes", name := "isSlip", desc := "(I)V" } : Jvm.MethodName) prog_1_method_11_code (1 : Nat) (Option.none : Option Jvm.ClassFile.FieldType)) ∈ lw_all := lw_g (lw_at lw_m6 30 rfl) rfl
theorem q1333 : (Jvm.Cond.instanceMethod ({ cls := "MoveNotes", name := "length", desc := "(I)V" } : Jvm.MethodName)) ∈ lw_all := lw_g (lw_at lw_m6 35 rfl) rfl
theorem q1334 : (Jvm.Cond.selects "MoveNotes" ({ cls := "MoveNotes", name := "length", desc := "(I)V" } : Jvm.MethodName) ({ cls := "MoveNotes", name := "length", desc := "(I)V" } : Jvm.MethodName)) ∈ lw_all := lw_g (lw_at lw_m6 36 rfl) rfl
theorem q1335 : (Jvm.Cond.code ({ cls := "MoveNotes", name := "length", desc := "(I)V" } : Jvm.MethodName) prog_1_method_30_code (2 : Nat) (Option.none : Option Jvm.ClassFile.FieldType)) ∈ lw_all := lw_g (lw_at lw_m6 37 rfl) rfl
theorem q1340 : (Jvm.Cond.instanceMethod ({ cls := "MoveNotes", name := "picture", desc := "(IIII)I" } : Jvm.MethodName)) ∈ lw_all := lw_g (lw_at lw_m6 42 rfl) rfl
theorem q1341 : (Jvm.Cond.selects "MoveNotes" ({ cls := "MoveNotes", name := "picture", desc := "(IIII)I" } : Jvm.MethodName) ({ cls := "MoveNotes", name := "picture", desc := "(IIII)I" } : Jvm.MethodName)) ∈ lw_all := lw_g (lw_at lw_m6 43 rfl) rfl
theorem q1342 : (Jvm.Cond.code ({ cls := "MoveNotes", name := "picture", desc := "(IIII)I" } : Jvm.MethodName) prog_1_method_31_code (5 : Nat) (Option.some Jvm.ClassFile.FieldType.int)) ∈ lw_all := lw_g (lw_at lw_m6 44 rfl) rfl
theorem q1343 : (Jvm.Cond.classLink "MoveNotes" (250 : Nat) "MoveNotes$Picture") ∈ lw_all := lw_g (lw_at lw_m6 45 rfl) rfl
theorem q1345 : (Jvm.Cond.methodLink "MoveNotes" (252 : Nat) ({ cls := "MoveNotes$Picture", name := "<init>", desc := "(IIII)V" } : Jvm.MethodName)) ∈ lw_all := lw_g (lw_at lw_m6 47 rfl) rfl
theorem q1367 : (Jvm.Cond.instanceMethod ({ cls := "MoveNotes", name := "read", desc := "(I)I" } : Jvm.MethodName)) ∈ lw_all := lw_g (lw_at lw_m6 69 rfl) rfl
theorem q1368 : (Jvm.Cond.selects "MoveNotes" ({ cls := "MoveNotes", name := "read", desc := "(I)I" } : Jvm.MethodName) ({ cls := "MoveNotes", name := "read", desc := "(I)I" } : Jvm.MethodName)) ∈ lw_all := lw_g (lw_at lw_m6 70 rfl) rfl
theorem q1369 : (Jvm.Cond.code ({ cls := "MoveNotes", name := "read", desc := "(I)I" } : Jvm.MethodName) prog_1_method_37_code (2 : Nat) (Option.some Jvm.ClassFile.FieldType.int)) ∈ lw_all := lw_g (lw_at lw_m6 71 rfl) rfl
theorem q1374 : (Jvm.Cond.instanceMethod ({ cls := "MoveNotes", name := "readNext", desc := "(I)I" } : Jvm.MethodName)) ∈ lw_all := lw_g (lw_at lw_m6 76 rfl) rfl
theorem q1375 : (Jvm.Cond.selects "MoveNotes" ({ cls := "MoveNotes", name := "readNext", desc := "(I)I" } : Jvm.MethodName) ({ cls := "MoveNotes", name := "readNext", desc := "(I)I" } : Jvm.MethodName)) ∈ lw_all := lw_g (lw_at lw_m6 77 rfl) rfl
theorem q1376 : (Jvm.Cond.code ({ cls := "MoveNotes", name := "readNext", desc := "(I)I" } : Jvm.MethodName) prog_1_method_38_code (2 : Nat) (Option.some Jvm.ClassFile.FieldType.int)) ∈ lw_all := lw_g (lw_at lw_m6 78 rfl) rfl
theorem q1381 : (Jvm.Cond.instanceMethod ({ cls := "MoveNotes", name := "slip", desc := "(II)I" } : Jvm.MethodName)) ∈ lw_all := lw_g (lw_at lw_m6 83 rfl) rfl
theorem q1382 : (Jvm.Cond.selects "MoveNotes" ({ cls := "MoveNotes", name := "slip", desc := "(II)I" } : Jvm.MethodName) ({ cls := "MoveNotes", name := "slip", desc := "(II)I" } : Jvm.MethodName)) ∈ lw_all := lw_g (lw_at lw_m6 84 rfl) rfl
theorem q1383 : (Jvm.Cond.code ({ cls := "MoveNotes", name := "slip", desc := "(II)I" } : Jvm.MethodName) prog_1_method_39_code (3 : Nat) (Option.some Jvm.ClassFile.FieldType.int)) ∈ lw_all := lw_g (lw_at lw_m6 85 rfl) rfl
theorem q1388 : (Jvm.Cond.instanceMethod ({ cls := "MoveNotes", name := "slips", desc := "(II)I" } : Jvm.MethodName)) ∈ lw_all := lw_g (lw_at lw_m6 90 rfl) rfl
theorem q1389 : (Jvm.Cond.selects "MoveNotes" ({ cls := "MoveNotes", name := "slips", desc := "(II)I" } : Jvm.MethodName) ({ cls := "MoveNotes", name := "slips", desc := "(II)I" } : Jvm.MethodName)) ∈ lw_all := lw_g (lw_at lw_m6 91 rfl) rfl
theorem q1390 : (Jvm.Cond.code ({ cls := "MoveNotes", name := "slips", desc := "(II)I" } : Jvm.MethodName) prog_1_method_40_code (6 : Nat) (Option.some Jvm.ClassFile.FieldType.int)) ∈ lw_all := lw_g (lw_at lw_m6 92 rfl) rfl
theorem q1395 : (Jvm.Cond.instanceMethod ({ cls := "MoveNotes", name := "breaks", desc := "(I)I" } : Jvm.MethodName)) ∈ lw_all := lw_g (lw_at lw_m6 97 rfl) rfl
theorem q1396 : (Jvm.Cond.selects "MoveNotes" ({ cls := "MoveNotes", name := "breaks", desc := "(I)I" } : Jvm.MethodName) ({ cls := "MoveNotes", name := "breaks", desc := "(I)I" } : Jvm.MethodName)) ∈ lw_all := lw_g (lw_at lw_m6 98 rfl) rfl
theorem q1397 : (Jvm.Cond.code ({ cls := "MoveNotes", name := "breaks", desc := "(I)I" } : Jvm.MethodName) prog_1_method_41_code (4 : Nat) (Option.some Jvm.ClassFile.FieldType.int)) ∈ lw_all := lw_g (lw_at lw_m6 99 rfl) rfl
theorem q1398 : (Jvm.Cond.methodLink "MoveNotes" (293 : Nat) ({ cls := "MoveNotes$Search", name := "lets", desc := "(I)I" } : Jvm.MethodName)) ∈ lw_all := lw_g (lw_at lw_m6 100 rfl) rfl
theorem q1406 : (Jvm.Cond.instanceMethod ({ cls := "MoveNotes", name := "brief", desc := "(I)I" } : Jvm.MethodName)) ∈ lw_all := lw_g (lw_at lw_m6 108 rfl) rfl
theorem q1407 : (Jvm.Cond.selects "MoveNotes" ({ cls := "MoveNotes", name := "brief", desc := "(I)I" } : Jvm.MethodName) ({ cls := "MoveNotes", name := "brief", desc := "(I)I" } : Jvm.MethodName)) ∈ lw_all := lw_g (lw_at lw_m6 109 rfl) rfl
theorem q1408 : (Jvm.Cond.code ({ cls := "MoveNotes", name := "brief", desc := "(I)I" } : Jvm.MethodName) prog_1_method_42_code (6 : Nat) (Option.some Jvm.ClassFile.FieldType.int)) ∈ lw_all := lw_g (lw_at lw_m6 110 rfl) rfl
theorem q1413 : (Jvm.Cond.instanceMethod ({ cls := "MoveNotes", name := "best", desc := "(I)I" } : Jvm.MethodName)) ∈ lw_all := lw_g (lw_at lw_m6 115 rfl) rfl
theorem q1414 : (Jvm.Cond.selects "MoveNotes" ({ cls := "MoveNotes", name := "best", desc := "(I)I" } : Jvm.MethodName) ({ cls := "MoveNotes", name := "best", desc := "(I)I" } : Jvm.MethodName)) ∈ lw_all := lw_g (lw_at lw_m6 116 rfl) rfl
theorem q1415 : (Jvm.Cond.code ({ cls := "MoveNotes", name := "best", desc := "(I)I" } : Jvm.MethodName) prog_1_method_44_code (3 : Nat) (Option.some Jvm.ClassFile.FieldType.int)) ∈ lw_all := lw_g (lw_at lw_m6 117 rfl) rfl
theorem q1420 : (Jvm.Cond.instanceMethod ({ cls := "MoveNotes", name := "odds", desc := "(IIZ)J" } : Jvm.MethodName)) ∈ lw_all := lw_g (lw_at lw_m6 122 rfl) rfl
theorem q1421 : (Jvm.Cond.selects "MoveNotes" ({ cls := "MoveNotes", name := "odds", desc := "(IIZ)J" } : Jvm.MethodName) ({ cls := "MoveNotes", name := "odds", desc := "(IIZ)J" } : Jvm.MethodName)) ∈ lw_all := lw_g (lw_at lw_m6 123 rfl) rfl
theorem q1422 : (Jvm.Cond.code ({ cls := "MoveNotes", name := "odds", desc := "(IIZ)J" } : Jvm.MethodName) prog_1_method_46_code (6 : Nat) (Option.some Jvm.ClassFile.FieldType.long)) ∈ lw_all := lw_g (lw_at lw_m6 124 rfl) rfl
theorem q1423 : (Jvm.Cond.methodLink "MoveNotes" (305 : Nat) ({ cls := "java/lang/System", name := "arraycopy", desc := "(Ljava/lang/Object;ILjava/lang/Object;II)V" } : Jvm.MethodName)) ∈ lw_all := lw_g (lw_at lw_m6 125 rfl) rfl
theorem q1424 : (Jvm.Cond.methodLink "MoveNotes" (311 : Nat) ({ cls := "MoveNotes$Search", name := "weigh", desc := "(IIII)Z" } : Jvm.MethodName)) ∈ lw_all := lw_g (lw_at lw_m6 126 rfl) rfl
theorem q1428 : (Jvm.Cond.constantLong "MoveNotes" (315 : Nat) (-2 : Int64)) ∈ lw_all := lw_g (lw_at lw_m6 130 rfl) rfl
theorem q1429 : (Jvm.Cond.constantLong "MoveNotes" (317 : Nat) (-3 : Int64)) ∈ lw_all := lw_g (lw_at lw_m6 131 rfl) rfl
theorem q1430 : (Jvm.Cond.methodLink "MoveNotes" (326 : Nat) ({ cls := "MoveNotes", name := "common", desc := "(JJ)J" } : Jvm.MethodName)) ∈ lw_all := lw_g (lw_at lw_m6 132 rfl) rfl
theorem q1431 : (Jvm.Cond.static ({ cls := "MoveNotes", name := "common", desc := "(JJ)J" } : Jvm.MethodName)) ∈ lw_all := lw_g (lw_at lw_m6 133 rfl) rfl
theorem q1432 : (Jvm.Cond.code ({ cls := "MoveNotes", name := "common", desc := "(JJ)J" } : Jvm.MethodName) prog_1_method_45_code (10 : Nat) (Option.some Jvm.ClassFile.FieldType.long)) ∈ lw_all := lw_g (lw_at lw_m6 134 rfl) rfl
theorem q1437 : (Jvm.Cond.instanceMethod ({ cls := "MoveNotes", name := "shared", desc := "(IIZ)I" } : Jvm.MethodName)) ∈ lw_all := lw_g (lw_at lw_m6 139 rfl) rfl
theorem q1438 : (Jvm.Cond.selects "MoveNotes" ({ cls := "MoveNotes", name := "shared", desc := "(IIZ)I" } : Jvm.MethodName) ({ cls := "MoveNotes", name := "shared", desc := "(IIZ)I" } : Jvm.MethodName)) ∈ lw_all := lw_g (lw_at lw_m6 140 rfl) rfl
theorem q1439 : (Jvm.Cond.code ({ cls := "MoveNotes", name := "shared", desc := "(IIZ)I" } : Jvm.MethodName) prog_1_method_47_code (13 : Nat) (Option.some Jvm.ClassFile.FieldType.int)) ∈ lw_all := lw_g (lw_at lw_m6 141 rfl) rfl
theorem q1440 : (Jvm.Cond.methodLink "MoveNotes" (330 : Nat) ({ cls := "MoveNotes$Note", name := "isNearly", desc := "(LMoveNotes$Note;)Z" } : Jvm.MethodName)) ∈ lw_all := lw_g (lw_at lw_m6 142 rfl) rfl
theorem q1445 : (Jvm.Cond.instanceMethod ({ cls := "MoveNotes", name := "alike", desc := "(II)I" } : Jvm.MethodName)) ∈ lw_all := lw_g (lw_at lw_m6 147 rfl) rfl
theorem q1446 : (Jvm.Cond.selects "MoveNotes" ({ cls := "MoveNotes", name := "alike", desc := "(II)I" } : Jvm.MethodName) ({ cls := "MoveNotes", name := "alike", desc := "(II)I" } : Jvm.MethodName)) ∈ lw_all := lw_g (lw_at lw_m6 148 rfl) rfl
theorem q1447 : (Jvm.Cond.code ({ cls := "MoveNotes", name := "alike", desc := "(II)I" } : Jvm.MethodName) prog_1_method_48_code (7 : Nat) (Option.some Jvm.ClassFile.FieldType.int)) ∈ lw_all := lw_g (lw_at lw_m6 149 rfl) rfl
theorem q1448 : (Jvm.Cond.methodLink "MoveNotes" (333 : Nat) ({ cls := "java/lang/Math", name := "max", desc := "(II)I" } : Jvm.MethodName)) ∈ lw_all := lw_g (lw_at lw_m6 150 rfl) rfl
theorem q1453 : (Jvm.Cond.instanceMethod ({ cls := "MoveNotes", name := "way", desc := "(I)I" } : Jvm.MethodName)) ∈ lw_all := lw_g (lw_at lw_m6 155 rfl) rfl
theorem q1454 : (Jvm.Cond.selects "MoveNotes" ({ cls := "MoveNotes", name := "way", desc := "(I)I" } : Jvm.MethodName) ({ cls := "MoveNotes", name := "way", desc := "(I)I" } : Jvm.MethodName)) ∈ lw_all := lw_g (lw_at lw_m6 156 rfl) rfl
theorem q1455 : (Jvm.Cond.code ({ cls := "MoveNotes", name := "way", desc := "(I)I" } : Jvm.MethodName) prog_1_method_49_code (6 : Nat) (Option.some Jvm.ClassFile.FieldType.int)) ∈ lw_all := lw_g (lw_at lw_m6 157 rfl) rfl
theorem q1460 : (Jvm.Cond.instanceMethod ({ cls := "MoveNotes", name := "cheaper", desc := "(I)I" } : Jvm.MethodName)) ∈ lw_all := lw_g (lw_at lw_m6 162 rfl) rfl
theorem q1461 : (Jvm.Cond.selects "MoveNotes" ({ cls := "MoveNotes", name := "cheaper", desc := "(I)I" } : Jvm.MethodName) ({ cls := "MoveNotes", name := "cheaper", desc := "(I)I" } : Jvm.MethodName)) ∈ lw_all := lw_g (lw_at lw_m6 163 rfl) rfl
theorem q1462 : (Jvm.Cond.code ({ cls := "MoveNotes", name := "cheaper", desc := "(I)I" } : Jvm.MethodName) prog_1_method_50_code (4 : Nat) (Option.some Jvm.ClassFile.FieldType.int)) ∈ lw_all := lw_g (lw_at lw_m6 164 rfl) rfl
theorem q2074 : (Jvm.Cond.castable "MoveNotes" "java/lang/Object") ∈ lw_tbl := lw_at lw_m9 56 rfl
theorem in_X1 : ∀ w ∈ wsX10, w ∈ lw_all := lw_in wsX10 [536, 538, 540, 542, 544, 546, 548, 550, 552, 554, 556, 558, 560, 562, 564, 566, 568, 570] (by decide +kernel) (by decide +kernel)
/-! MoveNotes$Reader -/
def RX2 : String := "MoveNotes$Reader"
def TX2 : u_T := fun k => match k with
  | 0 => ("MoveNotes$Reader", "tape", "[B", true)
  | 1 => ("MoveNotes$Reader", "words", "[Ljava/lang/String;", true)
  | 2 => ("MoveNotes$Reader", "goings", "[LMoveNotes$Going;", true)
  | 3 => ("MoveNotes$Reader", "row", "[LMoveNotes$PlayLine;", true)
  | 4 => ("MoveNotes$Reader", "leap", "LMoveNotes$Leap;", true)
  | 5 => ("MoveNotes$Reader", "bite", "LMoveNotes$Bite;", true)
  | 6 => ("MoveNotes$Reader", "wrong", "LMoveNotes$Wrong;", true)
  | 7 => ("MoveNotes$Reader", "size", "I", false)
  | 8 => ("MoveNotes$Reader", "end", "I", false)
  | 9 => ("MoveNotes$Reader", "at", "I", false)
  | _ => ("MoveNotes$Reader", "deep", "I", false)
def tyX2 : Nat → FieldType := fun k => match k with
  | 0 => .array .byte
  | 1 => .array (.object "java/lang/String")
  | 2 => .array (.object "MoveNotes$Going")
  | 3 => .array (.object "MoveNotes$PlayLine")
  | 4 => .object "MoveNotes$Leap"
  | 5 => .object "MoveNotes$Bite"
  | 6 => .object "MoveNotes$Wrong"
  | 7 => .int
  | 8 => .int
  | 9 => .int
  | _ => .int
abbrev wsX20 : List Cond := u_ws RX2 TX2 11
theorem nmX2 : ∀ a, a < 11 → ∀ b, b < 11 → a ≠ b → (TX2 a).2.1 ≠ (TX2 b).2.1 := by decide +kernel
theorem tyX2_ok : ∀ k, k < 11 → parseFieldDescriptor (TX2 k).2.2.1 = some (tyX2 k) := by decide +kernel
abbrev cX2_init : ByteArray := prog_17_method_1_code
def yX2_init : MethodName := ⟨RX2, "<init>", "()V"⟩
abbrev cX2_kind : ByteArray := prog_17_method_7_code
def yX2_kind : MethodName := ⟨RX2, "kind", "(II)LMoveNotes$Kind;"⟩
abbrev cX2_lines : ByteArray := prog_17_method_6_code
def yX2_lines : MethodName := ⟨RX2, "lines", "(IZ)I"⟩
abbrev cX2_sign : ByteArray := prog_17_method_3_code
def yX2_sign : MethodName := ⟨RX2, "sign", "()I"⟩
abbrev cX2_fail : ByteArray := prog_17_method_2_code
def yX2_fail : MethodName := ⟨RX2, "fail", "(I)V"⟩
abbrev cX2_going : ByteArray := prog_17_method_9_code
def yX2_going : MethodName := ⟨RX2, "going", "()LMoveNotes$Going;"⟩
abbrev cX2_takes : ByteArray := prog_17_method_4_code
def yX2_takes : MethodName := ⟨RX2, "takes", "(Ljava/lang/String;)Z"⟩
abbrev cX2_number : ByteArray := prog_17_method_5_code
def yX2_number : MethodName := ⟨RX2, "number", "(II)I"⟩
abbrev cX2_playLine : ByteArray := prog_17_method_10_code
def yX2_playLine : MethodName := ⟨RX2, "playLine", "()LMoveNotes$PlayLine;"⟩
abbrev cX2_fact : ByteArray := prog_17_method_16_code
def yX2_fact : MethodName := ⟨RX2, "fact", "()I"⟩
abbrev cX2_row : ByteArray := prog_17_method_11_code
def yX2_row : MethodName := ⟨RX2, "row", "(Z)LMoveNotes$Cond;"⟩
abbrev cX2_atom : ByteArray := prog_17_method_12_code
def yX2_atom : MethodName := ⟨RX2, "atom", "()LMoveNotes$Cond;"⟩
abbrev cX2_tag : ByteArray := prog_17_method_13_code
def yX2_tag : MethodName := ⟨RX2, "tag", "()LMoveNotes$Cond;"⟩
abbrev cX2_sum : ByteArray := prog_17_method_14_code
def yX2_sum : MethodName := ⟨RX2, "sum", "()LMoveNotes$Sum;"⟩
abbrev cX2_part : ByteArray := prog_17_method_15_code
def yX2_part : MethodName := ⟨RX2, "part", "(LMoveNotes$Sum;)V"⟩
abbrev cX2_measure : ByteArray := prog_17_method_8_code
def yX2_measure : MethodName := ⟨RX2, "measure", "(I)LMoveNotes$Measure;"⟩
theorem q100 : (Jvm.Cond.initialized "MoveNotes$Reader") ∈ lw_all := lw_g (lw_at lw_m1 2 rfl) rfl
theorem q147 : (Jvm.Cond.instantiable "MoveNotes$Reader" (11 : Nat)) ∈ lw_all := lw_g (lw_at lw_m1 49 rfl) rfl
theorem q149 : (Jvm.Cond.instanceMethod ({ cls := "MoveNotes$Reader", name := "<init>", desc := "()V" } : Jvm.MethodName)) ∈ lw_all := lw_g (lw_at lw_m1 51 rfl) rfl
theorem q150 : (Jvm.Cond.code ({ cls := "MoveNotes$Reader", name := "<init>", desc := "()V" } : Jvm.MethodName) prog_17_method_1_code (1 : Nat) (Option.none : Option Jvm.ClassFile.FieldType)) ∈ lw_all := lw_g (lw_at lw_m1 52 rfl) rfl
theorem q151 : (Jvm.Cond.methodLink "MoveNotes$Reader" (3 : Nat) ({ cls := "java/lang/Object", name := "<init>", desc := "()V" } : Jvm.MethodName)) ∈ lw_all := lw_g (lw_at lw_m1 53 rfl) rfl
theorem q152 : (Jvm.Cond.classLink "MoveNotes$Reader" (15 : Nat) "java/lang/String") ∈ lw_all := lw_g (lw_at lw_m1 54 rfl) rfl
theorem q154 : (Jvm.Cond.stringRef "MoveNotes$Reader" (17 : Nat) "took") ∈ lw_tbl := lw_at lw_m1 56 rfl
theorem q155 : (Jvm.Cond.stringRef "MoveNotes$Reader" (19 : Nat) "value") ∈ lw_tbl := lw_at lw_m1 57 rfl
theorem q156 : (Jvm.Cond.stringRef "MoveNotes$Reader" (21 : Nat) "number") ∈ lw_tbl := lw_at lw_m1 58 rfl
theorem q157 : (Jvm.Cond.stringRef "MoveNotes$Reader" (23 : Nat) "men") ∈ lw_tbl := lw_at lw_m1 59 rfl
theorem q158 : (Jvm.Cond.classLink "MoveNotes$Reader" (29 : Nat) "MoveNotes$Going") ∈ lw_all := lw_g (lw_at lw_m1 60 rfl) rfl
theorem q160 : (Jvm.Cond.classLink "MoveNotes$Reader" (35 : Nat) "MoveNotes$PlayLine") ∈ lw_all := lw_g (lw_at lw_m1 62 rfl) rfl
theorem q162 : (Jvm.Cond.classLink "MoveNotes$Reader" (41 : Nat) "MoveNotes$Leap") ∈ lw_all := lw_g (lw_at lw_m1 64 rfl) rfl
theorem q164 : (Jvm.Cond.methodLinkNest "MoveNotes$Reader" (43 : Nat) ({ cls := "MoveNotes$Leap", name := "<init>", desc := "()V" } : Jvm.MethodName) "MoveNotes") ∈ lw_tbl := lw_at lw_m1 66 rfl
theorem q173 : (Jvm.Cond.classLink "MoveNotes$Reader" (48 : Nat) "MoveNotes$Bite") ∈ lw_all := lw_g (lw_at lw_m1 75 rfl) rfl
theorem q175 : (Jvm.Cond.methodLinkNest "MoveNotes$Reader" (50 : Nat) ({ cls := "MoveNotes$Bite", name := "<init>", desc := "()V" } : Jvm.MethodName) "MoveNotes") ∈ lw_tbl := lw_at lw_m1 77 rfl
theorem q180 : (Jvm.Cond.classLink "MoveNotes$Reader" (55 : Nat) "MoveNotes$Wrong") ∈ lw_all := lw_g (lw_at lw_m1 82 rfl) rfl
theorem q224 : (Jvm.Cond.methodLink "MoveNotes$Reader" (57 : Nat) ({ cls := "MoveNotes$Wrong", name := "<init>", desc := "()V" } : Jvm.MethodName)) ∈ lw_all := lw_g (lw_at lw_m1 126 rfl) rfl
theorem q236 : (Jvm.Cond.fieldLinkNest "MoveNotes$Reader" (62 : Nat) "MoveNotes$Wrong" "place" "I" "MoveNotes") ∈ lw_tbl := lw_at lw_m1 138 rfl
theorem q253 : (Jvm.Cond.fieldLink "MoveNotes$Reader" (9 : Nat) "MoveNotes$Reader" "tape" "[B") ∈ lw_all := lw_g (lw_at lw_m1 155 rfl) rfl
theorem q255 : (Jvm.Cond.fieldLink "MoveNotes$Reader" (25 : Nat) "MoveNotes$Reader" "words" "[Ljava/lang/String;") ∈ lw_all := lw_g (lw_at lw_m1 157 rfl) rfl
theorem q256 : (Jvm.Cond.fieldLink "MoveNotes$Reader" (31 : Nat) "MoveNotes$Reader" "goings" "[LMoveNotes$Going;") ∈ lw_all := lw_g (lw_at lw_m1 158 rfl) rfl
theorem q257 : (Jvm.Cond.fieldLink "MoveNotes$Reader" (37 : Nat) "MoveNotes$Reader" "row" "[LMoveNotes$PlayLine;") ∈ lw_all := lw_g (lw_at lw_m1 159 rfl) rfl
theorem q258 : (Jvm.Cond.fieldLink "MoveNotes$Reader" (44 : Nat) "MoveNotes$Reader" "leap" "LMoveNotes$Leap;") ∈ lw_all := lw_g (lw_at lw_m1 160 rfl) rfl
theorem q259 : (Jvm.Cond.fieldLink "MoveNotes$Reader" (51 : Nat) "MoveNotes$Reader" "bite" "LMoveNotes$Bite;") ∈ lw_all := lw_g (lw_at lw_m1 161 rfl) rfl
theorem q260 : (Jvm.Cond.fieldLink "MoveNotes$Reader" (58 : Nat) "MoveNotes$Reader" "wrong" "LMoveNotes$Wrong;") ∈ lw_all := lw_g (lw_at lw_m1 162 rfl) rfl
theorem q262 : (Jvm.Cond.fieldLink "MoveNotes$Reader" (69 : Nat) "MoveNotes$Reader" "end" "I") ∈ lw_all := lw_g (lw_at lw_m1 164 rfl) rfl
theorem q263 : (Jvm.Cond.fieldLink "MoveNotes$Reader" (66 : Nat) "MoveNotes$Reader" "at" "I") ∈ lw_all := lw_g (lw_at lw_m1 165 rfl) rfl
theorem q264 : (Jvm.Cond.fieldLink "MoveNotes$Reader" (87 : Nat) "MoveNotes$Reader" "deep" "I") ∈ lw_all := lw_g (lw_at lw_m1 166 rfl) rfl
theorem q265 : (Jvm.Cond.laysFinal "MoveNotes$Reader" "MoveNotes$Reader" "tape" "[B") ∈ lw_all := lw_g (lw_at lw_m1 167 rfl) rfl
theorem q266 : (Jvm.Cond.soleField "MoveNotes$Reader" "tape") ∈ lw_all := lw_g (lw_at lw_m1 168 rfl) rfl
theorem q267 : (Jvm.Cond.laysFinal "MoveNotes$Reader" "MoveNotes$Reader" "words" "[Ljava/lang/String;") ∈ lw_all := lw_g (lw_at lw_m1 169 rfl) rfl
theorem q268 : (Jvm.Cond.soleField "MoveNotes$Reader" "words") ∈ lw_all := lw_g (lw_at lw_m1 170 rfl) rfl
theorem q269 : (Jvm.Cond.laysFinal "MoveNotes$Reader" "MoveNotes$Reader" "goings" "[LMoveNotes$Going;") ∈ lw_all := lw_g (lw_at lw_m1 171 rfl) rfl
theorem q270 : (Jvm.Cond.soleField "MoveNotes$Reader" "goings") ∈ lw_all := lw_g (lw_at lw_m1 172 rfl) rfl
theorem q271 : (Jvm.Cond.laysFinal "MoveNotes$Reader" "MoveNotes$Reader" "row" "[LMoveNotes$PlayLine;") ∈ lw_all := lw_g (lw_at lw_m1 173 rfl) rfl
theorem q272 : (Jvm.Cond.soleField "MoveNotes$Reader" "row") ∈ lw_all := lw_g (lw_at lw_m1 174 rfl) rfl
theorem q273 : (Jvm.Cond.laysFinal "MoveNotes$Reader" "MoveNotes$Reader" "leap" "LMoveNotes$Leap;") ∈ lw_all := lw_g (lw_at lw_m1 175 rfl) rfl
theorem q274 : (Jvm.Cond.soleField "MoveNotes$Reader" "leap") ∈ lw_all := lw_g (lw_at lw_m1 176 rfl) rfl
theorem q275 : (Jvm.Cond.laysFinal "MoveNotes$Reader" "MoveNotes$Reader" "bite" "LMoveNotes$Bite;") ∈ lw_all := lw_g (lw_at lw_m1 177 rfl) rfl
theorem q276 : (Jvm.Cond.soleField "MoveNotes$Reader" "bite") ∈ lw_all := lw_g (lw_at lw_m1 178 rfl) rfl
theorem q277 : (Jvm.Cond.laysFinal "MoveNotes$Reader" "MoveNotes$Reader" "wrong" "LMoveNotes$Wrong;") ∈ lw_all := lw_g (lw_at lw_m1 179 rfl) rfl
theorem q278 : (Jvm.Cond.soleField "MoveNotes$Reader" "wrong") ∈ lw_all := lw_g (lw_at lw_m1 180 rfl) rfl
theorem q279 : (Jvm.Cond.lays "MoveNotes$Reader" "MoveNotes$Reader" "size" "I") ∈ lw_all := lw_g (lw_at lw_m1 181 rfl) rfl
theorem q280 : (Jvm.Cond.soleField "MoveNotes$Reader" "size") ∈ lw_all := lw_g (lw_at lw_m1 182 rfl) rfl
theorem q281 : (Jvm.Cond.lays "MoveNotes$Reader" "MoveNotes$Reader" "end" "I") ∈ lw_all := lw_g (lw_at lw_m1 183 rfl) rfl
theorem q282 : (Jvm.Cond.soleField "MoveNotes$Reader" "end") ∈ lw_all := lw_g (lw_at lw_m1 184 rfl) rfl
theorem q283 : (Jvm.Cond.lays "MoveNotes$Reader" "MoveNotes$Reader" "at" "I") ∈ lw_all := lw_g (lw_at lw_m1 185 rfl) rfl
theorem q284 : (Jvm.Cond.soleField "MoveNotes$Reader" "at") ∈ lw_all := lw_g (lw_at lw_m1 186 rfl) rfl
theorem q285 : (Jvm.Cond.lays "MoveNotes$Reader" "MoveNotes$Reader" "deep" "I") ∈ lw_all := lw_g (lw_at lw_m1 187 rfl) rfl
theorem q286 : (Jvm.Cond.soleField "MoveNotes$Reader" "deep") ∈ lw_all := lw_g (lw_at lw_m1 188 rfl) rfl
theorem q287 : (Jvm.Cond.superclass "MoveNotes$Reader" "java/lang/Object") ∈ lw_all := lw_g (lw_at lw_m1 189 rfl) rfl
theorem q843 : (Jvm.Cond.instanceMethod ({ cls := "MoveNotes$Reader", name := "kind", desc := "(II)LMoveNotes$Kind;" } : Jvm.MethodName)) ∈ lw_all := lw_g (lw_at lw_m4 25 rfl) rfl
theorem q844 : (Jvm.Cond.selects "MoveNotes$Reader" ({ cls := "MoveNotes$Reader", name := "kind", desc := "(II)LMoveNotes$Kind;" } : Jvm.MethodName) ({ cls := "MoveNotes$Reader", name := "kind", desc := "(II)LMoveNotes$Kind;" } : Jvm.MethodName)) ∈ lw_all := lw_g (lw_at lw_m4 26 rfl) rfl
theorem q845 : (Jvm.Cond.code ({ cls := "MoveNotes$Reader", name := "kind", desc := "(II)LMoveNotes$Kind;" } : Jvm.MethodName) prog_17_method_7_code (3 : Nat) (Option.some (Jvm.ClassFile.FieldType.object "MoveNotes$Kind"))) ∈ lw_all := lw_g (lw_at lw_m4 27 rfl) rfl
theorem q846 : (Jvm.Cond.classLink "MoveNotes$Reader" (98 : Nat) "MoveNotes$Kind") ∈ lw_all := lw_g (lw_at lw_m4 28 rfl) rfl
theorem q848 : (Jvm.Cond.methodLink "MoveNotes$Reader" (100 : Nat) ({ cls := "MoveNotes$Reader", name := "lines", desc := "(IZ)I" } : Jvm.MethodName)) ∈ lw_all := lw_g (lw_at lw_m4 30 rfl) rfl
theorem q849 : (Jvm.Cond.privateMethod ({ cls := "MoveNotes$Reader", name := "lines", desc := "(IZ)I" } : Jvm.MethodName)) ∈ lw_tbl := lw_at lw_m4 31 rfl
theorem q850 : (Jvm.Cond.instanceMethod ({ cls := "MoveNotes$Reader", name := "lines", desc := "(IZ)I" } : Jvm.MethodName)) ∈ lw_all := lw_g (lw_at lw_m4 32 rfl) rfl
theorem q851 : (Jvm.Cond.code ({ cls := "MoveNotes$Reader", name := "lines", desc := "(IZ)I" } : Jvm.MethodName) prog_17_method_6_code (6 : Nat) (Option.some Jvm.ClassFile.FieldType.int)) ∈ lw_all := lw_g (lw_at lw_m4 33 rfl) rfl
theorem q852 : (Jvm.Cond.methodLink "MoveNotes$Reader" (72 : Nat) ({ cls := "MoveNotes$Reader", name := "sign", desc := "()I" } : Jvm.MethodName)) ∈ lw_all := lw_g (lw_at lw_m4 34 rfl) rfl
theorem q853 : (Jvm.Cond.privateMethod ({ cls := "MoveNotes$Reader", name := "sign", desc := "()I" } : Jvm.MethodName)) ∈ lw_tbl := lw_at lw_m4 35 rfl
theorem q854 : (Jvm.Cond.instanceMethod ({ cls := "MoveNotes$Reader", name := "sign", desc := "()I" } : Jvm.MethodName)) ∈ lw_all := lw_g (lw_at lw_m4 36 rfl) rfl
theorem q855 : (Jvm.Cond.code ({ cls := "MoveNotes$Reader", name := "sign", desc := "()I" } : Jvm.MethodName) prog_17_method_3_code (1 : Nat) (Option.some Jvm.ClassFile.FieldType.int)) ∈ lw_all := lw_g (lw_at lw_m4 37 rfl) rfl
theorem q856 : (Jvm.Cond.methodLink "MoveNotes$Reader" (83 : Nat) ({ cls := "MoveNotes$Reader", name := "fail", desc := "(I)V" } : Jvm.MethodName)) ∈ lw_all := lw_g (lw_at lw_m4 38 rfl) rfl
theorem q857 : (Jvm.Cond.privateMethod ({ cls := "MoveNotes$Reader", name := "fail", desc := "(I)V" } : Jvm.MethodName)) ∈ lw_tbl := lw_at lw_m4 39 rfl
theorem q858 : (Jvm.Cond.instanceMethod ({ cls := "MoveNotes$Reader", name := "fail", desc := "(I)V" } : Jvm.MethodName)) ∈ lw_all := lw_g (lw_at lw_m4 40 rfl) rfl
theorem q859 : (Jvm.Cond.code ({ cls := "MoveNotes$Reader", name := "fail", desc := "(I)V" } : Jvm.MethodName) prog_17_method_2_code (2 : Nat) (Option.none : Option Jvm.ClassFile.FieldType)) ∈ lw_all := lw_g (lw_at lw_m4 41 rfl) rfl
theorem q860 : (Jvm.Cond.methodLink "MoveNotes$Reader" (90 : Nat) ({ cls := "MoveNotes$Reader", name := "going", desc := "()LMoveNotes$Going;" } : Jvm.MethodName)) ∈ lw_all := lw_g (lw_at lw_m4 42 rfl) rfl
theorem q861 : (Jvm.Cond.privateMethod ({ cls := "MoveNotes$Reader", name := "going", desc := "()LMoveNotes$Going;" } : Jvm.MethodName)) ∈ lw_tbl := lw_at lw_m4 43 rfl
theorem q862 : (Jvm.Cond.instanceMethod ({ cls := "MoveNotes$Reader", name := "going", desc := "()LMoveNotes$Going;" } : Jvm.MethodName)) ∈ lw_all := lw_g (lw_at lw_m4 44 rfl) rfl
theorem q863 : (Jvm.Cond.code ({ cls := "MoveNotes$Reader", name := "going", desc := "()LMoveNotes$Going;" } : Jvm.MethodName) prog_17_method_9_code (1 : Nat) (Option.some (Jvm.ClassFile.FieldType.object "MoveNotes$Going"))) ∈ lw_all := lw_g (lw_at lw_m4 45 rfl) rfl
theorem q864 : (Jvm.Cond.stringRef "MoveNotes$Reader" (112 : Nat) "straight") ∈ lw_tbl := lw_at lw_m4 46 rfl
theorem q865 : (Jvm.Cond.methodLink "MoveNotes$Reader" (114 : Nat) ({ cls := "MoveNotes$Reader", name := "takes", desc := "(Ljava/lang/String;)Z" } : Jvm.MethodName)) ∈ lw_all := lw_g (lw_at lw_m4 47 rfl) rfl
theorem q866 : (Jvm.Cond.privateMethod ({ cls := "MoveNotes$Reader", name := "takes", desc := "(Ljava/lang/String;)Z" } : Jvm.MethodName)) ∈ lw_tbl := lw_at lw_m4 48 rfl
theorem q867 : (Jvm.Cond.instanceMethod ({ cls := "MoveNotes$Reader", name := "takes", desc := "(Ljava/lang/String;)Z" } : Jvm.MethodName)) ∈ lw_all := lw_g (lw_at lw_m4 49 rfl) rfl
theorem q868 : (Jvm.Cond.code ({ cls := "MoveNotes$Reader", name := "takes", desc := "(Ljava/lang/String;)Z" } : Jvm.MethodName) prog_17_method_4_code (6 : Nat) (Option.some Jvm.ClassFile.FieldType.boolean)) ∈ lw_all := lw_g (lw_at lw_m4 50 rfl) rfl
theorem q869 : (Jvm.Cond.methodLink "MoveNotes$Reader" (76 : Nat) ({ cls := "java/lang/String", name := "length", desc := "()I" } : Jvm.MethodName)) ∈ lw_all := lw_g (lw_at lw_m4 51 rfl) rfl
theorem q879 : (Jvm.Cond.methodLink "MoveNotes$Reader" (79 : Nat) ({ cls := "java/lang/String", name := "charAt", desc := "(I)C" } : Jvm.MethodName)) ∈ lw_all := lw_g (lw_at lw_m4 61 rfl) rfl
theorem q917 : (Jvm.Cond.classLink "MoveNotes$Reader" (118 : Nat) "MoveNotes$Straight") ∈ lw_all := lw_g (lw_at lw_m4 99 rfl) rfl
theorem q919 : (Jvm.Cond.methodLink "MoveNotes$Reader" (120 : Nat) ({ cls := "MoveNotes$Reader", name := "number", desc := "(II)I" } : Jvm.MethodName)) ∈ lw_all := lw_g (lw_at lw_m4 101 rfl) rfl
theorem q920 : (Jvm.Cond.privateMethod ({ cls := "MoveNotes$Reader", name := "number", desc := "(II)I" } : Jvm.MethodName)) ∈ lw_tbl := lw_at lw_m4 102 rfl
theorem q921 : (Jvm.Cond.instanceMethod ({ cls := "MoveNotes$Reader", name := "number", desc := "(II)I" } : Jvm.MethodName)) ∈ lw_all := lw_g (lw_at lw_m4 103 rfl) rfl
theorem q922 : (Jvm.Cond.code ({ cls := "MoveNotes$Reader", name := "number", desc := "(II)I" } : Jvm.MethodName) prog_17_method_5_code (6 : Nat) (Option.some Jvm.ClassFile.FieldType.int)) ∈ lw_all := lw_g (lw_at lw_m4 104 rfl) rfl
theorem q923 : (Jvm.Cond.methodLink "MoveNotes$Reader" (123 : Nat) ({ cls := "MoveNotes$Straight", name := "<init>", desc := "(I)V" } : Jvm.MethodName)) ∈ lw_all := lw_g (lw_at lw_m4 105 rfl) rfl
theorem q931 : (Jvm.Cond.stringRef "MoveNotes$Reader" (125 : Nat) "slant") ∈ lw_tbl := lw_at lw_m4 113 rfl
theorem q932 : (Jvm.Cond.classLink "MoveNotes$Reader" (127 : Nat) "MoveNotes$Slant") ∈ lw_all := lw_g (lw_at lw_m4 114 rfl) rfl
theorem q934 : (Jvm.Cond.methodLink "MoveNotes$Reader" (129 : Nat) ({ cls := "MoveNotes$Slant", name := "<init>", desc := "(I)V" } : Jvm.MethodName)) ∈ lw_all := lw_g (lw_at lw_m4 116 rfl) rfl
theorem q942 : (Jvm.Cond.stringRef "MoveNotes$Reader" (130 : Nat) "ahead") ∈ lw_tbl := lw_at lw_m4 124 rfl
theorem q943 : (Jvm.Cond.classLink "MoveNotes$Reader" (132 : Nat) "MoveNotes$Ahead") ∈ lw_all := lw_g (lw_at lw_m4 125 rfl) rfl
theorem q945 : (Jvm.Cond.methodLink "MoveNotes$Reader" (134 : Nat) ({ cls := "MoveNotes$Ahead", name := "<init>", desc := "(I)V" } : Jvm.MethodName)) ∈ lw_all := lw_g (lw_at lw_m4 127 rfl) rfl
theorem q953 : (Jvm.Cond.stringRef "MoveNotes$Reader" (135 : Nat) "leap") ∈ lw_tbl := lw_at lw_m4 135 rfl
theorem q954 : (Jvm.Cond.stringRef "MoveNotes$Reader" (136 : Nat) "bite") ∈ lw_tbl := lw_at lw_m4 136 rfl
theorem q955 : (Jvm.Cond.methodLink "MoveNotes$Reader" (94 : Nat) ({ cls := "MoveNotes$Reader", name := "playLine", desc := "()LMoveNotes$PlayLine;" } : Jvm.MethodName)) ∈ lw_all := lw_g (lw_at lw_m4 137 rfl) rfl
theorem q956 : (Jvm.Cond.privateMethod ({ cls := "MoveNotes$Reader", name := "playLine", desc := "()LMoveNotes$PlayLine;" } : Jvm.MethodName)) ∈ lw_tbl := lw_at lw_m4 138 rfl
theorem q957 : (Jvm.Cond.instanceMethod ({ cls := "MoveNotes$Reader", name := "playLine", desc := "()LMoveNotes$PlayLine;" } : Jvm.MethodName)) ∈ lw_all := lw_g (lw_at lw_m4 139 rfl) rfl
theorem q958 : (Jvm.Cond.code ({ cls := "MoveNotes$Reader", name := "playLine", desc := "()LMoveNotes$PlayLine;" } : Jvm.MethodName) prog_17_method_10_code (3 : Nat) (Option.some (Jvm.ClassFile.FieldType.object "MoveNotes$PlayLine"))) ∈ lw_all := lw_g (lw_at lw_m4 140 rfl) rfl
theorem q959 : (Jvm.Cond.stringRef "MoveNotes$Reader" (137 : Nat) "add") ∈ lw_tbl := lw_at lw_m4 141 rfl
theorem q960 : (Jvm.Cond.methodLink "MoveNotes$Reader" (139 : Nat) ({ cls := "MoveNotes$Reader", name := "fact", desc := "()I" } : Jvm.MethodName)) ∈ lw_all := lw_g (lw_at lw_m4 142 rfl) rfl
theorem q961 : (Jvm.Cond.privateMethod ({ cls := "MoveNotes$Reader", name := "fact", desc := "()I" } : Jvm.MethodName)) ∈ lw_tbl := lw_at lw_m4 143 rfl
theorem q962 : (Jvm.Cond.instanceMethod ({ cls := "MoveNotes$Reader", name := "fact", desc := "()I" } : Jvm.MethodName)) ∈ lw_all := lw_g (lw_at lw_m4 144 rfl) rfl
theorem q963 : (Jvm.Cond.code ({ cls := "MoveNotes$Reader", name := "fact", desc := "()I" } : Jvm.MethodName) prog_17_method_16_code (2 : Nat) (Option.some Jvm.ClassFile.FieldType.int)) ∈ lw_all := lw_g (lw_at lw_m4 145 rfl) rfl
theorem q965 : (Jvm.Cond.stringRef "MoveNotes$Reader" (142 : Nat) "if") ∈ lw_tbl := lw_at lw_m4 147 rfl
theorem q966 : (Jvm.Cond.methodLink "MoveNotes$Reader" (144 : Nat) ({ cls := "MoveNotes$Reader", name := "row", desc := "(Z)LMoveNotes$Cond;" } : Jvm.MethodName)) ∈ lw_all := lw_g (lw_at lw_m4 148 rfl) rfl
theorem q967 : (Jvm.Cond.privateMethod ({ cls := "MoveNotes$Reader", name := "row", desc := "(Z)LMoveNotes$Cond;" } : Jvm.MethodName)) ∈ lw_tbl := lw_at lw_m4 149 rfl
theorem q968 : (Jvm.Cond.instanceMethod ({ cls := "MoveNotes$Reader", name := "row", desc := "(Z)LMoveNotes$Cond;" } : Jvm.MethodName)) ∈ lw_all := lw_g (lw_at lw_m4 150 rfl) rfl
theorem q969 : (Jvm.Cond.code ({ cls := "MoveNotes$Reader", name := "row", desc := "(Z)LMoveNotes$Cond;" } : Jvm.MethodName) prog_17_method_11_code (4 : Nat) (Option.some (Jvm.ClassFile.FieldType.object "MoveNotes$Cond"))) ∈ lw_all := lw_g (lw_at lw_m4 151 rfl) rfl
theorem q970 : (Jvm.Cond.classLink "MoveNotes$Reader" (150 : Nat) "MoveNotes$Chain") ∈ lw_all := lw_g (lw_at lw_m4 152 rfl) rfl
theorem q972 : (Jvm.Cond.methodLink "MoveNotes$Reader" (152 : Nat) ({ cls := "MoveNotes$Reader", name := "atom", desc := "()LMoveNotes$Cond;" } : Jvm.MethodName)) ∈ lw_all := lw_g (lw_at lw_m4 154 rfl) rfl
theorem q973 : (Jvm.Cond.privateMethod ({ cls := "MoveNotes$Reader", name := "atom", desc := "()LMoveNotes$Cond;" } : Jvm.MethodName)) ∈ lw_tbl := lw_at lw_m4 155 rfl
theorem q974 : (Jvm.Cond.instanceMethod ({ cls := "MoveNotes$Reader", name := "atom", desc := "()LMoveNotes$Cond;" } : Jvm.MethodName)) ∈ lw_all := lw_g (lw_at lw_m4 156 rfl) rfl
theorem q975 : (Jvm.Cond.code ({ cls := "MoveNotes$Reader", name := "atom", desc := "()LMoveNotes$Cond;" } : Jvm.MethodName) prog_17_method_12_code (5 : Nat) (Option.some (Jvm.ClassFile.FieldType.object "MoveNotes$Cond"))) ∈ lw_all := lw_g (lw_at lw_m4 157 rfl) rfl
theorem q976 : (Jvm.Cond.stringRef "MoveNotes$Reader" (167 : Nat) "not") ∈ lw_tbl := lw_at lw_m4 158 rfl
theorem q977 : (Jvm.Cond.methodLink "MoveNotes$Reader" (169 : Nat) ({ cls := "MoveNotes$Reader", name := "tag", desc := "()LMoveNotes$Cond;" } : Jvm.MethodName)) ∈ lw_all := lw_g (lw_at lw_m4 159 rfl) rfl
theorem q978 : (Jvm.Cond.privateMethod ({ cls := "MoveNotes$Reader", name := "tag", desc := "()LMoveNotes$Cond;" } : Jvm.MethodName)) ∈ lw_tbl := lw_at lw_m4 160 rfl
theorem q979 : (Jvm.Cond.instanceMethod ({ cls := "MoveNotes$Reader", name := "tag", desc := "()LMoveNotes$Cond;" } : Jvm.MethodName)) ∈ lw_all := lw_g (lw_at lw_m4 161 rfl) rfl
theorem q980 : (Jvm.Cond.code ({ cls := "MoveNotes$Reader", name := "tag", desc := "()LMoveNotes$Cond;" } : Jvm.MethodName) prog_17_method_13_code (4 : Nat) (Option.some (Jvm.ClassFile.FieldType.object "MoveNotes$Cond"))) ∈ lw_all := lw_g (lw_at lw_m4 162 rfl) rfl
theorem q981 : (Jvm.Cond.stringRef "MoveNotes$Reader" (177 : Nat) "takes") ∈ lw_tbl := lw_at lw_m4 163 rfl
theorem q982 : (Jvm.Cond.classLink "MoveNotes$Reader" (178 : Nat) "MoveNotes$Tag") ∈ lw_all := lw_g (lw_at lw_m4 164 rfl) rfl
theorem q984 : (Jvm.Cond.methodLink "MoveNotes$Reader" (180 : Nat) ({ cls := "MoveNotes$Tag", name := "<init>", desc := "(I)V" } : Jvm.MethodName)) ∈ lw_all := lw_g (lw_at lw_m4 166 rfl) rfl
theorem q992 : (Jvm.Cond.stringRef "MoveNotes$Reader" (181 : Nat) "safe") ∈ lw_tbl := lw_at lw_m4 174 rfl
theorem q993 : (Jvm.Cond.methodLink "MoveNotes$Reader" (183 : Nat) ({ cls := "MoveNotes$Reader", name := "sum", desc := "()LMoveNotes$Sum;" } : Jvm.MethodName)) ∈ lw_all := lw_g (lw_at lw_m4 175 rfl) rfl
theorem q994 : (Jvm.Cond.privateMethod ({ cls := "MoveNotes$Reader", name := "sum", desc := "()LMoveNotes$Sum;" } : Jvm.MethodName)) ∈ lw_tbl := lw_at lw_m4 176 rfl
theorem q995 : (Jvm.Cond.instanceMethod ({ cls := "MoveNotes$Reader", name := "sum", desc := "()LMoveNotes$Sum;" } : Jvm.MethodName)) ∈ lw_all := lw_g (lw_at lw_m4 177 rfl) rfl
theorem q996 : (Jvm.Cond.code ({ cls := "MoveNotes$Reader", name := "sum", desc := "()LMoveNotes$Sum;" } : Jvm.MethodName) prog_17_method_14_code (2 : Nat) (Option.some (Jvm.ClassFile.FieldType.object "MoveNotes$Sum"))) ∈ lw_all := lw_g (lw_at lw_m4 178 rfl) rfl
theorem q997 : (Jvm.Cond.classLink "MoveNotes$Reader" (192 : Nat) "MoveNotes$Sum") ∈ lw_all := lw_g (lw_at lw_m4 179 rfl) rfl
theorem q999 : (Jvm.Cond.methodLinkNest "MoveNotes$Reader" (194 : Nat) ({ cls := "MoveNotes$Sum", name := "<init>", desc := "()V" } : Jvm.MethodName) "MoveNotes") ∈ lw_tbl := lw_at lw_m4 181 rfl
theorem q1004 : (Jvm.Cond.fieldLinkNest "MoveNotes$Reader" (201 : Nat) "MoveNotes$Sum" "times" "[I" "MoveNotes") ∈ lw_tbl := lw_at lw_m4 186 rfl
theorem q1006 : (Jvm.Cond.fieldLinkNest "MoveNotes$Reader" (199 : Nat) "MoveNotes$Sum" "number" "I" "MoveNotes") ∈ lw_tbl := lw_at lw_m4 188 rfl
theorem q1012 : (Jvm.Cond.methodLink "MoveNotes$Reader" (195 : Nat) ({ cls := "MoveNotes$Reader", name := "part", desc := "(LMoveNotes$Sum;)V" } : Jvm.MethodName)) ∈ lw_all := lw_g (lw_at lw_m4 194 rfl) rfl
theorem q1013 : (Jvm.Cond.privateMethod ({ cls := "MoveNotes$Reader", name := "part", desc := "(LMoveNotes$Sum;)V" } : Jvm.MethodName)) ∈ lw_tbl := lw_at lw_m4 195 rfl
theorem q1014 : (Jvm.Cond.instanceMethod ({ cls := "MoveNotes$Reader", name := "part", desc := "(LMoveNotes$Sum;)V" } : Jvm.MethodName)) ∈ lw_all := lw_g (lw_at lw_m4 196 rfl) rfl
theorem q1015 : (Jvm.Cond.code ({ cls := "MoveNotes$Reader", name := "part", desc := "(LMoveNotes$Sum;)V" } : Jvm.MethodName) prog_17_method_15_code (3 : Nat) (Option.none : Option Jvm.ClassFile.FieldType)) ∈ lw_all := lw_g (lw_at lw_m4 197 rfl) rfl
theorem q1016 : (Jvm.Cond.classLink "MoveNotes$Reader" (187 : Nat) "MoveNotes$Less") ∈ lw_all := lw_g (lw_at lw_m4 198 rfl) rfl
theorem q1018 : (Jvm.Cond.methodLink "MoveNotes$Reader" (189 : Nat) ({ cls := "MoveNotes$Less", name := "<init>", desc := "(LMoveNotes$Sum;LMoveNotes$Sum;)V" } : Jvm.MethodName)) ∈ lw_all := lw_g (lw_at lw_m4 200 rfl) rfl
theorem q1029 : (Jvm.Cond.classLink "MoveNotes$Reader" (172 : Nat) "MoveNotes$Not") ∈ lw_all := lw_g (lw_at lw_m4 211 rfl) rfl
theorem q1031 : (Jvm.Cond.methodLink "MoveNotes$Reader" (174 : Nat) ({ cls := "MoveNotes$Not", name := "<init>", desc := "(LMoveNotes$Cond;)V" } : Jvm.MethodName)) ∈ lw_all := lw_g (lw_at lw_m4 213 rfl) rfl
theorem q1039 : (Jvm.Cond.methodLink "MoveNotes$Reader" (156 : Nat) ({ cls := "MoveNotes$Chain", name := "<init>", desc := "(LMoveNotes$Cond;Z)V" } : Jvm.MethodName)) ∈ lw_all := lw_g (lw_at lw_m4 221 rfl) rfl
theorem q1046 : (Jvm.Cond.fieldLinkNest "MoveNotes$Reader" (163 : Nat) "MoveNotes$Chain" "next" "LMoveNotes$Chain;" "MoveNotes") ∈ lw_tbl := lw_at lw_m4 228 rfl
theorem q1054 : (Jvm.Cond.stringRef "MoveNotes$Reader" (159 : Nat) "and") ∈ lw_tbl := lw_at lw_m4 236 rfl
theorem q1055 : (Jvm.Cond.stringRef "MoveNotes$Reader" (161 : Nat) "or") ∈ lw_tbl := lw_at lw_m4 237 rfl
theorem q1056 : (Jvm.Cond.methodLink "MoveNotes$Reader" (147 : Nat) ({ cls := "MoveNotes$PlayLine", name := "<init>", desc := "(IILMoveNotes$Cond;)V" } : Jvm.MethodName)) ∈ lw_all := lw_g (lw_at lw_m4 238 rfl) rfl
theorem q1070 : (Jvm.Cond.methodLink "MoveNotes$Reader" (104 : Nat) ({ cls := "MoveNotes$Kind", name := "<init>", desc := "(I[LMoveNotes$Going;I)V" } : Jvm.MethodName)) ∈ lw_all := lw_g (lw_at lw_m5 12 rfl) rfl
theorem q1136 : (Jvm.Cond.instanceMethod ({ cls := "MoveNotes$Reader", name := "measure", desc := "(I)LMoveNotes$Measure;" } : Jvm.MethodName)) ∈ lw_all := lw_g (lw_at lw_m5 78 rfl) rfl
theorem q1137 : (Jvm.Cond.selects "MoveNotes$Reader" ({ cls := "MoveNotes$Reader", name := "measure", desc := "(I)LMoveNotes$Measure;" } : Jvm.MethodName) ({ cls := "MoveNotes$Reader", name := "measure", desc := "(I)LMoveNotes$Measure;" } : Jvm.MethodName)) ∈ lw_all := lw_g (lw_at lw_m5 79 rfl) rfl
theorem q1138 : (Jvm.Cond.code ({ cls := "MoveNotes$Reader", name := "measure", desc := "(I)LMoveNotes$Measure;" } : Jvm.MethodName) prog_17_method_8_code (2 : Nat) (Option.some (Jvm.ClassFile.FieldType.object "MoveNotes$Measure"))) ∈ lw_all := lw_g (lw_at lw_m5 80 rfl) rfl
theorem q1139 : (Jvm.Cond.classLink "MoveNotes$Reader" (107 : Nat) "MoveNotes$Measure") ∈ lw_all := lw_g (lw_at lw_m5 81 rfl) rfl
theorem q1141 : (Jvm.Cond.methodLink "MoveNotes$Reader" (109 : Nat) ({ cls := "MoveNotes$Measure", name := "<init>", desc := "([LMoveNotes$PlayLine;I)V" } : Jvm.MethodName)) ∈ lw_all := lw_g (lw_at lw_m5 83 rfl) rfl
theorem q2075 : (Jvm.Cond.castable "MoveNotes$Reader" "java/lang/Object") ∈ lw_tbl := lw_at lw_m9 57 rfl
theorem in_X2 : ∀ w ∈ wsX20, w ∈ lw_all := lw_in wsX20 [265, 267, 269, 271, 273, 275, 277, 279, 281, 283, 285] (by decide +kernel) (by decide +kernel)
/-! MoveNotes$Going -/
def RX3 : String := "MoveNotes$Going"
abbrev cX3_init : ByteArray := prog_8_method_1_code
def yX3_init : MethodName := ⟨RX3, "<init>", "()V"⟩
abbrev cX3_slides : ByteArray := prog_8_method_3_code
def yX3_slides : MethodName := ⟨RX3, "slides", "(LMoveNotes$Board;IIIIIZ[Z)V"⟩
theorem q101 : (Jvm.Cond.initialized "MoveNotes$Going") ∈ lw_all := lw_g (lw_at lw_m1 3 rfl) rfl
theorem q168 : (Jvm.Cond.instanceMethod ({ cls := "MoveNotes$Going", name := "<init>", desc := "()V" } : Jvm.MethodName)) ∈ lw_all := lw_g (lw_at lw_m1 70 rfl) rfl
theorem q169 : (Jvm.Cond.code ({ cls := "MoveNotes$Going", name := "<init>", desc := "()V" } : Jvm.MethodName) prog_8_method_1_code (1 : Nat) (Option.none : Option Jvm.ClassFile.FieldType)) ∈ lw_all := lw_g (lw_at lw_m1 71 rfl) rfl
theorem q170 : (Jvm.Cond.methodLink "MoveNotes$Going" (3 : Nat) ({ cls := "java/lang/Object", name := "<init>", desc := "()V" } : Jvm.MethodName)) ∈ lw_all := lw_g (lw_at lw_m1 72 rfl) rfl
theorem q307 : (Jvm.Cond.fieldLinkNest "MoveNotes$Going" (9 : Nat) "MoveNotes$Board" "kind" "[I" "MoveNotes") ∈ lw_tbl := lw_at lw_m1 209 rfl
theorem q314 : (Jvm.Cond.fieldLinkNest "MoveNotes$Going" (15 : Nat) "MoveNotes$Board" "side" "[I" "MoveNotes") ∈ lw_tbl := lw_at lw_m1 216 rfl
theorem q676 : (Jvm.Cond.declares ({ cls := "MoveNotes$Going", name := "marks", desc := "(LMoveNotes$Board;II[Z)V" } : Jvm.MethodName)) ∈ lw_tbl := lw_at lw_m3 98 rfl
theorem q677 : (Jvm.Cond.sameMethod "MoveNotes$Going" "MoveNotes$Going" "marks" "(LMoveNotes$Board;II[Z)V") ∈ lw_all := lw_g (lw_at lw_m3 99 rfl) rfl
theorem q683 : (Jvm.Cond.static ({ cls := "MoveNotes$Going", name := "slides", desc := "(LMoveNotes$Board;IIIIIZ[Z)V" } : Jvm.MethodName)) ∈ lw_all := lw_g (lw_at lw_m3 105 rfl) rfl
theorem q684 : (Jvm.Cond.code ({ cls := "MoveNotes$Going", name := "slides", desc := "(LMoveNotes$Board;IIIIIZ[Z)V" } : Jvm.MethodName) prog_8_method_3_code (12 : Nat) (Option.none : Option Jvm.ClassFile.FieldType)) ∈ lw_all := lw_g (lw_at lw_m3 106 rfl) rfl
/-! MoveNotes$Leap -/
def RX4 : String := "MoveNotes$Leap"
abbrev cX4_init : ByteArray := prog_10_method_1_code
def yX4_init : MethodName := ⟨RX4, "<init>", "()V"⟩
abbrev cX4_marks : ByteArray := prog_10_method_2_code
def yX4_marks : MethodName := ⟨RX4, "marks", "(LMoveNotes$Board;II[Z)V"⟩
theorem q102 : (Jvm.Cond.initialized "MoveNotes$Leap") ∈ lw_all := lw_g (lw_at lw_m1 4 rfl) rfl
theorem q163 : (Jvm.Cond.instantiable "MoveNotes$Leap" (0 : Nat)) ∈ lw_all := lw_g (lw_at lw_m1 65 rfl) rfl
theorem q165 : (Jvm.Cond.instanceMethod ({ cls := "MoveNotes$Leap", name := "<init>", desc := "()V" } : Jvm.MethodName)) ∈ lw_all := lw_g (lw_at lw_m1 67 rfl) rfl
theorem q166 : (Jvm.Cond.code ({ cls := "MoveNotes$Leap", name := "<init>", desc := "()V" } : Jvm.MethodName) prog_10_method_1_code (1 : Nat) (Option.none : Option Jvm.ClassFile.FieldType)) ∈ lw_all := lw_g (lw_at lw_m1 68 rfl) rfl
theorem q167 : (Jvm.Cond.methodLinkNest "MoveNotes$Leap" (3 : Nat) ({ cls := "MoveNotes$Going", name := "<init>", desc := "()V" } : Jvm.MethodName) "MoveNotes") ∈ lw_tbl := lw_at lw_m1 69 rfl
theorem q171 : (Jvm.Cond.superclass "MoveNotes$Leap" "MoveNotes$Going") ∈ lw_all := lw_g (lw_at lw_m1 73 rfl) rfl
theorem q305 : (Jvm.Cond.fieldLinkNest "MoveNotes$Leap" (15 : Nat) "MoveNotes$Board" "kind" "[I" "MoveNotes") ∈ lw_tbl := lw_at lw_m1 207 rfl
theorem q312 : (Jvm.Cond.fieldLinkNest "MoveNotes$Leap" (21 : Nat) "MoveNotes$Board" "side" "[I" "MoveNotes") ∈ lw_tbl := lw_at lw_m1 214 rfl
theorem q688 : (Jvm.Cond.selects "MoveNotes$Leap" ({ cls := "MoveNotes$Going", name := "marks", desc := "(LMoveNotes$Board;II[Z)V" } : Jvm.MethodName) ({ cls := "MoveNotes$Leap", name := "marks", desc := "(LMoveNotes$Board;II[Z)V" } : Jvm.MethodName)) ∈ lw_all := lw_g (lw_at lw_m3 110 rfl) rfl
theorem q689 : (Jvm.Cond.instanceMethod ({ cls := "MoveNotes$Leap", name := "marks", desc := "(LMoveNotes$Board;II[Z)V" } : Jvm.MethodName)) ∈ lw_all := lw_g (lw_at lw_m3 111 rfl) rfl
theorem q690 : (Jvm.Cond.code ({ cls := "MoveNotes$Leap", name := "marks", desc := "(LMoveNotes$Board;II[Z)V" } : Jvm.MethodName) prog_10_method_2_code (8 : Nat) (Option.none : Option Jvm.ClassFile.FieldType)) ∈ lw_all := lw_g (lw_at lw_m3 112 rfl) rfl
theorem q691 : (Jvm.Cond.methodLink "MoveNotes$Leap" (9 : Nat) ({ cls := "java/lang/Math", name := "abs", desc := "(I)I" } : Jvm.MethodName)) ∈ lw_all := lw_g (lw_at lw_m3 113 rfl) rfl
theorem q2076 : (Jvm.Cond.castable "MoveNotes$Leap" "java/lang/Object") ∈ lw_tbl := lw_at lw_m9 58 rfl
theorem q2104 : (Jvm.Cond.castable "MoveNotes$Leap" "MoveNotes$Going") ∈ lw_tbl := lw_at lw_m9 86 rfl
/-! MoveNotes$Bite -/
def RX5 : String := "MoveNotes$Bite"
abbrev cX5_init : ByteArray := prog_3_method_1_code
def yX5_init : MethodName := ⟨RX5, "<init>", "()V"⟩
abbrev cX5_marks : ByteArray := prog_3_method_2_code
def yX5_marks : MethodName := ⟨RX5, "marks", "(LMoveNotes$Board;II[Z)V"⟩
theorem q103 : (Jvm.Cond.initialized "MoveNotes$Bite") ∈ lw_all := lw_g (lw_at lw_m1 5 rfl) rfl
theorem q174 : (Jvm.Cond.instantiable "MoveNotes$Bite" (0 : Nat)) ∈ lw_all := lw_g (lw_at lw_m1 76 rfl) rfl
theorem q176 : (Jvm.Cond.instanceMethod ({ cls := "MoveNotes$Bite", name := "<init>", desc := "()V" } : Jvm.MethodName)) ∈ lw_all := lw_g (lw_at lw_m1 78 rfl) rfl
theorem q177 : (Jvm.Cond.code ({ cls := "MoveNotes$Bite", name := "<init>", desc := "()V" } : Jvm.MethodName) prog_3_method_1_code (1 : Nat) (Option.none : Option Jvm.ClassFile.FieldType)) ∈ lw_all := lw_g (lw_at lw_m1 79 rfl) rfl
theorem q178 : (Jvm.Cond.methodLinkNest "MoveNotes$Bite" (3 : Nat) ({ cls := "MoveNotes$Going", name := "<init>", desc := "()V" } : Jvm.MethodName) "MoveNotes") ∈ lw_tbl := lw_at lw_m1 80 rfl
theorem q179 : (Jvm.Cond.superclass "MoveNotes$Bite" "MoveNotes$Going") ∈ lw_all := lw_g (lw_at lw_m1 81 rfl) rfl
theorem q306 : (Jvm.Cond.fieldLinkNest "MoveNotes$Bite" (9 : Nat) "MoveNotes$Board" "kind" "[I" "MoveNotes") ∈ lw_tbl := lw_at lw_m1 208 rfl
theorem q313 : (Jvm.Cond.fieldLinkNest "MoveNotes$Bite" (15 : Nat) "MoveNotes$Board" "side" "[I" "MoveNotes") ∈ lw_tbl := lw_at lw_m1 215 rfl
theorem q685 : (Jvm.Cond.selects "MoveNotes$Bite" ({ cls := "MoveNotes$Going", name := "marks", desc := "(LMoveNotes$Board;II[Z)V" } : Jvm.MethodName) ({ cls := "MoveNotes$Bite", name := "marks", desc := "(LMoveNotes$Board;II[Z)V" } : Jvm.MethodName)) ∈ lw_all := lw_g (lw_at lw_m3 107 rfl) rfl
theorem q686 : (Jvm.Cond.instanceMethod ({ cls := "MoveNotes$Bite", name := "marks", desc := "(LMoveNotes$Board;II[Z)V" } : Jvm.MethodName)) ∈ lw_all := lw_g (lw_at lw_m3 108 rfl) rfl
theorem q687 : (Jvm.Cond.code ({ cls := "MoveNotes$Bite", name := "marks", desc := "(LMoveNotes$Board;II[Z)V" } : Jvm.MethodName) prog_3_method_2_code (8 : Nat) (Option.none : Option Jvm.ClassFile.FieldType)) ∈ lw_all := lw_g (lw_at lw_m3 109 rfl) rfl
theorem q2077 : (Jvm.Cond.castable "MoveNotes$Bite" "java/lang/Object") ∈ lw_tbl := lw_at lw_m9 59 rfl
theorem q2105 : (Jvm.Cond.castable "MoveNotes$Bite" "MoveNotes$Going") ∈ lw_tbl := lw_at lw_m9 87 rfl
/-! MoveNotes$Wrong -/
def RX6 : String := "MoveNotes$Wrong"
def TX6 : u_T := fun k => match k with
  | 0 => ("java/lang/Throwable", "cause", "Ljava/lang/Throwable;", false)
  | 1 => ("java/lang/Throwable", "stackTrace", "[Ljava/lang/StackTraceElement;", false)
  | 2 => ("java/lang/Throwable", "suppressedExceptions", "Ljava/util/List;", false)
  | 3 => ("java/lang/Throwable", "detailMessage", "Ljava/lang/String;", false)
  | 4 => ("java/lang/Throwable", "backtrace", "Ljava/lang/Object;", false)
  | 5 => ("java/lang/Throwable", "depth", "I", false)
  | _ => ("MoveNotes$Wrong", "place", "I", false)
def tyX6 : Nat → FieldType := fun k => match k with
  | 0 => .object "java/lang/Throwable"
  | 1 => .array (.object "java/lang/StackTraceElement")
  | 2 => .object "java/util/List"
  | 3 => .object "java/lang/String"
  | 4 => .object "java/lang/Object"
  | 5 => .int
  | _ => .int
abbrev wsX60 : List Cond := u_ws RX6 TX6 7
theorem nmX6 : ∀ a, a < 7 → ∀ b, b < 7 → a ≠ b → (TX6 a).2.1 ≠ (TX6 b).2.1 := by decide +kernel
theorem tyX6_ok : ∀ k, k < 7 → parseFieldDescriptor (TX6 k).2.2.1 = some (tyX6 k) := by decide +kernel
abbrev cX6_init : ByteArray := prog_24_method_1_code
def yX6_init : MethodName := ⟨RX6, "<init>", "()V"⟩
theorem q107 : (Jvm.Cond.initialized "MoveNotes$Wrong") ∈ lw_all := lw_g (lw_at lw_m1 9 rfl) rfl
theorem q181 : (Jvm.Cond.instantiable "MoveNotes$Wrong" (7 : Nat)) ∈ lw_all := lw_g (lw_at lw_m1 83 rfl) rfl
theorem q182 : (Jvm.Cond.castable "MoveNotes$Wrong" "MoveNotes$Wrong") ∈ lw_tbl := lw_at lw_m1 84 rfl
theorem q189 : (Jvm.Cond.selects "MoveNotes$Wrong" ({ cls := "java/lang/Throwable", name := "fillInStackTrace", desc := "(I)Ljava/lang/Throwable;" } : Jvm.MethodName) ({ cls := "java/lang/Throwable", name := "fillInStackTrace", desc := "(I)Ljava/lang/Throwable;" } : Jvm.MethodName)) ∈ lw_all := lw_g (lw_at lw_m1 91 rfl) rfl
theorem q190 : (Jvm.Cond.selects "MoveNotes$Wrong" ({ cls := "java/lang/Throwable", name := "fillInStackTrace", desc := "()Ljava/lang/Throwable;" } : Jvm.MethodName) ({ cls := "java/lang/Throwable", name := "fillInStackTrace", desc := "()Ljava/lang/Throwable;" } : Jvm.MethodName)) ∈ lw_all := lw_g (lw_at lw_m1 92 rfl) rfl
theorem q191 : (Jvm.Cond.lays "MoveNotes$Wrong" "java/lang/Throwable" "cause" "Ljava/lang/Throwable;") ∈ lw_all := lw_g (lw_at lw_m1 93 rfl) rfl
theorem q193 : (Jvm.Cond.lays "MoveNotes$Wrong" "java/lang/Throwable" "stackTrace" "[Ljava/lang/StackTraceElement;") ∈ lw_all := lw_g (lw_at lw_m1 95 rfl) rfl
theorem q195 : (Jvm.Cond.lays "MoveNotes$Wrong" "java/lang/Throwable" "suppressedExceptions" "Ljava/util/List;") ∈ lw_all := lw_g (lw_at lw_m1 97 rfl) rfl
theorem q197 : (Jvm.Cond.lays "MoveNotes$Wrong" "java/lang/Throwable" "detailMessage" "Ljava/lang/String;") ∈ lw_all := lw_g (lw_at lw_m1 99 rfl) rfl
theorem q199 : (Jvm.Cond.lays "MoveNotes$Wrong" "java/lang/Throwable" "backtrace" "Ljava/lang/Object;") ∈ lw_all := lw_g (lw_at lw_m1 101 rfl) rfl
theorem q225 : (Jvm.Cond.instanceMethod ({ cls := "MoveNotes$Wrong", name := "<init>", desc := "()V" } : Jvm.MethodName)) ∈ lw_all := lw_g (lw_at lw_m1 127 rfl) rfl
theorem q226 : (Jvm.Cond.code ({ cls := "MoveNotes$Wrong", name := "<init>", desc := "()V" } : Jvm.MethodName) prog_24_method_1_code (1 : Nat) (Option.none : Option Jvm.ClassFile.FieldType)) ∈ lw_all := lw_g (lw_at lw_m1 128 rfl) rfl
theorem q227 : (Jvm.Cond.methodLink "MoveNotes$Wrong" (1 : Nat) ({ cls := "java/lang/RuntimeException", name := "<init>", desc := "(Ljava/lang/String;Ljava/lang/Throwable;ZZ)V" } : Jvm.MethodName)) ∈ lw_all := lw_g (lw_at lw_m1 129 rfl) rfl
theorem q243 : (Jvm.Cond.lays "MoveNotes$Wrong" "MoveNotes$Wrong" "place" "I") ∈ lw_all := lw_g (lw_at lw_m1 145 rfl) rfl
theorem q244 : (Jvm.Cond.soleField "MoveNotes$Wrong" "place") ∈ lw_all := lw_g (lw_at lw_m1 146 rfl) rfl
theorem q249 : (Jvm.Cond.lays "MoveNotes$Wrong" "java/lang/Throwable" "depth" "I") ∈ lw_all := lw_g (lw_at lw_m1 151 rfl) rfl
theorem q252 : (Jvm.Cond.superclass "MoveNotes$Wrong" "java/lang/RuntimeException") ∈ lw_all := lw_g (lw_at lw_m1 154 rfl) rfl
theorem q2078 : (Jvm.Cond.castable "MoveNotes$Wrong" "java/lang/Object") ∈ lw_tbl := lw_at lw_m9 60 rfl
theorem in_X6 : ∀ w ∈ wsX60, w ∈ lw_all := lw_in wsX60 [191, 193, 195, 197, 199, 249, 243] (by decide +kernel) (by decide +kernel)
/-! MoveNotes$State -/
def RX7 : String := "MoveNotes$State"
def TX7 : u_T := fun k => match k with
  | 0 => ("MoveNotes$State", "kinds", "[LMoveNotes$Kind;", true)
  | 1 => ("MoveNotes$State", "start", "LMoveNotes$Board;", true)
  | 2 => ("MoveNotes$State", "books", "[LMoveNotes$Book;", true)
  | 3 => ("MoveNotes$State", "pictures", "[LMoveNotes$Picture;", true)
  | 4 => ("MoveNotes$State", "prices", "[I", true)
  | 5 => ("MoveNotes$State", "measure", "LMoveNotes$Measure;", false)
  | 6 => ("MoveNotes$State", "kindMany", "I", false)
  | 7 => ("MoveNotes$State", "bookMany", "I", false)
  | 8 => ("MoveNotes$State", "pictureMany", "I", false)
  | _ => ("MoveNotes$State", "length", "I", false)
def tyX7 : Nat → FieldType := fun k => match k with
  | 0 => .array (.object "MoveNotes$Kind")
  | 1 => .object "MoveNotes$Board"
  | 2 => .array (.object "MoveNotes$Book")
  | 3 => .array (.object "MoveNotes$Picture")
  | 4 => .array .int
  | 5 => .object "MoveNotes$Measure"
  | 6 => .int
  | 7 => .int
  | 8 => .int
  | _ => .int
abbrev wsX70 : List Cond := u_ws RX7 TX7 10
theorem nmX7 : ∀ a, a < 10 → ∀ b, b < 10 → a ≠ b → (TX7 a).2.1 ≠ (TX7 b).2.1 := by decide +kernel
theorem tyX7_ok : ∀ k, k < 10 → parseFieldDescriptor (TX7 k).2.2.1 = some (tyX7 k) := by decide +kernel
abbrev cX7_init : ByteArray := prog_20_method_1_code
def yX7_init : MethodName := ⟨RX7, "<init>", "()V"⟩
abbrev cX7_be : ByteArray := prog_20_method_2_code
def yX7_be : MethodName := ⟨RX7, "be", "(LMoveNotes$State;)V"⟩
theorem q108 : (Jvm.Cond.initialized "MoveNotes$State") ∈ lw_all := lw_g (lw_at lw_m1 10 rfl) rfl
theorem q289 : (Jvm.Cond.instantiable "MoveNotes$State" (10 : Nat)) ∈ lw_all := lw_g (lw_at lw_m1 191 rfl) rfl
theorem q291 : (Jvm.Cond.instanceMethod ({ cls := "MoveNotes$State", name := "<init>", desc := "()V" } : Jvm.MethodName)) ∈ lw_all := lw_g (lw_at lw_m1 193 rfl) rfl
theorem q292 : (Jvm.Cond.code ({ cls := "MoveNotes$State", name := "<init>", desc := "()V" } : Jvm.MethodName) prog_20_method_1_code (2 : Nat) (Option.none : Option Jvm.ClassFile.FieldType)) ∈ lw_all := lw_g (lw_at lw_m1 194 rfl) rfl
theorem q293 : (Jvm.Cond.methodLink "MoveNotes$State" (3 : Nat) ({ cls := "java/lang/Object", name := "<init>", desc := "()V" } : Jvm.MethodName)) ∈ lw_all := lw_g (lw_at lw_m1 195 rfl) rfl
theorem q294 : (Jvm.Cond.classLink "MoveNotes$State" (9 : Nat) "MoveNotes$Kind") ∈ lw_all := lw_g (lw_at lw_m1 196 rfl) rfl
theorem q296 : (Jvm.Cond.classLink "MoveNotes$State" (17 : Nat) "MoveNotes$Board") ∈ lw_all := lw_g (lw_at lw_m1 198 rfl) rfl
theorem q298 : (Jvm.Cond.methodLink "MoveNotes$State" (19 : Nat) ({ cls := "MoveNotes$Board", name := "<init>", desc := "()V" } : Jvm.MethodName)) ∈ lw_all := lw_g (lw_at lw_m1 200 rfl) rfl
theorem q322 : (Jvm.Cond.classLink "MoveNotes$State" (24 : Nat) "MoveNotes$Book") ∈ lw_all := lw_g (lw_at lw_m1 224 rfl) rfl
theorem q324 : (Jvm.Cond.classLink "MoveNotes$State" (30 : Nat) "MoveNotes$Picture") ∈ lw_all := lw_g (lw_at lw_m1 226 rfl) rfl
theorem q327 : (Jvm.Cond.methodLinkNest "MoveNotes$State" (44 : Nat) ({ cls := "MoveNotes$Book", name := "<init>", desc := "()V" } : Jvm.MethodName) "MoveNotes") ∈ lw_tbl := lw_at lw_m1 229 rfl
theorem q349 : (Jvm.Cond.fieldLink "MoveNotes$State" (11 : Nat) "MoveNotes$State" "kinds" "[LMoveNotes$Kind;") ∈ lw_all := lw_g (lw_at lw_m2 11 rfl) rfl
theorem q352 : (Jvm.Cond.fieldLink "MoveNotes$State" (20 : Nat) "MoveNotes$State" "start" "LMoveNotes$Board;") ∈ lw_all := lw_g (lw_at lw_m2 14 rfl) rfl
theorem q355 : (Jvm.Cond.fieldLink "MoveNotes$State" (26 : Nat) "MoveNotes$State" "books" "[LMoveNotes$Book;") ∈ lw_all := lw_g (lw_at lw_m2 17 rfl) rfl
theorem q358 : (Jvm.Cond.fieldLink "MoveNotes$State" (32 : Nat) "MoveNotes$State" "pictures" "[LMoveNotes$Picture;") ∈ lw_all := lw_g (lw_at lw_m2 20 rfl) rfl
theorem q361 : (Jvm.Cond.fieldLink "MoveNotes$State" (36 : Nat) "MoveNotes$State" "prices" "[I") ∈ lw_all := lw_g (lw_at lw_m2 23 rfl) rfl
theorem q364 : (Jvm.Cond.fieldLink "MoveNotes$State" (58 : Nat) "MoveNotes$State" "measure" "LMoveNotes$Measure;") ∈ lw_all := lw_g (lw_at lw_m2 26 rfl) rfl
theorem q367 : (Jvm.Cond.fieldLink "MoveNotes$State" (62 : Nat) "MoveNotes$State" "kindMany" "I") ∈ lw_all := lw_g (lw_at lw_m2 29 rfl) rfl
theorem q369 : (Jvm.Cond.fieldLink "MoveNotes$State" (65 : Nat) "MoveNotes$State" "bookMany" "I") ∈ lw_all := lw_g (lw_at lw_m2 31 rfl) rfl
theorem q372 : (Jvm.Cond.fieldLink "MoveNotes$State" (68 : Nat) "MoveNotes$State" "pictureMany" "I") ∈ lw_all := lw_g (lw_at lw_m2 34 rfl) rfl
theorem q375 : (Jvm.Cond.fieldLink "MoveNotes$State" (40 : Nat) "MoveNotes$State" "length" "I") ∈ lw_all := lw_g (lw_at lw_m2 37 rfl) rfl
theorem q378 : (Jvm.Cond.laysFinal "MoveNotes$State" "MoveNotes$State" "kinds" "[LMoveNotes$Kind;") ∈ lw_all := lw_g (lw_at lw_m2 40 rfl) rfl
theorem q379 : (Jvm.Cond.soleField "MoveNotes$State" "kinds") ∈ lw_all := lw_g (lw_at lw_m2 41 rfl) rfl
theorem q380 : (Jvm.Cond.laysFinal "MoveNotes$State" "MoveNotes$State" "start" "LMoveNotes$Board;") ∈ lw_all := lw_g (lw_at lw_m2 42 rfl) rfl
theorem q381 : (Jvm.Cond.soleField "MoveNotes$State" "start") ∈ lw_all := lw_g (lw_at lw_m2 43 rfl) rfl
theorem q382 : (Jvm.Cond.laysFinal "MoveNotes$State" "MoveNotes$State" "books" "[LMoveNotes$Book;") ∈ lw_all := lw_g (lw_at lw_m2 44 rfl) rfl
theorem q383 : (Jvm.Cond.soleField "MoveNotes$State" "books") ∈ lw_all := lw_g (lw_at lw_m2 45 rfl) rfl
theorem q384 : (Jvm.Cond.laysFinal "MoveNotes$State" "MoveNotes$State" "pictures" "[LMoveNotes$Picture;") ∈ lw_all := lw_g (lw_at lw_m2 46 rfl) rfl
theorem q385 : (Jvm.Cond.soleField "MoveNotes$State" "pictures") ∈ lw_all := lw_g (lw_at lw_m2 47 rfl) rfl
theorem q386 : (Jvm.Cond.laysFinal "MoveNotes$State" "MoveNotes$State" "prices" "[I") ∈ lw_all := lw_g (lw_at lw_m2 48 rfl) rfl
theorem q387 : (Jvm.Cond.soleField "MoveNotes$State" "prices") ∈ lw_all := lw_g (lw_at lw_m2 49 rfl) rfl
theorem q388 : (Jvm.Cond.lays "MoveNotes$State" "MoveNotes$State" "measure" "LMoveNotes$Measure;") ∈ lw_all := lw_g (lw_at lw_m2 50 rfl) rfl
theorem q389 : (Jvm.Cond.soleField "MoveNotes$State" "measure") ∈ lw_all := lw_g (lw_at lw_m2 51 rfl) rfl
theorem q390 : (Jvm.Cond.lays "MoveNotes$State" "MoveNotes$State" "kindMany" "I") ∈ lw_all := lw_g (lw_at lw_m2 52 rfl) rfl
theorem q391 : (Jvm.Cond.soleField "MoveNotes$State" "kindMany") ∈ lw_all := lw_g (lw_at lw_m2 53 rfl) rfl
theorem q392 : (Jvm.Cond.lays "MoveNotes$State" "MoveNotes$State" "bookMany" "I") ∈ lw_all := lw_g (lw_at lw_m2 54 rfl) rfl
theorem q393 : (Jvm.Cond.soleField "MoveNotes$State" "bookMany") ∈ lw_all := lw_g (lw_at lw_m2 55 rfl) rfl
theorem q394 : (Jvm.Cond.lays "MoveNotes$State" "MoveNotes$State" "pictureMany" "I") ∈ lw_all := lw_g (lw_at lw_m2 56 rfl) rfl
theorem q395 : (Jvm.Cond.soleField "MoveNotes$State" "pictureMany") ∈ lw_all := lw_g (lw_at lw_m2 57 rfl) rfl
theorem q396 : (Jvm.Cond.lays "MoveNotes$State" "MoveNotes$State" "length" "I") ∈ lw_all := lw_g (lw_at lw_m2 58 rfl) rfl
theorem q397 : (Jvm.Cond.soleField "MoveNotes$State" "length") ∈ lw_all := lw_g (lw_at lw_m2 59 rfl) rfl
theorem q398 : (Jvm.Cond.superclass "MoveNotes$State" "java/lang/Object") ∈ lw_all := lw_g (lw_at lw_m2 60 rfl) rfl
theorem q809 : (Jvm.Cond.instanceMethod ({ cls := "MoveNotes$State", name := "be", desc := "(LMoveNotes$State;)V" } : Jvm.MethodName)) ∈ lw_all := lw_g (lw_at lw_m3 231 rfl) rfl
theorem q810 : (Jvm.Cond.selects "MoveNotes$State" ({ cls := "MoveNotes$State", name := "be", desc := "(LMoveNotes$State;)V" } : Jvm.MethodName) ({ cls := "MoveNotes$State", name := "be", desc := "(LMoveNotes$State;)V" } : Jvm.MethodName)) ∈ lw_all := lw_g (lw_at lw_m3 232 rfl) rfl
theorem q811 : (Jvm.Cond.code ({ cls := "MoveNotes$State", name := "be", desc := "(LMoveNotes$State;)V" } : Jvm.MethodName) prog_20_method_2_code (3 : Nat) (Option.none : Option Jvm.ClassFile.FieldType)) ∈ lw_all := lw_g (lw_at lw_m3 233 rfl) rfl
theorem q812 : (Jvm.Cond.methodLink "MoveNotes$State" (45 : Nat) ({ cls := "java/lang/System", name := "arraycopy", desc := "(Ljava/lang/Object;ILjava/lang/Object;II)V" } : Jvm.MethodName)) ∈ lw_all := lw_g (lw_at lw_m3 234 rfl) rfl
theorem q813 : (Jvm.Cond.methodLink "MoveNotes$State" (51 : Nat) ({ cls := "MoveNotes$Board", name := "be", desc := "(LMoveNotes$Board;)V" } : Jvm.MethodName)) ∈ lw_all := lw_g (lw_at lw_m3 235 rfl) rfl
theorem q814 : (Jvm.Cond.methodLink "MoveNotes$State" (55 : Nat) ({ cls := "MoveNotes$Book", name := "be", desc := "(LMoveNotes$Book;)V" } : Jvm.MethodName)) ∈ lw_all := lw_g (lw_at lw_m3 236 rfl) rfl
theorem q2079 : (Jvm.Cond.castable "MoveNotes$State" "java/lang/Object") ∈ lw_tbl := lw_at lw_m9 61 rfl
theorem in_X7 : ∀ w ∈ wsX70, w ∈ lw_all := lw_in wsX70 [378, 380, 382, 384, 386, 388, 390, 392, 394, 396] (by decide +kernel) (by decide +kernel)
/-! MoveNotes$Board -/
def RX8 : String := "MoveNotes$Board"
def TX8 : u_T := fun k => match k with
  | 0 => ("MoveNotes$Board", "kind", "[I", true)
  | _ => ("MoveNotes$Board", "side", "[I", true)
def tyX8 : Nat → FieldType := fun k => match k with
  | 0 => .array .int
  | _ => .array .int
abbrev wsX80 : List Cond := u_ws RX8 TX8 2
theorem nmX8 : ∀ a, a < 2 → ∀ b, b < 2 → a ≠ b → (TX8 a).2.1 ≠ (TX8 b).2.1 := by decide +kernel
theorem tyX8_ok : ∀ k, k < 2 → parseFieldDescriptor (TX8 k).2.2.1 = some (tyX8 k) := by decide +kernel
abbrev cX8_init : ByteArray := prog_4_method_1_code
def yX8_init : MethodName := ⟨RX8, "<init>", "()V"⟩
abbrev cX8_be : ByteArray := prog_4_method_2_code
def yX8_be : MethodName := ⟨RX8, "be", "(LMoveNotes$Board;)V"⟩
abbrev cX8_goes : ByteArray := prog_4_method_3_code
def yX8_goes : MethodName := ⟨RX8, "goes", "(I)I"⟩
abbrev cX8_men : ByteArray := prog_4_method_5_code
def yX8_men : MethodName := ⟨RX8, "men", "(I)I"⟩
abbrev cX8_comes : ByteArray := prog_4_method_4_code
def yX8_comes : MethodName := ⟨RX8, "comes", "(II)V"⟩
theorem q109 : (Jvm.Cond.initialized "MoveNotes$Board") ∈ lw_all := lw_g (lw_at lw_m1 11 rfl) rfl
theorem q297 : (Jvm.Cond.instantiable "MoveNotes$Board" (2 : Nat)) ∈ lw_all := lw_g (lw_at lw_m1 199 rfl) rfl
theorem q299 : (Jvm.Cond.instanceMethod ({ cls := "MoveNotes$Board", name := "<init>", desc := "()V" } : Jvm.MethodName)) ∈ lw_all := lw_g (lw_at lw_m1 201 rfl) rfl
theorem q300 : (Jvm.Cond.code ({ cls := "MoveNotes$Board", name := "<init>", desc := "()V" } : Jvm.MethodName) prog_4_method_1_code (2 : Nat) (Option.none : Option Jvm.ClassFile.FieldType)) ∈ lw_all := lw_g (lw_at lw_m1 202 rfl) rfl
theorem q301 : (Jvm.Cond.methodLink "MoveNotes$Board" (3 : Nat) ({ cls := "java/lang/Object", name := "<init>", desc := "()V" } : Jvm.MethodName)) ∈ lw_all := lw_g (lw_at lw_m1 203 rfl) rfl
theorem q302 : (Jvm.Cond.fieldLink "MoveNotes$Board" (9 : Nat) "MoveNotes$Board" "kind" "[I") ∈ lw_all := lw_g (lw_at lw_m1 204 rfl) rfl
theorem q309 : (Jvm.Cond.fieldLink "MoveNotes$Board" (15 : Nat) "MoveNotes$Board" "side" "[I") ∈ lw_all := lw_g (lw_at lw_m1 211 rfl) rfl
theorem q316 : (Jvm.Cond.laysFinal "MoveNotes$Board" "MoveNotes$Board" "kind" "[I") ∈ lw_all := lw_g (lw_at lw_m1 218 rfl) rfl
theorem q317 : (Jvm.Cond.soleField "MoveNotes$Board" "kind") ∈ lw_all := lw_g (lw_at lw_m1 219 rfl) rfl
theorem q318 : (Jvm.Cond.laysFinal "MoveNotes$Board" "MoveNotes$Board" "side" "[I") ∈ lw_all := lw_g (lw_at lw_m1 220 rfl) rfl
theorem q319 : (Jvm.Cond.soleField "MoveNotes$Board" "side") ∈ lw_all := lw_g (lw_at lw_m1 221 rfl) rfl
theorem q320 : (Jvm.Cond.superclass "MoveNotes$Board" "java/lang/Object") ∈ lw_all := lw_g (lw_at lw_m1 222 rfl) rfl
theorem q617 : (Jvm.Cond.instanceMethod ({ cls := "MoveNotes$Board", name := "be", desc := "(LMoveNotes$Board;)V" } : Jvm.MethodName)) ∈ lw_all := lw_g (lw_at lw_m3 39 rfl) rfl
theorem q618 : (Jvm.Cond.selects "MoveNotes$Board" ({ cls := "MoveNotes$Board", name := "be", desc := "(LMoveNotes$Board;)V" } : Jvm.MethodName) ({ cls := "MoveNotes$Board", name := "be", desc := "(LMoveNotes$Board;)V" } : Jvm.MethodName)) ∈ lw_all := lw_g (lw_at lw_m3 40 rfl) rfl
theorem q619 : (Jvm.Cond.code ({ cls := "MoveNotes$Board", name := "be", desc := "(LMoveNotes$Board;)V" } : Jvm.MethodName) prog_4_method_2_code (2 : Nat) (Option.none : Option Jvm.ClassFile.FieldType)) ∈ lw_all := lw_g (lw_at lw_m3 41 rfl) rfl
theorem q620 : (Jvm.Cond.methodLink "MoveNotes$Board" (18 : Nat) ({ cls := "java/lang/System", name := "arraycopy", desc := "(Ljava/lang/Object;ILjava/lang/Object;II)V" } : Jvm.MethodName)) ∈ lw_all := lw_g (lw_at lw_m3 42 rfl) rfl
theorem q660 : (Jvm.Cond.instanceMethod ({ cls := "MoveNotes$Board", name := "goes", desc := "(I)I" } : Jvm.MethodName)) ∈ lw_all := lw_g (lw_at lw_m3 82 rfl) rfl
theorem q661 : (Jvm.Cond.selects "MoveNotes$Board" ({ cls := "MoveNotes$Board", name := "goes", desc := "(I)I" } : Jvm.MethodName) ({ cls := "MoveNotes$Board", name := "goes", desc := "(I)I" } : Jvm.MethodName)) ∈ lw_all := lw_g (lw_at lw_m3 83 rfl) rfl
theorem q662 : (Jvm.Cond.code ({ cls := "MoveNotes$Board", name := "goes", desc := "(I)I" } : Jvm.MethodName) prog_4_method_3_code (5 : Nat) (Option.some Jvm.ClassFile.FieldType.int)) ∈ lw_all := lw_g (lw_at lw_m3 84 rfl) rfl
theorem q664 : (Jvm.Cond.instanceMethod ({ cls := "MoveNotes$Board", name := "men", desc := "(I)I" } : Jvm.MethodName)) ∈ lw_all := lw_g (lw_at lw_m3 86 rfl) rfl
theorem q665 : (Jvm.Cond.selects "MoveNotes$Board" ({ cls := "MoveNotes$Board", name := "men", desc := "(I)I" } : Jvm.MethodName) ({ cls := "MoveNotes$Board", name := "men", desc := "(I)I" } : Jvm.MethodName)) ∈ lw_all := lw_g (lw_at lw_m3 87 rfl) rfl
theorem q666 : (Jvm.Cond.code ({ cls := "MoveNotes$Board", name := "men", desc := "(I)I" } : Jvm.MethodName) prog_4_method_5_code (4 : Nat) (Option.some Jvm.ClassFile.FieldType.int)) ∈ lw_all := lw_g (lw_at lw_m3 88 rfl) rfl
theorem q784 : (Jvm.Cond.instanceMethod ({ cls := "MoveNotes$Board", name := "comes", desc := "(II)V" } : Jvm.MethodName)) ∈ lw_all := lw_g (lw_at lw_m3 206 rfl) rfl
theorem q785 : (Jvm.Cond.selects "MoveNotes$Board" ({ cls := "MoveNotes$Board", name := "comes", desc := "(II)V" } : Jvm.MethodName) ({ cls := "MoveNotes$Board", name := "comes", desc := "(II)V" } : Jvm.MethodName)) ∈ lw_all := lw_g (lw_at lw_m3 207 rfl) rfl
theorem q786 : (Jvm.Cond.code ({ cls := "MoveNotes$Board", name := "comes", desc := "(II)V" } : Jvm.MethodName) prog_4_method_4_code (5 : Nat) (Option.none : Option Jvm.ClassFile.FieldType)) ∈ lw_all := lw_g (lw_at lw_m3 208 rfl) rfl
theorem q2080 : (Jvm.Cond.castable "MoveNotes$Board" "java/lang/Object") ∈ lw_tbl := lw_at lw_m9 62 rfl
theorem in_X8 : ∀ w ∈ wsX80, w ∈ lw_all := lw_in wsX80 [316, 318] (by decide +kernel) (by decide +kernel)
/-! MoveNotes$Book -/
def RX9 : String := "MoveNotes$Book"
def TX9 : u_T := fun k => match k with
  | 0 => ("MoveNotes$Book", "notes", "[LMoveNotes$Note;", true)
  | 1 => ("MoveNotes$Book", "way", "I", false)
  | _ => ("MoveNotes$Book", "many", "I", false)
def tyX9 : Nat → FieldType := fun k => match k with
  | 0 => .array (.object "MoveNotes$Note")
  | 1 => .int
  | _ => .int
abbrev wsX90 : List Cond := u_ws RX9 TX9 3
theorem nmX9 : ∀ a, a < 3 → ∀ b, b < 3 → a ≠ b → (TX9 a).2.1 ≠ (TX9 b).2.1 := by decide +kernel
theorem tyX9_ok : ∀ k, k < 3 → parseFieldDescriptor (TX9 k).2.2.1 = some (tyX9 k) := by decide +kernel
abbrev cX9_init : ByteArray := prog_5_method_1_code
def yX9_init : MethodName := ⟨RX9, "<init>", "()V"⟩
abbrev cX9_isTwice : ByteArray := prog_5_method_3_code
def yX9_isTwice : MethodName := ⟨RX9, "isTwice", "(I)Z"⟩
abbrev cX9_be : ByteArray := prog_5_method_2_code
def yX9_be : MethodName := ⟨RX9, "be", "(LMoveNotes$Book;)V"⟩
theorem q110 : (Jvm.Cond.initialized "MoveNotes$Book") ∈ lw_all := lw_g (lw_at lw_m1 12 rfl) rfl
theorem q326 : (Jvm.Cond.instantiable "MoveNotes$Book" (3 : Nat)) ∈ lw_all := lw_g (lw_at lw_m1 228 rfl) rfl
theorem q328 : (Jvm.Cond.instanceMethod ({ cls := "MoveNotes$Book", name := "<init>", desc := "()V" } : Jvm.MethodName)) ∈ lw_all := lw_g (lw_at lw_m1 230 rfl) rfl
theorem q329 : (Jvm.Cond.code ({ cls := "MoveNotes$Book", name := "<init>", desc := "()V" } : Jvm.MethodName) prog_5_method_1_code (1 : Nat) (Option.none : Option Jvm.ClassFile.FieldType)) ∈ lw_all := lw_g (lw_at lw_m1 231 rfl) rfl
theorem q330 : (Jvm.Cond.methodLink "MoveNotes$Book" (3 : Nat) ({ cls := "java/lang/Object", name := "<init>", desc := "()V" } : Jvm.MethodName)) ∈ lw_all := lw_g (lw_at lw_m1 232 rfl) rfl
theorem q331 : (Jvm.Cond.classLink "MoveNotes$Book" (9 : Nat) "MoveNotes$Note") ∈ lw_all := lw_g (lw_at lw_m1 233 rfl) rfl
theorem q333 : (Jvm.Cond.fieldLink "MoveNotes$Book" (11 : Nat) "MoveNotes$Book" "notes" "[LMoveNotes$Note;") ∈ lw_all := lw_g (lw_at lw_m1 235 rfl) rfl
theorem q336 : (Jvm.Cond.fieldLink "MoveNotes$Book" (23 : Nat) "MoveNotes$Book" "way" "I") ∈ lw_all := lw_g (lw_at lw_m1 238 rfl) rfl
theorem q339 : (Jvm.Cond.fieldLink "MoveNotes$Book" (27 : Nat) "MoveNotes$Book" "many" "I") ∈ lw_all := lw_g (lw_at lw_m2 1 rfl) rfl
theorem q342 : (Jvm.Cond.laysFinal "MoveNotes$Book" "MoveNotes$Book" "notes" "[LMoveNotes$Note;") ∈ lw_all := lw_g (lw_at lw_m2 4 rfl) rfl
theorem q343 : (Jvm.Cond.soleField "MoveNotes$Book" "notes") ∈ lw_all := lw_g (lw_at lw_m2 5 rfl) rfl
theorem q344 : (Jvm.Cond.lays "MoveNotes$Book" "MoveNotes$Book" "way" "I") ∈ lw_all := lw_g (lw_at lw_m2 6 rfl) rfl
theorem q345 : (Jvm.Cond.soleField "MoveNotes$Book" "way") ∈ lw_all := lw_g (lw_at lw_m2 7 rfl) rfl
theorem q346 : (Jvm.Cond.lays "MoveNotes$Book" "MoveNotes$Book" "many" "I") ∈ lw_all := lw_g (lw_at lw_m2 8 rfl) rfl
theorem q347 : (Jvm.Cond.soleField "MoveNotes$Book" "many") ∈ lw_all := lw_g (lw_at lw_m2 9 rfl) rfl
theorem q348 : (Jvm.Cond.superclass "MoveNotes$Book" "java/lang/Object") ∈ lw_all := lw_g (lw_at lw_m2 10 rfl) rfl
theorem q772 : (Jvm.Cond.instanceMethod ({ cls := "MoveNotes$Book", name := "isTwice", desc := "(I)Z" } : Jvm.MethodName)) ∈ lw_all := lw_g (lw_at lw_m3 194 rfl) rfl
theorem q773 : (Jvm.Cond.selects "MoveNotes$Book" ({ cls := "MoveNotes$Book", name := "isTwice", desc := "(I)Z" } : Jvm.MethodName) ({ cls := "MoveNotes$Book", name := "isTwice", desc := "(I)Z" } : Jvm.MethodName)) ∈ lw_all := lw_g (lw_at lw_m3 195 rfl) rfl
theorem q774 : (Jvm.Cond.code ({ cls := "MoveNotes$Book", name := "isTwice", desc := "(I)Z" } : Jvm.MethodName) prog_5_method_3_code (2 : Nat) (Option.some Jvm.ClassFile.FieldType.boolean)) ∈ lw_all := lw_g (lw_at lw_m3 196 rfl) rfl
theorem q775 : (Jvm.Cond.methodLink "MoveNotes$Book" (30 : Nat) ({ cls := "MoveNotes$Note", name := "isLike", desc := "(LMoveNotes$Note;)Z" } : Jvm.MethodName)) ∈ lw_all := lw_g (lw_at lw_m3 197 rfl) rfl
theorem q815 : (Jvm.Cond.instanceMethod ({ cls := "MoveNotes$Book", name := "be", desc := "(LMoveNotes$Book;)V" } : Jvm.MethodName)) ∈ lw_all := lw_g (lw_at lw_m3 237 rfl) rfl
theorem q816 : (Jvm.Cond.selects "MoveNotes$Book" ({ cls := "MoveNotes$Book", name := "be", desc := "(LMoveNotes$Book;)V" } : Jvm.MethodName) ({ cls := "MoveNotes$Book", name := "be", desc := "(LMoveNotes$Book;)V" } : Jvm.MethodName)) ∈ lw_all := lw_g (lw_at lw_m3 238 rfl) rfl
theorem q817 : (Jvm.Cond.code ({ cls := "MoveNotes$Book", name := "be", desc := "(LMoveNotes$Book;)V" } : Jvm.MethodName) prog_5_method_2_code (2 : Nat) (Option.none : Option Jvm.ClassFile.FieldType)) ∈ lw_all := lw_g (lw_at lw_m3 239 rfl) rfl
theorem q818 : (Jvm.Cond.methodLink "MoveNotes$Book" (17 : Nat) ({ cls := "java/lang/System", name := "arraycopy", desc := "(Ljava/lang/Object;ILjava/lang/Object;II)V" } : Jvm.MethodName)) ∈ lw_all := lw_g (lw_at lw_m4 0 rfl) rfl
theorem q2081 : (Jvm.Cond.castable "MoveNotes$Book" "java/lang/Object") ∈ lw_tbl := lw_at lw_m9 63 rfl
theorem in_X9 : ∀ w ∈ wsX90, w ∈ lw_all := lw_in wsX90 [342, 344, 346] (by decide +kernel) (by decide +kernel)
/-! MoveNotes$Search -/
def RX10 : String := "MoveNotes$Search"
def TX10 : u_T := fun k => match k with
  | 0 => ("MoveNotes$Search", "s", "LMoveNotes$State;", true)
  | 1 => ("MoveNotes$Search", "board", "LMoveNotes$Board;", true)
  | 2 => ("MoveNotes$Search", "to", "[Z", true)
  | 3 => ("MoveNotes$Search", "moves", "[[I", true)
  | 4 => ("MoveNotes$Search", "rows", "[[[I", true)
  | 5 => ("MoveNotes$Search", "path", "[I", true)
  | 6 => ("MoveNotes$Search", "first", "[I", true)
  | 7 => ("MoveNotes$Search", "second", "[I", true)
  | 8 => ("MoveNotes$Search", "best", "[I", true)
  | 9 => ("MoveNotes$Search", "prices", "[I", true)
  | 10 => ("MoveNotes$Search", "facts", "[I", true)
  | 11 => ("MoveNotes$Search", "play", "LMoveNotes$Board;", true)
  | 12 => ("MoveNotes$Search", "books", "I", false)
  | 13 => ("MoveNotes$Search", "laid", "I", false)
  | 14 => ("MoveNotes$Search", "least", "I", false)
  | 15 => ("MoveNotes$Search", "many", "I", false)
  | 16 => ("MoveNotes$Search", "firstMany", "I", false)
  | 17 => ("MoveNotes$Search", "secondMany", "I", false)
  | 18 => ("MoveNotes$Search", "bestMany", "I", false)
  | 19 => ("MoveNotes$Search", "bestPlayed", "I", false)
  | 20 => ("MoveNotes$Search", "deepest", "I", false)
  | 21 => ("MoveNotes$Search", "asked", "I", false)
  | 22 => ("MoveNotes$Search", "limit", "I", false)
  | 23 => ("MoveNotes$Search", "like", "J", false)
  | 24 => ("MoveNotes$Search", "all", "J", false)
  | 25 => ("MoveNotes$Search", "weight", "J", false)
  | 26 => ("MoveNotes$Search", "spent", "Z", false)
  | 27 => ("MoveNotes$Search", "plain", "Z", false)
  | 28 => ("MoveNotes$Search", "weighs", "Z", false)
  | _ => ("MoveNotes$Search", "plays", "Z", false)
def tyX10 : Nat → FieldType := fun k => match k with
  | 0 => .object "MoveNotes$State"
  | 1 => .object "MoveNotes$Board"
  | 2 => .array .boolean
  | 3 => .array (.array .int)
  | 4 => .array (.array (.array .int))
  | 5 => .array .int
  | 6 => .array .int
  | 7 => .array .int
  | 8 => .array .int
  | 9 => .array .int
  | 10 => .array .int
  | 11 => .object "MoveNotes$Board"
  | 12 => .int
  | 13 => .int
  | 14 => .int
  | 15 => .int
  | 16 => .int
  | 17 => .int
  | 18 => .int
  | 19 => .int
  | 20 => .int
  | 21 => .int
  | 22 => .int
  | 23 => .long
  | 24 => .long
  | 25 => .long
  | 26 => .boolean
  | 27 => .boolean
  | 28 => .boolean
  | _ => .boolean
abbrev wsX100 : List Cond := u_ws RX10 TX10 30
theorem nmX10 : ∀ a, a < 30 → ∀ b, b < 30 → a ≠ b → (TX10 a).2.1 ≠ (TX10 b).2.1 := by decide +kernel
theorem tyX10_ok : ∀ k, k < 30 → parseFieldDescriptor (TX10 k).2.2.1 = some (tyX10 k) := by decide +kernel
abbrev cX10_init : ByteArray := prog_18_method_1_code
def yX10_init : MethodName := ⟨RX10, "<init>", "(LMoveNotes$State;)V"⟩
abbrev cX10_least : ByteArray := prog_18_method_12_code
def yX10_least : MethodName := ⟨RX10, "least", "(I)I"⟩
abbrev cX10_begins : ByteArray := prog_18_method_11_code
def yX10_begins : MethodName := ⟨RX10, "begins", "(IZ)V"⟩
abbrev cX10_walks : ByteArray := prog_18_method_10_code
def yX10_walks : MethodName := ⟨RX10, "walks", "(I)V"⟩
abbrev cX10_goes : ByteArray := prog_18_method_8_code
def yX10_goes : MethodName := ⟨RX10, "goes", "(I)V"⟩
abbrev cX10_bars : ByteArray := prog_18_method_6_code
def yX10_bars : MethodName := ⟨RX10, "bars", "(I)Z"⟩
abbrev cX10_isReading : ByteArray := prog_18_method_7_code
def yX10_isReading : MethodName := ⟨RX10, "isReading", "(I)Z"⟩
abbrev cX10_isIn : ByteArray := prog_18_method_5_code
def yX10_isIn : MethodName := ⟨RX10, "isIn", "(I)Z"⟩
abbrev cX10_found : ByteArray := prog_18_method_9_code
def yX10_found : MethodName := ⟨RX10, "found", "(I)V"⟩
abbrev cX10_played : ByteArray := prog_18_method_15_code
def yX10_played : MethodName := ⟨RX10, "played", "(I)I"⟩
abbrev cX10_isTaken : ByteArray := prog_18_method_16_code
def yX10_isTaken : MethodName := ⟨RX10, "isTaken", "(II)Z"⟩
abbrev cX10_gathers : ByteArray := prog_18_method_2_code
def yX10_gathers : MethodName := ⟨RX10, "gathers", "(LMoveNotes$Board;I[I)I"⟩
abbrev cX10_leads : ByteArray := prog_18_method_4_code
def yX10_leads : MethodName := ⟨RX10, "leads", "(LMoveNotes$Book;[I[IIII)I"⟩
abbrev cX10_cost : ByteArray := prog_18_method_3_code
def yX10_cost : MethodName := ⟨RX10, "cost", "(LMoveNotes$Book;IIII)I"⟩
abbrev cX10_lets : ByteArray := prog_18_method_13_code
def yX10_lets : MethodName := ⟨RX10, "lets", "(I)I"⟩
abbrev cX10_weigh : ByteArray := prog_18_method_14_code
def yX10_weigh : MethodName := ⟨RX10, "weigh", "(IIII)Z"⟩
theorem q111 : (Jvm.Cond.initialized "MoveNotes$Search") ∈ lw_all := lw_g (lw_at lw_m1 13 rfl) rfl
theorem q304 : (Jvm.Cond.fieldLinkNest "MoveNotes$Search" (58 : Nat) "MoveNotes$Board" "kind" "[I" "MoveNotes") ∈ lw_tbl := lw_at lw_m1 206 rfl
theorem q310 : (Jvm.Cond.fieldLinkNest "MoveNotes$Search" (61 : Nat) "MoveNotes$Board" "side" "[I" "MoveNotes") ∈ lw_tbl := lw_at lw_m1 212 rfl
theorem q334 : (Jvm.Cond.fieldLinkNest "MoveNotes$Search" (82 : Nat) "MoveNotes$Book" "notes" "[LMoveNotes$Note;" "MoveNotes") ∈ lw_tbl := lw_at lw_m1 236 rfl
theorem q337 : (Jvm.Cond.fieldLinkNest "MoveNotes$Search" (88 : Nat) "MoveNotes$Book" "way" "I" "MoveNotes") ∈ lw_tbl := lw_at lw_m1 239 rfl
theorem q340 : (Jvm.Cond.fieldLinkNest "MoveNotes$Search" (99 : Nat) "MoveNotes$Book" "many" "I" "MoveNotes") ∈ lw_tbl := lw_at lw_m2 2 rfl
theorem q350 : (Jvm.Cond.fieldLinkNest "MoveNotes$Search" (64 : Nat) "MoveNotes$State" "kinds" "[LMoveNotes$Kind;" "MoveNotes") ∈ lw_tbl := lw_at lw_m2 12 rfl
theorem q353 : (Jvm.Cond.fieldLinkNest "MoveNotes$Search" (234 : Nat) "MoveNotes$State" "start" "LMoveNotes$Board;" "MoveNotes") ∈ lw_tbl := lw_at lw_m2 15 rfl
theorem q356 : (Jvm.Cond.fieldLinkNest "MoveNotes$Search" (147 : Nat) "MoveNotes$State" "books" "[LMoveNotes$Book;" "MoveNotes") ∈ lw_tbl := lw_at lw_m2 18 rfl
theorem q359 : (Jvm.Cond.fieldLinkNest "MoveNotes$Search" (126 : Nat) "MoveNotes$State" "pictures" "[LMoveNotes$Picture;" "MoveNotes") ∈ lw_tbl := lw_at lw_m2 21 rfl
theorem q362 : (Jvm.Cond.fieldLinkNest "MoveNotes$Search" (241 : Nat) "MoveNotes$State" "prices" "[I" "MoveNotes") ∈ lw_tbl := lw_at lw_m2 24 rfl
theorem q365 : (Jvm.Cond.fieldLinkNest "MoveNotes$Search" (252 : Nat) "MoveNotes$State" "measure" "LMoveNotes$Measure;" "MoveNotes") ∈ lw_tbl := lw_at lw_m2 27 rfl
theorem q370 : (Jvm.Cond.fieldLinkNest "MoveNotes$Search" (141 : Nat) "MoveNotes$State" "bookMany" "I" "MoveNotes") ∈ lw_tbl := lw_at lw_m2 32 rfl
theorem q373 : (Jvm.Cond.fieldLinkNest "MoveNotes$Search" (119 : Nat) "MoveNotes$State" "pictureMany" "I" "MoveNotes") ∈ lw_tbl := lw_at lw_m2 35 rfl
theorem q376 : (Jvm.Cond.fieldLinkNest "MoveNotes$Search" (138 : Nat) "MoveNotes$State" "length" "I" "MoveNotes") ∈ lw_tbl := lw_at lw_m2 38 rfl
theorem q400 : (Jvm.Cond.instantiable "MoveNotes$Search" (30 : Nat)) ∈ lw_all := lw_g (lw_at lw_m2 62 rfl) rfl
theorem q402 : (Jvm.Cond.instanceMethod ({ cls := "MoveNotes$Search", name := "<init>", desc := "(LMoveNotes$State;)V" } : Jvm.MethodName)) ∈ lw_all := lw_g (lw_at lw_m2 64 rfl) rfl
theorem q403 : (Jvm.Cond.code ({ cls := "MoveNotes$Search", name := "<init>", desc := "(LMoveNotes$State;)V" } : Jvm.MethodName) prog_18_method_1_code (2 : Nat) (Option.none : Option Jvm.ClassFile.FieldType)) ∈ lw_all := lw_g (lw_at lw_m2 65 rfl) rfl
theorem q404 : (Jvm.Cond.methodLink "MoveNotes$Search" (3 : Nat) ({ cls := "java/lang/Object", name := "<init>", desc := "()V" } : Jvm.MethodName)) ∈ lw_all := lw_g (lw_at lw_m2 66 rfl) rfl
theorem q405 : (Jvm.Cond.classLink "MoveNotes$Search" (9 : Nat) "MoveNotes$Board") ∈ lw_all := lw_g (lw_at lw_m2 67 rfl) rfl
theorem q406 : (Jvm.Cond.methodLink "MoveNotes$Search" (11 : Nat) ({ cls := "MoveNotes$Board", name := "<init>", desc := "()V" } : Jvm.MethodName)) ∈ lw_all := lw_g (lw_at lw_m2 68 rfl) rfl
theorem q407 : (Jvm.Cond.classLink "MoveNotes$Search" (22 : Nat) "[[I") ∈ lw_all := lw_g (lw_at lw_m2 69 rfl) rfl
theorem q409 : (Jvm.Cond.classLink "MoveNotes$Search" (27 : Nat) "[[[I") ∈ lw_all := lw_g (lw_at lw_m2 71 rfl) rfl
theorem q411 : (Jvm.Cond.fieldLink "MoveNotes$Search" (54 : Nat) "MoveNotes$Search" "s" "LMoveNotes$State;") ∈ lw_all := lw_g (lw_at lw_m2 73 rfl) rfl
theorem q412 : (Jvm.Cond.fieldLink "MoveNotes$Search" (12 : Nat) "MoveNotes$Search" "board" "LMoveNotes$Board;") ∈ lw_all := lw_g (lw_at lw_m2 74 rfl) rfl
theorem q413 : (Jvm.Cond.fieldLink "MoveNotes$Search" (18 : Nat) "MoveNotes$Search" "to" "[Z") ∈ lw_all := lw_g (lw_at lw_m2 75 rfl) rfl
theorem q414 : (Jvm.Cond.fieldLink "MoveNotes$Search" (24 : Nat) "MoveNotes$Search" "moves" "[[I") ∈ lw_all := lw_g (lw_at lw_m2 76 rfl) rfl
theorem q415 : (Jvm.Cond.fieldLink "MoveNotes$Search" (29 : Nat) "MoveNotes$Search" "rows" "[[[I") ∈ lw_all := lw_g (lw_at lw_m2 77 rfl) rfl
theorem q416 : (Jvm.Cond.fieldLink "MoveNotes$Search" (32 : Nat) "MoveNotes$Search" "path" "[I") ∈ lw_all := lw_g (lw_at lw_m2 78 rfl) rfl
theorem q417 : (Jvm.Cond.fieldLink "MoveNotes$Search" (36 : Nat) "MoveNotes$Search" "first" "[I") ∈ lw_all := lw_g (lw_at lw_m2 79 rfl) rfl
theorem q419 : (Jvm.Cond.fieldLink "MoveNotes$Search" (39 : Nat) "MoveNotes$Search" "second" "[I") ∈ lw_all := lw_g (lw_at lw_m2 81 rfl) rfl
theorem q421 : (Jvm.Cond.fieldLink "MoveNotes$Search" (42 : Nat) "MoveNotes$Search" "best" "[I") ∈ lw_all := lw_g (lw_at lw_m2 83 rfl) rfl
theorem q423 : (Jvm.Cond.fieldLink "MoveNotes$Search" (45 : Nat) "MoveNotes$Search" "prices" "[I") ∈ lw_all := lw_g (lw_at lw_m2 85 rfl) rfl
theorem q424 : (Jvm.Cond.fieldLink "MoveNotes$Search" (48 : Nat) "MoveNotes$Search" "facts" "[I") ∈ lw_all := lw_g (lw_at lw_m2 86 rfl) rfl
theorem q425 : (Jvm.Cond.fieldLink "MoveNotes$Search" (51 : Nat) "MoveNotes$Search" "play" "LMoveNotes$Board;") ∈ lw_all := lw_g (lw_at lw_m2 87 rfl) rfl
theorem q426 : (Jvm.Cond.fieldLink "MoveNotes$Search" (116 : Nat) "MoveNotes$Search" "books" "I") ∈ lw_all := lw_g (lw_at lw_m2 88 rfl) rfl
theorem q427 : (Jvm.Cond.fieldLink "MoveNotes$Search" (153 : Nat) "MoveNotes$Search" "laid" "I") ∈ lw_all := lw_g (lw_at lw_m2 89 rfl) rfl
theorem q429 : (Jvm.Cond.fieldLink "MoveNotes$Search" (249 : Nat) "MoveNotes$Search" "least" "I") ∈ lw_all := lw_g (lw_at lw_m2 91 rfl) rfl
theorem q430 : (Jvm.Cond.fieldLink "MoveNotes$Search" (209 : Nat) "MoveNotes$Search" "many" "I") ∈ lw_all := lw_g (lw_at lw_m2 92 rfl) rfl
theorem q432 : (Jvm.Cond.fieldLink "MoveNotes$Search" (216 : Nat) "MoveNotes$Search" "firstMany" "I") ∈ lw_all := lw_g (lw_at lw_m2 94 rfl) rfl
theorem q434 : (Jvm.Cond.fieldLink "MoveNotes$Search" (219 : Nat) "MoveNotes$Search" "secondMany" "I") ∈ lw_all := lw_g (lw_at lw_m2 96 rfl) rfl
theorem q436 : (Jvm.Cond.fieldLink "MoveNotes$Search" (231 : Nat) "MoveNotes$Search" "bestMany" "I") ∈ lw_all := lw_g (lw_at lw_m2 98 rfl) rfl
theorem q438 : (Jvm.Cond.fieldLink "MoveNotes$Search" (228 : Nat) "MoveNotes$Search" "bestPlayed" "I") ∈ lw_all := lw_g (lw_at lw_m2 100 rfl) rfl
theorem q440 : (Jvm.Cond.fieldLink "MoveNotes$Search" (162 : Nat) "MoveNotes$Search" "deepest" "I") ∈ lw_all := lw_g (lw_at lw_m2 102 rfl) rfl
theorem q441 : (Jvm.Cond.fieldLink "MoveNotes$Search" (206 : Nat) "MoveNotes$Search" "asked" "I") ∈ lw_all := lw_g (lw_at lw_m2 103 rfl) rfl
theorem q442 : (Jvm.Cond.fieldLink "MoveNotes$Search" (150 : Nat) "MoveNotes$Search" "limit" "I") ∈ lw_all := lw_g (lw_at lw_m2 104 rfl) rfl
theorem q443 : (Jvm.Cond.fieldLink "MoveNotes$Search" (203 : Nat) "MoveNotes$Search" "like" "J") ∈ lw_all := lw_g (lw_at lw_m2 105 rfl) rfl
theorem q445 : (Jvm.Cond.fieldLink "MoveNotes$Search" (196 : Nat) "MoveNotes$Search" "all" "J") ∈ lw_all := lw_g (lw_at lw_m2 107 rfl) rfl
theorem q447 : (Jvm.Cond.fieldLink "MoveNotes$Search" (200 : Nat) "MoveNotes$Search" "weight" "J") ∈ lw_all := lw_g (lw_at lw_m2 109 rfl) rfl
theorem q448 : (Jvm.Cond.fieldLink "MoveNotes$Search" (156 : Nat) "MoveNotes$Search" "spent" "Z") ∈ lw_all := lw_g (lw_at lw_m2 110 rfl) rfl
theorem q449 : (Jvm.Cond.fieldLink "MoveNotes$Search" (122 : Nat) "MoveNotes$Search" "plain" "Z") ∈ lw_all := lw_g (lw_at lw_m2 111 rfl) rfl
theorem q450 : (Jvm.Cond.fieldLink "MoveNotes$Search" (193 : Nat) "MoveNotes$Search" "weighs" "Z") ∈ lw_all := lw_g (lw_at lw_m2 112 rfl) rfl
theorem q451 : (Jvm.Cond.fieldLink "MoveNotes$Search" (222 : Nat) "MoveNotes$Search" "plays" "Z") ∈ lw_all := lw_g (lw_at lw_m2 113 rfl) rfl
theorem q453 : (Jvm.Cond.laysFinal "MoveNotes$Search" "MoveNotes$Search" "s" "LMoveNotes$State;") ∈ lw_all := lw_g (lw_at lw_m2 115 rfl) rfl
theorem q454 : (Jvm.Cond.soleField "MoveNotes$Search" "s") ∈ lw_all := lw_g (lw_at lw_m2 116 rfl) rfl
theorem q455 : (Jvm.Cond.laysFinal "MoveNotes$Search" "MoveNotes$Search" "board" "LMoveNotes$Board;") ∈ lw_all := lw_g (lw_at lw_m2 117 rfl) rfl
theorem q456 : (Jvm.Cond.soleField "MoveNotes$Search" "board") ∈ lw_all := lw_g (lw_at lw_m2 118 rfl) rfl
theorem q457 : (Jvm.Cond.laysFinal "MoveNotes$Search" "MoveNotes$Search" "to" "[Z") ∈ lw_all := lw_g (lw_at lw_m2 119 rfl) rfl
theorem q458 : (Jvm.Cond.soleField "MoveNotes$Search" "to") ∈ lw_all := lw_g (lw_at lw_m2 120 rfl) rfl
theorem q459 : (Jvm.Cond.laysFinal "MoveNotes$Search" "MoveNotes$Search" "moves" "[[I") ∈ lw_all := lw_g (lw_at lw_m2 121 rfl) rfl
theorem q460 : (Jvm.Cond.soleField "MoveNotes$Search" "moves") ∈ lw_all := lw_g (lw_at lw_m2 122 rfl) rfl
theorem q461 : (Jvm.Cond.laysFinal "MoveNotes$Search" "MoveNotes$Search" "rows" "[[[I") ∈ lw_all := lw_g (lw_at lw_m2 123 rfl) rfl
theorem q462 : (Jvm.Cond.soleField "MoveNotes$Search" "rows") ∈ lw_all := lw_g (lw_at lw_m2 124 rfl) rfl
theorem q463 : (Jvm.Cond.laysFinal "MoveNotes$Search" "MoveNotes$Search" "path" "[I") ∈ lw_all := lw_g (lw_at lw_m2 125 rfl) rfl
theorem q464 : (Jvm.Cond.soleField "MoveNotes$Search" "path") ∈ lw_all := lw_g (lw_at lw_m2 126 rfl) rfl
theorem q465 : (Jvm.Cond.laysFinal "MoveNotes$Search" "MoveNotes$Search" "first" "[I") ∈ lw_all := lw_g (lw_at lw_m2 127 rfl) rfl
theorem q466 : (Jvm.Cond.soleField "MoveNotes$Search" "first") ∈ lw_all := lw_g (lw_at lw_m2 128 rfl) rfl
theorem q467 : (Jvm.Cond.laysFinal "MoveNotes$Search" "MoveNotes$Search" "second" "[I") ∈ lw_all := lw_g (lw_at lw_m2 129 rfl) rfl
theorem q468 : (Jvm.Cond.soleField "MoveNotes$Search" "second") ∈ lw_all := lw_g (lw_at lw_m2 130 rfl) rfl
theorem q469 : (Jvm.Cond.laysFinal "MoveNotes$Search" "MoveNotes$Search" "best" "[I") ∈ lw_all := lw_g (lw_at lw_m2 131 rfl) rfl
theorem q470 : (Jvm.Cond.soleField "MoveNotes$Search" "best") ∈ lw_all := lw_g (lw_at lw_m2 132 rfl) rfl
theorem q471 : (Jvm.Cond.laysFinal "MoveNotes$Search" "MoveNotes$Search" "prices" "[I") ∈ lw_all := lw_g (lw_at lw_m2 133 rfl) rfl
theorem q472 : (Jvm.Cond.soleField "MoveNotes$Search" "prices") ∈ lw_all := lw_g (lw_at lw_m2 134 rfl) rfl
theorem q473 : (Jvm.Cond.laysFinal "MoveNotes$Search" "MoveNotes$Search" "facts" "[I") ∈ lw_all := lw_g (lw_at lw_m2 135 rfl) rfl
theorem q474 : (Jvm.Cond.soleField "MoveNotes$Search" "facts") ∈ lw_all := lw_g (lw_at lw_m2 136 rfl) rfl
theorem q475 : (Jvm.Cond.laysFinal "MoveNotes$Search" "MoveNotes$Search" "play" "LMoveNotes$Board;") ∈ lw_all := lw_g (lw_at lw_m2 137 rfl) rfl
theorem q476 : (Jvm.Cond.soleField "MoveNotes$Search" "play") ∈ lw_all := lw_g (lw_at lw_m2 138 rfl) rfl
theorem q477 : (Jvm.Cond.lays "MoveNotes$Search" "MoveNotes$Search" "books" "I") ∈ lw_all := lw_g (lw_at lw_m2 139 rfl) rfl
theorem q478 : (Jvm.Cond.soleField "MoveNotes$Search" "books") ∈ lw_all := lw_g (lw_at lw_m2 140 rfl) rfl
theorem q479 : (Jvm.Cond.lays "MoveNotes$Search" "MoveNotes$Search" "laid" "I") ∈ lw_all := lw_g (lw_at lw_m2 141 rfl) rfl
theorem q480 : (Jvm.Cond.soleField "MoveNotes$Search" "laid") ∈ lw_all := lw_g (lw_at lw_m2 142 rfl) rfl
theorem q481 : (Jvm.Cond.lays "MoveNotes$Search" "MoveNotes$Search" "least" "I") ∈ lw_all := lw_g (lw_at lw_m2 143 rfl) rfl
theorem q482 : (Jvm.Cond.soleField "MoveNotes$Search" "least") ∈ lw_all := lw_g (lw_at lw_m2 144 rfl) rfl
theorem q483 : (Jvm.Cond.lays "MoveNotes$Search" "MoveNotes$Search" "many" "I") ∈ lw_all := lw_g (lw_at lw_m2 145 rfl) rfl
theorem q484 : (Jvm.Cond.soleField "MoveNotes$Search" "many") ∈ lw_all := lw_g (lw_at lw_m2 146 rfl) rfl
theorem q485 : (Jvm.Cond.lays "MoveNotes$Search" "MoveNotes$Search" "firstMany" "I") ∈ lw_all := lw_g (lw_at lw_m2 147 rfl) rfl
theorem q486 : (Jvm.Cond.soleField "MoveNotes$Search" "firstMany") ∈ lw_all := lw_g (lw_at lw_m2 148 rfl) rfl
theorem q487 : (Jvm.Cond.lays "MoveNotes$Search" "MoveNotes$Search" "secondMany" "I") ∈ lw_all := lw_g (lw_at lw_m2 149 rfl) rfl
theorem q488 : (Jvm.Cond.soleField "MoveNotes$Search" "secondMany") ∈ lw_all := lw_g (lw_at lw_m2 150 rfl) rfl
theorem q489 : (Jvm.Cond.lays "MoveNotes$Search" "MoveNotes$Search" "bestMany" "I") ∈ lw_all := lw_g (lw_at lw_m2 151 rfl) rfl
theorem q490 : (Jvm.Cond.soleField "MoveNotes$Search" "bestMany") ∈ lw_all := lw_g (lw_at lw_m2 152 rfl) rfl
theorem q491 : (Jvm.Cond.lays "MoveNotes$Search" "MoveNotes$Search" "bestPlayed" "I") ∈ lw_all := lw_g (lw_at lw_m2 153 rfl) rfl
theorem q492 : (Jvm.Cond.soleField "MoveNotes$Search" "bestPlayed") ∈ lw_all := lw_g (lw_at lw_m2 154 rfl) rfl
theorem q493 : (Jvm.Cond.lays "MoveNotes$Search" "MoveNotes$Search" "deepest" "I") ∈ lw_all := lw_g (lw_at lw_m2 155 rfl) rfl
theorem q494 : (Jvm.Cond.soleField "MoveNotes$Search" "deepest") ∈ lw_all := lw_g (lw_at lw_m2 156 rfl) rfl
theorem q495 : (Jvm.Cond.lays "MoveNotes$Search" "MoveNotes$Search" "asked" "I") ∈ lw_all := lw_g (lw_at lw_m2 157 rfl) rfl
theorem q496 : (Jvm.Cond.soleField "MoveNotes$Search" "asked") ∈ lw_all := lw_g (lw_at lw_m2 158 rfl) rfl
theorem q497 : (Jvm.Cond.lays "MoveNotes$Search" "MoveNotes$Search" "limit" "I") ∈ lw_all := lw_g (lw_at lw_m2 159 rfl) rfl
theorem q498 : (Jvm.Cond.soleField "MoveNotes$Search" "limit") ∈ lw_all := lw_g (lw_at lw_m2 160 rfl) rfl
theorem q499 : (Jvm.Cond.lays "MoveNotes$Search" "MoveNotes$Search" "like" "J") ∈ lw_all := lw_g (lw_at lw_m2 161 rfl) rfl
theorem q500 : (Jvm.Cond.soleField "MoveNotes$Search" "like") ∈ lw_all := lw_g (lw_at lw_m2 162 rfl) rfl
theorem q501 : (Jvm.Cond.lays "MoveNotes$Search" "MoveNotes$Search" "all" "J") ∈ lw_all := lw_g (lw_at lw_m2 163 rfl) rfl
theorem q502 : (Jvm.Cond.soleField "MoveNotes$Search" "all") ∈ lw_all := lw_g (lw_at lw_m2 164 rfl) rfl
theorem q503 : (Jvm.Cond.lays "MoveNotes$Search" "MoveNotes$Search" "weight" "J") ∈ lw_all := lw_g (lw_at lw_m2 165 rfl) rfl
theorem q504 : (Jvm.Cond.soleField "MoveNotes$Search" "weight") ∈ lw_all := lw_g (lw_at lw_m2 166 rfl) rfl
theorem q505 : (Jvm.Cond.lays "MoveNotes$Search" "MoveNotes$Search" "spent" "Z") ∈ lw_all := lw_g (lw_at lw_m2 167 rfl) rfl
theorem q506 : (Jvm.Cond.soleField "MoveNotes$Search" "spent") ∈ lw_all := lw_g (lw_at lw_m2 168 rfl) rfl
theorem q507 : (Jvm.Cond.lays "MoveNotes$Search" "MoveNotes$Search" "plain" "Z") ∈ lw_all := lw_g (lw_at lw_m2 169 rfl) rfl
theorem q508 : (Jvm.Cond.soleField "MoveNotes$Search" "plain") ∈ lw_all := lw_g (lw_at lw_m2 170 rfl) rfl
theorem q509 : (Jvm.Cond.lays "MoveNotes$Search" "MoveNotes$Search" "weighs" "Z") ∈ lw_all := lw_g (lw_at lw_m2 171 rfl) rfl
theorem q510 : (Jvm.Cond.soleField "MoveNotes$Search" "weighs") ∈ lw_all := lw_g (lw_at lw_m2 172 rfl) rfl
theorem q511 : (Jvm.Cond.lays "MoveNotes$Search" "MoveNotes$Search" "plays" "Z") ∈ lw_all := lw_g (lw_at lw_m2 173 rfl) rfl
theorem q512 : (Jvm.Cond.soleField "MoveNotes$Search" "plays") ∈ lw_all := lw_g (lw_at lw_m2 174 rfl) rfl
theorem q513 : (Jvm.Cond.superclass "MoveNotes$Search" "java/lang/Object") ∈ lw_all := lw_g (lw_at lw_m2 175 rfl) rfl
theorem q605 : (Jvm.Cond.instanceMethod ({ cls := "MoveNotes$Search", name := "least", desc := "(I)I" } : Jvm.MethodName)) ∈ lw_all := lw_g (lw_at lw_m3 27 rfl) rfl
theorem q606 : (Jvm.Cond.selects "MoveNotes$Search" ({ cls := "MoveNotes$Search", name := "least", desc := "(I)I" } : Jvm.MethodName) ({ cls := "MoveNotes$Search", name := "least", desc := "(I)I" } : Jvm.MethodName)) ∈ lw_all := lw_g (lw_at lw_m3 28 rfl) rfl
theorem q607 : (Jvm.Cond.code ({ cls := "MoveNotes$Search", name := "least", desc := "(I)I" } : Jvm.MethodName) prog_18_method_12_code (3 : Nat) (Option.some Jvm.ClassFile.FieldType.int)) ∈ lw_all := lw_g (lw_at lw_m3 29 rfl) rfl
theorem q608 : (Jvm.Cond.methodLink "MoveNotes$Search" (242 : Nat) ({ cls := "MoveNotes$Search", name := "begins", desc := "(IZ)V" } : Jvm.MethodName)) ∈ lw_all := lw_g (lw_at lw_m3 30 rfl) rfl
theorem q609 : (Jvm.Cond.privateMethod ({ cls := "MoveNotes$Search", name := "begins", desc := "(IZ)V" } : Jvm.MethodName)) ∈ lw_tbl := lw_at lw_m3 31 rfl
theorem q610 : (Jvm.Cond.instanceMethod ({ cls := "MoveNotes$Search", name := "begins", desc := "(IZ)V" } : Jvm.MethodName)) ∈ lw_all := lw_g (lw_at lw_m3 32 rfl) rfl
theorem q611 : (Jvm.Cond.code ({ cls := "MoveNotes$Search", name := "begins", desc := "(IZ)V" } : Jvm.MethodName) prog_18_method_11_code (4 : Nat) (Option.none : Option Jvm.ClassFile.FieldType)) ∈ lw_all := lw_g (lw_at lw_m3 33 rfl) rfl
theorem q612 : (Jvm.Cond.methodLink "MoveNotes$Search" (246 : Nat) ({ cls := "MoveNotes$Search", name := "walks", desc := "(I)V" } : Jvm.MethodName)) ∈ lw_all := lw_g (lw_at lw_m3 34 rfl) rfl
theorem q613 : (Jvm.Cond.privateMethod ({ cls := "MoveNotes$Search", name := "walks", desc := "(I)V" } : Jvm.MethodName)) ∈ lw_tbl := lw_at lw_m3 35 rfl
theorem q614 : (Jvm.Cond.instanceMethod ({ cls := "MoveNotes$Search", name := "walks", desc := "(I)V" } : Jvm.MethodName)) ∈ lw_all := lw_g (lw_at lw_m3 36 rfl) rfl
theorem q615 : (Jvm.Cond.code ({ cls := "MoveNotes$Search", name := "walks", desc := "(I)V" } : Jvm.MethodName) prog_18_method_10_code (4 : Nat) (Option.none : Option Jvm.ClassFile.FieldType)) ∈ lw_all := lw_g (lw_at lw_m3 37 rfl) rfl
theorem q616 : (Jvm.Cond.methodLink "MoveNotes$Search" (237 : Nat) ({ cls := "MoveNotes$Board", name := "be", desc := "(LMoveNotes$Board;)V" } : Jvm.MethodName)) ∈ lw_all := lw_g (lw_at lw_m3 38 rfl) rfl
theorem q623 : (Jvm.Cond.constant "MoveNotes$Search" (98 : Nat) (1000000 : Int32)) ∈ lw_all := lw_g (lw_at lw_m3 45 rfl) rfl
theorem q624 : (Jvm.Cond.methodLink "MoveNotes$Search" (187 : Nat) ({ cls := "MoveNotes$Search", name := "goes", desc := "(I)V" } : Jvm.MethodName)) ∈ lw_all := lw_g (lw_at lw_m3 46 rfl) rfl
theorem q625 : (Jvm.Cond.privateMethod ({ cls := "MoveNotes$Search", name := "goes", desc := "(I)V" } : Jvm.MethodName)) ∈ lw_tbl := lw_at lw_m3 47 rfl
theorem q626 : (Jvm.Cond.instanceMethod ({ cls := "MoveNotes$Search", name := "goes", desc := "(I)V" } : Jvm.MethodName)) ∈ lw_all := lw_g (lw_at lw_m3 48 rfl) rfl
theorem q627 : (Jvm.Cond.code ({ cls := "MoveNotes$Search", name := "goes", desc := "(I)V" } : Jvm.MethodName) prog_18_method_8_code (10 : Nat) (Option.none : Option Jvm.ClassFile.FieldType)) ∈ lw_all := lw_g (lw_at lw_m3 49 rfl) rfl
theorem q628 : (Jvm.Cond.methodLink "MoveNotes$Search" (159 : Nat) ({ cls := "MoveNotes$Search", name := "bars", desc := "(I)Z" } : Jvm.MethodName)) ∈ lw_all := lw_g (lw_at lw_m3 50 rfl) rfl
theorem q629 : (Jvm.Cond.privateMethod ({ cls := "MoveNotes$Search", name := "bars", desc := "(I)Z" } : Jvm.MethodName)) ∈ lw_tbl := lw_at lw_m3 51 rfl
theorem q630 : (Jvm.Cond.instanceMethod ({ cls := "MoveNotes$Search", name := "bars", desc := "(I)Z" } : Jvm.MethodName)) ∈ lw_all := lw_g (lw_at lw_m3 52 rfl) rfl
theorem q631 : (Jvm.Cond.code ({ cls := "MoveNotes$Search", name := "bars", desc := "(I)Z" } : Jvm.MethodName) prog_18_method_6_code (4 : Nat) (Option.some Jvm.ClassFile.FieldType.boolean)) ∈ lw_all := lw_g (lw_at lw_m3 53 rfl) rfl
theorem q632 : (Jvm.Cond.methodLink "MoveNotes$Search" (134 : Nat) ({ cls := "MoveNotes$Picture", name := "is", desc := "(LMoveNotes$Board;)Z" } : Jvm.MethodName)) ∈ lw_all := lw_g (lw_at lw_m3 54 rfl) rfl
theorem q636 : (Jvm.Cond.methodLink "MoveNotes$Search" (165 : Nat) ({ cls := "java/lang/Math", name := "max", desc := "(II)I" } : Jvm.MethodName)) ∈ lw_all := lw_g (lw_at lw_m3 58 rfl) rfl
theorem q639 : (Jvm.Cond.methodLink "MoveNotes$Search" (168 : Nat) ({ cls := "MoveNotes$Search", name := "isReading", desc := "(I)Z" } : Jvm.MethodName)) ∈ lw_all := lw_g (lw_at lw_m3 61 rfl) rfl
theorem q640 : (Jvm.Cond.privateMethod ({ cls := "MoveNotes$Search", name := "isReading", desc := "(I)Z" } : Jvm.MethodName)) ∈ lw_tbl := lw_at lw_m3 62 rfl
theorem q641 : (Jvm.Cond.instanceMethod ({ cls := "MoveNotes$Search", name := "isReading", desc := "(I)Z" } : Jvm.MethodName)) ∈ lw_all := lw_g (lw_at lw_m3 63 rfl) rfl
theorem q642 : (Jvm.Cond.code ({ cls := "MoveNotes$Search", name := "isReading", desc := "(I)Z" } : Jvm.MethodName) prog_18_method_7_code (4 : Nat) (Option.some Jvm.ClassFile.FieldType.boolean)) ∈ lw_all := lw_g (lw_at lw_m3 64 rfl) rfl
theorem q643 : (Jvm.Cond.methodLink "MoveNotes$Search" (144 : Nat) ({ cls := "MoveNotes$Search", name := "isIn", desc := "(I)Z" } : Jvm.MethodName)) ∈ lw_all := lw_g (lw_at lw_m3 65 rfl) rfl
theorem q644 : (Jvm.Cond.privateMethod ({ cls := "MoveNotes$Search", name := "isIn", desc := "(I)Z" } : Jvm.MethodName)) ∈ lw_tbl := lw_at lw_m3 66 rfl
theorem q645 : (Jvm.Cond.instanceMethod ({ cls := "MoveNotes$Search", name := "isIn", desc := "(I)Z" } : Jvm.MethodName)) ∈ lw_all := lw_g (lw_at lw_m3 67 rfl) rfl
theorem q646 : (Jvm.Cond.code ({ cls := "MoveNotes$Search", name := "isIn", desc := "(I)Z" } : Jvm.MethodName) prog_18_method_5_code (2 : Nat) (Option.some Jvm.ClassFile.FieldType.boolean)) ∈ lw_all := lw_g (lw_at lw_m3 68 rfl) rfl
theorem q647 : (Jvm.Cond.methodLink "MoveNotes$Search" (106 : Nat) ({ cls := "java/lang/Math", name := "min", desc := "(II)I" } : Jvm.MethodName)) ∈ lw_all := lw_g (lw_at lw_m3 69 rfl) rfl
theorem q650 : (Jvm.Cond.methodLink "MoveNotes$Search" (171 : Nat) ({ cls := "MoveNotes$Search", name := "found", desc := "(I)V" } : Jvm.MethodName)) ∈ lw_all := lw_g (lw_at lw_m3 72 rfl) rfl
theorem q651 : (Jvm.Cond.privateMethod ({ cls := "MoveNotes$Search", name := "found", desc := "(I)V" } : Jvm.MethodName)) ∈ lw_tbl := lw_at lw_m3 73 rfl
theorem q652 : (Jvm.Cond.instanceMethod ({ cls := "MoveNotes$Search", name := "found", desc := "(I)V" } : Jvm.MethodName)) ∈ lw_all := lw_g (lw_at lw_m3 74 rfl) rfl
theorem q653 : (Jvm.Cond.code ({ cls := "MoveNotes$Search", name := "found", desc := "(I)V" } : Jvm.MethodName) prog_18_method_9_code (3 : Nat) (Option.none : Option Jvm.ClassFile.FieldType)) ∈ lw_all := lw_g (lw_at lw_m3 75 rfl) rfl
theorem q654 : (Jvm.Cond.methodLink "MoveNotes$Search" (210 : Nat) ({ cls := "java/lang/System", name := "arraycopy", desc := "(Ljava/lang/Object;ILjava/lang/Object;II)V" } : Jvm.MethodName)) ∈ lw_all := lw_g (lw_at lw_m3 76 rfl) rfl
theorem q655 : (Jvm.Cond.methodLink "MoveNotes$Search" (225 : Nat) ({ cls := "MoveNotes$Search", name := "played", desc := "(I)I" } : Jvm.MethodName)) ∈ lw_all := lw_g (lw_at lw_m3 77 rfl) rfl
theorem q656 : (Jvm.Cond.privateMethod ({ cls := "MoveNotes$Search", name := "played", desc := "(I)I" } : Jvm.MethodName)) ∈ lw_tbl := lw_at lw_m3 78 rfl
theorem q657 : (Jvm.Cond.instanceMethod ({ cls := "MoveNotes$Search", name := "played", desc := "(I)I" } : Jvm.MethodName)) ∈ lw_all := lw_g (lw_at lw_m3 79 rfl) rfl
theorem q658 : (Jvm.Cond.code ({ cls := "MoveNotes$Search", name := "played", desc := "(I)I" } : Jvm.MethodName) prog_18_method_15_code (8 : Nat) (Option.some Jvm.ClassFile.FieldType.int)) ∈ lw_all := lw_g (lw_at lw_m3 80 rfl) rfl
theorem q659 : (Jvm.Cond.methodLink "MoveNotes$Search" (183 : Nat) ({ cls := "MoveNotes$Board", name := "goes", desc := "(I)I" } : Jvm.MethodName)) ∈ lw_all := lw_g (lw_at lw_m3 81 rfl) rfl
theorem q663 : (Jvm.Cond.methodLink "MoveNotes$Search" (259 : Nat) ({ cls := "MoveNotes$Board", name := "men", desc := "(I)I" } : Jvm.MethodName)) ∈ lw_all := lw_g (lw_at lw_m3 85 rfl) rfl
theorem q667 : (Jvm.Cond.methodLink "MoveNotes$Search" (262 : Nat) ({ cls := "MoveNotes$Search", name := "isTaken", desc := "(II)Z" } : Jvm.MethodName)) ∈ lw_all := lw_g (lw_at lw_m3 89 rfl) rfl
theorem q668 : (Jvm.Cond.privateMethod ({ cls := "MoveNotes$Search", name := "isTaken", desc := "(II)Z" } : Jvm.MethodName)) ∈ lw_tbl := lw_at lw_m3 90 rfl
theorem q669 : (Jvm.Cond.instanceMethod ({ cls := "MoveNotes$Search", name := "isTaken", desc := "(II)Z" } : Jvm.MethodName)) ∈ lw_all := lw_g (lw_at lw_m3 91 rfl) rfl
theorem q670 : (Jvm.Cond.code ({ cls := "MoveNotes$Search", name := "isTaken", desc := "(II)Z" } : Jvm.MethodName) prog_18_method_16_code (6 : Nat) (Option.some Jvm.ClassFile.FieldType.boolean)) ∈ lw_all := lw_g (lw_at lw_m3 92 rfl) rfl
theorem q671 : (Jvm.Cond.methodLink "MoveNotes$Search" (175 : Nat) ({ cls := "MoveNotes$Search", name := "gathers", desc := "(LMoveNotes$Board;I[I)I" } : Jvm.MethodName)) ∈ lw_all := lw_g (lw_at lw_m3 93 rfl) rfl
theorem q672 : (Jvm.Cond.instanceMethod ({ cls := "MoveNotes$Search", name := "gathers", desc := "(LMoveNotes$Board;I[I)I" } : Jvm.MethodName)) ∈ lw_all := lw_g (lw_at lw_m3 94 rfl) rfl
theorem q673 : (Jvm.Cond.selects "MoveNotes$Search" ({ cls := "MoveNotes$Search", name := "gathers", desc := "(LMoveNotes$Board;I[I)I" } : Jvm.MethodName) ({ cls := "MoveNotes$Search", name := "gathers", desc := "(LMoveNotes$Board;I[I)I" } : Jvm.MethodName)) ∈ lw_all := lw_g (lw_at lw_m3 95 rfl) rfl
theorem q674 : (Jvm.Cond.code ({ cls := "MoveNotes$Search", name := "gathers", desc := "(LMoveNotes$Board;I[I)I" } : Jvm.MethodName) prog_18_method_2_code (10 : Nat) (Option.some Jvm.ClassFile.FieldType.int)) ∈ lw_all := lw_g (lw_at lw_m3 96 rfl) rfl
theorem q675 : (Jvm.Cond.methodLink "MoveNotes$Search" (76 : Nat) ({ cls := "MoveNotes$Going", name := "marks", desc := "(LMoveNotes$Board;II[Z)V" } : Jvm.MethodName)) ∈ lw_all := lw_g (lw_at lw_m3 97 rfl) rfl
theorem q704 : (Jvm.Cond.methodLink "MoveNotes$Search" (266 : Nat) ({ cls := "MoveNotes$Measure", name := "tells", desc := "([I)I" } : Jvm.MethodName)) ∈ lw_all := lw_g (lw_at lw_m3 126 rfl) rfl
theorem q748 : (Jvm.Cond.methodLink "MoveNotes$Search" (179 : Nat) ({ cls := "MoveNotes$Search", name := "leads", desc := "(LMoveNotes$Book;[I[IIII)I" } : Jvm.MethodName)) ∈ lw_all := lw_g (lw_at lw_m3 170 rfl) rfl
theorem q749 : (Jvm.Cond.privateMethod ({ cls := "MoveNotes$Search", name := "leads", desc := "(LMoveNotes$Book;[I[IIII)I" } : Jvm.MethodName)) ∈ lw_tbl := lw_at lw_m3 171 rfl
theorem q750 : (Jvm.Cond.instanceMethod ({ cls := "MoveNotes$Search", name := "leads", desc := "(LMoveNotes$Book;[I[IIII)I" } : Jvm.MethodName)) ∈ lw_all := lw_g (lw_at lw_m3 172 rfl) rfl
theorem q751 : (Jvm.Cond.code ({ cls := "MoveNotes$Search", name := "leads", desc := "(LMoveNotes$Book;[I[IIII)I" } : Jvm.MethodName) prog_18_method_4_code (10 : Nat) (Option.some Jvm.ClassFile.FieldType.int)) ∈ lw_all := lw_g (lw_at lw_m3 173 rfl) rfl
theorem q752 : (Jvm.Cond.methodLink "MoveNotes$Search" (102 : Nat) ({ cls := "MoveNotes$Search", name := "cost", desc := "(LMoveNotes$Book;IIII)I" } : Jvm.MethodName)) ∈ lw_all := lw_g (lw_at lw_m3 174 rfl) rfl
theorem q753 : (Jvm.Cond.privateMethod ({ cls := "MoveNotes$Search", name := "cost", desc := "(LMoveNotes$Book;IIII)I" } : Jvm.MethodName)) ∈ lw_tbl := lw_at lw_m3 175 rfl
theorem q754 : (Jvm.Cond.instanceMethod ({ cls := "MoveNotes$Search", name := "cost", desc := "(LMoveNotes$Book;IIII)I" } : Jvm.MethodName)) ∈ lw_all := lw_g (lw_at lw_m3 176 rfl) rfl
theorem q755 : (Jvm.Cond.code ({ cls := "MoveNotes$Search", name := "cost", desc := "(LMoveNotes$Book;IIII)I" } : Jvm.MethodName) prog_18_method_3_code (7 : Nat) (Option.some Jvm.ClassFile.FieldType.int)) ∈ lw_all := lw_g (lw_at lw_m3 177 rfl) rfl
theorem q756 : (Jvm.Cond.methodLink "MoveNotes$Search" (92 : Nat) ({ cls := "MoveNotes$Note", name := "slip", desc := "(IIII[I)I" } : Jvm.MethodName)) ∈ lw_all := lw_g (lw_at lw_m3 178 rfl) rfl
theorem q771 : (Jvm.Cond.methodLink "MoveNotes$Search" (112 : Nat) ({ cls := "MoveNotes$Book", name := "isTwice", desc := "(I)Z" } : Jvm.MethodName)) ∈ lw_all := lw_g (lw_at lw_m3 193 rfl) rfl
theorem q783 : (Jvm.Cond.methodLink "MoveNotes$Search" (189 : Nat) ({ cls := "MoveNotes$Board", name := "comes", desc := "(II)V" } : Jvm.MethodName)) ∈ lw_all := lw_g (lw_at lw_m3 205 rfl) rfl
theorem q1077 : (Jvm.Cond.fieldLinkNest "MoveNotes$Search" (256 : Nat) "MoveNotes$Kind" "value" "I" "MoveNotes") ∈ lw_tbl := lw_at lw_m5 19 rfl
theorem q1080 : (Jvm.Cond.fieldLinkNest "MoveNotes$Search" (70 : Nat) "MoveNotes$Kind" "goings" "[LMoveNotes$Going;" "MoveNotes") ∈ lw_tbl := lw_at lw_m5 22 rfl
theorem q1350 : (Jvm.Cond.fieldLinkNest "MoveNotes$Search" (130 : Nat) "MoveNotes$Picture" "moves" "I" "MoveNotes") ∈ lw_tbl := lw_at lw_m6 52 rfl
theorem q1399 : (Jvm.Cond.instanceMethod ({ cls := "MoveNotes$Search", name := "lets", desc := "(I)I" } : Jvm.MethodName)) ∈ lw_all := lw_g (lw_at lw_m6 101 rfl) rfl
theorem q1400 : (Jvm.Cond.selects "MoveNotes$Search" ({ cls := "MoveNotes$Search", name := "lets", desc := "(I)I" } : Jvm.MethodName) ({ cls := "MoveNotes$Search", name := "lets", desc := "(I)I" } : Jvm.MethodName)) ∈ lw_all := lw_g (lw_at lw_m6 102 rfl) rfl
theorem q1401 : (Jvm.Cond.code ({ cls := "MoveNotes$Search", name := "lets", desc := "(I)I" } : Jvm.MethodName) prog_18_method_13_code (2 : Nat) (Option.some Jvm.ClassFile.FieldType.int)) ∈ lw_all := lw_g (lw_at lw_m6 103 rfl) rfl
theorem q1425 : (Jvm.Cond.instanceMethod ({ cls := "MoveNotes$Search", name := "weigh", desc := "(IIII)Z" } : Jvm.MethodName)) ∈ lw_all := lw_g (lw_at lw_m6 127 rfl) rfl
theorem q1426 : (Jvm.Cond.selects "MoveNotes$Search" ({ cls := "MoveNotes$Search", name := "weigh", desc := "(IIII)Z" } : Jvm.MethodName) ({ cls := "MoveNotes$Search", name := "weigh", desc := "(IIII)Z" } : Jvm.MethodName)) ∈ lw_all := lw_g (lw_at lw_m6 128 rfl) rfl
theorem q1427 : (Jvm.Cond.code ({ cls := "MoveNotes$Search", name := "weigh", desc := "(IIII)Z" } : Jvm.MethodName) prog_18_method_14_code (6 : Nat) (Option.some Jvm.ClassFile.FieldType.boolean)) ∈ lw_all := lw_g (lw_at lw_m6 129 rfl) rfl
theorem q2082 : (Jvm.Cond.castable "MoveNotes$Search" "java/lang/Object") ∈ lw_tbl := lw_at lw_m9 64 rfl
theorem in_X10 : ∀ w ∈ wsX100, w ∈ lw_all := lw_in wsX100 [453, 455, 457, 459, 461, 463, 465, 467, 469, 471, 473, 475, 477, 479, 481, 483, 485, 487, 489, 491, 493, 495, 497, 499, 501, 503, 505, 507, 509, 511] (by decide +kernel) (by decide +kernel)
/-! MoveNotesModel -/
def RX11 : String := "MoveNotesModel"
def TX11 : u_T := fun k => match k with
  | 0 => ("MoveNotesModel", "thrown", "I", false)
  | 1 => ("MoveNotesModel", "world", "[I", true)
  | 2 => ("MoveNotesModel", "image", "[I", true)
  | 3 => ("MoveNotesModel", "hasImage", "Z", false)
  | 4 => ("MoveNotesModel", "tape", "[B", true)
  | 5 => ("MoveNotesModel", "taped", "I", false)
  | 6 => ("MoveNotesModel", "point", "I", false)
  | 7 => ("MoveNotesModel", "end", "I", false)
  | 8 => ("MoveNotesModel", "begin", "I", false)
  | 9 => ("MoveNotesModel", "deep", "I", false)
  | 10 => ("MoveNotesModel", "faultAt", "I", false)
  | 11 => ("MoveNotesModel", "five", "[I", true)
  | 12 => ("MoveNotesModel", "steps", "I", false)
  | 13 => ("MoveNotesModel", "kindLines", "[I", true)
  | 14 => ("MoveNotesModel", "facts", "[I", true)
  | 15 => ("MoveNotesModel", "value", "[I", true)
  | 16 => ("MoveNotesModel", "board", "[I", true)
  | 17 => ("MoveNotesModel", "can", "[Z", true)
  | 18 => ("MoveNotesModel", "asked", "I", false)
  | 19 => ("MoveNotesModel", "wayOf", "[I", true)
  | 20 => ("MoveNotesModel", "priceOf", "[I", true)
  | 21 => ("MoveNotesModel", "path", "[I", true)
  | 22 => ("MoveNotesModel", "fit", "[I", true)
  | 23 => ("MoveNotesModel", "slipOf", "[I", true)
  | 24 => ("MoveNotesModel", "sum", "[I", true)
  | 25 => ("MoveNotesModel", "soFar", "I", false)
  | 26 => ("MoveNotesModel", "whole", "I", false)
  | 27 => ("MoveNotesModel", "positions", "I", false)
  | 28 => ("MoveNotesModel", "deepest", "I", false)
  | 29 => ("MoveNotesModel", "isSpent", "Z", false)
  | 30 => ("MoveNotesModel", "isFree", "Z", false)
  | 31 => ("MoveNotesModel", "cursor", "[I", true)
  | 32 => ("MoveNotesModel", "base", "I", false)
  | 33 => ("MoveNotesModel", "many", "[J", true)
  | 34 => ("MoveNotesModel", "with", "[J", true)
  | 35 => ("MoveNotesModel", "place", "I", false)
  | 36 => ("MoveNotesModel", "code", "I", false)
  | 37 => ("MoveNotesModel", "found", "I", false)
  | 38 => ("MoveNotesModel", "first", "[I", true)
  | 39 => ("MoveNotesModel", "second", "[I", true)
  | 40 => ("MoveNotesModel", "best", "[I", true)
  | 41 => ("MoveNotesModel", "firstMany", "I", false)
  | 42 => ("MoveNotesModel", "secondMany", "I", false)
  | 43 => ("MoveNotesModel", "bestMany", "I", false)
  | 44 => ("MoveNotesModel", "bestPlayed", "I", false)
  | 45 => ("MoveNotesModel", "played", "[I", true)
  | 46 => ("MoveNotesModel", "slips", "[I", true)
  | 47 => ("MoveNotesModel", "noteOf", "[I", true)
  | 48 => ("MoveNotesModel", "firstSlips", "[I", true)
  | 49 => ("MoveNotesModel", "firstNoteOf", "[I", true)
  | 50 => ("MoveNotesModel", "alike", "[I", true)
  | _ => ("MoveNotesModel", "seed", "I", false)
def tyX11 : Nat → FieldType := fun k => match k with
  | 0 => .int
  | 1 => .array .int
  | 2 => .array .int
  | 3 => .boolean
  | 4 => .array .byte
  | 5 => .int
  | 6 => .int
  | 7 => .int
  | 8 => .int
  | 9 => .int
  | 10 => .int
  | 11 => .array .int
  | 12 => .int
  | 13 => .array .int
  | 14 => .array .int
  | 15 => .array .int
  | 16 => .array .int
  | 17 => .array .boolean
  | 18 => .int
  | 19 => .array .int
  | 20 => .array .int
  | 21 => .array .int
  | 22 => .array .int
  | 23 => .array .int
  | 24 => .array .int
  | 25 => .int
  | 26 => .int
  | 27 => .int
  | 28 => .int
  | 29 => .boolean
  | 30 => .boolean
  | 31 => .array .int
  | 32 => .int
  | 33 => .array .long
  | 34 => .array .long
  | 35 => .int
  | 36 => .int
  | 37 => .int
  | 38 => .array .int
  | 39 => .array .int
  | 40 => .array .int
  | 41 => .int
  | 42 => .int
  | 43 => .int
  | 44 => .int
  | 45 => .array .int
  | 46 => .array .int
  | 47 => .array .int
  | 48 => .array .int
  | 49 => .array .int
  | 50 => .array .int
  | _ => .int
abbrev wsX110 : List Cond := u_ws RX11 TX11 52
theorem nmX11 : ∀ a, a < 52 → ∀ b, b < 52 → a ≠ b → (TX11 a).2.1 ≠ (TX11 b).2.1 := by decide +kernel
theorem tyX11_ok : ∀ k, k < 52 → parseFieldDescriptor (TX11 k).2.2.1 = some (tyX11 k) := by decide +kernel
abbrev cX11_thrown : ByteArray := prog_26_method_1_code
def yX11_thrown : MethodName := ⟨RX11, "thrown", "()I"⟩
abbrev cX11_init : ByteArray := prog_26_method_4_code
def yX11_init : MethodName := ⟨RX11, "<init>", "()V"⟩
abbrev cX11_image : ByteArray := prog_26_method_5_code
def yX11_image : MethodName := ⟨RX11, "image", "()V"⟩
abbrev cX11_back : ByteArray := prog_26_method_6_code
def yX11_back : MethodName := ⟨RX11, "back", "()Z"⟩
abbrev cX11_feed : ByteArray := prog_26_method_15_code
def yX11_feed : MethodName := ⟨RX11, "feed", "(IIIII)I"⟩
abbrev cX11_end : ByteArray := prog_26_method_16_code
def yX11_end : MethodName := ⟨RX11, "end", "(I)Z"⟩
abbrev cX11_fault : ByteArray := prog_26_method_24_code
def yX11_fault : MethodName := ⟨RX11, "fault", "()I"⟩
abbrev cX11_kind : ByteArray := prog_26_method_36_code
def yX11_kind : MethodName := ⟨RX11, "kind", "(I)I"⟩
abbrev cX11_readAll : ByteArray := prog_26_method_35_code
def yX11_readAll : MethodName := ⟨RX11, "readAll", "(Z)I"⟩
abbrev cX11_blanks : ByteArray := prog_26_method_18_code
def yX11_blanks : MethodName := ⟨RX11, "blanks", "()V"⟩
abbrev cX11_isAt : ByteArray := prog_26_method_17_code
def yX11_isAt : MethodName := ⟨RX11, "isAt", "(II)Z"⟩
abbrev cX11_letters : ByteArray := prog_26_method_19_code
def yX11_letters : MethodName := ⟨RX11, "letters", "()V"⟩
abbrev cX11_readKindLine : ByteArray := prog_26_method_34_code
def yX11_readKindLine : MethodName := ⟨RX11, "readKindLine", "(I)Z"⟩
abbrev cX11_isWord : ByteArray := prog_26_method_20_code
def yX11_isWord : MethodName := ⟨RX11, "isWord", "(Ljava/lang/String;)Z"⟩
abbrev cX11_number : ByteArray := prog_26_method_23_code
def yX11_number : MethodName := ⟨RX11, "number", "(II)I"⟩
abbrev cX11_readMeasureLine : ByteArray := prog_26_method_33_code
def yX11_readMeasureLine : MethodName := ⟨RX11, "readMeasureLine", "(I)Z"⟩
abbrev cX11_keepsAt : ByteArray := prog_26_method_32_code
def yX11_keepsAt : MethodName := ⟨RX11, "keepsAt", "(II)Z"⟩
abbrev cX11_sign : ByteArray := prog_26_method_22_code
def yX11_sign : MethodName := ⟨RX11, "sign", "(I)Z"⟩
abbrev cX11_factAt : ByteArray := prog_26_method_26_code
def yX11_factAt : MethodName := ⟨RX11, "factAt", "()I"⟩
abbrev cX11_passes : ByteArray := prog_26_method_21_code
def yX11_passes : MethodName := ⟨RX11, "passes", "(Ljava/lang/String;)Z"⟩
abbrev cX11_readCond : ByteArray := prog_26_method_31_code
def yX11_readCond : MethodName := ⟨RX11, "readCond", "()Z"⟩
abbrev cX11_readAllOf : ByteArray := prog_26_method_30_code
def yX11_readAllOf : MethodName := ⟨RX11, "readAllOf", "()Z"⟩
abbrev cX11_readAtom : ByteArray := prog_26_method_29_code
def yX11_readAtom : MethodName := ⟨RX11, "readAtom", "()Z"⟩
abbrev cX11_emits : ByteArray := prog_26_method_25_code
def yX11_emits : MethodName := ⟨RX11, "emits", "(II)V"⟩
abbrev cX11_readSum : ByteArray := prog_26_method_28_code
def yX11_readSum : MethodName := ⟨RX11, "readSum", "()Z"⟩
abbrev cX11_readPart : ByteArray := prog_26_method_27_code
def yX11_readPart : MethodName := ⟨RX11, "readPart", "()Z"⟩
abbrev cX11_in : ByteArray := prog_26_method_3_code
def yX11_in : MethodName := ⟨RX11, "in", "(III)Z"⟩
abbrev cX11_throwsIf : ByteArray := prog_26_method_2_code
def yX11_throwsIf : MethodName := ⟨RX11, "throwsIf", "(ZI)Z"⟩
abbrev cX11_measure : ByteArray := prog_26_method_37_code
def yX11_measure : MethodName := ⟨RX11, "measure", "()I"⟩
abbrev cX11_put : ByteArray := prog_26_method_41_code
def yX11_put : MethodName := ⟨RX11, "put", "(III)V"⟩
abbrev cX11_noSquare : ByteArray := prog_26_method_10_code
def yX11_noSquare : MethodName := ⟨RX11, "noSquare", "(I)Z"⟩
abbrev cX11_noKind : ByteArray := prog_26_method_8_code
def yX11_noKind : MethodName := ⟨RX11, "noKind", "(I)Z"⟩
abbrev cX11_none : ByteArray := prog_26_method_7_code
def yX11_none : MethodName := ⟨RX11, "none", "(II)Z"⟩
abbrev cX11_man : ByteArray := prog_26_method_40_code
def yX11_man : MethodName := ⟨RX11, "man", "(II)I"⟩
abbrev cX11_book : ByteArray := prog_26_method_42_code
def yX11_book : MethodName := ⟨RX11, "book", "(I)I"⟩
abbrev cX11_note : ByteArray := prog_26_method_46_code
def yX11_note : MethodName := ⟨RX11, "note", "(IIIII)I"⟩
abbrev cX11_noBook : ByteArray := prog_26_method_9_code
def yX11_noBook : MethodName := ⟨RX11, "noBook", "(I)Z"⟩
abbrev cX11_badNote : ByteArray := prog_26_method_43_code
def yX11_badNote : MethodName := ⟨RX11, "badNote", "(III)Z"⟩
abbrev cX11_notes : ByteArray := prog_26_method_13_code
def yX11_notes : MethodName := ⟨RX11, "notes", "(I)I"⟩
abbrev cX11_ofBook : ByteArray := prog_26_method_12_code
def yX11_ofBook : MethodName := ⟨RX11, "ofBook", "(II)I"⟩
abbrev cX11_addsNote : ByteArray := prog_26_method_45_code
def yX11_addsNote : MethodName := ⟨RX11, "addsNote", "(IIIII)I"⟩
abbrev cX11_setsNote : ByteArray := prog_26_method_44_code
def yX11_setsNote : MethodName := ⟨RX11, "setsNote", "(IIIIII)V"⟩
abbrev cX11_change : ByteArray := prog_26_method_48_code
def yX11_change : MethodName := ⟨RX11, "change", "(IIIIII)Z"⟩
abbrev cX11_noNote : ByteArray := prog_26_method_47_code
def yX11_noNote : MethodName := ⟨RX11, "noNote", "(II)Z"⟩
abbrev cX11_ofNote : ByteArray := prog_26_method_14_code
def yX11_ofNote : MethodName := ⟨RX11, "ofNote", "(III)I"⟩
abbrev cX11_look : ByteArray := prog_26_method_49_code
def yX11_look : MethodName := ⟨RX11, "look", "(III)I"⟩
abbrev cX11_price : ByteArray := prog_26_method_50_code
def yX11_price : MethodName := ⟨RX11, "price", "(II)I"⟩
abbrev cX11_length : ByteArray := prog_26_method_51_code
def yX11_length : MethodName := ⟨RX11, "length", "(I)V"⟩
abbrev cX11_picture : ByteArray := prog_26_method_52_code
def yX11_picture : MethodName := ⟨RX11, "picture", "(IIII)I"⟩
abbrev cX11_moves : ByteArray := prog_26_method_66_code
def yX11_moves : MethodName := ⟨RX11, "moves", "(II)I"⟩
abbrev cX11_begins : ByteArray := prog_26_method_62_code
def yX11_begins : MethodName := ⟨RX11, "begins", "()V"⟩
abbrev cX11_finds : ByteArray := prog_26_method_61_code
def yX11_finds : MethodName := ⟨RX11, "finds", "(II)V"⟩
abbrev cX11_at : ByteArray := prog_26_method_53_code
def yX11_at : MethodName := ⟨RX11, "at", "(II)I"⟩
abbrev cX11_sideOf : ByteArray := prog_26_method_54_code
def yX11_sideOf : MethodName := ⟨RX11, "sideOf", "(I)I"⟩
abbrev cX11_goes : ByteArray := prog_26_method_60_code
def yX11_goes : MethodName := ⟨RX11, "goes", "(II)V"⟩
abbrev cX11_along : ByteArray := prog_26_method_57_code
def yX11_along : MethodName := ⟨RX11, "along", "(IIIIIZ)V"⟩
abbrev cX11_off : ByteArray := prog_26_method_55_code
def yX11_off : MethodName := ⟨RX11, "off", "(III)I"⟩
abbrev cX11_may : ByteArray := prog_26_method_56_code
def yX11_may : MethodName := ⟨RX11, "may", "(III)V"⟩
abbrev cX11_leaps : ByteArray := prog_26_method_58_code
def yX11_leaps : MethodName := ⟨RX11, "leaps", "(II)V"⟩
abbrev cX11_bites : ByteArray := prog_26_method_59_code
def yX11_bites : MethodName := ⟨RX11, "bites", "(III)V"⟩
abbrev cX11_manyAt : ByteArray := prog_26_method_64_code
def yX11_manyAt : MethodName := ⟨RX11, "manyAt", "(I)I"⟩
abbrev cX11_moveAt : ByteArray := prog_26_method_65_code
def yX11_moveAt : MethodName := ⟨RX11, "moveAt", "(II)I"⟩
abbrev cX11_least : ByteArray := prog_26_method_89_code
def yX11_least : MethodName := ⟨RX11, "least", "()I"⟩
abbrev cX11_asksWhole : ByteArray := prog_26_method_88_code
def yX11_asksWhole : MethodName := ⟨RX11, "asksWhole", "()I"⟩
abbrev cX11_asksAll : ByteArray := prog_26_method_68_code
def yX11_asksAll : MethodName := ⟨RX11, "asksAll", "()V"⟩
abbrev cX11_asks : ByteArray := prog_26_method_87_code
def yX11_asks : MethodName := ⟨RX11, "asks", "()I"⟩
abbrev cX11_laysAll : ByteArray := prog_26_method_86_code
def yX11_laysAll : MethodName := ⟨RX11, "laysAll", "(I)V"⟩
abbrev cX11_prices : ByteArray := prog_26_method_78_code
def yX11_prices : MethodName := ⟨RX11, "prices", "(I)V"⟩
abbrev cX11_isAsked : ByteArray := prog_26_method_69_code
def yX11_isAsked : MethodName := ⟨RX11, "isAsked", "(I)Z"⟩
abbrev cX11_sums : ByteArray := prog_26_method_77_code
def yX11_sums : MethodName := ⟨RX11, "sums", "(II)V"⟩
abbrev cX11_ofMove : ByteArray := prog_26_method_74_code
def yX11_ofMove : MethodName := ⟨RX11, "ofMove", "(III)I"⟩
abbrev cX11_sumAt : ByteArray := prog_26_method_72_code
def yX11_sumAt : MethodName := ⟨RX11, "sumAt", "(III)I"⟩
abbrev cX11_fitAt : ByteArray := prog_26_method_67_code
def yX11_fitAt : MethodName := ⟨RX11, "fitAt", "(III)I"⟩
abbrev cX11_ofLost : ByteArray := prog_26_method_75_code
def yX11_ofLost : MethodName := ⟨RX11, "ofLost", "(III)I"⟩
abbrev cX11_ofTwice : ByteArray := prog_26_method_76_code
def yX11_ofTwice : MethodName := ⟨RX11, "ofTwice", "(III)I"⟩
abbrev cX11_isTwice : ByteArray := prog_26_method_73_code
def yX11_isTwice : MethodName := ⟨RX11, "isTwice", "(II)Z"⟩
abbrev cX11_lays : ByteArray := prog_26_method_85_code
def yX11_lays : MethodName := ⟨RX11, "lays", "(II)V"⟩
abbrev cX11_measures : ByteArray := prog_26_method_84_code
def yX11_measures : MethodName := ⟨RX11, "measures", "(I)V"⟩
abbrev cX11_valueOf : ByteArray := prog_26_method_11_code
def yX11_valueOf : MethodName := ⟨RX11, "valueOf", "(I)I"⟩
abbrev cX11_measured : ByteArray := prog_26_method_39_code
def yX11_measured : MethodName := ⟨RX11, "measured", "()I"⟩
abbrev cX11_holdsLine : ByteArray := prog_26_method_38_code
def yX11_holdsLine : MethodName := ⟨RX11, "holdsLine", "(I)Z"⟩
abbrev cX11_meets : ByteArray := prog_26_method_83_code
def yX11_meets : MethodName := ⟨RX11, "meets", "(II)V"⟩
abbrev cX11_isBarred : ByteArray := prog_26_method_79_code
def yX11_isBarred : MethodName := ⟨RX11, "isBarred", "(I)Z"⟩
abbrev cX11_isLongEnough : ByteArray := prog_26_method_80_code
def yX11_isLongEnough : MethodName := ⟨RX11, "isLongEnough", "(I)Z"⟩
abbrev cX11_takes : ByteArray := prog_26_method_82_code
def yX11_takes : MethodName := ⟨RX11, "takes", "([II)I"⟩
abbrev cX11_goesOn : ByteArray := prog_26_method_81_code
def yX11_goesOn : MethodName := ⟨RX11, "goesOn", "(I)Z"⟩
abbrev cX11_makes : ByteArray := prog_26_method_63_code
def yX11_makes : MethodName := ⟨RX11, "makes", "(II)V"⟩
abbrev cX11_tries : ByteArray := prog_26_method_71_code
def yX11_tries : MethodName := ⟨RX11, "tries", "(III)V"⟩
abbrev cX11_fits : ByteArray := prog_26_method_70_code
def yX11_fits : MethodName := ⟨RX11, "fits", "(IZZIIII)Z"⟩
abbrev cX11_many : ByteArray := prog_26_method_90_code
def yX11_many : MethodName := ⟨RX11, "many", "()I"⟩
abbrev cX11_read : ByteArray := prog_26_method_91_code
def yX11_read : MethodName := ⟨RX11, "read", "(I)I"⟩
abbrev cX11_readNext : ByteArray := prog_26_method_92_code
def yX11_readNext : MethodName := ⟨RX11, "readNext", "(I)I"⟩
abbrev cX11_slip : ByteArray := prog_26_method_94_code
def yX11_slip : MethodName := ⟨RX11, "slip", "(II)I"⟩
abbrev cX11_follows : ByteArray := prog_26_method_93_code
def yX11_follows : MethodName := ⟨RX11, "follows", "(I)V"⟩
abbrev cX11_slips : ByteArray := prog_26_method_95_code
def yX11_slips : MethodName := ⟨RX11, "slips", "(II)I"⟩
abbrev cX11_breaks : ByteArray := prog_26_method_96_code
def yX11_breaks : MethodName := ⟨RX11, "breaks", "(I)I"⟩
abbrev cX11_brief : ByteArray := prog_26_method_97_code
def yX11_brief : MethodName := ⟨RX11, "brief", "(I)I"⟩
abbrev cX11_part : ByteArray := prog_26_method_98_code
def yX11_part : MethodName := ⟨RX11, "part", "()I"⟩
abbrev cX11_best : ByteArray := prog_26_method_99_code
def yX11_best : MethodName := ⟨RX11, "best", "(I)I"⟩
abbrev cX11_odds : ByteArray := prog_26_method_101_code
def yX11_odds : MethodName := ⟨RX11, "odds", "(IIZ)J"⟩
abbrev cX11_common : ByteArray := prog_26_method_100_code
def yX11_common : MethodName := ⟨RX11, "common", "(JJ)J"⟩
abbrev cX11_shared : ByteArray := prog_26_method_103_code
def yX11_shared : MethodName := ⟨RX11, "shared", "(IIZ)I"⟩
abbrev cX11_isSlip : ByteArray := prog_26_method_102_code
def yX11_isSlip : MethodName := ⟨RX11, "isSlip", "(I)Z"⟩
abbrev cX11_alike : ByteArray := prog_26_method_104_code
def yX11_alike : MethodName := ⟨RX11, "alike", "(II)I"⟩
abbrev cX11_way : ByteArray := prog_26_method_105_code
def yX11_way : MethodName := ⟨RX11, "way", "(I)I"⟩
abbrev cX11_cheaper : ByteArray := prog_26_method_106_code
def yX11_cheaper : MethodName := ⟨RX11, "cheaper", "(I)I"⟩
abbrev cX11_write : ByteArray := prog_26_method_108_code
def yX11_write : MethodName := ⟨RX11, "write", "(IIII)I"⟩
abbrev cX11_draw : ByteArray := prog_26_method_107_code
def yX11_draw : MethodName := ⟨RX11, "draw", "()I"⟩
abbrev cX11_count : ByteArray := prog_26_method_109_code
def yX11_count : MethodName := ⟨RX11, "count", "(I)I"⟩
theorem q112 : (Jvm.Cond.initialized "MoveNotesModel") ∈ lw_all := lw_g (lw_at lw_m1 14 rfl) rfl
theorem q1464 : (Jvm.Cond.instanceMethod ({ cls := "MoveNotesModel", name := "thrown", desc := "()I" } : Jvm.MethodName)) ∈ lw_all := lw_g (lw_at lw_m6 166 rfl) rfl
theorem q1465 : (Jvm.Cond.selects "MoveNotesModel" ({ cls := "MoveNotesModel", name := "thrown", desc := "()I" } : Jvm.MethodName) ({ cls := "MoveNotesModel", name := "thrown", desc := "()I" } : Jvm.MethodName)) ∈ lw_all := lw_g (lw_at lw_m6 167 rfl) rfl
theorem q1466 : (Jvm.Cond.code ({ cls := "MoveNotesModel", name := "thrown", desc := "()I" } : Jvm.MethodName) prog_26_method_1_code (1 : Nat) (Option.some Jvm.ClassFile.FieldType.int)) ∈ lw_all := lw_g (lw_at lw_m6 168 rfl) rfl
theorem q1468 : (Jvm.Cond.instantiable "MoveNotesModel" (52 : Nat)) ∈ lw_all := lw_g (lw_at lw_m6 170 rfl) rfl
theorem q1470 : (Jvm.Cond.instanceMethod ({ cls := "MoveNotesModel", name := "<init>", desc := "()V" } : Jvm.MethodName)) ∈ lw_all := lw_g (lw_at lw_m6 172 rfl) rfl
theorem q1471 : (Jvm.Cond.code ({ cls := "MoveNotesModel", name := "<init>", desc := "()V" } : Jvm.MethodName) prog_26_method_4_code (2 : Nat) (Option.none : Option Jvm.ClassFile.FieldType)) ∈ lw_all := lw_g (lw_at lw_m6 173 rfl) rfl
theorem q1472 : (Jvm.Cond.methodLink "MoveNotesModel" (7 : Nat) ({ cls := "java/lang/Object", name := "<init>", desc := "()V" } : Jvm.MethodName)) ∈ lw_all := lw_g (lw_at lw_m6 174 rfl) rfl
theorem q1473 : (Jvm.Cond.constant "MoveNotesModel" (42 : Nat) (40176 : Int32)) ∈ lw_all := lw_g (lw_at lw_m6 175 rfl) rfl
theorem q1474 : (Jvm.Cond.fieldLink "MoveNotesModel" (3 : Nat) "MoveNotesModel" "thrown" "I") ∈ lw_all := lw_g (lw_at lw_m6 176 rfl) rfl
theorem q1475 : (Jvm.Cond.fieldLink "MoveNotesModel" (13 : Nat) "MoveNotesModel" "world" "[I") ∈ lw_all := lw_g (lw_at lw_m6 177 rfl) rfl
theorem q1476 : (Jvm.Cond.fieldLink "MoveNotesModel" (17 : Nat) "MoveNotesModel" "image" "[I") ∈ lw_all := lw_g (lw_at lw_m6 178 rfl) rfl
theorem q1477 : (Jvm.Cond.fieldLink "MoveNotesModel" (102 : Nat) "MoveNotesModel" "hasImage" "Z") ∈ lw_all := lw_g (lw_at lw_m6 179 rfl) rfl
theorem q1478 : (Jvm.Cond.fieldLink "MoveNotesModel" (20 : Nat) "MoveNotesModel" "tape" "[B") ∈ lw_all := lw_g (lw_at lw_m6 180 rfl) rfl
theorem q1479 : (Jvm.Cond.fieldLink "MoveNotesModel" (118 : Nat) "MoveNotesModel" "taped" "I") ∈ lw_all := lw_g (lw_at lw_m6 181 rfl) rfl
theorem q1480 : (Jvm.Cond.fieldLink "MoveNotesModel" (121 : Nat) "MoveNotesModel" "point" "I") ∈ lw_all := lw_g (lw_at lw_m6 182 rfl) rfl
theorem q1481 : (Jvm.Cond.fieldLink "MoveNotesModel" (124 : Nat) "MoveNotesModel" "end" "I") ∈ lw_all := lw_g (lw_at lw_m6 183 rfl) rfl
theorem q1482 : (Jvm.Cond.fieldLink "MoveNotesModel" (130 : Nat) "MoveNotesModel" "begin" "I") ∈ lw_all := lw_g (lw_at lw_m6 184 rfl) rfl
theorem q1483 : (Jvm.Cond.fieldLink "MoveNotesModel" (180 : Nat) "MoveNotesModel" "deep" "I") ∈ lw_all := lw_g (lw_at lw_m6 185 rfl) rfl
theorem q1484 : (Jvm.Cond.fieldLink "MoveNotesModel" (24 : Nat) "MoveNotesModel" "faultAt" "I") ∈ lw_all := lw_g (lw_at lw_m6 186 rfl) rfl
theorem q1485 : (Jvm.Cond.fieldLink "MoveNotesModel" (27 : Nat) "MoveNotesModel" "five" "[I") ∈ lw_all := lw_g (lw_at lw_m6 187 rfl) rfl
theorem q1486 : (Jvm.Cond.fieldLink "MoveNotesModel" (153 : Nat) "MoveNotesModel" "steps" "I") ∈ lw_all := lw_g (lw_at lw_m6 188 rfl) rfl
theorem q1487 : (Jvm.Cond.fieldLink "MoveNotesModel" (30 : Nat) "MoveNotesModel" "kindLines" "[I") ∈ lw_all := lw_g (lw_at lw_m6 189 rfl) rfl
theorem q1488 : (Jvm.Cond.fieldLink "MoveNotesModel" (33 : Nat) "MoveNotesModel" "facts" "[I") ∈ lw_all := lw_g (lw_at lw_m6 190 rfl) rfl
theorem q1489 : (Jvm.Cond.fieldLink "MoveNotesModel" (36 : Nat) "MoveNotesModel" "value" "[I") ∈ lw_all := lw_g (lw_at lw_m6 191 rfl) rfl
theorem q1490 : (Jvm.Cond.fieldLink "MoveNotesModel" (39 : Nat) "MoveNotesModel" "board" "[I") ∈ lw_all := lw_g (lw_at lw_m6 192 rfl) rfl
theorem q1491 : (Jvm.Cond.fieldLink "MoveNotesModel" (43 : Nat) "MoveNotesModel" "can" "[Z") ∈ lw_all := lw_g (lw_at lw_m6 193 rfl) rfl
theorem q1492 : (Jvm.Cond.fieldLink "MoveNotesModel" (314 : Nat) "MoveNotesModel" "asked" "I") ∈ lw_all := lw_g (lw_at lw_m6 194 rfl) rfl
theorem q1493 : (Jvm.Cond.fieldLink "MoveNotesModel" (47 : Nat) "MoveNotesModel" "wayOf" "[I") ∈ lw_all := lw_g (lw_at lw_m6 195 rfl) rfl
theorem q1494 : (Jvm.Cond.fieldLink "MoveNotesModel" (50 : Nat) "MoveNotesModel" "priceOf" "[I") ∈ lw_all := lw_g (lw_at lw_m6 196 rfl) rfl
theorem q1495 : (Jvm.Cond.fieldLink "MoveNotesModel" (53 : Nat) "MoveNotesModel" "path" "[I") ∈ lw_all := lw_g (lw_at lw_m6 197 rfl) rfl
theorem q1496 : (Jvm.Cond.fieldLink "MoveNotesModel" (56 : Nat) "MoveNotesModel" "fit" "[I") ∈ lw_all := lw_g (lw_at lw_m6 198 rfl) rfl
theorem q1497 : (Jvm.Cond.fieldLink "MoveNotesModel" (59 : Nat) "MoveNotesModel" "slipOf" "[I") ∈ lw_all := lw_g (lw_at lw_m6 199 rfl) rfl
theorem q1498 : (Jvm.Cond.fieldLink "MoveNotesModel" (62 : Nat) "MoveNotesModel" "sum" "[I") ∈ lw_all := lw_g (lw_at lw_m6 200 rfl) rfl
theorem q1499 : (Jvm.Cond.fieldLink "MoveNotesModel" (347 : Nat) "MoveNotesModel" "soFar" "I") ∈ lw_all := lw_g (lw_at lw_m6 201 rfl) rfl
theorem q1500 : (Jvm.Cond.fieldLink "MoveNotesModel" (350 : Nat) "MoveNotesModel" "whole" "I") ∈ lw_all := lw_g (lw_at lw_m6 202 rfl) rfl
theorem q1501 : (Jvm.Cond.fieldLink "MoveNotesModel" (398 : Nat) "MoveNotesModel" "positions" "I") ∈ lw_all := lw_g (lw_at lw_m6 203 rfl) rfl
theorem q1502 : (Jvm.Cond.fieldLink "MoveNotesModel" (404 : Nat) "MoveNotesModel" "deepest" "I") ∈ lw_all := lw_g (lw_at lw_m6 204 rfl) rfl
theorem q1503 : (Jvm.Cond.fieldLink "MoveNotesModel" (401 : Nat) "MoveNotesModel" "isSpent" "Z") ∈ lw_all := lw_g (lw_at lw_m6 205 rfl) rfl
theorem q1504 : (Jvm.Cond.fieldLink "MoveNotesModel" (359 : Nat) "MoveNotesModel" "isFree" "Z") ∈ lw_all := lw_g (lw_at lw_m6 206 rfl) rfl
theorem q1505 : (Jvm.Cond.fieldLink "MoveNotesModel" (65 : Nat) "MoveNotesModel" "cursor" "[I") ∈ lw_all := lw_g (lw_at lw_m6 207 rfl) rfl
theorem q1506 : (Jvm.Cond.fieldLink "MoveNotesModel" (68 : Nat) "MoveNotesModel" "many" "[J") ∈ lw_all := lw_g (lw_at lw_m6 208 rfl) rfl
theorem q1507 : (Jvm.Cond.fieldLink "MoveNotesModel" (72 : Nat) "MoveNotesModel" "with" "[J") ∈ lw_all := lw_g (lw_at lw_m6 209 rfl) rfl
theorem q1508 : (Jvm.Cond.fieldLink "MoveNotesModel" (368 : Nat) "MoveNotesModel" "place" "I") ∈ lw_all := lw_g (lw_at lw_m6 210 rfl) rfl
theorem q1509 : (Jvm.Cond.fieldLink "MoveNotesModel" (371 : Nat) "MoveNotesModel" "code" "I") ∈ lw_all := lw_g (lw_at lw_m6 211 rfl) rfl
theorem q1510 : (Jvm.Cond.fieldLink "MoveNotesModel" (374 : Nat) "MoveNotesModel" "found" "I") ∈ lw_all := lw_g (lw_at lw_m6 212 rfl) rfl
theorem q1511 : (Jvm.Cond.fieldLink "MoveNotesModel" (75 : Nat) "MoveNotesModel" "first" "[I") ∈ lw_all := lw_g (lw_at lw_m6 213 rfl) rfl
theorem q1512 : (Jvm.Cond.fieldLink "MoveNotesModel" (78 : Nat) "MoveNotesModel" "second" "[I") ∈ lw_all := lw_g (lw_at lw_m6 214 rfl) rfl
theorem q1513 : (Jvm.Cond.fieldLink "MoveNotesModel" (81 : Nat) "MoveNotesModel" "best" "[I") ∈ lw_all := lw_g (lw_at lw_m6 215 rfl) rfl
theorem q1514 : (Jvm.Cond.fieldLink "MoveNotesModel" (380 : Nat) "MoveNotesModel" "firstMany" "I") ∈ lw_all := lw_g (lw_at lw_m6 216 rfl) rfl
theorem q1515 : (Jvm.Cond.fieldLink "MoveNotesModel" (383 : Nat) "MoveNotesModel" "secondMany" "I") ∈ lw_all := lw_g (lw_at lw_m6 217 rfl) rfl
theorem q1516 : (Jvm.Cond.fieldLink "MoveNotesModel" (389 : Nat) "MoveNotesModel" "bestMany" "I") ∈ lw_all := lw_g (lw_at lw_m6 218 rfl) rfl
theorem q1517 : (Jvm.Cond.fieldLink "MoveNotesModel" (386 : Nat) "MoveNotesModel" "bestPlayed" "I") ∈ lw_all := lw_g (lw_at lw_m6 219 rfl) rfl
theorem q1518 : (Jvm.Cond.fieldLink "MoveNotesModel" (84 : Nat) "MoveNotesModel" "played" "[I") ∈ lw_all := lw_g (lw_at lw_m6 220 rfl) rfl
theorem q1519 : (Jvm.Cond.fieldLink "MoveNotesModel" (87 : Nat) "MoveNotesModel" "slips" "[I") ∈ lw_all := lw_g (lw_at lw_m6 221 rfl) rfl
theorem q1520 : (Jvm.Cond.fieldLink "MoveNotesModel" (90 : Nat) "MoveNotesModel" "noteOf" "[I") ∈ lw_all := lw_g (lw_at lw_m6 222 rfl) rfl
theorem q1521 : (Jvm.Cond.fieldLink "MoveNotesModel" (93 : Nat) "MoveNotesModel" "firstSlips" "[I") ∈ lw_all := lw_g (lw_at lw_m6 223 rfl) rfl
theorem q1522 : (Jvm.Cond.fieldLink "MoveNotesModel" (96 : Nat) "MoveNotesModel" "firstNoteOf" "[I") ∈ lw_all := lw_g (lw_at lw_m6 224 rfl) rfl
theorem q1523 : (Jvm.Cond.fieldLink "MoveNotesModel" (99 : Nat) "MoveNotesModel" "alike" "[I") ∈ lw_all := lw_g (lw_at lw_m6 225 rfl) rfl
theorem q1524 : (Jvm.Cond.fieldLink "MoveNotesModel" (459 : Nat) "MoveNotesModel" "seed" "I") ∈ lw_all := lw_g (lw_at lw_m6 226 rfl) rfl
theorem q1525 : (Jvm.Cond.lays "MoveNotesModel" "MoveNotesModel" "thrown" "I") ∈ lw_all := lw_g (lw_at lw_m6 227 rfl) rfl
theorem q1526 : (Jvm.Cond.soleField "MoveNotesModel" "thrown") ∈ lw_all := lw_g (lw_at lw_m6 228 rfl) rfl
theorem q1527 : (Jvm.Cond.laysFinal "MoveNotesModel" "MoveNotesModel" "world" "[I") ∈ lw_all := lw_g (lw_at lw_m6 229 rfl) rfl
theorem q1528 : (Jvm.Cond.soleField "MoveNotesModel" "world") ∈ lw_all := lw_g (lw_at lw_m6 230 rfl) rfl
theorem q1529 : (Jvm.Cond.laysFinal "MoveNotesModel" "MoveNotesModel" "image" "[I") ∈ lw_all := lw_g (lw_at lw_m6 231 rfl) rfl
theorem q1530 : (Jvm.Cond.soleField "MoveNotesModel" "image") ∈ lw_all := lw_g (lw_at lw_m6 232 rfl) rfl
theorem q1531 : (Jvm.Cond.lays "MoveNotesModel" "MoveNotesModel" "hasImage" "Z") ∈ lw_all := lw_g (lw_at lw_m6 233 rfl) rfl
theorem q1532 : (Jvm.Cond.soleField "MoveNotesModel" "hasImage") ∈ lw_all := lw_g (lw_at lw_m6 234 rfl) rfl
theorem q1533 : (Jvm.Cond.laysFinal "MoveNotesModel" "MoveNotesModel" "tape" "[B") ∈ lw_all := lw_g (lw_at lw_m6 235 rfl) rfl
theorem q1534 : (Jvm.Cond.soleField "MoveNotesModel" "tape") ∈ lw_all := lw_g (lw_at lw_m6 236 rfl) rfl
theorem q1535 : (Jvm.Cond.lays "MoveNotesModel" "MoveNotesModel" "taped" "I") ∈ lw_all := lw_g (lw_at lw_m6 237 rfl) rfl
theorem q1536 : (Jvm.Cond.soleField "MoveNotesModel" "taped") ∈ lw_all := lw_g (lw_at lw_m6 238 rfl) rfl
theorem q1537 : (Jvm.Cond.lays "MoveNotesModel" "MoveNotesModel" "point" "I") ∈ lw_all := lw_g (lw_at lw_m6 239 rfl) rfl
theorem q1538 : (Jvm.Cond.soleField "MoveNotesModel" "point") ∈ lw_all := lw_g (lw_at lw_m7 0 rfl) rfl
theorem q1539 : (Jvm.Cond.lays "MoveNotesModel" "MoveNotesModel" "end" "I") ∈ lw_all := lw_g (lw_at lw_m7 1 rfl) rfl
theorem q1540 : (Jvm.Cond.soleField "MoveNotesModel" "end") ∈ lw_all := lw_g (lw_at lw_m7 2 rfl) rfl
theorem q1541 : (Jvm.Cond.lays "MoveNotesModel" "MoveNotesModel" "begin" "I") ∈ lw_all := lw_g (lw_at lw_m7 3 rfl) rfl
theorem q1542 : (Jvm.Cond.soleField "MoveNotesModel" "begin") ∈ lw_all := lw_g (lw_at lw_m7 4 rfl) rfl
theorem q1543 : (Jvm.Cond.lays "MoveNotesModel" "MoveNotesModel" "deep" "I") ∈ lw_all := lw_g (lw_at lw_m7 5 rfl) rfl
theorem q1544 : (Jvm.Cond.soleField "MoveNotesModel" "deep") ∈ lw_all := lw_g (lw_at lw_m7 6 rfl) rfl
theorem q1545 : (Jvm.Cond.lays "MoveNotesModel" "MoveNotesModel" "faultAt" "I") ∈ lw_all := lw_g (lw_at lw_m7 7 rfl) rfl
theorem q1546 : (Jvm.Cond.soleField "MoveNotesModel" "faultAt") ∈ lw_all := lw_g (lw_at lw_m7 8 rfl) rfl
theorem q1547 : (Jvm.Cond.laysFinal "MoveNotesModel" "MoveNotesModel" "five" "[I") ∈ lw_all := lw_g (lw_at lw_m7 9 rfl) rfl
theorem q1548 : (Jvm.Cond.soleField "MoveNotesModel" "five") ∈ lw_all := lw_g (lw_at lw_m7 10 rfl) rfl
theorem q1549 : (Jvm.Cond.lays "MoveNotesModel" "MoveNotesModel" "steps" "I") ∈ lw_all := lw_g (lw_at lw_m7 11 rfl) rfl
theorem q1550 : (Jvm.Cond.soleField "MoveNotesModel" "steps") ∈ lw_all := lw_g (lw_at lw_m7 12 rfl) rfl
theorem q1551 : (Jvm.Cond.laysFinal "MoveNotesModel" "MoveNotesModel" "kindLines" "[I") ∈ lw_all := lw_g (lw_at lw_m7 13 rfl) rfl
theorem q1552 : (Jvm.Cond.soleField "MoveNotesModel" "kindLines") ∈ lw_all := lw_g (lw_at lw_m7 14 rfl) rfl
theorem q1553 : (Jvm.Cond.laysFinal "MoveNotesModel" "MoveNotesModel" "facts" "[I") ∈ lw_all := lw_g (lw_at lw_m7 15 rfl) rfl
theorem q1554 : (Jvm.Cond.soleField "MoveNotesModel" "facts") ∈ lw_all := lw_g (lw_at lw_m7 16 rfl) rfl
theorem q1555 : (Jvm.Cond.laysFinal "MoveNotesModel" "MoveNotesModel" "value" "[I") ∈ lw_all := lw_g (lw_at lw_m7 17 rfl) rfl
theorem q1556 : (Jvm.Cond.soleField "MoveNotesModel" "value") ∈ lw_all := lw_g (lw_at lw_m7 18 rfl) rfl
theorem q1557 : (Jvm.Cond.laysFinal "MoveNotesModel" "MoveNotesModel" "board" "[I") ∈ lw_all := lw_g (lw_at lw_m7 19 rfl) rfl
theorem q1558 : (Jvm.Cond.soleField "MoveNotesModel" "board") ∈ lw_all := lw_g (lw_at lw_m7 20 rfl) rfl
theorem q1559 : (Jvm.Cond.laysFinal "MoveNotesModel" "MoveNotesModel" "can" "[Z") ∈ lw_all := lw_g (lw_at lw_m7 21 rfl) rfl
theorem q1560 : (Jvm.Cond.soleField "MoveNotesModel" "can") ∈ lw_all := lw_g (lw_at lw_m7 22 rfl) rfl
theorem q1561 : (Jvm.Cond.lays "MoveNotesModel" "MoveNotesModel" "asked" "I") ∈ lw_all := lw_g (lw_at lw_m7 23 rfl) rfl
theorem q1562 : (Jvm.Cond.soleField "MoveNotesModel" "asked") ∈ lw_all := lw_g (lw_at lw_m7 24 rfl) rfl
theorem q1563 : (Jvm.Cond.laysFinal "MoveNotesModel" "MoveNotesModel" "wayOf" "[I") ∈ lw_all := lw_g (lw_at lw_m7 25 rfl) rfl
theorem q1564 : (Jvm.Cond.soleField "MoveNotesModel" "wayOf") ∈ lw_all := lw_g (lw_at lw_m7 26 rfl) rfl
theorem q1565 : (Jvm.Cond.laysFinal "MoveNotesModel" "MoveNotesModel" "priceOf" "[I") ∈ lw_all := lw_g (lw_at lw_m7 27 rfl) rfl
theorem q1566 : (Jvm.Cond.soleField "MoveNotesModel" "priceOf") ∈ lw_all := lw_g (lw_at lw_m7 28 rfl) rfl
theorem q1567 : (Jvm.Cond.laysFinal "MoveNotesModel" "MoveNotesModel" "path" "[I") ∈ lw_all := lw_g (lw_at lw_m7 29 rfl) rfl
theorem q1568 : (Jvm.Cond.soleField "MoveNotesModel" "path") ∈ lw_all := lw_g (lw_at lw_m7 30 rfl) rfl
theorem q1569 : (Jvm.Cond.laysFinal "MoveNotesModel" "MoveNotesModel" "fit" "[I") ∈ lw_all := lw_g (lw_at lw_m7 31 rfl) rfl
theorem q1570 : (Jvm.Cond.soleField "MoveNotesModel" "fit") ∈ lw_all := lw_g (lw_at lw_m7 32 rfl) rfl
theorem q1571 : (Jvm.Cond.laysFinal "MoveNotesModel" "MoveNotesModel" "slipOf" "[I") ∈ lw_all := lw_g (lw_at lw_m7 33 rfl) rfl
theorem q1572 : (Jvm.Cond.soleField "MoveNotesModel" "slipOf") ∈ lw_all := lw_g (lw_at lw_m7 34 rfl) rfl
theorem q1573 : (Jvm.Cond.laysFinal "MoveNotesModel" "MoveNotesModel" "sum" "[I") ∈ lw_all := lw_g (lw_at lw_m7 35 rfl) rfl
theorem q1574 : (Jvm.Cond.soleField "MoveNotesModel" "sum") ∈ lw_all := lw_g (lw_at lw_m7 36 rfl) rfl
theorem q1575 : (Jvm.Cond.lays "MoveNotesModel" "MoveNotesModel" "soFar" "I") ∈ lw_all := lw_g (lw_at lw_m7 37 rfl) rfl
theorem q1576 : (Jvm.Cond.soleField "MoveNotesModel" "soFar") ∈ lw_all := lw_g (lw_at lw_m7 38 rfl) rfl
theorem q1577 : (Jvm.Cond.lays "MoveNotesModel" "MoveNotesModel" "whole" "I") ∈ lw_all := lw_g (lw_at lw_m7 39 rfl) rfl
theorem q1578 : (Jvm.Cond.soleField "MoveNotesModel" "whole") ∈ lw_all := lw_g (lw_at lw_m7 40 rfl) rfl
theorem q1579 : (Jvm.Cond.lays "MoveNotesModel" "MoveNotesModel" "positions" "I") ∈ lw_all := lw_g (lw_at lw_m7 41 rfl) rfl
theorem q1580 : (Jvm.Cond.soleField "MoveNotesModel" "positions") ∈ lw_all := lw_g (lw_at lw_m7 42 rfl) rfl
theorem q1581 : (Jvm.Cond.lays "MoveNotesModel" "MoveNotesModel" "deepest" "I") ∈ lw_all := lw_g (lw_at lw_m7 43 rfl) rfl
theorem q1582 : (Jvm.Cond.soleField "MoveNotesModel" "deepest") ∈ lw_all := lw_g (lw_at lw_m7 44 rfl) rfl
theorem q1583 : (Jvm.Cond.lays "MoveNotesModel" "MoveNotesModel" "isSpent" "Z") ∈ lw_all := lw_g (lw_at lw_m7 45 rfl) rfl
theorem q1584 : (Jvm.Cond.soleField "MoveNotesModel" "isSpent") ∈ lw_all := lw_g (lw_at lw_m7 46 rfl) rfl
theorem q1585 : (Jvm.Cond.lays "MoveNotesModel" "MoveNotesModel" "isFree" "Z") ∈ lw_all := lw_g (lw_at lw_m7 47 rfl) rfl
theorem q1586 : (Jvm.Cond.soleField "MoveNotesModel" "isFree") ∈ lw_all := lw_g (lw_at lw_m7 48 rfl) rfl
theorem q1587 : (Jvm.Cond.laysFinal "MoveNotesModel" "MoveNotesModel" "cursor" "[I") ∈ lw_all := lw_g (lw_at lw_m7 49 rfl) rfl
theorem q1588 : (Jvm.Cond.soleField "MoveNotesModel" "cursor") ∈ lw_all := lw_g (lw_at lw_m7 50 rfl) rfl
theorem q1589 : (Jvm.Cond.lays "MoveNotesModel" "MoveNotesModel" "base" "I") ∈ lw_all := lw_g (lw_at lw_m7 51 rfl) rfl
theorem q1590 : (Jvm.Cond.soleField "MoveNotesModel" "base") ∈ lw_all := lw_g (lw_at lw_m7 52 rfl) rfl
theorem q1591 : (Jvm.Cond.laysFinal "MoveNotesModel" "MoveNotesModel" "many" "[J") ∈ lw_all := lw_g (lw_at lw_m7 53 rfl) rfl
theorem q1592 : (Jvm.Cond.soleField "MoveNotesModel" "many") ∈ lw_all := lw_g (lw_at lw_m7 54 rfl) rfl
theorem q1593 : (Jvm.Cond.laysFinal "MoveNotesModel" "MoveNotesModel" "with" "[J") ∈ lw_all := lw_g (lw_at lw_m7 55 rfl) rfl
theorem q1594 : (Jvm.Cond.soleField "MoveNotesModel" "with") ∈ lw_all := lw_g (lw_at lw_m7 56 rfl) rfl
theorem q1595 : (Jvm.Cond.lays "MoveNotesModel" "MoveNotesModel" "place" "I") ∈ lw_all := lw_g (lw_at lw_m7 57 rfl) rfl
theorem q1596 : (Jvm.Cond.soleField "MoveNotesModel" "place") ∈ lw_all := lw_g (lw_at lw_m7 58 rfl) rfl
theorem q1597 : (Jvm.Cond.lays "MoveNotesModel" "MoveNotesModel" "code" "I") ∈ lw_all := lw_g (lw_at lw_m7 59 rfl) rfl
theorem q1598 : (Jvm.Cond.soleField "MoveNotesModel" "code") ∈ lw_all := lw_g (lw_at lw_m7 60 rfl) rfl
theorem q1599 : (Jvm.Cond.lays "MoveNotesModel" "MoveNotesModel" "found" "I") ∈ lw_all := lw_g (lw_at lw_m7 61 rfl) rfl
theorem q1600 : (Jvm.Cond.soleField "MoveNotesModel" "found") ∈ lw_all := lw_g (lw_at lw_m7 62 rfl) rfl
theorem q1601 : (Jvm.Cond.laysFinal "MoveNotesModel" "MoveNotesModel" "first" "[I") ∈ lw_all := lw_g (lw_at lw_m7 63 rfl) rfl
theorem q1602 : (Jvm.Cond.soleField "MoveNotesModel" "first") ∈ lw_all := lw_g (lw_at lw_m7 64 rfl) rfl
theorem q1603 : (Jvm.Cond.laysFinal "MoveNotesModel" "MoveNotesModel" "second" "[I") ∈ lw_all := lw_g (lw_at lw_m7 65 rfl) rfl
theorem q1604 : (Jvm.Cond.soleField "MoveNotesModel" "second") ∈ lw_all := lw_g (lw_at lw_m7 66 rfl) rfl
theorem q1605 : (Jvm.Cond.laysFinal "MoveNotesModel" "MoveNotesModel" "best" "[I") ∈ lw_all := lw_g (lw_at lw_m7 67 rfl) rfl
theorem q1606 : (Jvm.Cond.soleField "MoveNotesModel" "best") ∈ lw_all := lw_g (lw_at lw_m7 68 rfl) rfl
theorem q1607 : (Jvm.Cond.lays "MoveNotesModel" "MoveNotesModel" "firstMany" "I") ∈ lw_all := lw_g (lw_at lw_m7 69 rfl) rfl
theorem q1608 : (Jvm.Cond.soleField "MoveNotesModel" "firstMany") ∈ lw_all := lw_g (lw_at lw_m7 70 rfl) rfl
theorem q1609 : (Jvm.Cond.lays "MoveNotesModel" "MoveNotesModel" "secondMany" "I") ∈ lw_all := lw_g (lw_at lw_m7 71 rfl) rfl
theorem q1610 : (Jvm.Cond.soleField "MoveNotesModel" "secondMany") ∈ lw_all := lw_g (lw_at lw_m7 72 rfl) rfl
theorem q1611 : (Jvm.Cond.lays "MoveNotesModel" "MoveNotesModel" "bestMany" "I") ∈ lw_all := lw_g (lw_at lw_m7 73 rfl) rfl
theorem q1612 : (Jvm.Cond.soleField "MoveNotesModel" "bestMany") ∈ lw_all := lw_g (lw_at lw_m7 74 rfl) rfl
theorem q1613 : (Jvm.Cond.lays "MoveNotesModel" "MoveNotesModel" "bestPlayed" "I") ∈ lw_all := lw_g (lw_at lw_m7 75 rfl) rfl
theorem q1614 : (Jvm.Cond.soleField "MoveNotesModel" "bestPlayed") ∈ lw_all := lw_g (lw_at lw_m7 76 rfl) rfl
theorem q1615 : (Jvm.Cond.laysFinal "MoveNotesModel" "MoveNotesModel" "played" "[I") ∈ lw_all := lw_g (lw_at lw_m7 77 rfl) rfl
theorem q1616 : (Jvm.Cond.soleField "MoveNotesModel" "played") ∈ lw_all := lw_g (lw_at lw_m7 78 rfl) rfl
theorem q1617 : (Jvm.Cond.laysFinal "MoveNotesModel" "MoveNotesModel" "slips" "[I") ∈ lw_all := lw_g (lw_at lw_m7 79 rfl) rfl
theorem q1618 : (Jvm.Cond.soleField "MoveNotesModel" "slips") ∈ lw_all := lw_g (lw_at lw_m7 80 rfl) rfl
theorem q1619 : (Jvm.Cond.laysFinal "MoveNotesModel" "MoveNotesModel" "noteOf" "[I") ∈ lw_all := lw_g (lw_at lw_m7 81 rfl) rfl
theorem q1620 : (Jvm.Cond.soleField "MoveNotesModel" "noteOf") ∈ lw_all := lw_g (lw_at lw_m7 82 rfl) rfl
theorem q1621 : (Jvm.Cond.laysFinal "MoveNotesModel" "MoveNotesModel" "firstSlips" "[I") ∈ lw_all := lw_g (lw_at lw_m7 83 rfl) rfl
theorem q1622 : (Jvm.Cond.soleField "MoveNotesModel" "firstSlips") ∈ lw_all := lw_g (lw_at lw_m7 84 rfl) rfl
theorem q1623 : (Jvm.Cond.laysFinal "MoveNotesModel" "MoveNotesModel" "firstNoteOf" "[I") ∈ lw_all := lw_g (lw_at lw_m7 85 rfl) rfl
theorem q1624 : (Jvm.Cond.soleField "MoveNotesModel" "firstNoteOf") ∈ lw_all := lw_g (lw_at lw_m7 86 rfl) rfl
theorem q1625 : (Jvm.Cond.laysFinal "MoveNotesModel" "MoveNotesModel" "alike" "[I") ∈ lw_all := lw_g (lw_at lw_m7 87 rfl) rfl
theorem q1626 : (Jvm.Cond.soleField "MoveNotesModel" "alike") ∈ lw_all := lw_g (lw_at lw_m7 88 rfl) rfl
theorem q1627 : (Jvm.Cond.lays "MoveNotesModel" "MoveNotesModel" "seed" "I") ∈ lw_all := lw_g (lw_at lw_m7 89 rfl) rfl
theorem q1628 : (Jvm.Cond.soleField "MoveNotesModel" "seed") ∈ lw_all := lw_g (lw_at lw_m7 90 rfl) rfl
theorem q1629 : (Jvm.Cond.superclass "MoveNotesModel" "java/lang/Object") ∈ lw_all := lw_g (lw_at lw_m7 91 rfl) rfl
theorem q1632 : (Jvm.Cond.instanceMethod ({ cls := "MoveNotesModel", name := "image", desc := "()V" } : Jvm.MethodName)) ∈ lw_all := lw_g (lw_at lw_m7 94 rfl) rfl
theorem q1633 : (Jvm.Cond.selects "MoveNotesModel" ({ cls := "MoveNotesModel", name := "image", desc := "()V" } : Jvm.MethodName) ({ cls := "MoveNotesModel", name := "image", desc := "()V" } : Jvm.MethodName)) ∈ lw_all := lw_g (lw_at lw_m7 95 rfl) rfl
theorem q1634 : (Jvm.Cond.code ({ cls := "MoveNotesModel", name := "image", desc := "()V" } : Jvm.MethodName) prog_26_method_5_code (2 : Nat) (Option.none : Option Jvm.ClassFile.FieldType)) ∈ lw_all := lw_g (lw_at lw_m7 96 rfl) rfl
theorem q1636 : (Jvm.Cond.instanceMethod ({ cls := "MoveNotesModel", name := "back", desc := "()Z" } : Jvm.MethodName)) ∈ lw_all := lw_g (lw_at lw_m7 98 rfl) rfl
theorem q1637 : (Jvm.Cond.selects "MoveNotesModel" ({ cls := "MoveNotesModel", name := "back", desc := "()Z" } : Jvm.MethodName) ({ cls := "MoveNotesModel", name := "back", desc := "()Z" } : Jvm.MethodName)) ∈ lw_all := lw_g (lw_at lw_m7 99 rfl) rfl
theorem q1638 : (Jvm.Cond.code ({ cls := "MoveNotesModel", name := "back", desc := "()Z" } : Jvm.MethodName) prog_26_method_6_code (2 : Nat) (Option.some Jvm.ClassFile.FieldType.boolean)) ∈ lw_all := lw_g (lw_at lw_m7 100 rfl) rfl
theorem q1640 : (Jvm.Cond.instanceMethod ({ cls := "MoveNotesModel", name := "feed", desc := "(IIIII)I" } : Jvm.MethodName)) ∈ lw_all := lw_g (lw_at lw_m7 102 rfl) rfl
theorem q1641 : (Jvm.Cond.selects "MoveNotesModel" ({ cls := "MoveNotesModel", name := "feed", desc := "(IIIII)I" } : Jvm.MethodName) ({ cls := "MoveNotesModel", name := "feed", desc := "(IIIII)I" } : Jvm.MethodName)) ∈ lw_all := lw_g (lw_at lw_m7 103 rfl) rfl
theorem q1642 : (Jvm.Cond.code ({ cls := "MoveNotesModel", name := "feed", desc := "(IIIII)I" } : Jvm.MethodName) prog_26_method_15_code (7 : Nat) (Option.some Jvm.ClassFile.FieldType.int)) ∈ lw_all := lw_g (lw_at lw_m7 104 rfl) rfl
theorem q1644 : (Jvm.Cond.instanceMethod ({ cls := "MoveNotesModel", name := "end", desc := "(I)Z" } : Jvm.MethodName)) ∈ lw_all := lw_g (lw_at lw_m7 106 rfl) rfl
theorem q1645 : (Jvm.Cond.selects "MoveNotesModel" ({ cls := "MoveNotesModel", name := "end", desc := "(I)Z" } : Jvm.MethodName) ({ cls := "MoveNotesModel", name := "end", desc := "(I)Z" } : Jvm.MethodName)) ∈ lw_all := lw_g (lw_at lw_m7 107 rfl) rfl
theorem q1646 : (Jvm.Cond.code ({ cls := "MoveNotesModel", name := "end", desc := "(I)Z" } : Jvm.MethodName) prog_26_method_16_code (2 : Nat) (Option.some Jvm.ClassFile.FieldType.boolean)) ∈ lw_all := lw_g (lw_at lw_m7 108 rfl) rfl
theorem q1648 : (Jvm.Cond.instanceMethod ({ cls := "MoveNotesModel", name := "fault", desc := "()I" } : Jvm.MethodName)) ∈ lw_all := lw_g (lw_at lw_m7 110 rfl) rfl
theorem q1649 : (Jvm.Cond.selects "MoveNotesModel" ({ cls := "MoveNotesModel", name := "fault", desc := "()I" } : Jvm.MethodName) ({ cls := "MoveNotesModel", name := "fault", desc := "()I" } : Jvm.MethodName)) ∈ lw_all := lw_g (lw_at lw_m7 111 rfl) rfl
theorem q1650 : (Jvm.Cond.code ({ cls := "MoveNotesModel", name := "fault", desc := "()I" } : Jvm.MethodName) prog_26_method_24_code (1 : Nat) (Option.some Jvm.ClassFile.FieldType.int)) ∈ lw_all := lw_g (lw_at lw_m7 112 rfl) rfl
theorem q1652 : (Jvm.Cond.instanceMethod ({ cls := "MoveNotesModel", name := "kind", desc := "(I)I" } : Jvm.MethodName)) ∈ lw_all := lw_g (lw_at lw_m7 114 rfl) rfl
theorem q1653 : (Jvm.Cond.selects "MoveNotesModel" ({ cls := "MoveNotesModel", name := "kind", desc := "(I)I" } : Jvm.MethodName) ({ cls := "MoveNotesModel", name := "kind", desc := "(I)I" } : Jvm.MethodName)) ∈ lw_all := lw_g (lw_at lw_m7 115 rfl) rfl
theorem q1654 : (Jvm.Cond.code ({ cls := "MoveNotesModel", name := "kind", desc := "(I)I" } : Jvm.MethodName) prog_26_method_36_code (5 : Nat) (Option.some Jvm.ClassFile.FieldType.int)) ∈ lw_all := lw_g (lw_at lw_m7 116 rfl) rfl
theorem q1655 : (Jvm.Cond.methodLink "MoveNotesModel" (231 : Nat) ({ cls := "MoveNotesModel", name := "readAll", desc := "(Z)I" } : Jvm.MethodName)) ∈ lw_all := lw_g (lw_at lw_m7 117 rfl) rfl
theorem q1656 : (Jvm.Cond.privateMethod ({ cls := "MoveNotesModel", name := "readAll", desc := "(Z)I" } : Jvm.MethodName)) ∈ lw_tbl := lw_at lw_m7 118 rfl
theorem q1657 : (Jvm.Cond.instanceMethod ({ cls := "MoveNotesModel", name := "readAll", desc := "(Z)I" } : Jvm.MethodName)) ∈ lw_all := lw_g (lw_at lw_m7 119 rfl) rfl
theorem q1658 : (Jvm.Cond.code ({ cls := "MoveNotesModel", name := "readAll", desc := "(Z)I" } : Jvm.MethodName) prog_26_method_35_code (3 : Nat) (Option.some Jvm.ClassFile.FieldType.int)) ∈ lw_all := lw_g (lw_at lw_m7 120 rfl) rfl
theorem q1659 : (Jvm.Cond.methodLink "MoveNotesModel" (133 : Nat) ({ cls := "MoveNotesModel", name := "blanks", desc := "()V" } : Jvm.MethodName)) ∈ lw_all := lw_g (lw_at lw_m7 121 rfl) rfl
theorem q1660 : (Jvm.Cond.privateMethod ({ cls := "MoveNotesModel", name := "blanks", desc := "()V" } : Jvm.MethodName)) ∈ lw_tbl := lw_at lw_m7 122 rfl
theorem q1661 : (Jvm.Cond.instanceMethod ({ cls := "MoveNotesModel", name := "blanks", desc := "()V" } : Jvm.MethodName)) ∈ lw_all := lw_g (lw_at lw_m7 123 rfl) rfl
theorem q1662 : (Jvm.Cond.code ({ cls := "MoveNotesModel", name := "blanks", desc := "()V" } : Jvm.MethodName) prog_26_method_18_code (1 : Nat) (Option.none : Option Jvm.ClassFile.FieldType)) ∈ lw_all := lw_g (lw_at lw_m7 124 rfl) rfl
theorem q1663 : (Jvm.Cond.methodLink "MoveNotesModel" (127 : Nat) ({ cls := "MoveNotesModel", name := "isAt", desc := "(II)Z" } : Jvm.MethodName)) ∈ lw_all := lw_g (lw_at lw_m7 125 rfl) rfl
theorem q1664 : (Jvm.Cond.privateMethod ({ cls := "MoveNotesModel", name := "isAt", desc := "(II)Z" } : Jvm.MethodName)) ∈ lw_tbl := lw_at lw_m7 126 rfl
theorem q1665 : (Jvm.Cond.instanceMethod ({ cls := "MoveNotesModel", name := "isAt", desc := "(II)Z" } : Jvm.MethodName)) ∈ lw_all := lw_g (lw_at lw_m7 127 rfl) rfl
theorem q1666 : (Jvm.Cond.code ({ cls := "MoveNotesModel", name := "isAt", desc := "(II)Z" } : Jvm.MethodName) prog_26_method_17_code (3 : Nat) (Option.some Jvm.ClassFile.FieldType.boolean)) ∈ lw_all := lw_g (lw_at lw_m7 128 rfl) rfl
theorem q1667 : (Jvm.Cond.methodLink "MoveNotesModel" (146 : Nat) ({ cls := "MoveNotesModel", name := "letters", desc := "()V" } : Jvm.MethodName)) ∈ lw_all := lw_g (lw_at lw_m7 129 rfl) rfl
theorem q1668 : (Jvm.Cond.privateMethod ({ cls := "MoveNotesModel", name := "letters", desc := "()V" } : Jvm.MethodName)) ∈ lw_tbl := lw_at lw_m7 130 rfl
theorem q1669 : (Jvm.Cond.instanceMethod ({ cls := "MoveNotesModel", name := "letters", desc := "()V" } : Jvm.MethodName)) ∈ lw_all := lw_g (lw_at lw_m7 131 rfl) rfl
theorem q1670 : (Jvm.Cond.code ({ cls := "MoveNotesModel", name := "letters", desc := "()V" } : Jvm.MethodName) prog_26_method_19_code (1 : Nat) (Option.none : Option Jvm.ClassFile.FieldType)) ∈ lw_all := lw_g (lw_at lw_m7 132 rfl) rfl
theorem q1671 : (Jvm.Cond.methodLink "MoveNotesModel" (225 : Nat) ({ cls := "MoveNotesModel", name := "readKindLine", desc := "(I)Z" } : Jvm.MethodName)) ∈ lw_all := lw_g (lw_at lw_m7 133 rfl) rfl
theorem q1672 : (Jvm.Cond.privateMethod ({ cls := "MoveNotesModel", name := "readKindLine", desc := "(I)Z" } : Jvm.MethodName)) ∈ lw_tbl := lw_at lw_m7 134 rfl
theorem q1673 : (Jvm.Cond.instanceMethod ({ cls := "MoveNotesModel", name := "readKindLine", desc := "(I)Z" } : Jvm.MethodName)) ∈ lw_all := lw_g (lw_at lw_m7 135 rfl) rfl
theorem q1674 : (Jvm.Cond.code ({ cls := "MoveNotesModel", name := "readKindLine", desc := "(I)Z" } : Jvm.MethodName) prog_26_method_34_code (3 : Nat) (Option.some Jvm.ClassFile.FieldType.boolean)) ∈ lw_all := lw_g (lw_at lw_m7 136 rfl) rfl
theorem q1675 : (Jvm.Cond.stringRef "MoveNotesModel" (215 : Nat) "straight") ∈ lw_tbl := lw_at lw_m7 137 rfl
theorem q1676 : (Jvm.Cond.methodLink "MoveNotesModel" (149 : Nat) ({ cls := "MoveNotesModel", name := "isWord", desc := "(Ljava/lang/String;)Z" } : Jvm.MethodName)) ∈ lw_all := lw_g (lw_at lw_m7 138 rfl) rfl
theorem q1677 : (Jvm.Cond.privateMethod ({ cls := "MoveNotesModel", name := "isWord", desc := "(Ljava/lang/String;)Z" } : Jvm.MethodName)) ∈ lw_tbl := lw_at lw_m7 139 rfl
theorem q1678 : (Jvm.Cond.instanceMethod ({ cls := "MoveNotesModel", name := "isWord", desc := "(Ljava/lang/String;)Z" } : Jvm.MethodName)) ∈ lw_all := lw_g (lw_at lw_m7 140 rfl) rfl
theorem q1679 : (Jvm.Cond.code ({ cls := "MoveNotesModel", name := "isWord", desc := "(Ljava/lang/String;)Z" } : Jvm.MethodName) prog_26_method_20_code (4 : Nat) (Option.some Jvm.ClassFile.FieldType.boolean)) ∈ lw_all := lw_g (lw_at lw_m7 141 rfl) rfl
theorem q1680 : (Jvm.Cond.methodLink "MoveNotesModel" (136 : Nat) ({ cls := "java/lang/String", name := "length", desc := "()I" } : Jvm.MethodName)) ∈ lw_all := lw_g (lw_at lw_m7 142 rfl) rfl
theorem q1681 : (Jvm.Cond.methodLink "MoveNotesModel" (142 : Nat) ({ cls := "java/lang/String", name := "charAt", desc := "(I)C" } : Jvm.MethodName)) ∈ lw_all := lw_g (lw_at lw_m7 143 rfl) rfl
theorem q1682 : (Jvm.Cond.stringRef "MoveNotesModel" (217 : Nat) "slant") ∈ lw_tbl := lw_at lw_m7 144 rfl
theorem q1683 : (Jvm.Cond.stringRef "MoveNotesModel" (219 : Nat) "ahead") ∈ lw_tbl := lw_at lw_m7 145 rfl
theorem q1684 : (Jvm.Cond.stringRef "MoveNotesModel" (221 : Nat) "leap") ∈ lw_tbl := lw_at lw_m7 146 rfl
theorem q1685 : (Jvm.Cond.stringRef "MoveNotesModel" (223 : Nat) "bite") ∈ lw_tbl := lw_at lw_m7 147 rfl
theorem q1686 : (Jvm.Cond.methodLink "MoveNotesModel" (170 : Nat) ({ cls := "MoveNotesModel", name := "number", desc := "(II)I" } : Jvm.MethodName)) ∈ lw_all := lw_g (lw_at lw_m7 148 rfl) rfl
theorem q1687 : (Jvm.Cond.privateMethod ({ cls := "MoveNotesModel", name := "number", desc := "(II)I" } : Jvm.MethodName)) ∈ lw_tbl := lw_at lw_m7 149 rfl
theorem q1688 : (Jvm.Cond.instanceMethod ({ cls := "MoveNotesModel", name := "number", desc := "(II)I" } : Jvm.MethodName)) ∈ lw_all := lw_g (lw_at lw_m7 150 rfl) rfl
theorem q1689 : (Jvm.Cond.code ({ cls := "MoveNotesModel", name := "number", desc := "(II)I" } : Jvm.MethodName) prog_26_method_23_code (4 : Nat) (Option.some Jvm.ClassFile.FieldType.int)) ∈ lw_all := lw_g (lw_at lw_m7 151 rfl) rfl
theorem q1690 : (Jvm.Cond.methodLink "MoveNotesModel" (228 : Nat) ({ cls := "MoveNotesModel", name := "readMeasureLine", desc := "(I)Z" } : Jvm.MethodName)) ∈ lw_all := lw_g (lw_at lw_m7 152 rfl) rfl
theorem q1691 : (Jvm.Cond.privateMethod ({ cls := "MoveNotesModel", name := "readMeasureLine", desc := "(I)Z" } : Jvm.MethodName)) ∈ lw_tbl := lw_at lw_m7 153 rfl
theorem q1692 : (Jvm.Cond.instanceMethod ({ cls := "MoveNotesModel", name := "readMeasureLine", desc := "(I)Z" } : Jvm.MethodName)) ∈ lw_all := lw_g (lw_at lw_m7 154 rfl) rfl
theorem q1693 : (Jvm.Cond.code ({ cls := "MoveNotesModel", name := "readMeasureLine", desc := "(I)Z" } : Jvm.MethodName) prog_26_method_33_code (3 : Nat) (Option.some Jvm.ClassFile.FieldType.boolean)) ∈ lw_all := lw_g (lw_at lw_m7 155 rfl) rfl
theorem q1694 : (Jvm.Cond.stringRef "MoveNotesModel" (208 : Nat) "add") ∈ lw_tbl := lw_at lw_m7 156 rfl
theorem q1695 : (Jvm.Cond.methodLink "MoveNotesModel" (210 : Nat) ({ cls := "MoveNotesModel", name := "keepsAt", desc := "(II)Z" } : Jvm.MethodName)) ∈ lw_all := lw_g (lw_at lw_m7 157 rfl) rfl
theorem q1696 : (Jvm.Cond.privateMethod ({ cls := "MoveNotesModel", name := "keepsAt", desc := "(II)Z" } : Jvm.MethodName)) ∈ lw_tbl := lw_at lw_m7 158 rfl
theorem q1697 : (Jvm.Cond.instanceMethod ({ cls := "MoveNotesModel", name := "keepsAt", desc := "(II)Z" } : Jvm.MethodName)) ∈ lw_all := lw_g (lw_at lw_m7 159 rfl) rfl
theorem q1698 : (Jvm.Cond.code ({ cls := "MoveNotesModel", name := "keepsAt", desc := "(II)Z" } : Jvm.MethodName) prog_26_method_32_code (3 : Nat) (Option.some Jvm.ClassFile.FieldType.boolean)) ∈ lw_all := lw_g (lw_at lw_m7 160 rfl) rfl
theorem q1699 : (Jvm.Cond.methodLink "MoveNotesModel" (176 : Nat) ({ cls := "MoveNotesModel", name := "sign", desc := "(I)Z" } : Jvm.MethodName)) ∈ lw_all := lw_g (lw_at lw_m7 161 rfl) rfl
theorem q1700 : (Jvm.Cond.privateMethod ({ cls := "MoveNotesModel", name := "sign", desc := "(I)Z" } : Jvm.MethodName)) ∈ lw_tbl := lw_at lw_m7 162 rfl
theorem q1701 : (Jvm.Cond.instanceMethod ({ cls := "MoveNotesModel", name := "sign", desc := "(I)Z" } : Jvm.MethodName)) ∈ lw_all := lw_g (lw_at lw_m7 163 rfl) rfl
theorem q1702 : (Jvm.Cond.code ({ cls := "MoveNotesModel", name := "sign", desc := "(I)Z" } : Jvm.MethodName) prog_26_method_22_code (2 : Nat) (Option.some Jvm.ClassFile.FieldType.boolean)) ∈ lw_all := lw_g (lw_at lw_m7 164 rfl) rfl
theorem q1703 : (Jvm.Cond.methodLink "MoveNotesModel" (163 : Nat) ({ cls := "MoveNotesModel", name := "factAt", desc := "()I" } : Jvm.MethodName)) ∈ lw_all := lw_g (lw_at lw_m7 165 rfl) rfl
theorem q1704 : (Jvm.Cond.privateMethod ({ cls := "MoveNotesModel", name := "factAt", desc := "()I" } : Jvm.MethodName)) ∈ lw_tbl := lw_at lw_m7 166 rfl
theorem q1705 : (Jvm.Cond.instanceMethod ({ cls := "MoveNotesModel", name := "factAt", desc := "()I" } : Jvm.MethodName)) ∈ lw_all := lw_g (lw_at lw_m7 167 rfl) rfl
theorem q1706 : (Jvm.Cond.code ({ cls := "MoveNotesModel", name := "factAt", desc := "()I" } : Jvm.MethodName) prog_26_method_26_code (1 : Nat) (Option.some Jvm.ClassFile.FieldType.int)) ∈ lw_all := lw_g (lw_at lw_m7 168 rfl) rfl
theorem q1707 : (Jvm.Cond.stringRef "MoveNotesModel" (156 : Nat) "took") ∈ lw_tbl := lw_at lw_m7 169 rfl
theorem q1708 : (Jvm.Cond.stringRef "MoveNotesModel" (158 : Nat) "value") ∈ lw_tbl := lw_at lw_m7 170 rfl
theorem q1709 : (Jvm.Cond.stringRef "MoveNotesModel" (159 : Nat) "number") ∈ lw_tbl := lw_at lw_m7 171 rfl
theorem q1710 : (Jvm.Cond.stringRef "MoveNotesModel" (161 : Nat) "men") ∈ lw_tbl := lw_at lw_m7 172 rfl
theorem q1711 : (Jvm.Cond.stringRef "MoveNotesModel" (213 : Nat) "if") ∈ lw_tbl := lw_at lw_m7 173 rfl
theorem q1712 : (Jvm.Cond.methodLink "MoveNotesModel" (188 : Nat) ({ cls := "MoveNotesModel", name := "passes", desc := "(Ljava/lang/String;)Z" } : Jvm.MethodName)) ∈ lw_all := lw_g (lw_at lw_m7 174 rfl) rfl
theorem q1713 : (Jvm.Cond.privateMethod ({ cls := "MoveNotesModel", name := "passes", desc := "(Ljava/lang/String;)Z" } : Jvm.MethodName)) ∈ lw_tbl := lw_at lw_m7 175 rfl
theorem q1714 : (Jvm.Cond.instanceMethod ({ cls := "MoveNotesModel", name := "passes", desc := "(Ljava/lang/String;)Z" } : Jvm.MethodName)) ∈ lw_all := lw_g (lw_at lw_m7 176 rfl) rfl
theorem q1715 : (Jvm.Cond.code ({ cls := "MoveNotesModel", name := "passes", desc := "(Ljava/lang/String;)Z" } : Jvm.MethodName) prog_26_method_21_code (2 : Nat) (Option.some Jvm.ClassFile.FieldType.boolean)) ∈ lw_all := lw_g (lw_at lw_m7 177 rfl) rfl
theorem q1716 : (Jvm.Cond.methodLink "MoveNotesModel" (183 : Nat) ({ cls := "MoveNotesModel", name := "readCond", desc := "()Z" } : Jvm.MethodName)) ∈ lw_all := lw_g (lw_at lw_m7 178 rfl) rfl
theorem q1717 : (Jvm.Cond.privateMethod ({ cls := "MoveNotesModel", name := "readCond", desc := "()Z" } : Jvm.MethodName)) ∈ lw_tbl := lw_at lw_m7 179 rfl
theorem q1718 : (Jvm.Cond.instanceMethod ({ cls := "MoveNotesModel", name := "readCond", desc := "()Z" } : Jvm.MethodName)) ∈ lw_all := lw_g (lw_at lw_m7 180 rfl) rfl
theorem q1719 : (Jvm.Cond.code ({ cls := "MoveNotesModel", name := "readCond", desc := "()Z" } : Jvm.MethodName) prog_26_method_31_code (1 : Nat) (Option.some Jvm.ClassFile.FieldType.boolean)) ∈ lw_all := lw_g (lw_at lw_m7 181 rfl) rfl
theorem q1720 : (Jvm.Cond.methodLink "MoveNotesModel" (203 : Nat) ({ cls := "MoveNotesModel", name := "readAllOf", desc := "()Z" } : Jvm.MethodName)) ∈ lw_all := lw_g (lw_at lw_m7 182 rfl) rfl
theorem q1721 : (Jvm.Cond.privateMethod ({ cls := "MoveNotesModel", name := "readAllOf", desc := "()Z" } : Jvm.MethodName)) ∈ lw_tbl := lw_at lw_m7 183 rfl
theorem q1722 : (Jvm.Cond.instanceMethod ({ cls := "MoveNotesModel", name := "readAllOf", desc := "()Z" } : Jvm.MethodName)) ∈ lw_all := lw_g (lw_at lw_m7 184 rfl) rfl
theorem q1723 : (Jvm.Cond.code ({ cls := "MoveNotesModel", name := "readAllOf", desc := "()Z" } : Jvm.MethodName) prog_26_method_30_code (1 : Nat) (Option.some Jvm.ClassFile.FieldType.boolean)) ∈ lw_all := lw_g (lw_at lw_m7 185 rfl) rfl
theorem q1724 : (Jvm.Cond.methodLink "MoveNotesModel" (191 : Nat) ({ cls := "MoveNotesModel", name := "readAtom", desc := "()Z" } : Jvm.MethodName)) ∈ lw_all := lw_g (lw_at lw_m7 186 rfl) rfl
theorem q1725 : (Jvm.Cond.privateMethod ({ cls := "MoveNotesModel", name := "readAtom", desc := "()Z" } : Jvm.MethodName)) ∈ lw_tbl := lw_at lw_m7 187 rfl
theorem q1726 : (Jvm.Cond.instanceMethod ({ cls := "MoveNotesModel", name := "readAtom", desc := "()Z" } : Jvm.MethodName)) ∈ lw_all := lw_g (lw_at lw_m7 188 rfl) rfl
theorem q1727 : (Jvm.Cond.code ({ cls := "MoveNotesModel", name := "readAtom", desc := "()Z" } : Jvm.MethodName) prog_26_method_29_code (3 : Nat) (Option.some Jvm.ClassFile.FieldType.boolean)) ∈ lw_all := lw_g (lw_at lw_m7 189 rfl) rfl
theorem q1728 : (Jvm.Cond.stringRef "MoveNotesModel" (186 : Nat) "not") ∈ lw_tbl := lw_at lw_m7 190 rfl
theorem q1729 : (Jvm.Cond.methodLink "MoveNotesModel" (166 : Nat) ({ cls := "MoveNotesModel", name := "emits", desc := "(II)V" } : Jvm.MethodName)) ∈ lw_all := lw_g (lw_at lw_m7 191 rfl) rfl
theorem q1730 : (Jvm.Cond.privateMethod ({ cls := "MoveNotesModel", name := "emits", desc := "(II)V" } : Jvm.MethodName)) ∈ lw_tbl := lw_at lw_m7 192 rfl
theorem q1731 : (Jvm.Cond.instanceMethod ({ cls := "MoveNotesModel", name := "emits", desc := "(II)V" } : Jvm.MethodName)) ∈ lw_all := lw_g (lw_at lw_m7 193 rfl) rfl
theorem q1732 : (Jvm.Cond.code ({ cls := "MoveNotesModel", name := "emits", desc := "(II)V" } : Jvm.MethodName) prog_26_method_25_code (4 : Nat) (Option.none : Option Jvm.ClassFile.FieldType)) ∈ lw_all := lw_g (lw_at lw_m7 194 rfl) rfl
theorem q1733 : (Jvm.Cond.stringRef "MoveNotesModel" (194 : Nat) "takes") ∈ lw_tbl := lw_at lw_m7 195 rfl
theorem q1734 : (Jvm.Cond.stringRef "MoveNotesModel" (196 : Nat) "safe") ∈ lw_tbl := lw_at lw_m7 196 rfl
theorem q1735 : (Jvm.Cond.methodLink "MoveNotesModel" (198 : Nat) ({ cls := "MoveNotesModel", name := "readSum", desc := "()Z" } : Jvm.MethodName)) ∈ lw_all := lw_g (lw_at lw_m7 197 rfl) rfl
theorem q1736 : (Jvm.Cond.privateMethod ({ cls := "MoveNotesModel", name := "readSum", desc := "()Z" } : Jvm.MethodName)) ∈ lw_tbl := lw_at lw_m7 198 rfl
theorem q1737 : (Jvm.Cond.instanceMethod ({ cls := "MoveNotesModel", name := "readSum", desc := "()Z" } : Jvm.MethodName)) ∈ lw_all := lw_g (lw_at lw_m7 199 rfl) rfl
theorem q1738 : (Jvm.Cond.code ({ cls := "MoveNotesModel", name := "readSum", desc := "()Z" } : Jvm.MethodName) prog_26_method_28_code (1 : Nat) (Option.some Jvm.ClassFile.FieldType.boolean)) ∈ lw_all := lw_g (lw_at lw_m7 200 rfl) rfl
theorem q1739 : (Jvm.Cond.methodLink "MoveNotesModel" (172 : Nat) ({ cls := "MoveNotesModel", name := "readPart", desc := "()Z" } : Jvm.MethodName)) ∈ lw_all := lw_g (lw_at lw_m7 201 rfl) rfl
theorem q1740 : (Jvm.Cond.privateMethod ({ cls := "MoveNotesModel", name := "readPart", desc := "()Z" } : Jvm.MethodName)) ∈ lw_tbl := lw_at lw_m7 202 rfl
theorem q1741 : (Jvm.Cond.instanceMethod ({ cls := "MoveNotesModel", name := "readPart", desc := "()Z" } : Jvm.MethodName)) ∈ lw_all := lw_g (lw_at lw_m7 203 rfl) rfl
theorem q1742 : (Jvm.Cond.code ({ cls := "MoveNotesModel", name := "readPart", desc := "()Z" } : Jvm.MethodName) prog_26_method_27_code (2 : Nat) (Option.some Jvm.ClassFile.FieldType.boolean)) ∈ lw_all := lw_g (lw_at lw_m7 204 rfl) rfl
theorem q1743 : (Jvm.Cond.stringRef "MoveNotesModel" (201 : Nat) "and") ∈ lw_tbl := lw_at lw_m7 205 rfl
theorem q1744 : (Jvm.Cond.stringRef "MoveNotesModel" (206 : Nat) "or") ∈ lw_tbl := lw_at lw_m7 206 rfl
theorem q1745 : (Jvm.Cond.methodLink "MoveNotesModel" (106 : Nat) ({ cls := "MoveNotesModel", name := "in", desc := "(III)Z" } : Jvm.MethodName)) ∈ lw_all := lw_g (lw_at lw_m7 207 rfl) rfl
theorem q1746 : (Jvm.Cond.static ({ cls := "MoveNotesModel", name := "in", desc := "(III)Z" } : Jvm.MethodName)) ∈ lw_all := lw_g (lw_at lw_m7 208 rfl) rfl
theorem q1747 : (Jvm.Cond.code ({ cls := "MoveNotesModel", name := "in", desc := "(III)Z" } : Jvm.MethodName) prog_26_method_3_code (3 : Nat) (Option.some Jvm.ClassFile.FieldType.boolean)) ∈ lw_all := lw_g (lw_at lw_m7 209 rfl) rfl
theorem q1748 : (Jvm.Cond.methodLink "MoveNotesModel" (235 : Nat) ({ cls := "MoveNotesModel", name := "throwsIf", desc := "(ZI)Z" } : Jvm.MethodName)) ∈ lw_all := lw_g (lw_at lw_m7 210 rfl) rfl
theorem q1749 : (Jvm.Cond.privateMethod ({ cls := "MoveNotesModel", name := "throwsIf", desc := "(ZI)Z" } : Jvm.MethodName)) ∈ lw_tbl := lw_at lw_m7 211 rfl
theorem q1750 : (Jvm.Cond.instanceMethod ({ cls := "MoveNotesModel", name := "throwsIf", desc := "(ZI)Z" } : Jvm.MethodName)) ∈ lw_all := lw_g (lw_at lw_m7 212 rfl) rfl
theorem q1751 : (Jvm.Cond.code ({ cls := "MoveNotesModel", name := "throwsIf", desc := "(ZI)Z" } : Jvm.MethodName) prog_26_method_2_code (3 : Nat) (Option.some Jvm.ClassFile.FieldType.boolean)) ∈ lw_all := lw_g (lw_at lw_m7 213 rfl) rfl
theorem q1753 : (Jvm.Cond.instanceMethod ({ cls := "MoveNotesModel", name := "measure", desc := "()I" } : Jvm.MethodName)) ∈ lw_all := lw_g (lw_at lw_m7 215 rfl) rfl
theorem q1754 : (Jvm.Cond.selects "MoveNotesModel" ({ cls := "MoveNotesModel", name := "measure", desc := "()I" } : Jvm.MethodName) ({ cls := "MoveNotesModel", name := "measure", desc := "()I" } : Jvm.MethodName)) ∈ lw_all := lw_g (lw_at lw_m7 216 rfl) rfl
theorem q1755 : (Jvm.Cond.code ({ cls := "MoveNotesModel", name := "measure", desc := "()I" } : Jvm.MethodName) prog_26_method_37_code (3 : Nat) (Option.some Jvm.ClassFile.FieldType.int)) ∈ lw_all := lw_g (lw_at lw_m7 217 rfl) rfl
theorem q1757 : (Jvm.Cond.instanceMethod ({ cls := "MoveNotesModel", name := "put", desc := "(III)V" } : Jvm.MethodName)) ∈ lw_all := lw_g (lw_at lw_m7 219 rfl) rfl
theorem q1758 : (Jvm.Cond.selects "MoveNotesModel" ({ cls := "MoveNotesModel", name := "put", desc := "(III)V" } : Jvm.MethodName) ({ cls := "MoveNotesModel", name := "put", desc := "(III)V" } : Jvm.MethodName)) ∈ lw_all := lw_g (lw_at lw_m7 220 rfl) rfl
theorem q1759 : (Jvm.Cond.code ({ cls := "MoveNotesModel", name := "put", desc := "(III)V" } : Jvm.MethodName) prog_26_method_41_code (4 : Nat) (Option.none : Option Jvm.ClassFile.FieldType)) ∈ lw_all := lw_g (lw_at lw_m7 221 rfl) rfl
theorem q1760 : (Jvm.Cond.methodLink "MoveNotesModel" (242 : Nat) ({ cls := "MoveNotesModel", name := "noSquare", desc := "(I)Z" } : Jvm.MethodName)) ∈ lw_all := lw_g (lw_at lw_m7 222 rfl) rfl
theorem q1761 : (Jvm.Cond.static ({ cls := "MoveNotesModel", name := "noSquare", desc := "(I)Z" } : Jvm.MethodName)) ∈ lw_all := lw_g (lw_at lw_m7 223 rfl) rfl
theorem q1762 : (Jvm.Cond.code ({ cls := "MoveNotesModel", name := "noSquare", desc := "(I)Z" } : Jvm.MethodName) prog_26_method_10_code (1 : Nat) (Option.some Jvm.ClassFile.FieldType.boolean)) ∈ lw_all := lw_g (lw_at lw_m7 224 rfl) rfl
theorem q1763 : (Jvm.Cond.methodLink "MoveNotesModel" (245 : Nat) ({ cls := "MoveNotesModel", name := "noKind", desc := "(I)Z" } : Jvm.MethodName)) ∈ lw_all := lw_g (lw_at lw_m7 225 rfl) rfl
theorem q1764 : (Jvm.Cond.privateMethod ({ cls := "MoveNotesModel", name := "noKind", desc := "(I)Z" } : Jvm.MethodName)) ∈ lw_tbl := lw_at lw_m7 226 rfl
theorem q1765 : (Jvm.Cond.instanceMethod ({ cls := "MoveNotesModel", name := "noKind", desc := "(I)Z" } : Jvm.MethodName)) ∈ lw_all := lw_g (lw_at lw_m7 227 rfl) rfl
theorem q1766 : (Jvm.Cond.code ({ cls := "MoveNotesModel", name := "noKind", desc := "(I)Z" } : Jvm.MethodName) prog_26_method_8_code (2 : Nat) (Option.some Jvm.ClassFile.FieldType.boolean)) ∈ lw_all := lw_g (lw_at lw_m7 228 rfl) rfl
theorem q1767 : (Jvm.Cond.methodLink "MoveNotesModel" (110 : Nat) ({ cls := "MoveNotesModel", name := "none", desc := "(II)Z" } : Jvm.MethodName)) ∈ lw_all := lw_g (lw_at lw_m7 229 rfl) rfl
theorem q1768 : (Jvm.Cond.privateMethod ({ cls := "MoveNotesModel", name := "none", desc := "(II)Z" } : Jvm.MethodName)) ∈ lw_tbl := lw_at lw_m7 230 rfl
theorem q1769 : (Jvm.Cond.instanceMethod ({ cls := "MoveNotesModel", name := "none", desc := "(II)Z" } : Jvm.MethodName)) ∈ lw_all := lw_g (lw_at lw_m7 231 rfl) rfl
theorem q1770 : (Jvm.Cond.code ({ cls := "MoveNotesModel", name := "none", desc := "(II)Z" } : Jvm.MethodName) prog_26_method_7_code (3 : Nat) (Option.some Jvm.ClassFile.FieldType.boolean)) ∈ lw_all := lw_g (lw_at lw_m7 232 rfl) rfl
theorem q1771 : (Jvm.Cond.methodLink "MoveNotesModel" (248 : Nat) ({ cls := "MoveNotesModel", name := "man", desc := "(II)I" } : Jvm.MethodName)) ∈ lw_all := lw_g (lw_at lw_m7 233 rfl) rfl
theorem q1772 : (Jvm.Cond.static ({ cls := "MoveNotesModel", name := "man", desc := "(II)I" } : Jvm.MethodName)) ∈ lw_all := lw_g (lw_at lw_m7 234 rfl) rfl
theorem q1773 : (Jvm.Cond.code ({ cls := "MoveNotesModel", name := "man", desc := "(II)I" } : Jvm.MethodName) prog_26_method_40_code (2 : Nat) (Option.some Jvm.ClassFile.FieldType.int)) ∈ lw_all := lw_g (lw_at lw_m7 235 rfl) rfl
theorem q1775 : (Jvm.Cond.instanceMethod ({ cls := "MoveNotesModel", name := "book", desc := "(I)I" } : Jvm.MethodName)) ∈ lw_all := lw_g (lw_at lw_m7 237 rfl) rfl
theorem q1776 : (Jvm.Cond.selects "MoveNotesModel" ({ cls := "MoveNotesModel", name := "book", desc := "(I)I" } : Jvm.MethodName) ({ cls := "MoveNotesModel", name := "book", desc := "(I)I" } : Jvm.MethodName)) ∈ lw_all := lw_g (lw_at lw_m7 238 rfl) rfl
theorem q1777 : (Jvm.Cond.code ({ cls := "MoveNotesModel", name := "book", desc := "(I)I" } : Jvm.MethodName) prog_26_method_42_code (3 : Nat) (Option.some Jvm.ClassFile.FieldType.int)) ∈ lw_all := lw_g (lw_at lw_m7 239 rfl) rfl
theorem q1779 : (Jvm.Cond.instanceMethod ({ cls := "MoveNotesModel", name := "note", desc := "(IIIII)I" } : Jvm.MethodName)) ∈ lw_all := lw_g (lw_at lw_m8 1 rfl) rfl
theorem q1780 : (Jvm.Cond.selects "MoveNotesModel" ({ cls := "MoveNotesModel", name := "note", desc := "(IIIII)I" } : Jvm.MethodName) ({ cls := "MoveNotesModel", name := "note", desc := "(IIIII)I" } : Jvm.MethodName)) ∈ lw_all := lw_g (lw_at lw_m8 2 rfl) rfl
theorem q1781 : (Jvm.Cond.code ({ cls := "MoveNotesModel", name := "note", desc := "(IIIII)I" } : Jvm.MethodName) prog_26_method_46_code (6 : Nat) (Option.some Jvm.ClassFile.FieldType.int)) ∈ lw_all := lw_g (lw_at lw_m8 3 rfl) rfl
theorem q1782 : (Jvm.Cond.methodLink "MoveNotesModel" (259 : Nat) ({ cls := "MoveNotesModel", name := "noBook", desc := "(I)Z" } : Jvm.MethodName)) ∈ lw_all := lw_g (lw_at lw_m8 4 rfl) rfl
theorem q1783 : (Jvm.Cond.privateMethod ({ cls := "MoveNotesModel", name := "noBook", desc := "(I)Z" } : Jvm.MethodName)) ∈ lw_tbl := lw_at lw_m8 5 rfl
theorem q1784 : (Jvm.Cond.instanceMethod ({ cls := "MoveNotesModel", name := "noBook", desc := "(I)Z" } : Jvm.MethodName)) ∈ lw_all := lw_g (lw_at lw_m8 6 rfl) rfl
theorem q1785 : (Jvm.Cond.code ({ cls := "MoveNotesModel", name := "noBook", desc := "(I)Z" } : Jvm.MethodName) prog_26_method_9_code (2 : Nat) (Option.some Jvm.ClassFile.FieldType.boolean)) ∈ lw_all := lw_g (lw_at lw_m8 7 rfl) rfl
theorem q1786 : (Jvm.Cond.methodLink "MoveNotesModel" (262 : Nat) ({ cls := "MoveNotesModel", name := "badNote", desc := "(III)Z" } : Jvm.MethodName)) ∈ lw_all := lw_g (lw_at lw_m8 8 rfl) rfl
theorem q1787 : (Jvm.Cond.static ({ cls := "MoveNotesModel", name := "badNote", desc := "(III)Z" } : Jvm.MethodName)) ∈ lw_all := lw_g (lw_at lw_m8 9 rfl) rfl
theorem q1788 : (Jvm.Cond.code ({ cls := "MoveNotesModel", name := "badNote", desc := "(III)Z" } : Jvm.MethodName) prog_26_method_43_code (3 : Nat) (Option.some Jvm.ClassFile.FieldType.boolean)) ∈ lw_all := lw_g (lw_at lw_m8 10 rfl) rfl
theorem q1789 : (Jvm.Cond.methodLink "MoveNotesModel" (251 : Nat) ({ cls := "MoveNotesModel", name := "notes", desc := "(I)I" } : Jvm.MethodName)) ∈ lw_all := lw_g (lw_at lw_m8 11 rfl) rfl
theorem q1790 : (Jvm.Cond.privateMethod ({ cls := "MoveNotesModel", name := "notes", desc := "(I)I" } : Jvm.MethodName)) ∈ lw_tbl := lw_at lw_m8 12 rfl
theorem q1791 : (Jvm.Cond.instanceMethod ({ cls := "MoveNotesModel", name := "notes", desc := "(I)I" } : Jvm.MethodName)) ∈ lw_all := lw_g (lw_at lw_m8 13 rfl) rfl
theorem q1792 : (Jvm.Cond.code ({ cls := "MoveNotesModel", name := "notes", desc := "(I)I" } : Jvm.MethodName) prog_26_method_13_code (2 : Nat) (Option.some Jvm.ClassFile.FieldType.int)) ∈ lw_all := lw_g (lw_at lw_m8 14 rfl) rfl
theorem q1793 : (Jvm.Cond.methodLink "MoveNotesModel" (114 : Nat) ({ cls := "MoveNotesModel", name := "ofBook", desc := "(II)I" } : Jvm.MethodName)) ∈ lw_all := lw_g (lw_at lw_m8 15 rfl) rfl
theorem q1794 : (Jvm.Cond.privateMethod ({ cls := "MoveNotesModel", name := "ofBook", desc := "(II)I" } : Jvm.MethodName)) ∈ lw_tbl := lw_at lw_m8 16 rfl
theorem q1795 : (Jvm.Cond.instanceMethod ({ cls := "MoveNotesModel", name := "ofBook", desc := "(II)I" } : Jvm.MethodName)) ∈ lw_all := lw_g (lw_at lw_m8 17 rfl) rfl
theorem q1796 : (Jvm.Cond.code ({ cls := "MoveNotesModel", name := "ofBook", desc := "(II)I" } : Jvm.MethodName) prog_26_method_12_code (3 : Nat) (Option.some Jvm.ClassFile.FieldType.int)) ∈ lw_all := lw_g (lw_at lw_m8 18 rfl) rfl
theorem q1797 : (Jvm.Cond.methodLink "MoveNotesModel" (265 : Nat) ({ cls := "MoveNotesModel", name := "addsNote", desc := "(IIIII)I" } : Jvm.MethodName)) ∈ lw_all := lw_g (lw_at lw_m8 19 rfl) rfl
theorem q1798 : (Jvm.Cond.privateMethod ({ cls := "MoveNotesModel", name := "addsNote", desc := "(IIIII)I" } : Jvm.MethodName)) ∈ lw_tbl := lw_at lw_m8 20 rfl
theorem q1799 : (Jvm.Cond.instanceMethod ({ cls := "MoveNotesModel", name := "addsNote", desc := "(IIIII)I" } : Jvm.MethodName)) ∈ lw_all := lw_g (lw_at lw_m8 21 rfl) rfl
theorem q1800 : (Jvm.Cond.code ({ cls := "MoveNotesModel", name := "addsNote", desc := "(IIIII)I" } : Jvm.MethodName) prog_26_method_45_code (6 : Nat) (Option.some Jvm.ClassFile.FieldType.int)) ∈ lw_all := lw_g (lw_at lw_m8 22 rfl) rfl
theorem q1801 : (Jvm.Cond.methodLink "MoveNotesModel" (255 : Nat) ({ cls := "MoveNotesModel", name := "setsNote", desc := "(IIIIII)V" } : Jvm.MethodName)) ∈ lw_all := lw_g (lw_at lw_m8 23 rfl) rfl
theorem q1802 : (Jvm.Cond.privateMethod ({ cls := "MoveNotesModel", name := "setsNote", desc := "(IIIIII)V" } : Jvm.MethodName)) ∈ lw_tbl := lw_at lw_m8 24 rfl
theorem q1803 : (Jvm.Cond.instanceMethod ({ cls := "MoveNotesModel", name := "setsNote", desc := "(IIIIII)V" } : Jvm.MethodName)) ∈ lw_all := lw_g (lw_at lw_m8 25 rfl) rfl
theorem q1804 : (Jvm.Cond.code ({ cls := "MoveNotesModel", name := "setsNote", desc := "(IIIIII)V" } : Jvm.MethodName) prog_26_method_44_code (8 : Nat) (Option.none : Option Jvm.ClassFile.FieldType)) ∈ lw_all := lw_g (lw_at lw_m8 26 rfl) rfl
theorem q1806 : (Jvm.Cond.instanceMethod ({ cls := "MoveNotesModel", name := "change", desc := "(IIIIII)Z" } : Jvm.MethodName)) ∈ lw_all := lw_g (lw_at lw_m8 28 rfl) rfl
theorem q1807 : (Jvm.Cond.selects "MoveNotesModel" ({ cls := "MoveNotesModel", name := "change", desc := "(IIIIII)Z" } : Jvm.MethodName) ({ cls := "MoveNotesModel", name := "change", desc := "(IIIIII)Z" } : Jvm.MethodName)) ∈ lw_all := lw_g (lw_at lw_m8 29 rfl) rfl
theorem q1808 : (Jvm.Cond.code ({ cls := "MoveNotesModel", name := "change", desc := "(IIIIII)Z" } : Jvm.MethodName) prog_26_method_48_code (8 : Nat) (Option.some Jvm.ClassFile.FieldType.boolean)) ∈ lw_all := lw_g (lw_at lw_m8 30 rfl) rfl
theorem q1809 : (Jvm.Cond.methodLink "MoveNotesModel" (269 : Nat) ({ cls := "MoveNotesModel", name := "noNote", desc := "(II)Z" } : Jvm.MethodName)) ∈ lw_all := lw_g (lw_at lw_m8 31 rfl) rfl
theorem q1810 : (Jvm.Cond.privateMethod ({ cls := "MoveNotesModel", name := "noNote", desc := "(II)Z" } : Jvm.MethodName)) ∈ lw_tbl := lw_at lw_m8 32 rfl
theorem q1811 : (Jvm.Cond.instanceMethod ({ cls := "MoveNotesModel", name := "noNote", desc := "(II)Z" } : Jvm.MethodName)) ∈ lw_all := lw_g (lw_at lw_m8 33 rfl) rfl
theorem q1812 : (Jvm.Cond.code ({ cls := "MoveNotesModel", name := "noNote", desc := "(II)Z" } : Jvm.MethodName) prog_26_method_47_code (3 : Nat) (Option.some Jvm.ClassFile.FieldType.boolean)) ∈ lw_all := lw_g (lw_at lw_m8 34 rfl) rfl
theorem q1813 : (Jvm.Cond.methodLink "MoveNotesModel" (272 : Nat) ({ cls := "MoveNotesModel", name := "ofNote", desc := "(III)I" } : Jvm.MethodName)) ∈ lw_all := lw_g (lw_at lw_m8 35 rfl) rfl
theorem q1814 : (Jvm.Cond.privateMethod ({ cls := "MoveNotesModel", name := "ofNote", desc := "(III)I" } : Jvm.MethodName)) ∈ lw_tbl := lw_at lw_m8 36 rfl
theorem q1815 : (Jvm.Cond.instanceMethod ({ cls := "MoveNotesModel", name := "ofNote", desc := "(III)I" } : Jvm.MethodName)) ∈ lw_all := lw_g (lw_at lw_m8 37 rfl) rfl
theorem q1816 : (Jvm.Cond.code ({ cls := "MoveNotesModel", name := "ofNote", desc := "(III)I" } : Jvm.MethodName) prog_26_method_14_code (4 : Nat) (Option.some Jvm.ClassFile.FieldType.int)) ∈ lw_all := lw_g (lw_at lw_m8 38 rfl) rfl
theorem q1818 : (Jvm.Cond.instanceMethod ({ cls := "MoveNotesModel", name := "look", desc := "(III)I" } : Jvm.MethodName)) ∈ lw_all := lw_g (lw_at lw_m8 40 rfl) rfl
theorem q1819 : (Jvm.Cond.selects "MoveNotesModel" ({ cls := "MoveNotesModel", name := "look", desc := "(III)I" } : Jvm.MethodName) ({ cls := "MoveNotesModel", name := "look", desc := "(III)I" } : Jvm.MethodName)) ∈ lw_all := lw_g (lw_at lw_m8 41 rfl) rfl
theorem q1820 : (Jvm.Cond.code ({ cls := "MoveNotesModel", name := "look", desc := "(III)I" } : Jvm.MethodName) prog_26_method_49_code (4 : Nat) (Option.some Jvm.ClassFile.FieldType.int)) ∈ lw_all := lw_g (lw_at lw_m8 42 rfl) rfl
theorem q1822 : (Jvm.Cond.instanceMethod ({ cls := "MoveNotesModel", name := "price", desc := "(II)I" } : Jvm.MethodName)) ∈ lw_all := lw_g (lw_at lw_m8 44 rfl) rfl
theorem q1823 : (Jvm.Cond.selects "MoveNotesModel" ({ cls := "MoveNotesModel", name := "price", desc := "(II)I" } : Jvm.MethodName) ({ cls := "MoveNotesModel", name := "price", desc := "(II)I" } : Jvm.MethodName)) ∈ lw_all := lw_g (lw_at lw_m8 45 rfl) rfl
theorem q1824 : (Jvm.Cond.code ({ cls := "MoveNotesModel", name := "price", desc := "(II)I" } : Jvm.MethodName) prog_26_method_50_code (4 : Nat) (Option.some Jvm.ClassFile.FieldType.int)) ∈ lw_all := lw_g (lw_at lw_m8 46 rfl) rfl
theorem q1826 : (Jvm.Cond.instanceMethod ({ cls := "MoveNotesModel", name := "length", desc := "(I)V" } : Jvm.MethodName)) ∈ lw_all := lw_g (lw_at lw_m8 48 rfl) rfl
theorem q1827 : (Jvm.Cond.selects "MoveNotesModel" ({ cls := "MoveNotesModel", name := "length", desc := "(I)V" } : Jvm.MethodName) ({ cls := "MoveNotesModel", name := "length", desc := "(I)V" } : Jvm.MethodName)) ∈ lw_all := lw_g (lw_at lw_m8 49 rfl) rfl
theorem q1828 : (Jvm.Cond.code ({ cls := "MoveNotesModel", name := "length", desc := "(I)V" } : Jvm.MethodName) prog_26_method_51_code (2 : Nat) (Option.none : Option Jvm.ClassFile.FieldType)) ∈ lw_all := lw_g (lw_at lw_m8 50 rfl) rfl
theorem q1830 : (Jvm.Cond.instanceMethod ({ cls := "MoveNotesModel", name := "picture", desc := "(IIII)I" } : Jvm.MethodName)) ∈ lw_all := lw_g (lw_at lw_m8 52 rfl) rfl
theorem q1831 : (Jvm.Cond.selects "MoveNotesModel" ({ cls := "MoveNotesModel", name := "picture", desc := "(IIII)I" } : Jvm.MethodName) ({ cls := "MoveNotesModel", name := "picture", desc := "(IIII)I" } : Jvm.MethodName)) ∈ lw_all := lw_g (lw_at lw_m8 53 rfl) rfl
theorem q1832 : (Jvm.Cond.code ({ cls := "MoveNotesModel", name := "picture", desc := "(IIII)I" } : Jvm.MethodName) prog_26_method_52_code (6 : Nat) (Option.some Jvm.ClassFile.FieldType.int)) ∈ lw_all := lw_g (lw_at lw_m8 54 rfl) rfl
theorem q1834 : (Jvm.Cond.instanceMethod ({ cls := "MoveNotesModel", name := "moves", desc := "(II)I" } : Jvm.MethodName)) ∈ lw_all := lw_g (lw_at lw_m8 56 rfl) rfl
theorem q1835 : (Jvm.Cond.selects "MoveNotesModel" ({ cls := "MoveNotesModel", name := "moves", desc := "(II)I" } : Jvm.MethodName) ({ cls := "MoveNotesModel", name := "moves", desc := "(II)I" } : Jvm.MethodName)) ∈ lw_all := lw_g (lw_at lw_m8 57 rfl) rfl
theorem q1836 : (Jvm.Cond.code ({ cls := "MoveNotesModel", name := "moves", desc := "(II)I" } : Jvm.MethodName) prog_26_method_66_code (3 : Nat) (Option.some Jvm.ClassFile.FieldType.int)) ∈ lw_all := lw_g (lw_at lw_m8 58 rfl) rfl
theorem q1837 : (Jvm.Cond.methodLink "MoveNotesModel" (302 : Nat) ({ cls := "MoveNotesModel", name := "begins", desc := "()V" } : Jvm.MethodName)) ∈ lw_all := lw_g (lw_at lw_m8 59 rfl) rfl
theorem q1838 : (Jvm.Cond.privateMethod ({ cls := "MoveNotesModel", name := "begins", desc := "()V" } : Jvm.MethodName)) ∈ lw_tbl := lw_at lw_m8 60 rfl
theorem q1839 : (Jvm.Cond.instanceMethod ({ cls := "MoveNotesModel", name := "begins", desc := "()V" } : Jvm.MethodName)) ∈ lw_all := lw_g (lw_at lw_m8 61 rfl) rfl
theorem q1840 : (Jvm.Cond.code ({ cls := "MoveNotesModel", name := "begins", desc := "()V" } : Jvm.MethodName) prog_26_method_62_code (2 : Nat) (Option.none : Option Jvm.ClassFile.FieldType)) ∈ lw_all := lw_g (lw_at lw_m8 62 rfl) rfl
theorem q1841 : (Jvm.Cond.methodLink "MoveNotesModel" (305 : Nat) ({ cls := "MoveNotesModel", name := "finds", desc := "(II)V" } : Jvm.MethodName)) ∈ lw_all := lw_g (lw_at lw_m8 63 rfl) rfl
theorem q1842 : (Jvm.Cond.privateMethod ({ cls := "MoveNotesModel", name := "finds", desc := "(II)V" } : Jvm.MethodName)) ∈ lw_tbl := lw_at lw_m8 64 rfl
theorem q1843 : (Jvm.Cond.instanceMethod ({ cls := "MoveNotesModel", name := "finds", desc := "(II)V" } : Jvm.MethodName)) ∈ lw_all := lw_g (lw_at lw_m8 65 rfl) rfl
theorem q1844 : (Jvm.Cond.code ({ cls := "MoveNotesModel", name := "finds", desc := "(II)V" } : Jvm.MethodName) prog_26_method_61_code (4 : Nat) (Option.none : Option Jvm.ClassFile.FieldType)) ∈ lw_all := lw_g (lw_at lw_m8 66 rfl) rfl
theorem q1845 : (Jvm.Cond.methodLink "MoveNotesModel" (279 : Nat) ({ cls := "MoveNotesModel", name := "at", desc := "(II)I" } : Jvm.MethodName)) ∈ lw_all := lw_g (lw_at lw_m8 67 rfl) rfl
theorem q1846 : (Jvm.Cond.privateMethod ({ cls := "MoveNotesModel", name := "at", desc := "(II)I" } : Jvm.MethodName)) ∈ lw_tbl := lw_at lw_m8 68 rfl
theorem q1847 : (Jvm.Cond.instanceMethod ({ cls := "MoveNotesModel", name := "at", desc := "(II)I" } : Jvm.MethodName)) ∈ lw_all := lw_g (lw_at lw_m8 69 rfl) rfl
theorem q1848 : (Jvm.Cond.code ({ cls := "MoveNotesModel", name := "at", desc := "(II)I" } : Jvm.MethodName) prog_26_method_53_code (3 : Nat) (Option.some Jvm.ClassFile.FieldType.int)) ∈ lw_all := lw_g (lw_at lw_m8 70 rfl) rfl
theorem q1849 : (Jvm.Cond.methodLink "MoveNotesModel" (282 : Nat) ({ cls := "MoveNotesModel", name := "sideOf", desc := "(I)I" } : Jvm.MethodName)) ∈ lw_all := lw_g (lw_at lw_m8 71 rfl) rfl
theorem q1850 : (Jvm.Cond.static ({ cls := "MoveNotesModel", name := "sideOf", desc := "(I)I" } : Jvm.MethodName)) ∈ lw_all := lw_g (lw_at lw_m8 72 rfl) rfl
theorem q1851 : (Jvm.Cond.code ({ cls := "MoveNotesModel", name := "sideOf", desc := "(I)I" } : Jvm.MethodName) prog_26_method_54_code (1 : Nat) (Option.some Jvm.ClassFile.FieldType.int)) ∈ lw_all := lw_g (lw_at lw_m8 73 rfl) rfl
theorem q1852 : (Jvm.Cond.methodLink "MoveNotesModel" (299 : Nat) ({ cls := "MoveNotesModel", name := "goes", desc := "(II)V" } : Jvm.MethodName)) ∈ lw_all := lw_g (lw_at lw_m8 74 rfl) rfl
theorem q1853 : (Jvm.Cond.privateMethod ({ cls := "MoveNotesModel", name := "goes", desc := "(II)V" } : Jvm.MethodName)) ∈ lw_tbl := lw_at lw_m8 75 rfl
theorem q1854 : (Jvm.Cond.instanceMethod ({ cls := "MoveNotesModel", name := "goes", desc := "(II)V" } : Jvm.MethodName)) ∈ lw_all := lw_g (lw_at lw_m8 76 rfl) rfl
theorem q1855 : (Jvm.Cond.code ({ cls := "MoveNotesModel", name := "goes", desc := "(II)V" } : Jvm.MethodName) prog_26_method_60_code (11 : Nat) (Option.none : Option Jvm.ClassFile.FieldType)) ∈ lw_all := lw_g (lw_at lw_m8 77 rfl) rfl
theorem q1856 : (Jvm.Cond.methodLink "MoveNotesModel" (289 : Nat) ({ cls := "MoveNotesModel", name := "along", desc := "(IIIIIZ)V" } : Jvm.MethodName)) ∈ lw_all := lw_g (lw_at lw_m8 78 rfl) rfl
theorem q1857 : (Jvm.Cond.privateMethod ({ cls := "MoveNotesModel", name := "along", desc := "(IIIIIZ)V" } : Jvm.MethodName)) ∈ lw_tbl := lw_at lw_m8 79 rfl
theorem q1858 : (Jvm.Cond.instanceMethod ({ cls := "MoveNotesModel", name := "along", desc := "(IIIIIZ)V" } : Jvm.MethodName)) ∈ lw_all := lw_g (lw_at lw_m8 80 rfl) rfl
theorem q1859 : (Jvm.Cond.code ({ cls := "MoveNotesModel", name := "along", desc := "(IIIIIZ)V" } : Jvm.MethodName) prog_26_method_57_code (10 : Nat) (Option.none : Option Jvm.ClassFile.FieldType)) ∈ lw_all := lw_g (lw_at lw_m8 81 rfl) rfl
theorem q1860 : (Jvm.Cond.methodLink "MoveNotesModel" (276 : Nat) ({ cls := "MoveNotesModel", name := "off", desc := "(III)I" } : Jvm.MethodName)) ∈ lw_all := lw_g (lw_at lw_m8 82 rfl) rfl
theorem q1861 : (Jvm.Cond.static ({ cls := "MoveNotesModel", name := "off", desc := "(III)I" } : Jvm.MethodName)) ∈ lw_all := lw_g (lw_at lw_m8 83 rfl) rfl
theorem q1862 : (Jvm.Cond.code ({ cls := "MoveNotesModel", name := "off", desc := "(III)I" } : Jvm.MethodName) prog_26_method_55_code (5 : Nat) (Option.some Jvm.ClassFile.FieldType.int)) ∈ lw_all := lw_g (lw_at lw_m8 84 rfl) rfl
theorem q1863 : (Jvm.Cond.methodLink "MoveNotesModel" (285 : Nat) ({ cls := "MoveNotesModel", name := "may", desc := "(III)V" } : Jvm.MethodName)) ∈ lw_all := lw_g (lw_at lw_m8 85 rfl) rfl
theorem q1864 : (Jvm.Cond.privateMethod ({ cls := "MoveNotesModel", name := "may", desc := "(III)V" } : Jvm.MethodName)) ∈ lw_tbl := lw_at lw_m8 86 rfl
theorem q1865 : (Jvm.Cond.instanceMethod ({ cls := "MoveNotesModel", name := "may", desc := "(III)V" } : Jvm.MethodName)) ∈ lw_all := lw_g (lw_at lw_m8 87 rfl) rfl
theorem q1866 : (Jvm.Cond.code ({ cls := "MoveNotesModel", name := "may", desc := "(III)V" } : Jvm.MethodName) prog_26_method_56_code (4 : Nat) (Option.none : Option Jvm.ClassFile.FieldType)) ∈ lw_all := lw_g (lw_at lw_m8 88 rfl) rfl
theorem q1867 : (Jvm.Cond.methodLink "MoveNotesModel" (293 : Nat) ({ cls := "MoveNotesModel", name := "leaps", desc := "(II)V" } : Jvm.MethodName)) ∈ lw_all := lw_g (lw_at lw_m8 89 rfl) rfl
theorem q1868 : (Jvm.Cond.privateMethod ({ cls := "MoveNotesModel", name := "leaps", desc := "(II)V" } : Jvm.MethodName)) ∈ lw_tbl := lw_at lw_m8 90 rfl
theorem q1869 : (Jvm.Cond.instanceMethod ({ cls := "MoveNotesModel", name := "leaps", desc := "(II)V" } : Jvm.MethodName)) ∈ lw_all := lw_g (lw_at lw_m8 91 rfl) rfl
theorem q1870 : (Jvm.Cond.code ({ cls := "MoveNotesModel", name := "leaps", desc := "(II)V" } : Jvm.MethodName) prog_26_method_58_code (5 : Nat) (Option.none : Option Jvm.ClassFile.FieldType)) ∈ lw_all := lw_g (lw_at lw_m8 92 rfl) rfl
theorem q1871 : (Jvm.Cond.methodLink "MoveNotesModel" (296 : Nat) ({ cls := "MoveNotesModel", name := "bites", desc := "(III)V" } : Jvm.MethodName)) ∈ lw_all := lw_g (lw_at lw_m8 93 rfl) rfl
theorem q1872 : (Jvm.Cond.privateMethod ({ cls := "MoveNotesModel", name := "bites", desc := "(III)V" } : Jvm.MethodName)) ∈ lw_tbl := lw_at lw_m8 94 rfl
theorem q1873 : (Jvm.Cond.instanceMethod ({ cls := "MoveNotesModel", name := "bites", desc := "(III)V" } : Jvm.MethodName)) ∈ lw_all := lw_g (lw_at lw_m8 95 rfl) rfl
theorem q1874 : (Jvm.Cond.code ({ cls := "MoveNotesModel", name := "bites", desc := "(III)V" } : Jvm.MethodName) prog_26_method_59_code (6 : Nat) (Option.none : Option Jvm.ClassFile.FieldType)) ∈ lw_all := lw_g (lw_at lw_m8 96 rfl) rfl
theorem q1875 : (Jvm.Cond.methodLink "MoveNotesModel" (308 : Nat) ({ cls := "MoveNotesModel", name := "manyAt", desc := "(I)I" } : Jvm.MethodName)) ∈ lw_all := lw_g (lw_at lw_m8 97 rfl) rfl
theorem q1876 : (Jvm.Cond.privateMethod ({ cls := "MoveNotesModel", name := "manyAt", desc := "(I)I" } : Jvm.MethodName)) ∈ lw_tbl := lw_at lw_m8 98 rfl
theorem q1877 : (Jvm.Cond.instanceMethod ({ cls := "MoveNotesModel", name := "manyAt", desc := "(I)I" } : Jvm.MethodName)) ∈ lw_all := lw_g (lw_at lw_m8 99 rfl) rfl
theorem q1878 : (Jvm.Cond.code ({ cls := "MoveNotesModel", name := "manyAt", desc := "(I)I" } : Jvm.MethodName) prog_26_method_64_code (4 : Nat) (Option.some Jvm.ClassFile.FieldType.int)) ∈ lw_all := lw_g (lw_at lw_m8 100 rfl) rfl
theorem q1879 : (Jvm.Cond.methodLink "MoveNotesModel" (311 : Nat) ({ cls := "MoveNotesModel", name := "moveAt", desc := "(II)I" } : Jvm.MethodName)) ∈ lw_all := lw_g (lw_at lw_m8 101 rfl) rfl
theorem q1880 : (Jvm.Cond.privateMethod ({ cls := "MoveNotesModel", name := "moveAt", desc := "(II)I" } : Jvm.MethodName)) ∈ lw_tbl := lw_at lw_m8 102 rfl
theorem q1881 : (Jvm.Cond.instanceMethod ({ cls := "MoveNotesModel", name := "moveAt", desc := "(II)I" } : Jvm.MethodName)) ∈ lw_all := lw_g (lw_at lw_m8 103 rfl) rfl
theorem q1882 : (Jvm.Cond.code ({ cls := "MoveNotesModel", name := "moveAt", desc := "(II)I" } : Jvm.MethodName) prog_26_method_65_code (5 : Nat) (Option.some Jvm.ClassFile.FieldType.int)) ∈ lw_all := lw_g (lw_at lw_m8 104 rfl) rfl
theorem q1884 : (Jvm.Cond.instanceMethod ({ cls := "MoveNotesModel", name := "least", desc := "()I" } : Jvm.MethodName)) ∈ lw_all := lw_g (lw_at lw_m8 106 rfl) rfl
theorem q1885 : (Jvm.Cond.selects "MoveNotesModel" ({ cls := "MoveNotesModel", name := "least", desc := "()I" } : Jvm.MethodName) ({ cls := "MoveNotesModel", name := "least", desc := "()I" } : Jvm.MethodName)) ∈ lw_all := lw_g (lw_at lw_m8 107 rfl) rfl
theorem q1886 : (Jvm.Cond.code ({ cls := "MoveNotesModel", name := "least", desc := "()I" } : Jvm.MethodName) prog_26_method_89_code (1 : Nat) (Option.some Jvm.ClassFile.FieldType.int)) ∈ lw_all := lw_g (lw_at lw_m8 108 rfl) rfl
theorem q1887 : (Jvm.Cond.methodLink "MoveNotesModel" (441 : Nat) ({ cls := "MoveNotesModel", name := "asksWhole", desc := "()I" } : Jvm.MethodName)) ∈ lw_all := lw_g (lw_at lw_m8 109 rfl) rfl
theorem q1888 : (Jvm.Cond.privateMethod ({ cls := "MoveNotesModel", name := "asksWhole", desc := "()I" } : Jvm.MethodName)) ∈ lw_tbl := lw_at lw_m8 110 rfl
theorem q1889 : (Jvm.Cond.instanceMethod ({ cls := "MoveNotesModel", name := "asksWhole", desc := "()I" } : Jvm.MethodName)) ∈ lw_all := lw_g (lw_at lw_m8 111 rfl) rfl
theorem q1890 : (Jvm.Cond.code ({ cls := "MoveNotesModel", name := "asksWhole", desc := "()I" } : Jvm.MethodName) prog_26_method_88_code (1 : Nat) (Option.some Jvm.ClassFile.FieldType.int)) ∈ lw_all := lw_g (lw_at lw_m8 112 rfl) rfl
theorem q1891 : (Jvm.Cond.methodLink "MoveNotesModel" (435 : Nat) ({ cls := "MoveNotesModel", name := "asksAll", desc := "()V" } : Jvm.MethodName)) ∈ lw_all := lw_g (lw_at lw_m8 113 rfl) rfl
theorem q1892 : (Jvm.Cond.privateMethod ({ cls := "MoveNotesModel", name := "asksAll", desc := "()V" } : Jvm.MethodName)) ∈ lw_tbl := lw_at lw_m8 114 rfl
theorem q1893 : (Jvm.Cond.instanceMethod ({ cls := "MoveNotesModel", name := "asksAll", desc := "()V" } : Jvm.MethodName)) ∈ lw_all := lw_g (lw_at lw_m8 115 rfl) rfl
theorem q1894 : (Jvm.Cond.code ({ cls := "MoveNotesModel", name := "asksAll", desc := "()V" } : Jvm.MethodName) prog_26_method_68_code (2 : Nat) (Option.none : Option Jvm.ClassFile.FieldType)) ∈ lw_all := lw_g (lw_at lw_m8 116 rfl) rfl
theorem q1895 : (Jvm.Cond.methodLink "MoveNotesModel" (438 : Nat) ({ cls := "MoveNotesModel", name := "asks", desc := "()I" } : Jvm.MethodName)) ∈ lw_all := lw_g (lw_at lw_m8 117 rfl) rfl
theorem q1896 : (Jvm.Cond.privateMethod ({ cls := "MoveNotesModel", name := "asks", desc := "()I" } : Jvm.MethodName)) ∈ lw_tbl := lw_at lw_m8 118 rfl
theorem q1897 : (Jvm.Cond.instanceMethod ({ cls := "MoveNotesModel", name := "asks", desc := "()I" } : Jvm.MethodName)) ∈ lw_all := lw_g (lw_at lw_m8 119 rfl) rfl
theorem q1898 : (Jvm.Cond.code ({ cls := "MoveNotesModel", name := "asks", desc := "()I" } : Jvm.MethodName) prog_26_method_87_code (2 : Nat) (Option.some Jvm.ClassFile.FieldType.int)) ∈ lw_all := lw_g (lw_at lw_m8 120 rfl) rfl
theorem q1899 : (Jvm.Cond.methodLink "MoveNotesModel" (432 : Nat) ({ cls := "MoveNotesModel", name := "laysAll", desc := "(I)V" } : Jvm.MethodName)) ∈ lw_all := lw_g (lw_at lw_m8 121 rfl) rfl
theorem q1900 : (Jvm.Cond.privateMethod ({ cls := "MoveNotesModel", name := "laysAll", desc := "(I)V" } : Jvm.MethodName)) ∈ lw_tbl := lw_at lw_m8 122 rfl
theorem q1901 : (Jvm.Cond.instanceMethod ({ cls := "MoveNotesModel", name := "laysAll", desc := "(I)V" } : Jvm.MethodName)) ∈ lw_all := lw_g (lw_at lw_m8 123 rfl) rfl
theorem q1902 : (Jvm.Cond.code ({ cls := "MoveNotesModel", name := "laysAll", desc := "(I)V" } : Jvm.MethodName) prog_26_method_86_code (6 : Nat) (Option.none : Option Jvm.ClassFile.FieldType)) ∈ lw_all := lw_g (lw_at lw_m8 124 rfl) rfl
theorem q1903 : (Jvm.Cond.methodLink "MoveNotesModel" (420 : Nat) ({ cls := "MoveNotesModel", name := "prices", desc := "(I)V" } : Jvm.MethodName)) ∈ lw_all := lw_g (lw_at lw_m8 125 rfl) rfl
theorem q1904 : (Jvm.Cond.privateMethod ({ cls := "MoveNotesModel", name := "prices", desc := "(I)V" } : Jvm.MethodName)) ∈ lw_tbl := lw_at lw_m8 126 rfl
theorem q1905 : (Jvm.Cond.instanceMethod ({ cls := "MoveNotesModel", name := "prices", desc := "(I)V" } : Jvm.MethodName)) ∈ lw_all := lw_g (lw_at lw_m8 127 rfl) rfl
theorem q1906 : (Jvm.Cond.code ({ cls := "MoveNotesModel", name := "prices", desc := "(I)V" } : Jvm.MethodName) prog_26_method_78_code (5 : Nat) (Option.none : Option Jvm.ClassFile.FieldType)) ∈ lw_all := lw_g (lw_at lw_m8 128 rfl) rfl
theorem q1907 : (Jvm.Cond.methodLink "MoveNotesModel" (353 : Nat) ({ cls := "MoveNotesModel", name := "isAsked", desc := "(I)Z" } : Jvm.MethodName)) ∈ lw_all := lw_g (lw_at lw_m8 129 rfl) rfl
theorem q1908 : (Jvm.Cond.privateMethod ({ cls := "MoveNotesModel", name := "isAsked", desc := "(I)Z" } : Jvm.MethodName)) ∈ lw_tbl := lw_at lw_m8 130 rfl
theorem q1909 : (Jvm.Cond.instanceMethod ({ cls := "MoveNotesModel", name := "isAsked", desc := "(I)Z" } : Jvm.MethodName)) ∈ lw_all := lw_g (lw_at lw_m8 131 rfl) rfl
theorem q1910 : (Jvm.Cond.code ({ cls := "MoveNotesModel", name := "isAsked", desc := "(I)Z" } : Jvm.MethodName) prog_26_method_69_code (2 : Nat) (Option.some Jvm.ClassFile.FieldType.boolean)) ∈ lw_all := lw_g (lw_at lw_m8 132 rfl) rfl
theorem q1911 : (Jvm.Cond.methodLink "MoveNotesModel" (356 : Nat) ({ cls := "MoveNotesModel", name := "sums", desc := "(II)V" } : Jvm.MethodName)) ∈ lw_all := lw_g (lw_at lw_m8 133 rfl) rfl
theorem q1912 : (Jvm.Cond.privateMethod ({ cls := "MoveNotesModel", name := "sums", desc := "(II)V" } : Jvm.MethodName)) ∈ lw_tbl := lw_at lw_m8 134 rfl
theorem q1913 : (Jvm.Cond.instanceMethod ({ cls := "MoveNotesModel", name := "sums", desc := "(II)V" } : Jvm.MethodName)) ∈ lw_all := lw_g (lw_at lw_m8 135 rfl) rfl
theorem q1914 : (Jvm.Cond.code ({ cls := "MoveNotesModel", name := "sums", desc := "(II)V" } : Jvm.MethodName) prog_26_method_77_code (5 : Nat) (Option.none : Option Jvm.ClassFile.FieldType)) ∈ lw_all := lw_g (lw_at lw_m8 136 rfl) rfl
theorem q1915 : (Jvm.Cond.methodLink "MoveNotesModel" (338 : Nat) ({ cls := "MoveNotesModel", name := "ofMove", desc := "(III)I" } : Jvm.MethodName)) ∈ lw_all := lw_g (lw_at lw_m8 137 rfl) rfl
theorem q1916 : (Jvm.Cond.privateMethod ({ cls := "MoveNotesModel", name := "ofMove", desc := "(III)I" } : Jvm.MethodName)) ∈ lw_tbl := lw_at lw_m8 138 rfl
theorem q1917 : (Jvm.Cond.instanceMethod ({ cls := "MoveNotesModel", name := "ofMove", desc := "(III)I" } : Jvm.MethodName)) ∈ lw_all := lw_g (lw_at lw_m8 139 rfl) rfl
theorem q1918 : (Jvm.Cond.code ({ cls := "MoveNotesModel", name := "ofMove", desc := "(III)I" } : Jvm.MethodName) prog_26_method_74_code (4 : Nat) (Option.some Jvm.ClassFile.FieldType.int)) ∈ lw_all := lw_g (lw_at lw_m8 140 rfl) rfl
theorem q1919 : (Jvm.Cond.methodLink "MoveNotesModel" (332 : Nat) ({ cls := "MoveNotesModel", name := "sumAt", desc := "(III)I" } : Jvm.MethodName)) ∈ lw_all := lw_g (lw_at lw_m8 141 rfl) rfl
theorem q1920 : (Jvm.Cond.static ({ cls := "MoveNotesModel", name := "sumAt", desc := "(III)I" } : Jvm.MethodName)) ∈ lw_all := lw_g (lw_at lw_m8 142 rfl) rfl
theorem q1921 : (Jvm.Cond.code ({ cls := "MoveNotesModel", name := "sumAt", desc := "(III)I" } : Jvm.MethodName) prog_26_method_72_code (3 : Nat) (Option.some Jvm.ClassFile.FieldType.int)) ∈ lw_all := lw_g (lw_at lw_m8 143 rfl) rfl
theorem q1922 : (Jvm.Cond.methodLink "MoveNotesModel" (329 : Nat) ({ cls := "MoveNotesModel", name := "fitAt", desc := "(III)I" } : Jvm.MethodName)) ∈ lw_all := lw_g (lw_at lw_m8 144 rfl) rfl
theorem q1923 : (Jvm.Cond.static ({ cls := "MoveNotesModel", name := "fitAt", desc := "(III)I" } : Jvm.MethodName)) ∈ lw_all := lw_g (lw_at lw_m8 145 rfl) rfl
theorem q1924 : (Jvm.Cond.code ({ cls := "MoveNotesModel", name := "fitAt", desc := "(III)I" } : Jvm.MethodName) prog_26_method_67_code (3 : Nat) (Option.some Jvm.ClassFile.FieldType.int)) ∈ lw_all := lw_g (lw_at lw_m8 146 rfl) rfl
theorem q1925 : (Jvm.Cond.methodLink "MoveNotesModel" (341 : Nat) ({ cls := "MoveNotesModel", name := "ofLost", desc := "(III)I" } : Jvm.MethodName)) ∈ lw_all := lw_g (lw_at lw_m8 147 rfl) rfl
theorem q1926 : (Jvm.Cond.privateMethod ({ cls := "MoveNotesModel", name := "ofLost", desc := "(III)I" } : Jvm.MethodName)) ∈ lw_tbl := lw_at lw_m8 148 rfl
theorem q1927 : (Jvm.Cond.instanceMethod ({ cls := "MoveNotesModel", name := "ofLost", desc := "(III)I" } : Jvm.MethodName)) ∈ lw_all := lw_g (lw_at lw_m8 149 rfl) rfl
theorem q1928 : (Jvm.Cond.code ({ cls := "MoveNotesModel", name := "ofLost", desc := "(III)I" } : Jvm.MethodName) prog_26_method_75_code (4 : Nat) (Option.some Jvm.ClassFile.FieldType.int)) ∈ lw_all := lw_g (lw_at lw_m8 150 rfl) rfl
theorem q1929 : (Jvm.Cond.methodLink "MoveNotesModel" (344 : Nat) ({ cls := "MoveNotesModel", name := "ofTwice", desc := "(III)I" } : Jvm.MethodName)) ∈ lw_all := lw_g (lw_at lw_m8 151 rfl) rfl
theorem q1930 : (Jvm.Cond.privateMethod ({ cls := "MoveNotesModel", name := "ofTwice", desc := "(III)I" } : Jvm.MethodName)) ∈ lw_tbl := lw_at lw_m8 152 rfl
theorem q1931 : (Jvm.Cond.instanceMethod ({ cls := "MoveNotesModel", name := "ofTwice", desc := "(III)I" } : Jvm.MethodName)) ∈ lw_all := lw_g (lw_at lw_m8 153 rfl) rfl
theorem q1932 : (Jvm.Cond.code ({ cls := "MoveNotesModel", name := "ofTwice", desc := "(III)I" } : Jvm.MethodName) prog_26_method_76_code (4 : Nat) (Option.some Jvm.ClassFile.FieldType.int)) ∈ lw_all := lw_g (lw_at lw_m8 154 rfl) rfl
theorem q1933 : (Jvm.Cond.methodLink "MoveNotesModel" (335 : Nat) ({ cls := "MoveNotesModel", name := "isTwice", desc := "(II)Z" } : Jvm.MethodName)) ∈ lw_all := lw_g (lw_at lw_m8 155 rfl) rfl
theorem q1934 : (Jvm.Cond.privateMethod ({ cls := "MoveNotesModel", name := "isTwice", desc := "(II)Z" } : Jvm.MethodName)) ∈ lw_tbl := lw_at lw_m8 156 rfl
theorem q1935 : (Jvm.Cond.instanceMethod ({ cls := "MoveNotesModel", name := "isTwice", desc := "(II)Z" } : Jvm.MethodName)) ∈ lw_all := lw_g (lw_at lw_m8 157 rfl) rfl
theorem q1936 : (Jvm.Cond.code ({ cls := "MoveNotesModel", name := "isTwice", desc := "(II)Z" } : Jvm.MethodName) prog_26_method_73_code (5 : Nat) (Option.some Jvm.ClassFile.FieldType.boolean)) ∈ lw_all := lw_g (lw_at lw_m8 158 rfl) rfl
theorem q1937 : (Jvm.Cond.methodLink "MoveNotesModel" (326 : Nat) ({ cls := "java/lang/Math", name := "min", desc := "(II)I" } : Jvm.MethodName)) ∈ lw_all := lw_g (lw_at lw_m8 159 rfl) rfl
theorem q1938 : (Jvm.Cond.methodLink "MoveNotesModel" (423 : Nat) ({ cls := "MoveNotesModel", name := "lays", desc := "(II)V" } : Jvm.MethodName)) ∈ lw_all := lw_g (lw_at lw_m8 160 rfl) rfl
theorem q1939 : (Jvm.Cond.privateMethod ({ cls := "MoveNotesModel", name := "lays", desc := "(II)V" } : Jvm.MethodName)) ∈ lw_tbl := lw_at lw_m8 161 rfl
theorem q1940 : (Jvm.Cond.instanceMethod ({ cls := "MoveNotesModel", name := "lays", desc := "(II)V" } : Jvm.MethodName)) ∈ lw_all := lw_g (lw_at lw_m8 162 rfl) rfl
theorem q1941 : (Jvm.Cond.code ({ cls := "MoveNotesModel", name := "lays", desc := "(II)V" } : Jvm.MethodName) prog_26_method_85_code (3 : Nat) (Option.none : Option Jvm.ClassFile.FieldType)) ∈ lw_all := lw_g (lw_at lw_m8 163 rfl) rfl
theorem q1942 : (Jvm.Cond.methodLink "MoveNotesModel" (407 : Nat) ({ cls := "java/lang/Math", name := "max", desc := "(II)I" } : Jvm.MethodName)) ∈ lw_all := lw_g (lw_at lw_m8 164 rfl) rfl
theorem q1943 : (Jvm.Cond.methodLink "MoveNotesModel" (410 : Nat) ({ cls := "MoveNotesModel", name := "measures", desc := "(I)V" } : Jvm.MethodName)) ∈ lw_all := lw_g (lw_at lw_m8 165 rfl) rfl
theorem q1944 : (Jvm.Cond.privateMethod ({ cls := "MoveNotesModel", name := "measures", desc := "(I)V" } : Jvm.MethodName)) ∈ lw_tbl := lw_at lw_m8 166 rfl
theorem q1945 : (Jvm.Cond.instanceMethod ({ cls := "MoveNotesModel", name := "measures", desc := "(I)V" } : Jvm.MethodName)) ∈ lw_all := lw_g (lw_at lw_m8 167 rfl) rfl
theorem q1946 : (Jvm.Cond.code ({ cls := "MoveNotesModel", name := "measures", desc := "(I)V" } : Jvm.MethodName) prog_26_method_84_code (7 : Nat) (Option.none : Option Jvm.ClassFile.FieldType)) ∈ lw_all := lw_g (lw_at lw_m8 168 rfl) rfl
theorem q1947 : (Jvm.Cond.methodLink "MoveNotesModel" (392 : Nat) ({ cls := "MoveNotesModel", name := "valueOf", desc := "(I)I" } : Jvm.MethodName)) ∈ lw_all := lw_g (lw_at lw_m8 169 rfl) rfl
theorem q1948 : (Jvm.Cond.privateMethod ({ cls := "MoveNotesModel", name := "valueOf", desc := "(I)I" } : Jvm.MethodName)) ∈ lw_tbl := lw_at lw_m8 170 rfl
theorem q1949 : (Jvm.Cond.instanceMethod ({ cls := "MoveNotesModel", name := "valueOf", desc := "(I)I" } : Jvm.MethodName)) ∈ lw_all := lw_g (lw_at lw_m8 171 rfl) rfl
theorem q1950 : (Jvm.Cond.code ({ cls := "MoveNotesModel", name := "valueOf", desc := "(I)I" } : Jvm.MethodName) prog_26_method_11_code (2 : Nat) (Option.some Jvm.ClassFile.FieldType.int)) ∈ lw_all := lw_g (lw_at lw_m8 172 rfl) rfl
theorem q1951 : (Jvm.Cond.methodLink "MoveNotesModel" (395 : Nat) ({ cls := "MoveNotesModel", name := "measured", desc := "()I" } : Jvm.MethodName)) ∈ lw_all := lw_g (lw_at lw_m8 173 rfl) rfl
theorem q1952 : (Jvm.Cond.privateMethod ({ cls := "MoveNotesModel", name := "measured", desc := "()I" } : Jvm.MethodName)) ∈ lw_tbl := lw_at lw_m8 174 rfl
theorem q1953 : (Jvm.Cond.instanceMethod ({ cls := "MoveNotesModel", name := "measured", desc := "()I" } : Jvm.MethodName)) ∈ lw_all := lw_g (lw_at lw_m8 175 rfl) rfl
theorem q1954 : (Jvm.Cond.code ({ cls := "MoveNotesModel", name := "measured", desc := "()I" } : Jvm.MethodName) prog_26_method_39_code (4 : Nat) (Option.some Jvm.ClassFile.FieldType.int)) ∈ lw_all := lw_g (lw_at lw_m8 176 rfl) rfl
theorem q1955 : (Jvm.Cond.methodLink "MoveNotesModel" (239 : Nat) ({ cls := "MoveNotesModel", name := "holdsLine", desc := "(I)Z" } : Jvm.MethodName)) ∈ lw_all := lw_g (lw_at lw_m8 177 rfl) rfl
theorem q1956 : (Jvm.Cond.privateMethod ({ cls := "MoveNotesModel", name := "holdsLine", desc := "(I)Z" } : Jvm.MethodName)) ∈ lw_tbl := lw_at lw_m8 178 rfl
theorem q1957 : (Jvm.Cond.instanceMethod ({ cls := "MoveNotesModel", name := "holdsLine", desc := "(I)Z" } : Jvm.MethodName)) ∈ lw_all := lw_g (lw_at lw_m8 179 rfl) rfl
theorem q1958 : (Jvm.Cond.code ({ cls := "MoveNotesModel", name := "holdsLine", desc := "(I)Z" } : Jvm.MethodName) prog_26_method_38_code (8 : Nat) (Option.some Jvm.ClassFile.FieldType.boolean)) ∈ lw_all := lw_g (lw_at lw_m8 180 rfl) rfl
theorem q1959 : (Jvm.Cond.methodLink "MoveNotesModel" (414 : Nat) ({ cls := "MoveNotesModel", name := "meets", desc := "(II)V" } : Jvm.MethodName)) ∈ lw_all := lw_g (lw_at lw_m8 181 rfl) rfl
theorem q1960 : (Jvm.Cond.privateMethod ({ cls := "MoveNotesModel", name := "meets", desc := "(II)V" } : Jvm.MethodName)) ∈ lw_tbl := lw_at lw_m8 182 rfl
theorem q1961 : (Jvm.Cond.instanceMethod ({ cls := "MoveNotesModel", name := "meets", desc := "(II)V" } : Jvm.MethodName)) ∈ lw_all := lw_g (lw_at lw_m8 183 rfl) rfl
theorem q1962 : (Jvm.Cond.code ({ cls := "MoveNotesModel", name := "meets", desc := "(II)V" } : Jvm.MethodName) prog_26_method_83_code (3 : Nat) (Option.none : Option Jvm.ClassFile.FieldType)) ∈ lw_all := lw_g (lw_at lw_m8 184 rfl) rfl
theorem q1963 : (Jvm.Cond.methodLink "MoveNotesModel" (362 : Nat) ({ cls := "MoveNotesModel", name := "isBarred", desc := "(I)Z" } : Jvm.MethodName)) ∈ lw_all := lw_g (lw_at lw_m8 185 rfl) rfl
theorem q1964 : (Jvm.Cond.privateMethod ({ cls := "MoveNotesModel", name := "isBarred", desc := "(I)Z" } : Jvm.MethodName)) ∈ lw_tbl := lw_at lw_m8 186 rfl
theorem q1965 : (Jvm.Cond.instanceMethod ({ cls := "MoveNotesModel", name := "isBarred", desc := "(I)Z" } : Jvm.MethodName)) ∈ lw_all := lw_g (lw_at lw_m8 187 rfl) rfl
theorem q1966 : (Jvm.Cond.code ({ cls := "MoveNotesModel", name := "isBarred", desc := "(I)Z" } : Jvm.MethodName) prog_26_method_79_code (5 : Nat) (Option.some Jvm.ClassFile.FieldType.boolean)) ∈ lw_all := lw_g (lw_at lw_m8 188 rfl) rfl
theorem q1967 : (Jvm.Cond.methodLink "MoveNotesModel" (365 : Nat) ({ cls := "MoveNotesModel", name := "isLongEnough", desc := "(I)Z" } : Jvm.MethodName)) ∈ lw_all := lw_g (lw_at lw_m8 189 rfl) rfl
theorem q1968 : (Jvm.Cond.privateMethod ({ cls := "MoveNotesModel", name := "isLongEnough", desc := "(I)Z" } : Jvm.MethodName)) ∈ lw_tbl := lw_at lw_m8 190 rfl
theorem q1969 : (Jvm.Cond.instanceMethod ({ cls := "MoveNotesModel", name := "isLongEnough", desc := "(I)Z" } : Jvm.MethodName)) ∈ lw_all := lw_g (lw_at lw_m8 191 rfl) rfl
theorem q1970 : (Jvm.Cond.code ({ cls := "MoveNotesModel", name := "isLongEnough", desc := "(I)Z" } : Jvm.MethodName) prog_26_method_80_code (4 : Nat) (Option.some Jvm.ClassFile.FieldType.boolean)) ∈ lw_all := lw_g (lw_at lw_m8 192 rfl) rfl
theorem q1971 : (Jvm.Cond.methodLink "MoveNotesModel" (377 : Nat) ({ cls := "MoveNotesModel", name := "takes", desc := "([II)I" } : Jvm.MethodName)) ∈ lw_all := lw_g (lw_at lw_m8 193 rfl) rfl
theorem q1972 : (Jvm.Cond.privateMethod ({ cls := "MoveNotesModel", name := "takes", desc := "([II)I" } : Jvm.MethodName)) ∈ lw_tbl := lw_at lw_m8 194 rfl
theorem q1973 : (Jvm.Cond.instanceMethod ({ cls := "MoveNotesModel", name := "takes", desc := "([II)I" } : Jvm.MethodName)) ∈ lw_all := lw_g (lw_at lw_m8 195 rfl) rfl
theorem q1974 : (Jvm.Cond.code ({ cls := "MoveNotesModel", name := "takes", desc := "([II)I" } : Jvm.MethodName) prog_26_method_82_code (4 : Nat) (Option.some Jvm.ClassFile.FieldType.int)) ∈ lw_all := lw_g (lw_at lw_m8 196 rfl) rfl
theorem q1975 : (Jvm.Cond.methodLink "MoveNotesModel" (417 : Nat) ({ cls := "MoveNotesModel", name := "goesOn", desc := "(I)Z" } : Jvm.MethodName)) ∈ lw_all := lw_g (lw_at lw_m8 197 rfl) rfl
theorem q1976 : (Jvm.Cond.privateMethod ({ cls := "MoveNotesModel", name := "goesOn", desc := "(I)Z" } : Jvm.MethodName)) ∈ lw_tbl := lw_at lw_m8 198 rfl
theorem q1977 : (Jvm.Cond.instanceMethod ({ cls := "MoveNotesModel", name := "goesOn", desc := "(I)Z" } : Jvm.MethodName)) ∈ lw_all := lw_g (lw_at lw_m8 199 rfl) rfl
theorem q1978 : (Jvm.Cond.code ({ cls := "MoveNotesModel", name := "goesOn", desc := "(I)Z" } : Jvm.MethodName) prog_26_method_81_code (2 : Nat) (Option.some Jvm.ClassFile.FieldType.boolean)) ∈ lw_all := lw_g (lw_at lw_m8 200 rfl) rfl
theorem q1979 : (Jvm.Cond.methodLink "MoveNotesModel" (426 : Nat) ({ cls := "MoveNotesModel", name := "makes", desc := "(II)V" } : Jvm.MethodName)) ∈ lw_all := lw_g (lw_at lw_m8 201 rfl) rfl
theorem q1980 : (Jvm.Cond.privateMethod ({ cls := "MoveNotesModel", name := "makes", desc := "(II)V" } : Jvm.MethodName)) ∈ lw_tbl := lw_at lw_m8 202 rfl
theorem q1981 : (Jvm.Cond.instanceMethod ({ cls := "MoveNotesModel", name := "makes", desc := "(II)V" } : Jvm.MethodName)) ∈ lw_all := lw_g (lw_at lw_m8 203 rfl) rfl
theorem q1982 : (Jvm.Cond.code ({ cls := "MoveNotesModel", name := "makes", desc := "(II)V" } : Jvm.MethodName) prog_26_method_63_code (4 : Nat) (Option.none : Option Jvm.ClassFile.FieldType)) ∈ lw_all := lw_g (lw_at lw_m8 204 rfl) rfl
theorem q1983 : (Jvm.Cond.methodLink "MoveNotesModel" (429 : Nat) ({ cls := "MoveNotesModel", name := "tries", desc := "(III)V" } : Jvm.MethodName)) ∈ lw_all := lw_g (lw_at lw_m8 205 rfl) rfl
theorem q1984 : (Jvm.Cond.privateMethod ({ cls := "MoveNotesModel", name := "tries", desc := "(III)V" } : Jvm.MethodName)) ∈ lw_tbl := lw_at lw_m8 206 rfl
theorem q1985 : (Jvm.Cond.instanceMethod ({ cls := "MoveNotesModel", name := "tries", desc := "(III)V" } : Jvm.MethodName)) ∈ lw_all := lw_g (lw_at lw_m8 207 rfl) rfl
theorem q1986 : (Jvm.Cond.code ({ cls := "MoveNotesModel", name := "tries", desc := "(III)V" } : Jvm.MethodName) prog_26_method_71_code (14 : Nat) (Option.none : Option Jvm.ClassFile.FieldType)) ∈ lw_all := lw_g (lw_at lw_m8 208 rfl) rfl
theorem q1987 : (Jvm.Cond.methodLink "MoveNotesModel" (322 : Nat) ({ cls := "MoveNotesModel", name := "fits", desc := "(IZZIIII)Z" } : Jvm.MethodName)) ∈ lw_all := lw_g (lw_at lw_m8 209 rfl) rfl
theorem q1988 : (Jvm.Cond.static ({ cls := "MoveNotesModel", name := "fits", desc := "(IZZIIII)Z" } : Jvm.MethodName)) ∈ lw_all := lw_g (lw_at lw_m8 210 rfl) rfl
theorem q1989 : (Jvm.Cond.code ({ cls := "MoveNotesModel", name := "fits", desc := "(IZZIIII)Z" } : Jvm.MethodName) prog_26_method_70_code (9 : Nat) (Option.some Jvm.ClassFile.FieldType.boolean)) ∈ lw_all := lw_g (lw_at lw_m8 211 rfl) rfl
theorem q1990 : (Jvm.Cond.methodLink "MoveNotesModel" (317 : Nat) ({ cls := "java/lang/Math", name := "abs", desc := "(I)I" } : Jvm.MethodName)) ∈ lw_all := lw_g (lw_at lw_m8 212 rfl) rfl
theorem q1992 : (Jvm.Cond.instanceMethod ({ cls := "MoveNotesModel", name := "many", desc := "()I" } : Jvm.MethodName)) ∈ lw_all := lw_g (lw_at lw_m8 214 rfl) rfl
theorem q1993 : (Jvm.Cond.selects "MoveNotesModel" ({ cls := "MoveNotesModel", name := "many", desc := "()I" } : Jvm.MethodName) ({ cls := "MoveNotesModel", name := "many", desc := "()I" } : Jvm.MethodName)) ∈ lw_all := lw_g (lw_at lw_m8 215 rfl) rfl
theorem q1994 : (Jvm.Cond.code ({ cls := "MoveNotesModel", name := "many", desc := "()I" } : Jvm.MethodName) prog_26_method_90_code (2 : Nat) (Option.some Jvm.ClassFile.FieldType.int)) ∈ lw_all := lw_g (lw_at lw_m8 216 rfl) rfl
theorem q1996 : (Jvm.Cond.instanceMethod ({ cls := "MoveNotesModel", name := "read", desc := "(I)I" } : Jvm.MethodName)) ∈ lw_all := lw_g (lw_at lw_m8 218 rfl) rfl
theorem q1997 : (Jvm.Cond.selects "MoveNotesModel" ({ cls := "MoveNotesModel", name := "read", desc := "(I)I" } : Jvm.MethodName) ({ cls := "MoveNotesModel", name := "read", desc := "(I)I" } : Jvm.MethodName)) ∈ lw_all := lw_g (lw_at lw_m8 219 rfl) rfl
theorem q1998 : (Jvm.Cond.code ({ cls := "MoveNotesModel", name := "read", desc := "(I)I" } : Jvm.MethodName) prog_26_method_91_code (3 : Nat) (Option.some Jvm.ClassFile.FieldType.int)) ∈ lw_all := lw_g (lw_at lw_m8 220 rfl) rfl
theorem q2000 : (Jvm.Cond.instanceMethod ({ cls := "MoveNotesModel", name := "readNext", desc := "(I)I" } : Jvm.MethodName)) ∈ lw_all := lw_g (lw_at lw_m8 222 rfl) rfl
theorem q2001 : (Jvm.Cond.selects "MoveNotesModel" ({ cls := "MoveNotesModel", name := "readNext", desc := "(I)I" } : Jvm.MethodName) ({ cls := "MoveNotesModel", name := "readNext", desc := "(I)I" } : Jvm.MethodName)) ∈ lw_all := lw_g (lw_at lw_m8 223 rfl) rfl
theorem q2002 : (Jvm.Cond.code ({ cls := "MoveNotesModel", name := "readNext", desc := "(I)I" } : Jvm.MethodName) prog_26_method_92_code (3 : Nat) (Option.some Jvm.ClassFile.FieldType.int)) ∈ lw_all := lw_g (lw_at lw_m8 224 rfl) rfl
theorem q2004 : (Jvm.Cond.instanceMethod ({ cls := "MoveNotesModel", name := "slip", desc := "(II)I" } : Jvm.MethodName)) ∈ lw_all := lw_g (lw_at lw_m8 226 rfl) rfl
theorem q2005 : (Jvm.Cond.selects "MoveNotesModel" ({ cls := "MoveNotesModel", name := "slip", desc := "(II)I" } : Jvm.MethodName) ({ cls := "MoveNotesModel", name := "slip", desc := "(II)I" } : Jvm.MethodName)) ∈ lw_all := lw_g (lw_at lw_m8 227 rfl) rfl
theorem q2006 : (Jvm.Cond.code ({ cls := "MoveNotesModel", name := "slip", desc := "(II)I" } : Jvm.MethodName) prog_26_method_94_code (4 : Nat) (Option.some Jvm.ClassFile.FieldType.int)) ∈ lw_all := lw_g (lw_at lw_m8 228 rfl) rfl
theorem q2007 : (Jvm.Cond.methodLink "MoveNotesModel" (444 : Nat) ({ cls := "MoveNotesModel", name := "follows", desc := "(I)V" } : Jvm.MethodName)) ∈ lw_all := lw_g (lw_at lw_m8 229 rfl) rfl
theorem q2008 : (Jvm.Cond.privateMethod ({ cls := "MoveNotesModel", name := "follows", desc := "(I)V" } : Jvm.MethodName)) ∈ lw_tbl := lw_at lw_m8 230 rfl
theorem q2009 : (Jvm.Cond.instanceMethod ({ cls := "MoveNotesModel", name := "follows", desc := "(I)V" } : Jvm.MethodName)) ∈ lw_all := lw_g (lw_at lw_m8 231 rfl) rfl
theorem q2010 : (Jvm.Cond.code ({ cls := "MoveNotesModel", name := "follows", desc := "(I)V" } : Jvm.MethodName) prog_26_method_93_code (5 : Nat) (Option.none : Option Jvm.ClassFile.FieldType)) ∈ lw_all := lw_g (lw_at lw_m8 232 rfl) rfl
theorem q2012 : (Jvm.Cond.instanceMethod ({ cls := "MoveNotesModel", name := "slips", desc := "(II)I" } : Jvm.MethodName)) ∈ lw_all := lw_g (lw_at lw_m8 234 rfl) rfl
theorem q2013 : (Jvm.Cond.selects "MoveNotesModel" ({ cls := "MoveNotesModel", name := "slips", desc := "(II)I" } : Jvm.MethodName) ({ cls := "MoveNotesModel", name := "slips", desc := "(II)I" } : Jvm.MethodName)) ∈ lw_all := lw_g (lw_at lw_m8 235 rfl) rfl
theorem q2014 : (Jvm.Cond.code ({ cls := "MoveNotesModel", name := "slips", desc := "(II)I" } : Jvm.MethodName) prog_26_method_95_code (6 : Nat) (Option.some Jvm.ClassFile.FieldType.int)) ∈ lw_all := lw_g (lw_at lw_m8 236 rfl) rfl
theorem q2016 : (Jvm.Cond.instanceMethod ({ cls := "MoveNotesModel", name := "breaks", desc := "(I)I" } : Jvm.MethodName)) ∈ lw_all := lw_g (lw_at lw_m8 238 rfl) rfl
theorem q2017 : (Jvm.Cond.selects "MoveNotesModel" ({ cls := "MoveNotesModel", name := "breaks", desc := "(I)I" } : Jvm.MethodName) ({ cls := "MoveNotesModel", name := "breaks", desc := "(I)I" } : Jvm.MethodName)) ∈ lw_all := lw_g (lw_at lw_m8 239 rfl) rfl
theorem q2018 : (Jvm.Cond.code ({ cls := "MoveNotesModel", name := "breaks", desc := "(I)I" } : Jvm.MethodName) prog_26_method_96_code (3 : Nat) (Option.some Jvm.ClassFile.FieldType.int)) ∈ lw_all := lw_g (lw_at lw_m9 0 rfl) rfl
theorem q2020 : (Jvm.Cond.instanceMethod ({ cls := "MoveNotesModel", name := "brief", desc := "(I)I" } : Jvm.MethodName)) ∈ lw_all := lw_g (lw_at lw_m9 2 rfl) rfl
theorem q2021 : (Jvm.Cond.selects "MoveNotesModel" ({ cls := "MoveNotesModel", name := "brief", desc := "(I)I" } : Jvm.MethodName) ({ cls := "MoveNotesModel", name := "brief", desc := "(I)I" } : Jvm.MethodName)) ∈ lw_all := lw_g (lw_at lw_m9 3 rfl) rfl
theorem q2022 : (Jvm.Cond.code ({ cls := "MoveNotesModel", name := "brief", desc := "(I)I" } : Jvm.MethodName) prog_26_method_97_code (6 : Nat) (Option.some Jvm.ClassFile.FieldType.int)) ∈ lw_all := lw_g (lw_at lw_m9 4 rfl) rfl
theorem q2024 : (Jvm.Cond.instanceMethod ({ cls := "MoveNotesModel", name := "part", desc := "()I" } : Jvm.MethodName)) ∈ lw_all := lw_g (lw_at lw_m9 6 rfl) rfl
theorem q2025 : (Jvm.Cond.selects "MoveNotesModel" ({ cls := "MoveNotesModel", name := "part", desc := "()I" } : Jvm.MethodName) ({ cls := "MoveNotesModel", name := "part", desc := "()I" } : Jvm.MethodName)) ∈ lw_all := lw_g (lw_at lw_m9 7 rfl) rfl
theorem q2026 : (Jvm.Cond.code ({ cls := "MoveNotesModel", name := "part", desc := "()I" } : Jvm.MethodName) prog_26_method_98_code (3 : Nat) (Option.some Jvm.ClassFile.FieldType.int)) ∈ lw_all := lw_g (lw_at lw_m9 8 rfl) rfl
theorem q2028 : (Jvm.Cond.instanceMethod ({ cls := "MoveNotesModel", name := "best", desc := "(I)I" } : Jvm.MethodName)) ∈ lw_all := lw_g (lw_at lw_m9 10 rfl) rfl
theorem q2029 : (Jvm.Cond.selects "MoveNotesModel" ({ cls := "MoveNotesModel", name := "best", desc := "(I)I" } : Jvm.MethodName) ({ cls := "MoveNotesModel", name := "best", desc := "(I)I" } : Jvm.MethodName)) ∈ lw_all := lw_g (lw_at lw_m9 11 rfl) rfl
theorem q2030 : (Jvm.Cond.code ({ cls := "MoveNotesModel", name := "best", desc := "(I)I" } : Jvm.MethodName) prog_26_method_99_code (3 : Nat) (Option.some Jvm.ClassFile.FieldType.int)) ∈ lw_all := lw_g (lw_at lw_m9 12 rfl) rfl
theorem q2032 : (Jvm.Cond.instanceMethod ({ cls := "MoveNotesModel", name := "odds", desc := "(IIZ)J" } : Jvm.MethodName)) ∈ lw_all := lw_g (lw_at lw_m9 14 rfl) rfl
theorem q2033 : (Jvm.Cond.selects "MoveNotesModel" ({ cls := "MoveNotesModel", name := "odds", desc := "(IIZ)J" } : Jvm.MethodName) ({ cls := "MoveNotesModel", name := "odds", desc := "(IIZ)J" } : Jvm.MethodName)) ∈ lw_all := lw_g (lw_at lw_m9 15 rfl) rfl
theorem q2034 : (Jvm.Cond.code ({ cls := "MoveNotesModel", name := "odds", desc := "(IIZ)J" } : Jvm.MethodName) prog_26_method_101_code (12 : Nat) (Option.some Jvm.ClassFile.FieldType.long)) ∈ lw_all := lw_g (lw_at lw_m9 16 rfl) rfl
theorem q2035 : (Jvm.Cond.constantLong "MoveNotesModel" (447 : Nat) (-2 : Int64)) ∈ lw_all := lw_g (lw_at lw_m9 17 rfl) rfl
theorem q2036 : (Jvm.Cond.constantLong "MoveNotesModel" (449 : Nat) (-3 : Int64)) ∈ lw_all := lw_g (lw_at lw_m9 18 rfl) rfl
theorem q2037 : (Jvm.Cond.methodLink "MoveNotesModel" (451 : Nat) ({ cls := "MoveNotesModel", name := "common", desc := "(JJ)J" } : Jvm.MethodName)) ∈ lw_all := lw_g (lw_at lw_m9 19 rfl) rfl
theorem q2038 : (Jvm.Cond.static ({ cls := "MoveNotesModel", name := "common", desc := "(JJ)J" } : Jvm.MethodName)) ∈ lw_all := lw_g (lw_at lw_m9 20 rfl) rfl
theorem q2039 : (Jvm.Cond.code ({ cls := "MoveNotesModel", name := "common", desc := "(JJ)J" } : Jvm.MethodName) prog_26_method_100_code (10 : Nat) (Option.some Jvm.ClassFile.FieldType.long)) ∈ lw_all := lw_g (lw_at lw_m9 21 rfl) rfl
theorem q2041 : (Jvm.Cond.instanceMethod ({ cls := "MoveNotesModel", name := "shared", desc := "(IIZ)I" } : Jvm.MethodName)) ∈ lw_all := lw_g (lw_at lw_m9 23 rfl) rfl
theorem q2042 : (Jvm.Cond.selects "MoveNotesModel" ({ cls := "MoveNotesModel", name := "shared", desc := "(IIZ)I" } : Jvm.MethodName) ({ cls := "MoveNotesModel", name := "shared", desc := "(IIZ)I" } : Jvm.MethodName)) ∈ lw_all := lw_g (lw_at lw_m9 24 rfl) rfl
theorem q2043 : (Jvm.Cond.code ({ cls := "MoveNotesModel", name := "shared", desc := "(IIZ)I" } : Jvm.MethodName) prog_26_method_103_code (10 : Nat) (Option.some Jvm.ClassFile.FieldType.int)) ∈ lw_all := lw_g (lw_at lw_m9 25 rfl) rfl
theorem q2044 : (Jvm.Cond.methodLink "MoveNotesModel" (455 : Nat) ({ cls := "MoveNotesModel", name := "isSlip", desc := "(I)Z" } : Jvm.MethodName)) ∈ lw_all := lw_g (lw_at lw_m9 26 rfl) rfl
theorem q2045 : (Jvm.Cond.static ({ cls := "MoveNotesModel", name := "isSlip", desc := "(I)Z" } : Jvm.MethodName)) ∈ lw_all := lw_g (lw_at lw_m9 27 rfl) rfl
theorem q2046 : (Jvm.Cond.code ({ cls := "MoveNotesModel", name := "isSlip", desc := "(I)Z" } : Jvm.MethodName) prog_26_method_102_code (1 : Nat) (Option.some Jvm.ClassFile.FieldType.boolean)) ∈ lw_all := lw_g (lw_at lw_m9 28 rfl) rfl
theorem q2048 : (Jvm.Cond.instanceMethod ({ cls := "MoveNotesModel", name := "alike", desc := "(II)I" } : Jvm.MethodName)) ∈ lw_all := lw_g (lw_at lw_m9 30 rfl) rfl
theorem q2049 : (Jvm.Cond.selects "MoveNotesModel" ({ cls := "MoveNotesModel", name := "alike", desc := "(II)I" } : Jvm.MethodName) ({ cls := "MoveNotesModel", name := "alike", desc := "(II)I" } : Jvm.MethodName)) ∈ lw_all := lw_g (lw_at lw_m9 31 rfl) rfl
theorem q2050 : (Jvm.Cond.code ({ cls := "MoveNotesModel", name := "alike", desc := "(II)I" } : Jvm.MethodName) prog_26_method_104_code (9 : Nat) (Option.some Jvm.ClassFile.FieldType.int)) ∈ lw_all := lw_g (lw_at lw_m9 32 rfl) rfl
theorem q2052 : (Jvm.Cond.instanceMethod ({ cls := "MoveNotesModel", name := "way", desc := "(I)I" } : Jvm.MethodName)) ∈ lw_all := lw_g (lw_at lw_m9 34 rfl) rfl
theorem q2053 : (Jvm.Cond.selects "MoveNotesModel" ({ cls := "MoveNotesModel", name := "way", desc := "(I)I" } : Jvm.MethodName) ({ cls := "MoveNotesModel", name := "way", desc := "(I)I" } : Jvm.MethodName)) ∈ lw_all := lw_g (lw_at lw_m9 35 rfl) rfl
theorem q2054 : (Jvm.Cond.code ({ cls := "MoveNotesModel", name := "way", desc := "(I)I" } : Jvm.MethodName) prog_26_method_105_code (6 : Nat) (Option.some Jvm.ClassFile.FieldType.int)) ∈ lw_all := lw_g (lw_at lw_m9 36 rfl) rfl
theorem q2056 : (Jvm.Cond.instanceMethod ({ cls := "MoveNotesModel", name := "cheaper", desc := "(I)I" } : Jvm.MethodName)) ∈ lw_all := lw_g (lw_at lw_m9 38 rfl) rfl
theorem q2057 : (Jvm.Cond.selects "MoveNotesModel" ({ cls := "MoveNotesModel", name := "cheaper", desc := "(I)I" } : Jvm.MethodName) ({ cls := "MoveNotesModel", name := "cheaper", desc := "(I)I" } : Jvm.MethodName)) ∈ lw_all := lw_g (lw_at lw_m9 39 rfl) rfl
theorem q2058 : (Jvm.Cond.code ({ cls := "MoveNotesModel", name := "cheaper", desc := "(I)I" } : Jvm.MethodName) prog_26_method_106_code (4 : Nat) (Option.some Jvm.ClassFile.FieldType.int)) ∈ lw_all := lw_g (lw_at lw_m9 40 rfl) rfl
theorem q2060 : (Jvm.Cond.instanceMethod ({ cls := "MoveNotesModel", name := "write", desc := "(IIII)I" } : Jvm.MethodName)) ∈ lw_all := lw_g (lw_at lw_m9 42 rfl) rfl
theorem q2061 : (Jvm.Cond.selects "MoveNotesModel" ({ cls := "MoveNotesModel", name := "write", desc := "(IIII)I" } : Jvm.MethodName) ({ cls := "MoveNotesModel", name := "write", desc := "(IIII)I" } : Jvm.MethodName)) ∈ lw_all := lw_g (lw_at lw_m9 43 rfl) rfl
theorem q2062 : (Jvm.Cond.code ({ cls := "MoveNotesModel", name := "write", desc := "(IIII)I" } : Jvm.MethodName) prog_26_method_108_code (14 : Nat) (Option.some Jvm.ClassFile.FieldType.int)) ∈ lw_all := lw_g (lw_at lw_m9 44 rfl) rfl
theorem q2063 : (Jvm.Cond.methodLink "MoveNotesModel" (462 : Nat) ({ cls := "MoveNotesModel", name := "draw", desc := "()I" } : Jvm.MethodName)) ∈ lw_all := lw_g (lw_at lw_m9 45 rfl) rfl
theorem q2064 : (Jvm.Cond.privateMethod ({ cls := "MoveNotesModel", name := "draw", desc := "()I" } : Jvm.MethodName)) ∈ lw_tbl := lw_at lw_m9 46 rfl
theorem q2065 : (Jvm.Cond.instanceMethod ({ cls := "MoveNotesModel", name := "draw", desc := "()I" } : Jvm.MethodName)) ∈ lw_all := lw_g (lw_at lw_m9 47 rfl) rfl
theorem q2066 : (Jvm.Cond.code ({ cls := "MoveNotesModel", name := "draw", desc := "()I" } : Jvm.MethodName) prog_26_method_107_code (1 : Nat) (Option.some Jvm.ClassFile.FieldType.int)) ∈ lw_all := lw_g (lw_at lw_m9 48 rfl) rfl
theorem q2067 : (Jvm.Cond.constant "MoveNotesModel" (458 : Nat) (1103515245 : Int32)) ∈ lw_all := lw_g (lw_at lw_m9 49 rfl) rfl
theorem q2069 : (Jvm.Cond.instanceMethod ({ cls := "MoveNotesModel", name := "count", desc := "(I)I" } : Jvm.MethodName)) ∈ lw_all := lw_g (lw_at lw_m9 51 rfl) rfl
theorem q2070 : (Jvm.Cond.selects "MoveNotesModel" ({ cls := "MoveNotesModel", name := "count", desc := "(I)I" } : Jvm.MethodName) ({ cls := "MoveNotesModel", name := "count", desc := "(I)I" } : Jvm.MethodName)) ∈ lw_all := lw_g (lw_at lw_m9 52 rfl) rfl
theorem q2071 : (Jvm.Cond.code ({ cls := "MoveNotesModel", name := "count", desc := "(I)I" } : Jvm.MethodName) prog_26_method_109_code (4 : Nat) (Option.some Jvm.ClassFile.FieldType.int)) ∈ lw_all := lw_g (lw_at lw_m9 53 rfl) rfl
theorem q2083 : (Jvm.Cond.castable "MoveNotesModel" "java/lang/Object") ∈ lw_tbl := lw_at lw_m9 65 rfl
theorem in_X11 : ∀ w ∈ wsX110, w ∈ lw_all := lw_in wsX110 [1525, 1527, 1529, 1531, 1533, 1535, 1537, 1539, 1541, 1543, 1545, 1547, 1549, 1551, 1553, 1555, 1557, 1559, 1561, 1563, 1565, 1567, 1569, 1571, 1573, 1575, 1577, 1579, 1581, 1583, 1585, 1587, 1589, 1591, 1593, 1595, 1597, 1599, 1601, 1603, 1605, 1607, 1609, 1611, 1613, 1615, 1617, 1619, 1621, 1623, 1625, 1627] (by decide +kernel) (by decide +kernel)
/-! MoveNotes$Kind -/
def RX12 : String := "MoveNotes$Kind"
def TX12 : u_T := fun k => match k with
  | 0 => ("MoveNotes$Kind", "value", "I", true)
  | _ => ("MoveNotes$Kind", "goings", "[LMoveNotes$Going;", true)
def tyX12 : Nat → FieldType := fun k => match k with
  | 0 => .int
  | _ => .array (.object "MoveNotes$Going")
abbrev wsX120 : List Cond := u_ws RX12 TX12 2
theorem nmX12 : ∀ a, a < 2 → ∀ b, b < 2 → a ≠ b → (TX12 a).2.1 ≠ (TX12 b).2.1 := by decide +kernel
theorem tyX12_ok : ∀ k, k < 2 → parseFieldDescriptor (TX12 k).2.2.1 = some (tyX12 k) := by decide +kernel
abbrev cX12_init : ByteArray := prog_9_method_1_code
def yX12_init : MethodName := ⟨RX12, "<init>", "(I[LMoveNotes$Going;I)V"⟩
theorem q113 : (Jvm.Cond.initialized "MoveNotes$Kind") ∈ lw_all := lw_g (lw_at lw_m1 15 rfl) rfl
theorem q847 : (Jvm.Cond.instantiable "MoveNotes$Kind" (2 : Nat)) ∈ lw_all := lw_g (lw_at lw_m4 29 rfl) rfl
theorem q1071 : (Jvm.Cond.instanceMethod ({ cls := "MoveNotes$Kind", name := "<init>", desc := "(I[LMoveNotes$Going;I)V" } : Jvm.MethodName)) ∈ lw_all := lw_g (lw_at lw_m5 13 rfl) rfl
theorem q1072 : (Jvm.Cond.code ({ cls := "MoveNotes$Kind", name := "<init>", desc := "(I[LMoveNotes$Going;I)V" } : Jvm.MethodName) prog_9_method_1_code (4 : Nat) (Option.none : Option Jvm.ClassFile.FieldType)) ∈ lw_all := lw_g (lw_at lw_m5 14 rfl) rfl
theorem q1073 : (Jvm.Cond.methodLink "MoveNotes$Kind" (1 : Nat) ({ cls := "java/lang/Object", name := "<init>", desc := "()V" } : Jvm.MethodName)) ∈ lw_all := lw_g (lw_at lw_m5 15 rfl) rfl
theorem q1074 : (Jvm.Cond.classLink "MoveNotes$Kind" (13 : Nat) "MoveNotes$Going") ∈ lw_all := lw_g (lw_at lw_m5 16 rfl) rfl
theorem q1075 : (Jvm.Cond.methodLink "MoveNotes$Kind" (19 : Nat) ({ cls := "java/lang/System", name := "arraycopy", desc := "(Ljava/lang/Object;ILjava/lang/Object;II)V" } : Jvm.MethodName)) ∈ lw_all := lw_g (lw_at lw_m5 17 rfl) rfl
theorem q1076 : (Jvm.Cond.fieldLink "MoveNotes$Kind" (7 : Nat) "MoveNotes$Kind" "value" "I") ∈ lw_all := lw_g (lw_at lw_m5 18 rfl) rfl
theorem q1079 : (Jvm.Cond.fieldLink "MoveNotes$Kind" (15 : Nat) "MoveNotes$Kind" "goings" "[LMoveNotes$Going;") ∈ lw_all := lw_g (lw_at lw_m5 21 rfl) rfl
theorem q1081 : (Jvm.Cond.laysFinal "MoveNotes$Kind" "MoveNotes$Kind" "value" "I") ∈ lw_all := lw_g (lw_at lw_m5 23 rfl) rfl
theorem q1082 : (Jvm.Cond.soleField "MoveNotes$Kind" "value") ∈ lw_all := lw_g (lw_at lw_m5 24 rfl) rfl
theorem q1083 : (Jvm.Cond.laysFinal "MoveNotes$Kind" "MoveNotes$Kind" "goings" "[LMoveNotes$Going;") ∈ lw_all := lw_g (lw_at lw_m5 25 rfl) rfl
theorem q1084 : (Jvm.Cond.soleField "MoveNotes$Kind" "goings") ∈ lw_all := lw_g (lw_at lw_m5 26 rfl) rfl
theorem q1085 : (Jvm.Cond.superclass "MoveNotes$Kind" "java/lang/Object") ∈ lw_all := lw_g (lw_at lw_m5 27 rfl) rfl
theorem q2084 : (Jvm.Cond.castable "MoveNotes$Kind" "java/lang/Object") ∈ lw_tbl := lw_at lw_m9 66 rfl
theorem in_X12 : ∀ w ∈ wsX120, w ∈ lw_all := lw_in wsX120 [1081, 1083] (by decide +kernel) (by decide +kernel)
/-! MoveNotes$Straight -/
def RX13 : String := "MoveNotes$Straight"
def TX13 : u_T := fun k => match k with
  | _ => ("MoveNotes$Straight", "far", "I", true)
def tyX13 : Nat → FieldType := fun k => match k with
  | _ => .int
abbrev wsX130 : List Cond := u_ws RX13 TX13 1
theorem nmX13 : ∀ a, a < 1 → ∀ b, b < 1 → a ≠ b → (TX13 a).2.1 ≠ (TX13 b).2.1 := by decide +kernel
theorem tyX13_ok : ∀ k, k < 1 → parseFieldDescriptor (TX13 k).2.2.1 = some (tyX13 k) := by decide +kernel
abbrev cX13_marks : ByteArray := prog_21_method_2_code
def yX13_marks : MethodName := ⟨RX13, "marks", "(LMoveNotes$Board;II[Z)V"⟩
abbrev cX13_init : ByteArray := prog_21_method_1_code
def yX13_init : MethodName := ⟨RX13, "<init>", "(I)V"⟩
theorem q118 : (Jvm.Cond.initialized "MoveNotes$Straight") ∈ lw_all := lw_g (lw_at lw_m1 20 rfl) rfl
theorem q699 : (Jvm.Cond.selects "MoveNotes$Straight" ({ cls := "MoveNotes$Going", name := "marks", desc := "(LMoveNotes$Board;II[Z)V" } : Jvm.MethodName) ({ cls := "MoveNotes$Straight", name := "marks", desc := "(LMoveNotes$Board;II[Z)V" } : Jvm.MethodName)) ∈ lw_all := lw_g (lw_at lw_m3 121 rfl) rfl
theorem q700 : (Jvm.Cond.instanceMethod ({ cls := "MoveNotes$Straight", name := "marks", desc := "(LMoveNotes$Board;II[Z)V" } : Jvm.MethodName)) ∈ lw_all := lw_g (lw_at lw_m3 122 rfl) rfl
theorem q701 : (Jvm.Cond.code ({ cls := "MoveNotes$Straight", name := "marks", desc := "(LMoveNotes$Board;II[Z)V" } : Jvm.MethodName) prog_21_method_2_code (6 : Nat) (Option.none : Option Jvm.ClassFile.FieldType)) ∈ lw_all := lw_g (lw_at lw_m3 123 rfl) rfl
theorem q702 : (Jvm.Cond.methodLink "MoveNotes$Straight" (13 : Nat) ({ cls := "MoveNotes$Straight", name := "slides", desc := "(LMoveNotes$Board;IIIIIZ[Z)V" } : Jvm.MethodName)) ∈ lw_all := lw_g (lw_at lw_m3 124 rfl) rfl
theorem q703 : (Jvm.Cond.sameMethod "MoveNotes$Straight" "MoveNotes$Going" "slides" "(LMoveNotes$Board;IIIIIZ[Z)V") ∈ lw_all := lw_g (lw_at lw_m3 125 rfl) rfl
theorem q918 : (Jvm.Cond.instantiable "MoveNotes$Straight" (1 : Nat)) ∈ lw_all := lw_g (lw_at lw_m4 100 rfl) rfl
theorem q924 : (Jvm.Cond.instanceMethod ({ cls := "MoveNotes$Straight", name := "<init>", desc := "(I)V" } : Jvm.MethodName)) ∈ lw_all := lw_g (lw_at lw_m4 106 rfl) rfl
theorem q925 : (Jvm.Cond.code ({ cls := "MoveNotes$Straight", name := "<init>", desc := "(I)V" } : Jvm.MethodName) prog_21_method_1_code (2 : Nat) (Option.none : Option Jvm.ClassFile.FieldType)) ∈ lw_all := lw_g (lw_at lw_m4 107 rfl) rfl
theorem q926 : (Jvm.Cond.methodLinkNest "MoveNotes$Straight" (1 : Nat) ({ cls := "MoveNotes$Going", name := "<init>", desc := "()V" } : Jvm.MethodName) "MoveNotes") ∈ lw_tbl := lw_at lw_m4 108 rfl
theorem q927 : (Jvm.Cond.fieldLink "MoveNotes$Straight" (7 : Nat) "MoveNotes$Straight" "far" "I") ∈ lw_all := lw_g (lw_at lw_m4 109 rfl) rfl
theorem q928 : (Jvm.Cond.laysFinal "MoveNotes$Straight" "MoveNotes$Straight" "far" "I") ∈ lw_all := lw_g (lw_at lw_m4 110 rfl) rfl
theorem q929 : (Jvm.Cond.soleField "MoveNotes$Straight" "far") ∈ lw_all := lw_g (lw_at lw_m4 111 rfl) rfl
theorem q930 : (Jvm.Cond.superclass "MoveNotes$Straight" "MoveNotes$Going") ∈ lw_all := lw_g (lw_at lw_m4 112 rfl) rfl
theorem q2085 : (Jvm.Cond.castable "MoveNotes$Straight" "java/lang/Object") ∈ lw_tbl := lw_at lw_m9 67 rfl
theorem q2106 : (Jvm.Cond.castable "MoveNotes$Straight" "MoveNotes$Going") ∈ lw_tbl := lw_at lw_m9 88 rfl
theorem in_X13 : ∀ w ∈ wsX130, w ∈ lw_all := lw_in wsX130 [928] (by decide +kernel) (by decide +kernel)
/-! MoveNotes$Slant -/
def RX14 : String := "MoveNotes$Slant"
def TX14 : u_T := fun k => match k with
  | _ => ("MoveNotes$Slant", "far", "I", true)
def tyX14 : Nat → FieldType := fun k => match k with
  | _ => .int
abbrev wsX140 : List Cond := u_ws RX14 TX14 1
theorem nmX14 : ∀ a, a < 1 → ∀ b, b < 1 → a ≠ b → (TX14 a).2.1 ≠ (TX14 b).2.1 := by decide +kernel
theorem tyX14_ok : ∀ k, k < 1 → parseFieldDescriptor (TX14 k).2.2.1 = some (tyX14 k) := by decide +kernel
abbrev cX14_marks : ByteArray := prog_19_method_2_code
def yX14_marks : MethodName := ⟨RX14, "marks", "(LMoveNotes$Board;II[Z)V"⟩
abbrev cX14_init : ByteArray := prog_19_method_1_code
def yX14_init : MethodName := ⟨RX14, "<init>", "(I)V"⟩
theorem q119 : (Jvm.Cond.initialized "MoveNotes$Slant") ∈ lw_all := lw_g (lw_at lw_m1 21 rfl) rfl
theorem q694 : (Jvm.Cond.selects "MoveNotes$Slant" ({ cls := "MoveNotes$Going", name := "marks", desc := "(LMoveNotes$Board;II[Z)V" } : Jvm.MethodName) ({ cls := "MoveNotes$Slant", name := "marks", desc := "(LMoveNotes$Board;II[Z)V" } : Jvm.MethodName)) ∈ lw_all := lw_g (lw_at lw_m3 116 rfl) rfl
theorem q695 : (Jvm.Cond.instanceMethod ({ cls := "MoveNotes$Slant", name := "marks", desc := "(LMoveNotes$Board;II[Z)V" } : Jvm.MethodName)) ∈ lw_all := lw_g (lw_at lw_m3 117 rfl) rfl
theorem q696 : (Jvm.Cond.code ({ cls := "MoveNotes$Slant", name := "marks", desc := "(LMoveNotes$Board;II[Z)V" } : Jvm.MethodName) prog_19_method_2_code (7 : Nat) (Option.none : Option Jvm.ClassFile.FieldType)) ∈ lw_all := lw_g (lw_at lw_m3 118 rfl) rfl
theorem q697 : (Jvm.Cond.methodLink "MoveNotes$Slant" (13 : Nat) ({ cls := "MoveNotes$Slant", name := "slides", desc := "(LMoveNotes$Board;IIIIIZ[Z)V" } : Jvm.MethodName)) ∈ lw_all := lw_g (lw_at lw_m3 119 rfl) rfl
theorem q698 : (Jvm.Cond.sameMethod "MoveNotes$Slant" "MoveNotes$Going" "slides" "(LMoveNotes$Board;IIIIIZ[Z)V") ∈ lw_all := lw_g (lw_at lw_m3 120 rfl) rfl
theorem q933 : (Jvm.Cond.instantiable "MoveNotes$Slant" (1 : Nat)) ∈ lw_all := lw_g (lw_at lw_m4 115 rfl) rfl
theorem q935 : (Jvm.Cond.instanceMethod ({ cls := "MoveNotes$Slant", name := "<init>", desc := "(I)V" } : Jvm.MethodName)) ∈ lw_all := lw_g (lw_at lw_m4 117 rfl) rfl
theorem q936 : (Jvm.Cond.code ({ cls := "MoveNotes$Slant", name := "<init>", desc := "(I)V" } : Jvm.MethodName) prog_19_method_1_code (2 : Nat) (Option.none : Option Jvm.ClassFile.FieldType)) ∈ lw_all := lw_g (lw_at lw_m4 118 rfl) rfl
theorem q937 : (Jvm.Cond.methodLinkNest "MoveNotes$Slant" (1 : Nat) ({ cls := "MoveNotes$Going", name := "<init>", desc := "()V" } : Jvm.MethodName) "MoveNotes") ∈ lw_tbl := lw_at lw_m4 119 rfl
theorem q938 : (Jvm.Cond.fieldLink "MoveNotes$Slant" (7 : Nat) "MoveNotes$Slant" "far" "I") ∈ lw_all := lw_g (lw_at lw_m4 120 rfl) rfl
theorem q939 : (Jvm.Cond.laysFinal "MoveNotes$Slant" "MoveNotes$Slant" "far" "I") ∈ lw_all := lw_g (lw_at lw_m4 121 rfl) rfl
theorem q940 : (Jvm.Cond.soleField "MoveNotes$Slant" "far") ∈ lw_all := lw_g (lw_at lw_m4 122 rfl) rfl
theorem q941 : (Jvm.Cond.superclass "MoveNotes$Slant" "MoveNotes$Going") ∈ lw_all := lw_g (lw_at lw_m4 123 rfl) rfl
theorem q2086 : (Jvm.Cond.castable "MoveNotes$Slant" "java/lang/Object") ∈ lw_tbl := lw_at lw_m9 68 rfl
theorem q2107 : (Jvm.Cond.castable "MoveNotes$Slant" "MoveNotes$Going") ∈ lw_tbl := lw_at lw_m9 89 rfl
theorem in_X14 : ∀ w ∈ wsX140, w ∈ lw_all := lw_in wsX140 [939] (by decide +kernel) (by decide +kernel)
/-! MoveNotes$Ahead -/
def RX15 : String := "MoveNotes$Ahead"
def TX15 : u_T := fun k => match k with
  | _ => ("MoveNotes$Ahead", "far", "I", true)
def tyX15 : Nat → FieldType := fun k => match k with
  | _ => .int
abbrev wsX150 : List Cond := u_ws RX15 TX15 1
theorem nmX15 : ∀ a, a < 1 → ∀ b, b < 1 → a ≠ b → (TX15 a).2.1 ≠ (TX15 b).2.1 := by decide +kernel
theorem tyX15_ok : ∀ k, k < 1 → parseFieldDescriptor (TX15 k).2.2.1 = some (tyX15 k) := by decide +kernel
abbrev cX15_marks : ByteArray := prog_2_method_2_code
def yX15_marks : MethodName := ⟨RX15, "marks", "(LMoveNotes$Board;II[Z)V"⟩
abbrev cX15_init : ByteArray := prog_2_method_1_code
def yX15_init : MethodName := ⟨RX15, "<init>", "(I)V"⟩
theorem q120 : (Jvm.Cond.initialized "MoveNotes$Ahead") ∈ lw_all := lw_g (lw_at lw_m1 22 rfl) rfl
theorem q678 : (Jvm.Cond.selects "MoveNotes$Ahead" ({ cls := "MoveNotes$Going", name := "marks", desc := "(LMoveNotes$Board;II[Z)V" } : Jvm.MethodName) ({ cls := "MoveNotes$Ahead", name := "marks", desc := "(LMoveNotes$Board;II[Z)V" } : Jvm.MethodName)) ∈ lw_all := lw_g (lw_at lw_m3 100 rfl) rfl
theorem q679 : (Jvm.Cond.instanceMethod ({ cls := "MoveNotes$Ahead", name := "marks", desc := "(LMoveNotes$Board;II[Z)V" } : Jvm.MethodName)) ∈ lw_all := lw_g (lw_at lw_m3 101 rfl) rfl
theorem q680 : (Jvm.Cond.code ({ cls := "MoveNotes$Ahead", name := "marks", desc := "(LMoveNotes$Board;II[Z)V" } : Jvm.MethodName) prog_2_method_2_code (5 : Nat) (Option.none : Option Jvm.ClassFile.FieldType)) ∈ lw_all := lw_g (lw_at lw_m3 102 rfl) rfl
theorem q681 : (Jvm.Cond.methodLink "MoveNotes$Ahead" (13 : Nat) ({ cls := "MoveNotes$Ahead", name := "slides", desc := "(LMoveNotes$Board;IIIIIZ[Z)V" } : Jvm.MethodName)) ∈ lw_all := lw_g (lw_at lw_m3 103 rfl) rfl
theorem q682 : (Jvm.Cond.sameMethod "MoveNotes$Ahead" "MoveNotes$Going" "slides" "(LMoveNotes$Board;IIIIIZ[Z)V") ∈ lw_all := lw_g (lw_at lw_m3 104 rfl) rfl
theorem q944 : (Jvm.Cond.instantiable "MoveNotes$Ahead" (1 : Nat)) ∈ lw_all := lw_g (lw_at lw_m4 126 rfl) rfl
theorem q946 : (Jvm.Cond.instanceMethod ({ cls := "MoveNotes$Ahead", name := "<init>", desc := "(I)V" } : Jvm.MethodName)) ∈ lw_all := lw_g (lw_at lw_m4 128 rfl) rfl
theorem q947 : (Jvm.Cond.code ({ cls := "MoveNotes$Ahead", name := "<init>", desc := "(I)V" } : Jvm.MethodName) prog_2_method_1_code (2 : Nat) (Option.none : Option Jvm.ClassFile.FieldType)) ∈ lw_all := lw_g (lw_at lw_m4 129 rfl) rfl
theorem q948 : (Jvm.Cond.methodLinkNest "MoveNotes$Ahead" (1 : Nat) ({ cls := "MoveNotes$Going", name := "<init>", desc := "()V" } : Jvm.MethodName) "MoveNotes") ∈ lw_tbl := lw_at lw_m4 130 rfl
theorem q949 : (Jvm.Cond.fieldLink "MoveNotes$Ahead" (7 : Nat) "MoveNotes$Ahead" "far" "I") ∈ lw_all := lw_g (lw_at lw_m4 131 rfl) rfl
theorem q950 : (Jvm.Cond.laysFinal "MoveNotes$Ahead" "MoveNotes$Ahead" "far" "I") ∈ lw_all := lw_g (lw_at lw_m4 132 rfl) rfl
theorem q951 : (Jvm.Cond.soleField "MoveNotes$Ahead" "far") ∈ lw_all := lw_g (lw_at lw_m4 133 rfl) rfl
theorem q952 : (Jvm.Cond.superclass "MoveNotes$Ahead" "MoveNotes$Going") ∈ lw_all := lw_g (lw_at lw_m4 134 rfl) rfl
theorem q2087 : (Jvm.Cond.castable "MoveNotes$Ahead" "java/lang/Object") ∈ lw_tbl := lw_at lw_m9 69 rfl
theorem q2108 : (Jvm.Cond.castable "MoveNotes$Ahead" "MoveNotes$Going") ∈ lw_tbl := lw_at lw_m9 90 rfl
theorem in_X15 : ∀ w ∈ wsX150, w ∈ lw_all := lw_in wsX150 [950] (by decide +kernel) (by decide +kernel)
/-! MoveNotes$PlayLine -/
def RX16 : String := "MoveNotes$PlayLine"
def TX16 : u_T := fun k => match k with
  | 0 => ("MoveNotes$PlayLine", "number", "I", true)
  | 1 => ("MoveNotes$PlayLine", "fact", "I", true)
  | _ => ("MoveNotes$PlayLine", "cond", "LMoveNotes$Cond;", true)
def tyX16 : Nat → FieldType := fun k => match k with
  | 0 => .int
  | 1 => .int
  | _ => .object "MoveNotes$Cond"
abbrev wsX160 : List Cond := u_ws RX16 TX16 3
theorem nmX16 : ∀ a, a < 3 → ∀ b, b < 3 → a ≠ b → (TX16 a).2.1 ≠ (TX16 b).2.1 := by decide +kernel
theorem tyX16_ok : ∀ k, k < 3 → parseFieldDescriptor (TX16 k).2.2.1 = some (tyX16 k) := by decide +kernel
abbrev cX16_tells : ByteArray := prog_16_method_2_code
def yX16_tells : MethodName := ⟨RX16, "tells", "([I)I"⟩
abbrev cX16_init : ByteArray := prog_16_method_1_code
def yX16_init : MethodName := ⟨RX16, "<init>", "(IILMoveNotes$Cond;)V"⟩
theorem q121 : (Jvm.Cond.initialized "MoveNotes$PlayLine") ∈ lw_all := lw_g (lw_at lw_m1 23 rfl) rfl
theorem q709 : (Jvm.Cond.instanceMethod ({ cls := "MoveNotes$PlayLine", name := "tells", desc := "([I)I" } : Jvm.MethodName)) ∈ lw_all := lw_g (lw_at lw_m3 131 rfl) rfl
theorem q710 : (Jvm.Cond.selects "MoveNotes$PlayLine" ({ cls := "MoveNotes$PlayLine", name := "tells", desc := "([I)I" } : Jvm.MethodName) ({ cls := "MoveNotes$PlayLine", name := "tells", desc := "([I)I" } : Jvm.MethodName)) ∈ lw_all := lw_g (lw_at lw_m3 132 rfl) rfl
theorem q711 : (Jvm.Cond.code ({ cls := "MoveNotes$PlayLine", name := "tells", desc := "([I)I" } : Jvm.MethodName) prog_16_method_2_code (2 : Nat) (Option.some Jvm.ClassFile.FieldType.int)) ∈ lw_all := lw_g (lw_at lw_m3 133 rfl) rfl
theorem q712 : (Jvm.Cond.interfaceEntry "MoveNotes$PlayLine" (22 : Nat)) ∈ lw_tbl := lw_at lw_m3 134 rfl
theorem q713 : (Jvm.Cond.methodLink "MoveNotes$PlayLine" (22 : Nat) ({ cls := "MoveNotes$Cond", name := "holds", desc := "([I)Z" } : Jvm.MethodName)) ∈ lw_all := lw_g (lw_at lw_m3 135 rfl) rfl
theorem q964 : (Jvm.Cond.instantiable "MoveNotes$PlayLine" (3 : Nat)) ∈ lw_all := lw_g (lw_at lw_m4 146 rfl) rfl
theorem q1057 : (Jvm.Cond.instanceMethod ({ cls := "MoveNotes$PlayLine", name := "<init>", desc := "(IILMoveNotes$Cond;)V" } : Jvm.MethodName)) ∈ lw_all := lw_g (lw_at lw_m4 239 rfl) rfl
theorem q1058 : (Jvm.Cond.code ({ cls := "MoveNotes$PlayLine", name := "<init>", desc := "(IILMoveNotes$Cond;)V" } : Jvm.MethodName) prog_16_method_1_code (4 : Nat) (Option.none : Option Jvm.ClassFile.FieldType)) ∈ lw_all := lw_g (lw_at lw_m5 0 rfl) rfl
theorem q1059 : (Jvm.Cond.methodLink "MoveNotes$PlayLine" (3 : Nat) ({ cls := "java/lang/Object", name := "<init>", desc := "()V" } : Jvm.MethodName)) ∈ lw_all := lw_g (lw_at lw_m5 1 rfl) rfl
theorem q1060 : (Jvm.Cond.fieldLink "MoveNotes$PlayLine" (9 : Nat) "MoveNotes$PlayLine" "number" "I") ∈ lw_all := lw_g (lw_at lw_m5 2 rfl) rfl
theorem q1061 : (Jvm.Cond.fieldLink "MoveNotes$PlayLine" (15 : Nat) "MoveNotes$PlayLine" "fact" "I") ∈ lw_all := lw_g (lw_at lw_m5 3 rfl) rfl
theorem q1062 : (Jvm.Cond.fieldLink "MoveNotes$PlayLine" (18 : Nat) "MoveNotes$PlayLine" "cond" "LMoveNotes$Cond;") ∈ lw_all := lw_g (lw_at lw_m5 4 rfl) rfl
theorem q1063 : (Jvm.Cond.laysFinal "MoveNotes$PlayLine" "MoveNotes$PlayLine" "number" "I") ∈ lw_all := lw_g (lw_at lw_m5 5 rfl) rfl
theorem q1064 : (Jvm.Cond.soleField "MoveNotes$PlayLine" "number") ∈ lw_all := lw_g (lw_at lw_m5 6 rfl) rfl
theorem q1065 : (Jvm.Cond.laysFinal "MoveNotes$PlayLine" "MoveNotes$PlayLine" "fact" "I") ∈ lw_all := lw_g (lw_at lw_m5 7 rfl) rfl
theorem q1066 : (Jvm.Cond.soleField "MoveNotes$PlayLine" "fact") ∈ lw_all := lw_g (lw_at lw_m5 8 rfl) rfl
theorem q1067 : (Jvm.Cond.laysFinal "MoveNotes$PlayLine" "MoveNotes$PlayLine" "cond" "LMoveNotes$Cond;") ∈ lw_all := lw_g (lw_at lw_m5 9 rfl) rfl
theorem q1068 : (Jvm.Cond.soleField "MoveNotes$PlayLine" "cond") ∈ lw_all := lw_g (lw_at lw_m5 10 rfl) rfl
theorem q1069 : (Jvm.Cond.superclass "MoveNotes$PlayLine" "java/lang/Object") ∈ lw_all := lw_g (lw_at lw_m5 11 rfl) rfl
theorem q2088 : (Jvm.Cond.castable "MoveNotes$PlayLine" "java/lang/Object") ∈ lw_tbl := lw_at lw_m9 70 rfl
theorem in_X16 : ∀ w ∈ wsX160, w ∈ lw_all := lw_in wsX160 [1063, 1065, 1067] (by decide +kernel) (by decide +kernel)
/-! MoveNotes$Chain -/
def RX17 : String := "MoveNotes$Chain"
def TX17 : u_T := fun k => match k with
  | 0 => ("MoveNotes$Chain", "one", "LMoveNotes$Cond;", true)
  | 1 => ("MoveNotes$Chain", "all", "Z", true)
  | _ => ("MoveNotes$Chain", "next", "LMoveNotes$Chain;", false)
def tyX17 : Nat → FieldType := fun k => match k with
  | 0 => .object "MoveNotes$Cond"
  | 1 => .boolean
  | _ => .object "MoveNotes$Chain"
abbrev wsX170 : List Cond := u_ws RX17 TX17 3
theorem nmX17 : ∀ a, a < 3 → ∀ b, b < 3 → a ≠ b → (TX17 a).2.1 ≠ (TX17 b).2.1 := by decide +kernel
theorem tyX17_ok : ∀ k, k < 3 → parseFieldDescriptor (TX17 k).2.2.1 = some (tyX17 k) := by decide +kernel
abbrev cX17_holds : ByteArray := prog_6_method_2_code
def yX17_holds : MethodName := ⟨RX17, "holds", "([I)Z"⟩
abbrev cX17_init : ByteArray := prog_6_method_1_code
def yX17_init : MethodName := ⟨RX17, "<init>", "(LMoveNotes$Cond;Z)V"⟩
theorem q122 : (Jvm.Cond.initialized "MoveNotes$Chain") ∈ lw_all := lw_g (lw_at lw_m1 24 rfl) rfl
theorem q716 : (Jvm.Cond.castable "MoveNotes$Chain" "MoveNotes$Cond") ∈ lw_tbl := lw_at lw_m3 138 rfl
theorem q717 : (Jvm.Cond.selects "MoveNotes$Chain" ({ cls := "MoveNotes$Cond", name := "holds", desc := "([I)Z" } : Jvm.MethodName) ({ cls := "MoveNotes$Chain", name := "holds", desc := "([I)Z" } : Jvm.MethodName)) ∈ lw_all := lw_g (lw_at lw_m3 139 rfl) rfl
theorem q718 : (Jvm.Cond.unhidden "MoveNotes$Chain" "holds" "([I)Z") ∈ lw_tbl := lw_at lw_m3 140 rfl
theorem q719 : (Jvm.Cond.instanceMethod ({ cls := "MoveNotes$Chain", name := "holds", desc := "([I)Z" } : Jvm.MethodName)) ∈ lw_all := lw_g (lw_at lw_m3 141 rfl) rfl
theorem q720 : (Jvm.Cond.publicMethod ({ cls := "MoveNotes$Chain", name := "holds", desc := "([I)Z" } : Jvm.MethodName)) ∈ lw_tbl := lw_at lw_m3 142 rfl
theorem q721 : (Jvm.Cond.code ({ cls := "MoveNotes$Chain", name := "holds", desc := "([I)Z" } : Jvm.MethodName) prog_6_method_2_code (3 : Nat) (Option.some Jvm.ClassFile.FieldType.boolean)) ∈ lw_all := lw_g (lw_at lw_m3 143 rfl) rfl
theorem q722 : (Jvm.Cond.interfaceEntry "MoveNotes$Chain" (17 : Nat)) ∈ lw_tbl := lw_at lw_m3 144 rfl
theorem q723 : (Jvm.Cond.methodLink "MoveNotes$Chain" (17 : Nat) ({ cls := "MoveNotes$Cond", name := "holds", desc := "([I)Z" } : Jvm.MethodName)) ∈ lw_all := lw_g (lw_at lw_m3 145 rfl) rfl
theorem q971 : (Jvm.Cond.instantiable "MoveNotes$Chain" (3 : Nat)) ∈ lw_all := lw_g (lw_at lw_m4 153 rfl) rfl
theorem q1040 : (Jvm.Cond.instanceMethod ({ cls := "MoveNotes$Chain", name := "<init>", desc := "(LMoveNotes$Cond;Z)V" } : Jvm.MethodName)) ∈ lw_all := lw_g (lw_at lw_m4 222 rfl) rfl
theorem q1041 : (Jvm.Cond.code ({ cls := "MoveNotes$Chain", name := "<init>", desc := "(LMoveNotes$Cond;Z)V" } : Jvm.MethodName) prog_6_method_1_code (3 : Nat) (Option.none : Option Jvm.ClassFile.FieldType)) ∈ lw_all := lw_g (lw_at lw_m4 223 rfl) rfl
theorem q1042 : (Jvm.Cond.methodLink "MoveNotes$Chain" (1 : Nat) ({ cls := "java/lang/Object", name := "<init>", desc := "()V" } : Jvm.MethodName)) ∈ lw_all := lw_g (lw_at lw_m4 224 rfl) rfl
theorem q1043 : (Jvm.Cond.fieldLink "MoveNotes$Chain" (7 : Nat) "MoveNotes$Chain" "one" "LMoveNotes$Cond;") ∈ lw_all := lw_g (lw_at lw_m4 225 rfl) rfl
theorem q1044 : (Jvm.Cond.fieldLink "MoveNotes$Chain" (13 : Nat) "MoveNotes$Chain" "all" "Z") ∈ lw_all := lw_g (lw_at lw_m4 226 rfl) rfl
theorem q1045 : (Jvm.Cond.fieldLink "MoveNotes$Chain" (23 : Nat) "MoveNotes$Chain" "next" "LMoveNotes$Chain;") ∈ lw_all := lw_g (lw_at lw_m4 227 rfl) rfl
theorem q1047 : (Jvm.Cond.laysFinal "MoveNotes$Chain" "MoveNotes$Chain" "one" "LMoveNotes$Cond;") ∈ lw_all := lw_g (lw_at lw_m4 229 rfl) rfl
theorem q1048 : (Jvm.Cond.soleField "MoveNotes$Chain" "one") ∈ lw_all := lw_g (lw_at lw_m4 230 rfl) rfl
theorem q1049 : (Jvm.Cond.laysFinal "MoveNotes$Chain" "MoveNotes$Chain" "all" "Z") ∈ lw_all := lw_g (lw_at lw_m4 231 rfl) rfl
theorem q1050 : (Jvm.Cond.soleField "MoveNotes$Chain" "all") ∈ lw_all := lw_g (lw_at lw_m4 232 rfl) rfl
theorem q1051 : (Jvm.Cond.lays "MoveNotes$Chain" "MoveNotes$Chain" "next" "LMoveNotes$Chain;") ∈ lw_all := lw_g (lw_at lw_m4 233 rfl) rfl
theorem q1052 : (Jvm.Cond.soleField "MoveNotes$Chain" "next") ∈ lw_all := lw_g (lw_at lw_m4 234 rfl) rfl
theorem q1053 : (Jvm.Cond.superclass "MoveNotes$Chain" "java/lang/Object") ∈ lw_all := lw_g (lw_at lw_m4 235 rfl) rfl
theorem q2089 : (Jvm.Cond.castable "MoveNotes$Chain" "java/lang/Object") ∈ lw_tbl := lw_at lw_m9 71 rfl
theorem in_X17 : ∀ w ∈ wsX170, w ∈ lw_all := lw_in wsX170 [1047, 1049, 1051] (by decide +kernel) (by decide +kernel)
/-! MoveNotes$Tag -/
def RX18 : String := "MoveNotes$Tag"
def TX18 : u_T := fun k => match k with
  | _ => ("MoveNotes$Tag", "fact", "I", true)
def tyX18 : Nat → FieldType := fun k => match k with
  | _ => .int
abbrev wsX180 : List Cond := u_ws RX18 TX18 1
theorem nmX18 : ∀ a, a < 1 → ∀ b, b < 1 → a ≠ b → (TX18 a).2.1 ≠ (TX18 b).2.1 := by decide +kernel
theorem tyX18_ok : ∀ k, k < 1 → parseFieldDescriptor (TX18 k).2.2.1 = some (tyX18 k) := by decide +kernel
abbrev cX18_holds : ByteArray := prog_23_method_2_code
def yX18_holds : MethodName := ⟨RX18, "holds", "([I)Z"⟩
abbrev cX18_init : ByteArray := prog_23_method_1_code
def yX18_init : MethodName := ⟨RX18, "<init>", "(I)V"⟩
theorem q123 : (Jvm.Cond.initialized "MoveNotes$Tag") ∈ lw_all := lw_g (lw_at lw_m1 25 rfl) rfl
theorem q742 : (Jvm.Cond.castable "MoveNotes$Tag" "MoveNotes$Cond") ∈ lw_tbl := lw_at lw_m3 164 rfl
theorem q743 : (Jvm.Cond.selects "MoveNotes$Tag" ({ cls := "MoveNotes$Cond", name := "holds", desc := "([I)Z" } : Jvm.MethodName) ({ cls := "MoveNotes$Tag", name := "holds", desc := "([I)Z" } : Jvm.MethodName)) ∈ lw_all := lw_g (lw_at lw_m3 165 rfl) rfl
theorem q744 : (Jvm.Cond.unhidden "MoveNotes$Tag" "holds" "([I)Z") ∈ lw_tbl := lw_at lw_m3 166 rfl
theorem q745 : (Jvm.Cond.instanceMethod ({ cls := "MoveNotes$Tag", name := "holds", desc := "([I)Z" } : Jvm.MethodName)) ∈ lw_all := lw_g (lw_at lw_m3 167 rfl) rfl
theorem q746 : (Jvm.Cond.publicMethod ({ cls := "MoveNotes$Tag", name := "holds", desc := "([I)Z" } : Jvm.MethodName)) ∈ lw_tbl := lw_at lw_m3 168 rfl
theorem q747 : (Jvm.Cond.code ({ cls := "MoveNotes$Tag", name := "holds", desc := "([I)Z" } : Jvm.MethodName) prog_23_method_2_code (2 : Nat) (Option.some Jvm.ClassFile.FieldType.boolean)) ∈ lw_all := lw_g (lw_at lw_m3 169 rfl) rfl
theorem q983 : (Jvm.Cond.instantiable "MoveNotes$Tag" (1 : Nat)) ∈ lw_all := lw_g (lw_at lw_m4 165 rfl) rfl
theorem q985 : (Jvm.Cond.instanceMethod ({ cls := "MoveNotes$Tag", name := "<init>", desc := "(I)V" } : Jvm.MethodName)) ∈ lw_all := lw_g (lw_at lw_m4 167 rfl) rfl
theorem q986 : (Jvm.Cond.code ({ cls := "MoveNotes$Tag", name := "<init>", desc := "(I)V" } : Jvm.MethodName) prog_23_method_1_code (2 : Nat) (Option.none : Option Jvm.ClassFile.FieldType)) ∈ lw_all := lw_g (lw_at lw_m4 168 rfl) rfl
theorem q987 : (Jvm.Cond.methodLink "MoveNotes$Tag" (1 : Nat) ({ cls := "java/lang/Object", name := "<init>", desc := "()V" } : Jvm.MethodName)) ∈ lw_all := lw_g (lw_at lw_m4 169 rfl) rfl
theorem q988 : (Jvm.Cond.fieldLink "MoveNotes$Tag" (7 : Nat) "MoveNotes$Tag" "fact" "I") ∈ lw_all := lw_g (lw_at lw_m4 170 rfl) rfl
theorem q989 : (Jvm.Cond.laysFinal "MoveNotes$Tag" "MoveNotes$Tag" "fact" "I") ∈ lw_all := lw_g (lw_at lw_m4 171 rfl) rfl
theorem q990 : (Jvm.Cond.soleField "MoveNotes$Tag" "fact") ∈ lw_all := lw_g (lw_at lw_m4 172 rfl) rfl
theorem q991 : (Jvm.Cond.superclass "MoveNotes$Tag" "java/lang/Object") ∈ lw_all := lw_g (lw_at lw_m4 173 rfl) rfl
theorem q2090 : (Jvm.Cond.castable "MoveNotes$Tag" "java/lang/Object") ∈ lw_tbl := lw_at lw_m9 72 rfl
theorem in_X18 : ∀ w ∈ wsX180, w ∈ lw_all := lw_in wsX180 [989] (by decide +kernel) (by decide +kernel)
/-! MoveNotes$Sum -/
def RX19 : String := "MoveNotes$Sum"
def TX19 : u_T := fun k => match k with
  | 0 => ("MoveNotes$Sum", "times", "[I", true)
  | _ => ("MoveNotes$Sum", "number", "I", false)
def tyX19 : Nat → FieldType := fun k => match k with
  | 0 => .array .int
  | _ => .int
abbrev wsX190 : List Cond := u_ws RX19 TX19 2
theorem nmX19 : ∀ a, a < 2 → ∀ b, b < 2 → a ≠ b → (TX19 a).2.1 ≠ (TX19 b).2.1 := by decide +kernel
theorem tyX19_ok : ∀ k, k < 2 → parseFieldDescriptor (TX19 k).2.2.1 = some (tyX19 k) := by decide +kernel
abbrev cX19_of : ByteArray := prog_22_method_2_code
def yX19_of : MethodName := ⟨RX19, "of", "([I)I"⟩
abbrev cX19_init : ByteArray := prog_22_method_1_code
def yX19_init : MethodName := ⟨RX19, "<init>", "()V"⟩
theorem q124 : (Jvm.Cond.initialized "MoveNotes$Sum") ∈ lw_all := lw_g (lw_at lw_m1 26 rfl) rfl
theorem q731 : (Jvm.Cond.instanceMethod ({ cls := "MoveNotes$Sum", name := "of", desc := "([I)I" } : Jvm.MethodName)) ∈ lw_all := lw_g (lw_at lw_m3 153 rfl) rfl
theorem q732 : (Jvm.Cond.selects "MoveNotes$Sum" ({ cls := "MoveNotes$Sum", name := "of", desc := "([I)I" } : Jvm.MethodName) ({ cls := "MoveNotes$Sum", name := "of", desc := "([I)I" } : Jvm.MethodName)) ∈ lw_all := lw_g (lw_at lw_m3 154 rfl) rfl
theorem q733 : (Jvm.Cond.code ({ cls := "MoveNotes$Sum", name := "of", desc := "([I)I" } : Jvm.MethodName) prog_22_method_2_code (4 : Nat) (Option.some Jvm.ClassFile.FieldType.int)) ∈ lw_all := lw_g (lw_at lw_m3 155 rfl) rfl
theorem q998 : (Jvm.Cond.instantiable "MoveNotes$Sum" (2 : Nat)) ∈ lw_all := lw_g (lw_at lw_m4 180 rfl) rfl
theorem q1000 : (Jvm.Cond.instanceMethod ({ cls := "MoveNotes$Sum", name := "<init>", desc := "()V" } : Jvm.MethodName)) ∈ lw_all := lw_g (lw_at lw_m4 182 rfl) rfl
theorem q1001 : (Jvm.Cond.code ({ cls := "MoveNotes$Sum", name := "<init>", desc := "()V" } : Jvm.MethodName) prog_22_method_1_code (1 : Nat) (Option.none : Option Jvm.ClassFile.FieldType)) ∈ lw_all := lw_g (lw_at lw_m4 183 rfl) rfl
theorem q1002 : (Jvm.Cond.methodLink "MoveNotes$Sum" (3 : Nat) ({ cls := "java/lang/Object", name := "<init>", desc := "()V" } : Jvm.MethodName)) ∈ lw_all := lw_g (lw_at lw_m4 184 rfl) rfl
theorem q1003 : (Jvm.Cond.fieldLink "MoveNotes$Sum" (9 : Nat) "MoveNotes$Sum" "times" "[I") ∈ lw_all := lw_g (lw_at lw_m4 185 rfl) rfl
theorem q1005 : (Jvm.Cond.fieldLink "MoveNotes$Sum" (15 : Nat) "MoveNotes$Sum" "number" "I") ∈ lw_all := lw_g (lw_at lw_m4 187 rfl) rfl
theorem q1007 : (Jvm.Cond.laysFinal "MoveNotes$Sum" "MoveNotes$Sum" "times" "[I") ∈ lw_all := lw_g (lw_at lw_m4 189 rfl) rfl
theorem q1008 : (Jvm.Cond.soleField "MoveNotes$Sum" "times") ∈ lw_all := lw_g (lw_at lw_m4 190 rfl) rfl
theorem q1009 : (Jvm.Cond.lays "MoveNotes$Sum" "MoveNotes$Sum" "number" "I") ∈ lw_all := lw_g (lw_at lw_m4 191 rfl) rfl
theorem q1010 : (Jvm.Cond.soleField "MoveNotes$Sum" "number") ∈ lw_all := lw_g (lw_at lw_m4 192 rfl) rfl
theorem q1011 : (Jvm.Cond.superclass "MoveNotes$Sum" "java/lang/Object") ∈ lw_all := lw_g (lw_at lw_m4 193 rfl) rfl
theorem q2091 : (Jvm.Cond.castable "MoveNotes$Sum" "java/lang/Object") ∈ lw_tbl := lw_at lw_m9 73 rfl
theorem in_X19 : ∀ w ∈ wsX190, w ∈ lw_all := lw_in wsX190 [1007, 1009] (by decide +kernel) (by decide +kernel)
/-! MoveNotes$Less -/
def RX20 : String := "MoveNotes$Less"
def TX20 : u_T := fun k => match k with
  | 0 => ("MoveNotes$Less", "low", "LMoveNotes$Sum;", true)
  | _ => ("MoveNotes$Less", "high", "LMoveNotes$Sum;", true)
def tyX20 : Nat → FieldType := fun k => match k with
  | 0 => .object "MoveNotes$Sum"
  | _ => .object "MoveNotes$Sum"
abbrev wsX200 : List Cond := u_ws RX20 TX20 2
theorem nmX20 : ∀ a, a < 2 → ∀ b, b < 2 → a ≠ b → (TX20 a).2.1 ≠ (TX20 b).2.1 := by decide +kernel
theorem tyX20_ok : ∀ k, k < 2 → parseFieldDescriptor (TX20 k).2.2.1 = some (tyX20 k) := by decide +kernel
abbrev cX20_holds : ByteArray := prog_11_method_2_code
def yX20_holds : MethodName := ⟨RX20, "holds", "([I)Z"⟩
abbrev cX20_init : ByteArray := prog_11_method_1_code
def yX20_init : MethodName := ⟨RX20, "<init>", "(LMoveNotes$Sum;LMoveNotes$Sum;)V"⟩
theorem q125 : (Jvm.Cond.initialized "MoveNotes$Less") ∈ lw_all := lw_g (lw_at lw_m1 27 rfl) rfl
theorem q724 : (Jvm.Cond.castable "MoveNotes$Less" "MoveNotes$Cond") ∈ lw_tbl := lw_at lw_m3 146 rfl
theorem q725 : (Jvm.Cond.selects "MoveNotes$Less" ({ cls := "MoveNotes$Cond", name := "holds", desc := "([I)Z" } : Jvm.MethodName) ({ cls := "MoveNotes$Less", name := "holds", desc := "([I)Z" } : Jvm.MethodName)) ∈ lw_all := lw_g (lw_at lw_m3 147 rfl) rfl
theorem q726 : (Jvm.Cond.unhidden "MoveNotes$Less" "holds" "([I)Z") ∈ lw_tbl := lw_at lw_m3 148 rfl
theorem q727 : (Jvm.Cond.instanceMethod ({ cls := "MoveNotes$Less", name := "holds", desc := "([I)Z" } : Jvm.MethodName)) ∈ lw_all := lw_g (lw_at lw_m3 149 rfl) rfl
theorem q728 : (Jvm.Cond.publicMethod ({ cls := "MoveNotes$Less", name := "holds", desc := "([I)Z" } : Jvm.MethodName)) ∈ lw_tbl := lw_at lw_m3 150 rfl
theorem q729 : (Jvm.Cond.code ({ cls := "MoveNotes$Less", name := "holds", desc := "([I)Z" } : Jvm.MethodName) prog_11_method_2_code (2 : Nat) (Option.some Jvm.ClassFile.FieldType.boolean)) ∈ lw_all := lw_g (lw_at lw_m3 151 rfl) rfl
theorem q730 : (Jvm.Cond.methodLink "MoveNotes$Less" (16 : Nat) ({ cls := "MoveNotes$Sum", name := "of", desc := "([I)I" } : Jvm.MethodName)) ∈ lw_all := lw_g (lw_at lw_m3 152 rfl) rfl
theorem q1017 : (Jvm.Cond.instantiable "MoveNotes$Less" (2 : Nat)) ∈ lw_all := lw_g (lw_at lw_m4 199 rfl) rfl
theorem q1019 : (Jvm.Cond.instanceMethod ({ cls := "MoveNotes$Less", name := "<init>", desc := "(LMoveNotes$Sum;LMoveNotes$Sum;)V" } : Jvm.MethodName)) ∈ lw_all := lw_g (lw_at lw_m4 201 rfl) rfl
theorem q1020 : (Jvm.Cond.code ({ cls := "MoveNotes$Less", name := "<init>", desc := "(LMoveNotes$Sum;LMoveNotes$Sum;)V" } : Jvm.MethodName) prog_11_method_1_code (3 : Nat) (Option.none : Option Jvm.ClassFile.FieldType)) ∈ lw_all := lw_g (lw_at lw_m4 202 rfl) rfl
theorem q1021 : (Jvm.Cond.methodLink "MoveNotes$Less" (1 : Nat) ({ cls := "java/lang/Object", name := "<init>", desc := "()V" } : Jvm.MethodName)) ∈ lw_all := lw_g (lw_at lw_m4 203 rfl) rfl
theorem q1022 : (Jvm.Cond.fieldLink "MoveNotes$Less" (7 : Nat) "MoveNotes$Less" "low" "LMoveNotes$Sum;") ∈ lw_all := lw_g (lw_at lw_m4 204 rfl) rfl
theorem q1023 : (Jvm.Cond.fieldLink "MoveNotes$Less" (13 : Nat) "MoveNotes$Less" "high" "LMoveNotes$Sum;") ∈ lw_all := lw_g (lw_at lw_m4 205 rfl) rfl
theorem q1024 : (Jvm.Cond.laysFinal "MoveNotes$Less" "MoveNotes$Less" "low" "LMoveNotes$Sum;") ∈ lw_all := lw_g (lw_at lw_m4 206 rfl) rfl
theorem q1025 : (Jvm.Cond.soleField "MoveNotes$Less" "low") ∈ lw_all := lw_g (lw_at lw_m4 207 rfl) rfl
theorem q1026 : (Jvm.Cond.laysFinal "MoveNotes$Less" "MoveNotes$Less" "high" "LMoveNotes$Sum;") ∈ lw_all := lw_g (lw_at lw_m4 208 rfl) rfl
theorem q1027 : (Jvm.Cond.soleField "MoveNotes$Less" "high") ∈ lw_all := lw_g (lw_at lw_m4 209 rfl) rfl
theorem q1028 : (Jvm.Cond.superclass "MoveNotes$Less" "java/lang/Object") ∈ lw_all := lw_g (lw_at lw_m4 210 rfl) rfl
theorem q2092 : (Jvm.Cond.castable "MoveNotes$Less" "java/lang/Object") ∈ lw_tbl := lw_at lw_m9 74 rfl
theorem in_X20 : ∀ w ∈ wsX200, w ∈ lw_all := lw_in wsX200 [1024, 1026] (by decide +kernel) (by decide +kernel)
/-! MoveNotes$Not -/
def RX21 : String := "MoveNotes$Not"
def TX21 : u_T := fun k => match k with
  | _ => ("MoveNotes$Not", "of", "LMoveNotes$Cond;", true)
def tyX21 : Nat → FieldType := fun k => match k with
  | _ => .object "MoveNotes$Cond"
abbrev wsX210 : List Cond := u_ws RX21 TX21 1
theorem nmX21 : ∀ a, a < 1 → ∀ b, b < 1 → a ≠ b → (TX21 a).2.1 ≠ (TX21 b).2.1 := by decide +kernel
theorem tyX21_ok : ∀ k, k < 1 → parseFieldDescriptor (TX21 k).2.2.1 = some (tyX21 k) := by decide +kernel
abbrev cX21_holds : ByteArray := prog_13_method_2_code
def yX21_holds : MethodName := ⟨RX21, "holds", "([I)Z"⟩
abbrev cX21_init : ByteArray := prog_13_method_1_code
def yX21_init : MethodName := ⟨RX21, "<init>", "(LMoveNotes$Cond;)V"⟩
theorem q126 : (Jvm.Cond.initialized "MoveNotes$Not") ∈ lw_all := lw_g (lw_at lw_m1 28 rfl) rfl
theorem q734 : (Jvm.Cond.castable "MoveNotes$Not" "MoveNotes$Cond") ∈ lw_tbl := lw_at lw_m3 156 rfl
theorem q735 : (Jvm.Cond.selects "MoveNotes$Not" ({ cls := "MoveNotes$Cond", name := "holds", desc := "([I)Z" } : Jvm.MethodName) ({ cls := "MoveNotes$Not", name := "holds", desc := "([I)Z" } : Jvm.MethodName)) ∈ lw_all := lw_g (lw_at lw_m3 157 rfl) rfl
theorem q736 : (Jvm.Cond.unhidden "MoveNotes$Not" "holds" "([I)Z") ∈ lw_tbl := lw_at lw_m3 158 rfl
theorem q737 : (Jvm.Cond.instanceMethod ({ cls := "MoveNotes$Not", name := "holds", desc := "([I)Z" } : Jvm.MethodName)) ∈ lw_all := lw_g (lw_at lw_m3 159 rfl) rfl
theorem q738 : (Jvm.Cond.publicMethod ({ cls := "MoveNotes$Not", name := "holds", desc := "([I)Z" } : Jvm.MethodName)) ∈ lw_tbl := lw_at lw_m3 160 rfl
theorem q739 : (Jvm.Cond.code ({ cls := "MoveNotes$Not", name := "holds", desc := "([I)Z" } : Jvm.MethodName) prog_13_method_2_code (2 : Nat) (Option.some Jvm.ClassFile.FieldType.boolean)) ∈ lw_all := lw_g (lw_at lw_m3 161 rfl) rfl
theorem q740 : (Jvm.Cond.interfaceEntry "MoveNotes$Not" (13 : Nat)) ∈ lw_tbl := lw_at lw_m3 162 rfl
theorem q741 : (Jvm.Cond.methodLink "MoveNotes$Not" (13 : Nat) ({ cls := "MoveNotes$Cond", name := "holds", desc := "([I)Z" } : Jvm.MethodName)) ∈ lw_all := lw_g (lw_at lw_m3 163 rfl) rfl
theorem q1030 : (Jvm.Cond.instantiable "MoveNotes$Not" (1 : Nat)) ∈ lw_all := lw_g (lw_at lw_m4 212 rfl) rfl
theorem q1032 : (Jvm.Cond.instanceMethod ({ cls := "MoveNotes$Not", name := "<init>", desc := "(LMoveNotes$Cond;)V" } : Jvm.MethodName)) ∈ lw_all := lw_g (lw_at lw_m4 214 rfl) rfl
theorem q1033 : (Jvm.Cond.code ({ cls := "MoveNotes$Not", name := "<init>", desc := "(LMoveNotes$Cond;)V" } : Jvm.MethodName) prog_13_method_1_code (2 : Nat) (Option.none : Option Jvm.ClassFile.FieldType)) ∈ lw_all := lw_g (lw_at lw_m4 215 rfl) rfl
theorem q1034 : (Jvm.Cond.methodLink "MoveNotes$Not" (1 : Nat) ({ cls := "java/lang/Object", name := "<init>", desc := "()V" } : Jvm.MethodName)) ∈ lw_all := lw_g (lw_at lw_m4 216 rfl) rfl
theorem q1035 : (Jvm.Cond.fieldLink "MoveNotes$Not" (7 : Nat) "MoveNotes$Not" "of" "LMoveNotes$Cond;") ∈ lw_all := lw_g (lw_at lw_m4 217 rfl) rfl
theorem q1036 : (Jvm.Cond.laysFinal "MoveNotes$Not" "MoveNotes$Not" "of" "LMoveNotes$Cond;") ∈ lw_all := lw_g (lw_at lw_m4 218 rfl) rfl
theorem q1037 : (Jvm.Cond.soleField "MoveNotes$Not" "of") ∈ lw_all := lw_g (lw_at lw_m4 219 rfl) rfl
theorem q1038 : (Jvm.Cond.superclass "MoveNotes$Not" "java/lang/Object") ∈ lw_all := lw_g (lw_at lw_m4 220 rfl) rfl
theorem q2093 : (Jvm.Cond.castable "MoveNotes$Not" "java/lang/Object") ∈ lw_tbl := lw_at lw_m9 75 rfl
theorem in_X21 : ∀ w ∈ wsX210, w ∈ lw_all := lw_in wsX210 [1036] (by decide +kernel) (by decide +kernel)
/-! MoveNotes$Measure -/
def RX22 : String := "MoveNotes$Measure"
def TX22 : u_T := fun k => match k with
  | _ => ("MoveNotes$Measure", "lines", "[LMoveNotes$PlayLine;", true)
def tyX22 : Nat → FieldType := fun k => match k with
  | _ => .array (.object "MoveNotes$PlayLine")
abbrev wsX220 : List Cond := u_ws RX22 TX22 1
theorem nmX22 : ∀ a, a < 1 → ∀ b, b < 1 → a ≠ b → (TX22 a).2.1 ≠ (TX22 b).2.1 := by decide +kernel
theorem tyX22_ok : ∀ k, k < 1 → parseFieldDescriptor (TX22 k).2.2.1 = some (tyX22 k) := by decide +kernel
abbrev cX22_tells : ByteArray := prog_12_method_2_code
def yX22_tells : MethodName := ⟨RX22, "tells", "([I)I"⟩
abbrev cX22_init : ByteArray := prog_12_method_1_code
def yX22_init : MethodName := ⟨RX22, "<init>", "([LMoveNotes$PlayLine;I)V"⟩
theorem q130 : (Jvm.Cond.initialized "MoveNotes$Measure") ∈ lw_all := lw_g (lw_at lw_m1 32 rfl) rfl
theorem q705 : (Jvm.Cond.instanceMethod ({ cls := "MoveNotes$Measure", name := "tells", desc := "([I)I" } : Jvm.MethodName)) ∈ lw_all := lw_g (lw_at lw_m3 127 rfl) rfl
theorem q706 : (Jvm.Cond.selects "MoveNotes$Measure" ({ cls := "MoveNotes$Measure", name := "tells", desc := "([I)I" } : Jvm.MethodName) ({ cls := "MoveNotes$Measure", name := "tells", desc := "([I)I" } : Jvm.MethodName)) ∈ lw_all := lw_g (lw_at lw_m3 128 rfl) rfl
theorem q707 : (Jvm.Cond.code ({ cls := "MoveNotes$Measure", name := "tells", desc := "([I)I" } : Jvm.MethodName) prog_12_method_2_code (4 : Nat) (Option.some Jvm.ClassFile.FieldType.int)) ∈ lw_all := lw_g (lw_at lw_m3 129 rfl) rfl
theorem q708 : (Jvm.Cond.methodLink "MoveNotes$Measure" (21 : Nat) ({ cls := "MoveNotes$PlayLine", name := "tells", desc := "([I)I" } : Jvm.MethodName)) ∈ lw_all := lw_g (lw_at lw_m3 130 rfl) rfl
theorem q1140 : (Jvm.Cond.instantiable "MoveNotes$Measure" (1 : Nat)) ∈ lw_all := lw_g (lw_at lw_m5 82 rfl) rfl
theorem q1142 : (Jvm.Cond.instanceMethod ({ cls := "MoveNotes$Measure", name := "<init>", desc := "([LMoveNotes$PlayLine;I)V" } : Jvm.MethodName)) ∈ lw_all := lw_g (lw_at lw_m5 84 rfl) rfl
theorem q1143 : (Jvm.Cond.code ({ cls := "MoveNotes$Measure", name := "<init>", desc := "([LMoveNotes$PlayLine;I)V" } : Jvm.MethodName) prog_12_method_1_code (3 : Nat) (Option.none : Option Jvm.ClassFile.FieldType)) ∈ lw_all := lw_g (lw_at lw_m5 85 rfl) rfl
theorem q1144 : (Jvm.Cond.methodLink "MoveNotes$Measure" (1 : Nat) ({ cls := "java/lang/Object", name := "<init>", desc := "()V" } : Jvm.MethodName)) ∈ lw_all := lw_g (lw_at lw_m5 86 rfl) rfl
theorem q1145 : (Jvm.Cond.classLink "MoveNotes$Measure" (7 : Nat) "MoveNotes$PlayLine") ∈ lw_all := lw_g (lw_at lw_m5 87 rfl) rfl
theorem q1146 : (Jvm.Cond.methodLink "MoveNotes$Measure" (15 : Nat) ({ cls := "java/lang/System", name := "arraycopy", desc := "(Ljava/lang/Object;ILjava/lang/Object;II)V" } : Jvm.MethodName)) ∈ lw_all := lw_g (lw_at lw_m5 88 rfl) rfl
theorem q1147 : (Jvm.Cond.fieldLink "MoveNotes$Measure" (9 : Nat) "MoveNotes$Measure" "lines" "[LMoveNotes$PlayLine;") ∈ lw_all := lw_g (lw_at lw_m5 89 rfl) rfl
theorem q1149 : (Jvm.Cond.laysFinal "MoveNotes$Measure" "MoveNotes$Measure" "lines" "[LMoveNotes$PlayLine;") ∈ lw_all := lw_g (lw_at lw_m5 91 rfl) rfl
theorem q1150 : (Jvm.Cond.soleField "MoveNotes$Measure" "lines") ∈ lw_all := lw_g (lw_at lw_m5 92 rfl) rfl
theorem q1151 : (Jvm.Cond.superclass "MoveNotes$Measure" "java/lang/Object") ∈ lw_all := lw_g (lw_at lw_m5 93 rfl) rfl
theorem q2096 : (Jvm.Cond.castable "MoveNotes$Measure" "java/lang/Object") ∈ lw_tbl := lw_at lw_m9 78 rfl
theorem in_X22 : ∀ w ∈ wsX220, w ∈ lw_all := lw_in wsX220 [1149] (by decide +kernel) (by decide +kernel)
/-! MoveNotes$Note -/
def RX23 : String := "MoveNotes$Note"
def TX23 : u_T := fun k => match k with
  | 0 => ("MoveNotes$Note", "kind", "I", true)
  | 1 => ("MoveNotes$Note", "from", "I", true)
  | 2 => ("MoveNotes$Note", "file", "I", true)
  | _ => ("MoveNotes$Note", "rank", "I", true)
def tyX23 : Nat → FieldType := fun k => match k with
  | 0 => .int
  | 1 => .int
  | 2 => .int
  | _ => .int
abbrev wsX230 : List Cond := u_ws RX23 TX23 4
theorem nmX23 : ∀ a, a < 4 → ∀ b, b < 4 → a ≠ b → (TX23 a).2.1 ≠ (TX23 b).2.1 := by decide +kernel
theorem tyX23_ok : ∀ k, k < 4 → parseFieldDescriptor (TX23 k).2.2.1 = some (tyX23 k) := by decide +kernel
abbrev cX23_slip : ByteArray := prog_14_method_4_code
def yX23_slip : MethodName := ⟨RX23, "slip", "(IIII[I)I"⟩
abbrev cX23_isLike : ByteArray := prog_14_method_2_code
def yX23_isLike : MethodName := ⟨RX23, "isLike", "(LMoveNotes$Note;)Z"⟩
abbrev cX23_isNearly : ByteArray := prog_14_method_3_code
def yX23_isNearly : MethodName := ⟨RX23, "isNearly", "(LMoveNotes$Note;)Z"⟩
abbrev cX23_init : ByteArray := prog_14_method_1_code
def yX23_init : MethodName := ⟨RX23, "<init>", "(IIII)V"⟩
theorem q134 : (Jvm.Cond.initialized "MoveNotes$Note") ∈ lw_all := lw_g (lw_at lw_m1 36 rfl) rfl
theorem q757 : (Jvm.Cond.instanceMethod ({ cls := "MoveNotes$Note", name := "slip", desc := "(IIII[I)I" } : Jvm.MethodName)) ∈ lw_all := lw_g (lw_at lw_m3 179 rfl) rfl
theorem q758 : (Jvm.Cond.selects "MoveNotes$Note" ({ cls := "MoveNotes$Note", name := "slip", desc := "(IIII[I)I" } : Jvm.MethodName) ({ cls := "MoveNotes$Note", name := "slip", desc := "(IIII[I)I" } : Jvm.MethodName)) ∈ lw_all := lw_g (lw_at lw_m3 180 rfl) rfl
theorem q759 : (Jvm.Cond.code ({ cls := "MoveNotes$Note", name := "slip", desc := "(IIII[I)I" } : Jvm.MethodName) prog_14_method_4_code (14 : Nat) (Option.some Jvm.ClassFile.FieldType.int)) ∈ lw_all := lw_g (lw_at lw_m3 181 rfl) rfl
theorem q760 : (Jvm.Cond.methodLink "MoveNotes$Note" (28 : Nat) ({ cls := "java/lang/Integer", name := "bitCount", desc := "(I)I" } : Jvm.MethodName)) ∈ lw_all := lw_g (lw_at lw_m3 182 rfl) rfl
theorem q766 : (Jvm.Cond.methodLink "MoveNotes$Note" (34 : Nat) ({ cls := "java/lang/Integer", name := "numberOfTrailingZeros", desc := "(I)I" } : Jvm.MethodName)) ∈ lw_all := lw_g (lw_at lw_m3 188 rfl) rfl
theorem q770 : (Jvm.Cond.methodLink "MoveNotes$Note" (37 : Nat) ({ cls := "java/lang/Math", name := "abs", desc := "(I)I" } : Jvm.MethodName)) ∈ lw_all := lw_g (lw_at lw_m3 192 rfl) rfl
theorem q776 : (Jvm.Cond.instanceMethod ({ cls := "MoveNotes$Note", name := "isLike", desc := "(LMoveNotes$Note;)Z" } : Jvm.MethodName)) ∈ lw_all := lw_g (lw_at lw_m3 198 rfl) rfl
theorem q777 : (Jvm.Cond.selects "MoveNotes$Note" ({ cls := "MoveNotes$Note", name := "isLike", desc := "(LMoveNotes$Note;)Z" } : Jvm.MethodName) ({ cls := "MoveNotes$Note", name := "isLike", desc := "(LMoveNotes$Note;)Z" } : Jvm.MethodName)) ∈ lw_all := lw_g (lw_at lw_m3 199 rfl) rfl
theorem q778 : (Jvm.Cond.code ({ cls := "MoveNotes$Note", name := "isLike", desc := "(LMoveNotes$Note;)Z" } : Jvm.MethodName) prog_14_method_2_code (2 : Nat) (Option.some Jvm.ClassFile.FieldType.boolean)) ∈ lw_all := lw_g (lw_at lw_m3 200 rfl) rfl
theorem q779 : (Jvm.Cond.methodLink "MoveNotes$Note" (24 : Nat) ({ cls := "MoveNotes$Note", name := "isNearly", desc := "(LMoveNotes$Note;)Z" } : Jvm.MethodName)) ∈ lw_all := lw_g (lw_at lw_m3 201 rfl) rfl
theorem q780 : (Jvm.Cond.instanceMethod ({ cls := "MoveNotes$Note", name := "isNearly", desc := "(LMoveNotes$Note;)Z" } : Jvm.MethodName)) ∈ lw_all := lw_g (lw_at lw_m3 202 rfl) rfl
theorem q781 : (Jvm.Cond.selects "MoveNotes$Note" ({ cls := "MoveNotes$Note", name := "isNearly", desc := "(LMoveNotes$Note;)Z" } : Jvm.MethodName) ({ cls := "MoveNotes$Note", name := "isNearly", desc := "(LMoveNotes$Note;)Z" } : Jvm.MethodName)) ∈ lw_all := lw_g (lw_at lw_m3 203 rfl) rfl
theorem q782 : (Jvm.Cond.code ({ cls := "MoveNotes$Note", name := "isNearly", desc := "(LMoveNotes$Note;)Z" } : Jvm.MethodName) prog_14_method_3_code (2 : Nat) (Option.some Jvm.ClassFile.FieldType.boolean)) ∈ lw_all := lw_g (lw_at lw_m3 204 rfl) rfl
theorem q1250 : (Jvm.Cond.instantiable "MoveNotes$Note" (4 : Nat)) ∈ lw_all := lw_g (lw_at lw_m5 192 rfl) rfl
theorem q1252 : (Jvm.Cond.instanceMethod ({ cls := "MoveNotes$Note", name := "<init>", desc := "(IIII)V" } : Jvm.MethodName)) ∈ lw_all := lw_g (lw_at lw_m5 194 rfl) rfl
theorem q1253 : (Jvm.Cond.code ({ cls := "MoveNotes$Note", name := "<init>", desc := "(IIII)V" } : Jvm.MethodName) prog_14_method_1_code (5 : Nat) (Option.none : Option Jvm.ClassFile.FieldType)) ∈ lw_all := lw_g (lw_at lw_m5 195 rfl) rfl
theorem q1254 : (Jvm.Cond.methodLink "MoveNotes$Note" (3 : Nat) ({ cls := "java/lang/Object", name := "<init>", desc := "()V" } : Jvm.MethodName)) ∈ lw_all := lw_g (lw_at lw_m5 196 rfl) rfl
theorem q1255 : (Jvm.Cond.fieldLink "MoveNotes$Note" (9 : Nat) "MoveNotes$Note" "kind" "I") ∈ lw_all := lw_g (lw_at lw_m5 197 rfl) rfl
theorem q1257 : (Jvm.Cond.fieldLink "MoveNotes$Note" (15 : Nat) "MoveNotes$Note" "from" "I") ∈ lw_all := lw_g (lw_at lw_m5 199 rfl) rfl
theorem q1259 : (Jvm.Cond.fieldLink "MoveNotes$Note" (18 : Nat) "MoveNotes$Note" "file" "I") ∈ lw_all := lw_g (lw_at lw_m5 201 rfl) rfl
theorem q1261 : (Jvm.Cond.fieldLink "MoveNotes$Note" (21 : Nat) "MoveNotes$Note" "rank" "I") ∈ lw_all := lw_g (lw_at lw_m5 203 rfl) rfl
theorem q1263 : (Jvm.Cond.laysFinal "MoveNotes$Note" "MoveNotes$Note" "kind" "I") ∈ lw_all := lw_g (lw_at lw_m5 205 rfl) rfl
theorem q1264 : (Jvm.Cond.soleField "MoveNotes$Note" "kind") ∈ lw_all := lw_g (lw_at lw_m5 206 rfl) rfl
theorem q1265 : (Jvm.Cond.laysFinal "MoveNotes$Note" "MoveNotes$Note" "from" "I") ∈ lw_all := lw_g (lw_at lw_m5 207 rfl) rfl
theorem q1266 : (Jvm.Cond.soleField "MoveNotes$Note" "from") ∈ lw_all := lw_g (lw_at lw_m5 208 rfl) rfl
theorem q1267 : (Jvm.Cond.laysFinal "MoveNotes$Note" "MoveNotes$Note" "file" "I") ∈ lw_all := lw_g (lw_at lw_m5 209 rfl) rfl
theorem q1268 : (Jvm.Cond.soleField "MoveNotes$Note" "file") ∈ lw_all := lw_g (lw_at lw_m5 210 rfl) rfl
theorem q1269 : (Jvm.Cond.laysFinal "MoveNotes$Note" "MoveNotes$Note" "rank" "I") ∈ lw_all := lw_g (lw_at lw_m5 211 rfl) rfl
theorem q1270 : (Jvm.Cond.soleField "MoveNotes$Note" "rank") ∈ lw_all := lw_g (lw_at lw_m5 212 rfl) rfl
theorem q1271 : (Jvm.Cond.superclass "MoveNotes$Note" "java/lang/Object") ∈ lw_all := lw_g (lw_at lw_m5 213 rfl) rfl
theorem q2099 : (Jvm.Cond.castable "MoveNotes$Note" "java/lang/Object") ∈ lw_tbl := lw_at lw_m9 81 rfl
theorem in_X23 : ∀ w ∈ wsX230, w ∈ lw_all := lw_in wsX230 [1263, 1265, 1267, 1269] (by decide +kernel) (by decide +kernel)
/-! MoveNotes$Picture -/
def RX24 : String := "MoveNotes$Picture"
def TX24 : u_T := fun k => match k with
  | 0 => ("MoveNotes$Picture", "moves", "I", true)
  | 1 => ("MoveNotes$Picture", "square", "I", true)
  | 2 => ("MoveNotes$Picture", "kind", "I", true)
  | _ => ("MoveNotes$Picture", "side", "I", true)
def tyX24 : Nat → FieldType := fun k => match k with
  | 0 => .int
  | 1 => .int
  | 2 => .int
  | _ => .int
abbrev wsX240 : List Cond := u_ws RX24 TX24 4
theorem nmX24 : ∀ a, a < 4 → ∀ b, b < 4 → a ≠ b → (TX24 a).2.1 ≠ (TX24 b).2.1 := by decide +kernel
theorem tyX24_ok : ∀ k, k < 4 → parseFieldDescriptor (TX24 k).2.2.1 = some (tyX24 k) := by decide +kernel
abbrev cX24_is : ByteArray := prog_15_method_2_code
def yX24_is : MethodName := ⟨RX24, "is", "(LMoveNotes$Board;)Z"⟩
abbrev cX24_init : ByteArray := prog_15_method_1_code
def yX24_init : MethodName := ⟨RX24, "<init>", "(IIII)V"⟩
theorem q136 : (Jvm.Cond.initialized "MoveNotes$Picture") ∈ lw_all := lw_g (lw_at lw_m1 38 rfl) rfl
theorem q303 : (Jvm.Cond.fieldLinkNest "MoveNotes$Picture" (24 : Nat) "MoveNotes$Board" "kind" "[I" "MoveNotes") ∈ lw_tbl := lw_at lw_m1 205 rfl
theorem q311 : (Jvm.Cond.fieldLinkNest "MoveNotes$Picture" (29 : Nat) "MoveNotes$Board" "side" "[I" "MoveNotes") ∈ lw_tbl := lw_at lw_m1 213 rfl
theorem q633 : (Jvm.Cond.instanceMethod ({ cls := "MoveNotes$Picture", name := "is", desc := "(LMoveNotes$Board;)Z" } : Jvm.MethodName)) ∈ lw_all := lw_g (lw_at lw_m3 55 rfl) rfl
theorem q634 : (Jvm.Cond.selects "MoveNotes$Picture" ({ cls := "MoveNotes$Picture", name := "is", desc := "(LMoveNotes$Board;)Z" } : Jvm.MethodName) ({ cls := "MoveNotes$Picture", name := "is", desc := "(LMoveNotes$Board;)Z" } : Jvm.MethodName)) ∈ lw_all := lw_g (lw_at lw_m3 56 rfl) rfl
theorem q635 : (Jvm.Cond.code ({ cls := "MoveNotes$Picture", name := "is", desc := "(LMoveNotes$Board;)Z" } : Jvm.MethodName) prog_15_method_2_code (2 : Nat) (Option.some Jvm.ClassFile.FieldType.boolean)) ∈ lw_all := lw_g (lw_at lw_m3 57 rfl) rfl
theorem q1344 : (Jvm.Cond.instantiable "MoveNotes$Picture" (4 : Nat)) ∈ lw_all := lw_g (lw_at lw_m6 46 rfl) rfl
theorem q1346 : (Jvm.Cond.instanceMethod ({ cls := "MoveNotes$Picture", name := "<init>", desc := "(IIII)V" } : Jvm.MethodName)) ∈ lw_all := lw_g (lw_at lw_m6 48 rfl) rfl
theorem q1347 : (Jvm.Cond.code ({ cls := "MoveNotes$Picture", name := "<init>", desc := "(IIII)V" } : Jvm.MethodName) prog_15_method_1_code (5 : Nat) (Option.none : Option Jvm.ClassFile.FieldType)) ∈ lw_all := lw_g (lw_at lw_m6 49 rfl) rfl
theorem q1348 : (Jvm.Cond.methodLink "MoveNotes$Picture" (3 : Nat) ({ cls := "java/lang/Object", name := "<init>", desc := "()V" } : Jvm.MethodName)) ∈ lw_all := lw_g (lw_at lw_m6 50 rfl) rfl
theorem q1349 : (Jvm.Cond.fieldLink "MoveNotes$Picture" (9 : Nat) "MoveNotes$Picture" "moves" "I") ∈ lw_all := lw_g (lw_at lw_m6 51 rfl) rfl
theorem q1351 : (Jvm.Cond.fieldLink "MoveNotes$Picture" (15 : Nat) "MoveNotes$Picture" "square" "I") ∈ lw_all := lw_g (lw_at lw_m6 53 rfl) rfl
theorem q1352 : (Jvm.Cond.fieldLink "MoveNotes$Picture" (18 : Nat) "MoveNotes$Picture" "kind" "I") ∈ lw_all := lw_g (lw_at lw_m6 54 rfl) rfl
theorem q1353 : (Jvm.Cond.fieldLink "MoveNotes$Picture" (21 : Nat) "MoveNotes$Picture" "side" "I") ∈ lw_all := lw_g (lw_at lw_m6 55 rfl) rfl
theorem q1354 : (Jvm.Cond.laysFinal "MoveNotes$Picture" "MoveNotes$Picture" "moves" "I") ∈ lw_all := lw_g (lw_at lw_m6 56 rfl) rfl
theorem q1355 : (Jvm.Cond.soleField "MoveNotes$Picture" "moves") ∈ lw_all := lw_g (lw_at lw_m6 57 rfl) rfl
theorem q1356 : (Jvm.Cond.laysFinal "MoveNotes$Picture" "MoveNotes$Picture" "square" "I") ∈ lw_all := lw_g (lw_at lw_m6 58 rfl) rfl
theorem q1357 : (Jvm.Cond.soleField "MoveNotes$Picture" "square") ∈ lw_all := lw_g (lw_at lw_m6 59 rfl) rfl
theorem q1358 : (Jvm.Cond.laysFinal "MoveNotes$Picture" "MoveNotes$Picture" "kind" "I") ∈ lw_all := lw_g (lw_at lw_m6 60 rfl) rfl
theorem q1359 : (Jvm.Cond.soleField "MoveNotes$Picture" "kind") ∈ lw_all := lw_g (lw_at lw_m6 61 rfl) rfl
theorem q1360 : (Jvm.Cond.laysFinal "MoveNotes$Picture" "MoveNotes$Picture" "side" "I") ∈ lw_all := lw_g (lw_at lw_m6 62 rfl) rfl
theorem q1361 : (Jvm.Cond.soleField "MoveNotes$Picture" "side") ∈ lw_all := lw_g (lw_at lw_m6 63 rfl) rfl
theorem q1362 : (Jvm.Cond.superclass "MoveNotes$Picture" "java/lang/Object") ∈ lw_all := lw_g (lw_at lw_m6 64 rfl) rfl
theorem q2101 : (Jvm.Cond.castable "MoveNotes$Picture" "java/lang/Object") ∈ lw_tbl := lw_at lw_m9 83 rfl
theorem in_X24 : ∀ w ∈ wsX240, w ∈ lw_all := lw_in wsX240 [1354, 1356, 1358, 1360] (by decide +kernel) (by decide +kernel)
theorem q714 : (Jvm.Cond.interfaceMethod "MoveNotes$Cond" "MoveNotes$Cond" "holds" "([I)Z") ∈ lw_tbl := lw_at lw_m3 136 rfl
theorem q715 : (Jvm.Cond.declares ({ cls := "MoveNotes$Cond", name := "holds", desc := "([I)Z" } : Jvm.MethodName)) ∈ lw_tbl := lw_at lw_m3 137 rfl
theorem q127 : (Jvm.Cond.initialized "java/lang/System") ∈ lw_all := lw_g (lw_at lw_m1 29 rfl) rfl
theorem q621 : (Jvm.Cond.static ({ cls := "java/lang/System", name := "arraycopy", desc := "(Ljava/lang/Object;ILjava/lang/Object;II)V" } : Jvm.MethodName)) ∈ lw_all := lw_g (lw_at lw_m3 43 rfl) rfl
theorem q622 : (Jvm.Cond.native ({ cls := "java/lang/System", name := "arraycopy", desc := "(Ljava/lang/Object;ILjava/lang/Object;II)V" } : Jvm.MethodName)) ∈ lw_all := lw_g (lw_at lw_m3 44 rfl) rfl
theorem q153 : (Jvm.Cond.arrayOver (Jvm.ClassFile.FieldType.object "java/lang/String")) ∈ lw_tbl := lw_at lw_m1 55 rfl
theorem q159 : (Jvm.Cond.arrayOver (Jvm.ClassFile.FieldType.object "MoveNotes$Going")) ∈ lw_tbl := lw_at lw_m1 61 rfl
theorem q161 : (Jvm.Cond.arrayOver (Jvm.ClassFile.FieldType.object "MoveNotes$PlayLine")) ∈ lw_tbl := lw_at lw_m1 63 rfl
theorem q172 : (Jvm.Cond.arrayClass Jvm.ClassFile.FieldType.byte) ∈ lw_all := lw_g (lw_at lw_m1 74 rfl) rfl
theorem q295 : (Jvm.Cond.arrayOver (Jvm.ClassFile.FieldType.object "MoveNotes$Kind")) ∈ lw_tbl := lw_at lw_m1 197 rfl
theorem q321 : (Jvm.Cond.arrayClass Jvm.ClassFile.FieldType.int) ∈ lw_all := lw_g (lw_at lw_m1 223 rfl) rfl
theorem q323 : (Jvm.Cond.arrayOver (Jvm.ClassFile.FieldType.object "MoveNotes$Book")) ∈ lw_tbl := lw_at lw_m1 225 rfl
theorem q325 : (Jvm.Cond.arrayOver (Jvm.ClassFile.FieldType.object "MoveNotes$Picture")) ∈ lw_tbl := lw_at lw_m1 227 rfl
theorem q332 : (Jvm.Cond.arrayOver (Jvm.ClassFile.FieldType.object "MoveNotes$Note")) ∈ lw_tbl := lw_at lw_m1 234 rfl
theorem q408 : (Jvm.Cond.arrayOver (Jvm.ClassFile.FieldType.array Jvm.ClassFile.FieldType.int)) ∈ lw_tbl := lw_at lw_m2 70 rfl
theorem q410 : (Jvm.Cond.arrayOver (Jvm.ClassFile.FieldType.array (Jvm.ClassFile.FieldType.array Jvm.ClassFile.FieldType.int))) ∈ lw_tbl := lw_at lw_m2 72 rfl
theorem q514 : (Jvm.Cond.arrayClass Jvm.ClassFile.FieldType.boolean) ∈ lw_all := lw_g (lw_at lw_m2 176 rfl) rfl
theorem q1630 : (Jvm.Cond.arrayClass Jvm.ClassFile.FieldType.long) ∈ lw_all := lw_g (lw_at lw_m7 92 rfl) rfl
