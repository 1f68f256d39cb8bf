/-! java/lang/RuntimeException -/
set_option maxRecDepth 100000
def RJ15 : String := "java/lang/RuntimeException"
abbrev cJ15_init : ByteArray := prog_34_method_2_code
def yJ15_init : MethodName := ⟨RJ15, "<init>", "(Ljava/lang/String;)V"⟩
def dkwJ15_init_0 : List UInt8 := [42, 43, 183, 0, 7, 177]
abbrev dktJ15_init_0 : List UInt8 := dkwJ15_init_0 ++ []
theorem dksJ15_init_0 : cJ15_init.data.toList.drop 0 = dktJ15_init_0 := by decide +kernel
theorem dJ15_init_0 : decode cJ15_init 0 = .ok (.aload_n 0, 1) := dk_42 (dk_at dksJ15_init_0 0 rfl rfl)
theorem dJ15_init_1 : decode cJ15_init 1 = .ok (.aload_n 1, 1) := dk_43 (dk_at dksJ15_init_0 1 rfl rfl)
theorem dJ15_init_2 : decode cJ15_init 2 = .ok (.invokespecial 7, 3) := dk_183 0 7 (dk_at dksJ15_init_0 2 rfl rfl)
theorem dJ15_init_5 : decode cJ15_init 5 = .ok (.return_, 1) := dk_177 (dk_at dksJ15_init_0 5 rfl rfl)
abbrev cJ15_init_2 : ByteArray := prog_34_method_4_code
def yJ15_init_2 : MethodName := ⟨RJ15, "<init>", "(Ljava/lang/Throwable;)V"⟩
def dkwJ15_init_2_0 : List UInt8 := [42, 43, 183, 0, 13, 177]
abbrev dktJ15_init_2_0 : List UInt8 := dkwJ15_init_2_0 ++ []
theorem dksJ15_init_2_0 : cJ15_init_2.data.toList.drop 0 = dktJ15_init_2_0 := by decide +kernel
theorem dJ15_init_2_0 : decode cJ15_init_2 0 = .ok (.aload_n 0, 1) := dk_42 (dk_at dksJ15_init_2_0 0 rfl rfl)
theorem dJ15_init_2_1 : decode cJ15_init_2 1 = .ok (.aload_n 1, 1) := dk_43 (dk_at dksJ15_init_2_0 1 rfl rfl)
theorem dJ15_init_2_2 : decode cJ15_init_2 2 = .ok (.invokespecial 13, 3) := dk_183 0 13 (dk_at dksJ15_init_2_0 2 rfl rfl)
theorem dJ15_init_2_5 : decode cJ15_init_2 5 = .ok (.return_, 1) := dk_177 (dk_at dksJ15_init_2_0 5 rfl rfl)
abbrev cJ15_init_3 : ByteArray := prog_34_method_1_code
def yJ15_init_3 : MethodName := ⟨RJ15, "<init>", "()V"⟩
theorem dJ15_init_3_0 : decode cJ15_init_3 0 = .ok (.aload_n 0, 1) := by decide +kernel
theorem dJ15_init_3_1 : decode cJ15_init_3 1 = .ok (.invokespecial 1, 3) := by decide +kernel
theorem dJ15_init_3_4 : decode cJ15_init_3 4 = .ok (.return_, 1) := by decide +kernel
theorem q124 : (Jvm.Cond.initialized "java/lang/RuntimeException") ∈ lw_all := lw_g (lw_at lw_m1 22 rfl) rfl
theorem q613 : (Jvm.Cond.declares ({ cls := "java/lang/RuntimeException", name := "<init>", desc := "()V" } : Jvm.MethodName)) ∈ lw_tbl := lw_at lw_m3 31 rfl
theorem q614 : (Jvm.Cond.declares ({ cls := "java/lang/RuntimeException", name := "<init>", desc := "(Ljava/lang/String;)V" } : Jvm.MethodName)) ∈ lw_tbl := lw_at lw_m3 32 rfl
theorem q850 : (Jvm.Cond.instanceMethod ({ cls := "java/lang/RuntimeException", name := "<init>", desc := "(Ljava/lang/String;)V" } : Jvm.MethodName)) ∈ lw_all := lw_g (lw_at lw_m4 28 rfl) rfl
theorem q851 : (Jvm.Cond.code ({ cls := "java/lang/RuntimeException", name := "<init>", desc := "(Ljava/lang/String;)V" } : Jvm.MethodName) prog_34_method_2_code (2 : Nat) (Option.none : Option Jvm.ClassFile.FieldType)) ∈ lw_all := lw_g (lw_at lw_m4 29 rfl) rfl
theorem q852 : (Jvm.Cond.methodLink "java/lang/RuntimeException" (7 : Nat) ({ cls := "java/lang/Exception", name := "<init>", desc := "(Ljava/lang/String;)V" } : Jvm.MethodName)) ∈ lw_all := lw_g (lw_at lw_m4 30 rfl) rfl
theorem q920 : (Jvm.Cond.instanceMethod ({ cls := "java/lang/RuntimeException", name := "<init>", desc := "(Ljava/lang/Throwable;)V" } : Jvm.MethodName)) ∈ lw_all := lw_g (lw_at lw_m4 98 rfl) rfl
theorem q921 : (Jvm.Cond.code ({ cls := "java/lang/RuntimeException", name := "<init>", desc := "(Ljava/lang/Throwable;)V" } : Jvm.MethodName) prog_34_method_4_code (2 : Nat) (Option.none : Option Jvm.ClassFile.FieldType)) ∈ lw_all := lw_g (lw_at lw_m4 99 rfl) rfl
theorem q922 : (Jvm.Cond.methodLink "java/lang/RuntimeException" (13 : Nat) ({ cls := "java/lang/Exception", name := "<init>", desc := "(Ljava/lang/Throwable;)V" } : Jvm.MethodName)) ∈ lw_all := lw_g (lw_at lw_m4 100 rfl) rfl
theorem q991 : (Jvm.Cond.instanceMethod ({ cls := "java/lang/RuntimeException", name := "<init>", desc := "()V" } : Jvm.MethodName)) ∈ lw_all := lw_g (lw_at lw_m4 169 rfl) rfl
theorem q992 : (Jvm.Cond.code ({ cls := "java/lang/RuntimeException", name := "<init>", desc := "()V" } : Jvm.MethodName) prog_34_method_1_code (1 : Nat) (Option.none : Option Jvm.ClassFile.FieldType)) ∈ lw_all := lw_g (lw_at lw_m4 170 rfl) rfl
theorem q993 : (Jvm.Cond.methodLink "java/lang/RuntimeException" (1 : Nat) ({ cls := "java/lang/Exception", name := "<init>", desc := "()V" } : Jvm.MethodName)) ∈ lw_all := lw_g (lw_at lw_m4 171 rfl) rfl
/-! java/lang/IllegalArgumentException -/
set_option maxRecDepth 100000
def RJ16 : String := "java/lang/IllegalArgumentException"
def TJ16 : u_T := fun k => match k with
  | 0 => ("java/lang/Throwable", "cause", "Ljava/lang/Throwable;", false)
  | 1 => ("java/lang/Throwable", "stackTrace", "[Ljava/lang/StackTraceElement;", false)
  | 2 => ("java/lang/Throwable", "suppressedExceptions", "Ljava/util/List;", false)
  | 3 => ("java/lang/Throwable", "detailMessage", "Ljava/lang/String;", false)
  | 4 => ("java/lang/Throwable", "backtrace", "Ljava/lang/Object;", false)
  | _ => ("java/lang/Throwable", "depth", "I", false)
def tyJ16 : Nat → FieldType := fun k => match k with
  | 0 => .object "java/lang/Throwable"
  | 1 => .array (.object "java/lang/StackTraceElement")
  | 2 => .object "java/util/List"
  | 3 => .object "java/lang/String"
  | 4 => .object "java/lang/Object"
  | _ => .int
abbrev wsJ160 : List Cond := u_ws RJ16 TJ16 6
theorem nmJ16 : ∀ a, a < 6 → ∀ b, b < 6 → a ≠ b → (TJ16 a).2.1 ≠ (TJ16 b).2.1 := by decide +kernel
theorem tyJ16_ok : ∀ k, k < 6 → parseFieldDescriptor (TJ16 k).2.2.1 = some (tyJ16 k) := by decide +kernel
abbrev cJ16_init : ByteArray := prog_25_method_2_code
def yJ16_init : MethodName := ⟨RJ16, "<init>", "(Ljava/lang/String;)V"⟩
def dkwJ16_init_0 : List UInt8 := [42, 43, 183, 0, 7, 177]
abbrev dktJ16_init_0 : List UInt8 := dkwJ16_init_0 ++ []
theorem dksJ16_init_0 : cJ16_init.data.toList.drop 0 = dktJ16_init_0 := by decide +kernel
theorem dJ16_init_0 : decode cJ16_init 0 = .ok (.aload_n 0, 1) := dk_42 (dk_at dksJ16_init_0 0 rfl rfl)
theorem dJ16_init_1 : decode cJ16_init 1 = .ok (.aload_n 1, 1) := dk_43 (dk_at dksJ16_init_0 1 rfl rfl)
theorem dJ16_init_2 : decode cJ16_init 2 = .ok (.invokespecial 7, 3) := dk_183 0 7 (dk_at dksJ16_init_0 2 rfl rfl)
theorem dJ16_init_5 : decode cJ16_init 5 = .ok (.return_, 1) := dk_177 (dk_at dksJ16_init_0 5 rfl rfl)
abbrev cJ16_init_2 : ByteArray := prog_25_method_1_code
def yJ16_init_2 : MethodName := ⟨RJ16, "<init>", "()V"⟩
theorem dJ16_init_2_0 : decode cJ16_init_2 0 = .ok (.aload_n 0, 1) := by decide +kernel
theorem dJ16_init_2_1 : decode cJ16_init_2 1 = .ok (.invokespecial 1, 3) := by decide +kernel
theorem dJ16_init_2_4 : decode cJ16_init_2 4 = .ok (.return_, 1) := by decide +kernel
theorem q125 : (Jvm.Cond.initialized "java/lang/IllegalArgumentException") ∈ lw_all := lw_g (lw_at lw_m1 23 rfl) rfl
theorem q270 : (Jvm.Cond.selects "java/lang/IllegalArgumentException" ({ cls := "java/lang/Object", name := "getClass", desc := "()Ljava/lang/Class;" } : Jvm.MethodName) ({ cls := "java/lang/Object", name := "getClass", desc := "()Ljava/lang/Class;" } : Jvm.MethodName)) ∈ lw_all := lw_g (lw_at lw_m1 168 rfl) rfl
theorem q647 : (Jvm.Cond.selects "java/lang/IllegalArgumentException" ({ cls := "java/lang/Throwable", name := "fillInStackTrace", desc := "()Ljava/lang/Throwable;" } : Jvm.MethodName) ({ cls := "java/lang/Throwable", name := "fillInStackTrace", desc := "()Ljava/lang/Throwable;" } : Jvm.MethodName)) ∈ lw_all := lw_g (lw_at lw_m3 65 rfl) rfl
theorem q832 : (Jvm.Cond.instantiable "java/lang/IllegalArgumentException" (6 : Nat)) ∈ lw_all := lw_g (lw_at lw_m4 10 rfl) rfl
theorem q833 : (Jvm.Cond.castable "java/lang/IllegalArgumentException" "java/lang/IllegalArgumentException") ∈ lw_tbl := lw_at lw_m4 11 rfl
theorem q834 : (Jvm.Cond.selects "java/lang/IllegalArgumentException" ({ cls := "java/lang/Throwable", name := "fillInStackTrace", desc := "(I)Ljava/lang/Throwable;" } : Jvm.MethodName) ({ cls := "java/lang/Throwable", name := "fillInStackTrace", desc := "(I)Ljava/lang/Throwable;" } : Jvm.MethodName)) ∈ lw_all := lw_g (lw_at lw_m4 12 rfl) rfl
theorem q835 : (Jvm.Cond.lays "java/lang/IllegalArgumentException" "java/lang/Throwable" "cause" "Ljava/lang/Throwable;") ∈ lw_all := lw_g (lw_at lw_m4 13 rfl) rfl
theorem q836 : (Jvm.Cond.lays "java/lang/IllegalArgumentException" "java/lang/Throwable" "stackTrace" "[Ljava/lang/StackTraceElement;") ∈ lw_all := lw_g (lw_at lw_m4 14 rfl) rfl
theorem q837 : (Jvm.Cond.lays "java/lang/IllegalArgumentException" "java/lang/Throwable" "suppressedExceptions" "Ljava/util/List;") ∈ lw_all := lw_g (lw_at lw_m4 15 rfl) rfl
theorem q838 : (Jvm.Cond.lays "java/lang/IllegalArgumentException" "java/lang/Throwable" "detailMessage" "Ljava/lang/String;") ∈ lw_all := lw_g (lw_at lw_m4 16 rfl) rfl
theorem q839 : (Jvm.Cond.lays "java/lang/IllegalArgumentException" "java/lang/Throwable" "backtrace" "Ljava/lang/Object;") ∈ lw_all := lw_g (lw_at lw_m4 17 rfl) rfl
theorem q847 : (Jvm.Cond.instanceMethod ({ cls := "java/lang/IllegalArgumentException", name := "<init>", desc := "(Ljava/lang/String;)V" } : Jvm.MethodName)) ∈ lw_all := lw_g (lw_at lw_m4 25 rfl) rfl
theorem q848 : (Jvm.Cond.code ({ cls := "java/lang/IllegalArgumentException", name := "<init>", desc := "(Ljava/lang/String;)V" } : Jvm.MethodName) prog_25_method_2_code (2 : Nat) (Option.none : Option Jvm.ClassFile.FieldType)) ∈ lw_all := lw_g (lw_at lw_m4 26 rfl) rfl
theorem q849 : (Jvm.Cond.methodLink "java/lang/IllegalArgumentException" (7 : Nat) ({ cls := "java/lang/RuntimeException", name := "<init>", desc := "(Ljava/lang/String;)V" } : Jvm.MethodName)) ∈ lw_all := lw_g (lw_at lw_m4 27 rfl) rfl
theorem q867 : (Jvm.Cond.lays "java/lang/IllegalArgumentException" "java/lang/Throwable" "depth" "I") ∈ lw_all := lw_g (lw_at lw_m4 45 rfl) rfl
theorem q870 : (Jvm.Cond.superclass "java/lang/IllegalArgumentException" "java/lang/RuntimeException") ∈ lw_all := lw_g (lw_at lw_m4 48 rfl) rfl
theorem q935 : (Jvm.Cond.selects "java/lang/IllegalArgumentException" ({ cls := "java/lang/Throwable", name := "toString", desc := "()Ljava/lang/String;" } : Jvm.MethodName) ({ cls := "java/lang/Throwable", name := "toString", desc := "()Ljava/lang/String;" } : Jvm.MethodName)) ∈ lw_all := lw_g (lw_at lw_m4 113 rfl) rfl
theorem q949 : (Jvm.Cond.selects "java/lang/IllegalArgumentException" ({ cls := "java/lang/Throwable", name := "getLocalizedMessage", desc := "()Ljava/lang/String;" } : Jvm.MethodName) ({ cls := "java/lang/Throwable", name := "getLocalizedMessage", desc := "()Ljava/lang/String;" } : Jvm.MethodName)) ∈ lw_all := lw_g (lw_at lw_m4 127 rfl) rfl
theorem q962 : (Jvm.Cond.selects "java/lang/IllegalArgumentException" ({ cls := "java/lang/Throwable", name := "getMessage", desc := "()Ljava/lang/String;" } : Jvm.MethodName) ({ cls := "java/lang/Throwable", name := "getMessage", desc := "()Ljava/lang/String;" } : Jvm.MethodName)) ∈ lw_all := lw_g (lw_at lw_m4 140 rfl) rfl
theorem q1572 : (Jvm.Cond.instanceMethod ({ cls := "java/lang/IllegalArgumentException", name := "<init>", desc := "()V" } : Jvm.MethodName)) ∈ lw_all := lw_g (lw_at lw_m7 30 rfl) rfl
theorem q1573 : (Jvm.Cond.code ({ cls := "java/lang/IllegalArgumentException", name := "<init>", desc := "()V" } : Jvm.MethodName) prog_25_method_1_code (1 : Nat) (Option.none : Option Jvm.ClassFile.FieldType)) ∈ lw_all := lw_g (lw_at lw_m7 31 rfl) rfl
theorem q1574 : (Jvm.Cond.methodLink "java/lang/IllegalArgumentException" (1 : Nat) ({ cls := "java/lang/RuntimeException", name := "<init>", desc := "()V" } : Jvm.MethodName)) ∈ lw_all := lw_g (lw_at lw_m7 32 rfl) rfl
theorem q1789 : (Jvm.Cond.selects "java/lang/IllegalArgumentException" ({ cls := "java/lang/Object", name := "equals", desc := "(Ljava/lang/Object;)Z" } : Jvm.MethodName) ({ cls := "java/lang/Object", name := "equals", desc := "(Ljava/lang/Object;)Z" } : Jvm.MethodName)) ∈ lw_all := lw_g (lw_at lw_m8 7 rfl) rfl
theorem q3178 : (Jvm.Cond.castable "java/lang/IllegalArgumentException" "java/lang/Object") ∈ lw_tbl := lw_at lw_m13 196 rfl
theorem in_J16 : ∀ w ∈ wsJ160, w ∈ lw_all := lw_in wsJ160 [835, 836, 837, 838, 839, 867] (by decide +kernel) (by decide +kernel)
/-! java/lang/Number -/
set_option maxRecDepth 100000
def RJ17 : String := "java/lang/Number"
abbrev cJ17_init : ByteArray := prog_33_method_1_code
def yJ17_init : MethodName := ⟨RJ17, "<init>", "()V"⟩
theorem dJ17_init_0 : decode cJ17_init 0 = .ok (.aload_n 0, 1) := by decide +kernel
theorem dJ17_init_1 : decode cJ17_init 1 = .ok (.invokespecial 1, 3) := by decide +kernel
theorem dJ17_init_4 : decode cJ17_init 4 = .ok (.return_, 1) := by decide +kernel
theorem q126 : (Jvm.Cond.initialized "java/lang/Number") ∈ lw_all := lw_g (lw_at lw_m1 24 rfl) rfl
theorem q1041 : (Jvm.Cond.instanceMethod ({ cls := "java/lang/Number", name := "<init>", desc := "()V" } : Jvm.MethodName)) ∈ lw_all := lw_g (lw_at lw_m4 219 rfl) rfl
theorem q1042 : (Jvm.Cond.code ({ cls := "java/lang/Number", name := "<init>", desc := "()V" } : Jvm.MethodName) prog_33_method_1_code (1 : Nat) (Option.none : Option Jvm.ClassFile.FieldType)) ∈ lw_all := lw_g (lw_at lw_m4 220 rfl) rfl
theorem q1043 : (Jvm.Cond.methodLink "java/lang/Number" (1 : Nat) ({ cls := "java/lang/Object", name := "<init>", desc := "()V" } : Jvm.MethodName)) ∈ lw_all := lw_g (lw_at lw_m4 221 rfl) rfl
/-! java/lang/Integer -/
set_option maxRecDepth 100000
def RJ18 : String := "java/lang/Integer"
def TJ18 : u_T := fun k => match k with
  | _ => ("java/lang/Integer", "value", "I", true)
def tyJ18 : Nat → FieldType := fun k => match k with
  | _ => .int
abbrev wsJ180 : List Cond := u_ws RJ18 TJ18 1
theorem nmJ18 : ∀ a, a < 1 → ∀ b, b < 1 → a ≠ b → (TJ18 a).2.1 ≠ (TJ18 b).2.1 := by decide +kernel
theorem tyJ18_ok : ∀ k, k < 1 → parseFieldDescriptor (TJ18 k).2.2.1 = some (tyJ18 k) := by decide +kernel
abbrev cJ18_stringSize : ByteArray := prog_28_method_13_code
def yJ18_stringSize : MethodName := ⟨RJ18, "stringSize", "(I)I"⟩
def dkwJ18_stringSize_1 : List UInt8 := [164, 0, 7, 29, 27, 96, 172, 16, 10, 28, 104, 61, 132, 3, 1, 167, 255, 233, 16, 10, 27, 96, 172]
abbrev dktJ18_stringSize_1 : List UInt8 := dkwJ18_stringSize_1 ++ []
def dkwJ18_stringSize_0 : List UInt8 := [4, 60, 26, 155, 0, 8, 3, 60, 26, 116, 59, 16, 246, 61, 4, 62, 29, 16, 10, 162, 0, 23, 26, 28]
abbrev dktJ18_stringSize_0 : List UInt8 := dkwJ18_stringSize_0 ++ dktJ18_stringSize_1
theorem dksJ18_stringSize_0 : cJ18_stringSize.data.toList.drop 0 = dktJ18_stringSize_0 := by decide +kernel
theorem dksJ18_stringSize_1 : cJ18_stringSize.data.toList.drop 24 = dktJ18_stringSize_1 := dk_seg dksJ18_stringSize_0 24 rfl rfl
theorem dJ18_stringSize_0 : decode cJ18_stringSize 0 = .ok (.iconst 1, 1) := dk_4 (dk_at dksJ18_stringSize_0 0 rfl rfl)
theorem dJ18_stringSize_1 : decode cJ18_stringSize 1 = .ok (.istore_n 1, 1) := dk_60 (dk_at dksJ18_stringSize_0 1 rfl rfl)
theorem dJ18_stringSize_2 : decode cJ18_stringSize 2 = .ok (.iload_n 0, 1) := dk_26 (dk_at dksJ18_stringSize_0 2 rfl rfl)
theorem dJ18_stringSize_3 : decode cJ18_stringSize 3 = .ok (.ifCond .lt 8, 3) := dk_155 0 8 (dk_at dksJ18_stringSize_0 3 rfl rfl)
theorem dJ18_stringSize_6 : decode cJ18_stringSize 6 = .ok (.iconst 0, 1) := dk_3 (dk_at dksJ18_stringSize_0 6 rfl rfl)
theorem dJ18_stringSize_7 : decode cJ18_stringSize 7 = .ok (.istore_n 1, 1) := dk_60 (dk_at dksJ18_stringSize_0 7 rfl rfl)
theorem dJ18_stringSize_8 : decode cJ18_stringSize 8 = .ok (.iload_n 0, 1) := dk_26 (dk_at dksJ18_stringSize_0 8 rfl rfl)
theorem dJ18_stringSize_9 : decode cJ18_stringSize 9 = .ok (.ineg, 1) := dk_116 (dk_at dksJ18_stringSize_0 9 rfl rfl)
theorem dJ18_stringSize_10 : decode cJ18_stringSize 10 = .ok (.istore_n 0, 1) := dk_59 (dk_at dksJ18_stringSize_0 10 rfl rfl)
theorem dJ18_stringSize_11 : decode cJ18_stringSize 11 = .ok (.bipush (-10), 2) := dk_16 246 (dk_at dksJ18_stringSize_0 11 rfl rfl)
theorem dJ18_stringSize_13 : decode cJ18_stringSize 13 = .ok (.istore_n 2, 1) := dk_61 (dk_at dksJ18_stringSize_0 13 rfl rfl)
theorem dJ18_stringSize_14 : decode cJ18_stringSize 14 = .ok (.iconst 1, 1) := dk_4 (dk_at dksJ18_stringSize_0 14 rfl rfl)
theorem dJ18_stringSize_15 : decode cJ18_stringSize 15 = .ok (.istore_n 3, 1) := dk_62 (dk_at dksJ18_stringSize_0 15 rfl rfl)
theorem dJ18_stringSize_16 : decode cJ18_stringSize 16 = .ok (.iload_n 3, 1) := dk_29 (dk_at dksJ18_stringSize_0 16 rfl rfl)
theorem dJ18_stringSize_17 : decode cJ18_stringSize 17 = .ok (.bipush 10, 2) := dk_16 10 (dk_at dksJ18_stringSize_0 17 rfl rfl)
theorem dJ18_stringSize_19 : decode cJ18_stringSize 19 = .ok (.if_icmp .ge 23, 3) := dk_162 0 23 (dk_at dksJ18_stringSize_0 19 rfl rfl)
theorem dJ18_stringSize_22 : decode cJ18_stringSize 22 = .ok (.iload_n 0, 1) := dk_26 (dk_at dksJ18_stringSize_0 22 rfl rfl)
theorem dJ18_stringSize_23 : decode cJ18_stringSize 23 = .ok (.iload_n 2, 1) := dk_28 (dk_at dksJ18_stringSize_0 23 rfl rfl)
theorem dJ18_stringSize_24 : decode cJ18_stringSize 24 = .ok (.if_icmp .le 7, 3) := dk_164 0 7 (dk_at dksJ18_stringSize_1 0 rfl rfl)
theorem dJ18_stringSize_27 : decode cJ18_stringSize 27 = .ok (.iload_n 3, 1) := dk_29 (dk_at dksJ18_stringSize_1 3 rfl rfl)
theorem dJ18_stringSize_28 : decode cJ18_stringSize 28 = .ok (.iload_n 1, 1) := dk_27 (dk_at dksJ18_stringSize_1 4 rfl rfl)
theorem dJ18_stringSize_29 : decode cJ18_stringSize 29 = .ok (.iadd, 1) := dk_96 (dk_at dksJ18_stringSize_1 5 rfl rfl)
theorem dJ18_stringSize_30 : decode cJ18_stringSize 30 = .ok (.ireturn, 1) := dk_172 (dk_at dksJ18_stringSize_1 6 rfl rfl)
theorem dJ18_stringSize_31 : decode cJ18_stringSize 31 = .ok (.bipush 10, 2) := dk_16 10 (dk_at dksJ18_stringSize_1 7 rfl rfl)
theorem dJ18_stringSize_33 : decode cJ18_stringSize 33 = .ok (.iload_n 2, 1) := dk_28 (dk_at dksJ18_stringSize_1 9 rfl rfl)
theorem dJ18_stringSize_34 : decode cJ18_stringSize 34 = .ok (.imul, 1) := dk_104 (dk_at dksJ18_stringSize_1 10 rfl rfl)
theorem dJ18_stringSize_35 : decode cJ18_stringSize 35 = .ok (.istore_n 2, 1) := dk_61 (dk_at dksJ18_stringSize_1 11 rfl rfl)
theorem dJ18_stringSize_36 : decode cJ18_stringSize 36 = .ok (.iinc 3 1, 3) := dk_132 3 1 (dk_at dksJ18_stringSize_1 12 rfl rfl)
theorem dJ18_stringSize_39 : decode cJ18_stringSize 39 = .ok (.goto (-23), 3) := dk_167 255 233 (dk_at dksJ18_stringSize_1 15 rfl rfl)
theorem dJ18_stringSize_42 : decode cJ18_stringSize 42 = .ok (.bipush 10, 2) := dk_16 10 (dk_at dksJ18_stringSize_1 18 rfl rfl)
theorem dJ18_stringSize_44 : decode cJ18_stringSize 44 = .ok (.iload_n 1, 1) := dk_27 (dk_at dksJ18_stringSize_1 20 rfl rfl)
theorem dJ18_stringSize_45 : decode cJ18_stringSize 45 = .ok (.iadd, 1) := dk_96 (dk_at dksJ18_stringSize_1 21 rfl rfl)
theorem dJ18_stringSize_46 : decode cJ18_stringSize 46 = .ok (.ireturn, 1) := dk_172 (dk_at dksJ18_stringSize_1 22 rfl rfl)
abbrev cJ18_getChars : ByteArray := prog_28_method_12_code
def yJ18_getChars : MethodName := ⟨RJ18, "getChars", "(II[B)I"⟩
def dkwJ18_getChars_5 : List UInt8 := [16, 45, 84, 21, 5, 172]
abbrev dktJ18_getChars_5 : List UInt8 := dkwJ18_getChars_5 ++ []
def dkwJ18_getChars_4 : List UInt8 := [132, 5, 255, 21, 5, 178, 0, 87, 26, 116, 51, 84, 21, 6, 153, 0, 12, 44, 132, 5, 255, 21, 5]
abbrev dktJ18_getChars_4 : List UInt8 := dkwJ18_getChars_4 ++ dktJ18_getChars_5
def dkwJ18_getChars_3 : List UInt8 := [167, 255, 209, 44, 132, 5, 255, 21, 5, 178, 0, 83, 26, 116, 51, 84, 26, 16, 247, 162, 0, 16, 44]
abbrev dktJ18_getChars_3 : List UInt8 := dkwJ18_getChars_3 ++ dktJ18_getChars_4
def dkwJ18_getChars_2 : List UInt8 := [21, 5, 178, 0, 83, 21, 4, 51, 84, 44, 132, 5, 255, 21, 5, 178, 0, 87, 21, 4, 51, 84]
abbrev dktJ18_getChars_2 : List UInt8 := dkwJ18_getChars_2 ++ dktJ18_getChars_3
def dkwJ18_getChars_1 : List UInt8 := [16, 156, 163, 0, 47, 26, 16, 100, 108, 62, 29, 16, 100, 104, 26, 100, 54, 4, 29, 59, 44, 132, 5, 255]
abbrev dktJ18_getChars_1 : List UInt8 := dkwJ18_getChars_1 ++ dktJ18_getChars_2
def dkwJ18_getChars_0 : List UInt8 := [27, 54, 5, 26, 156, 0, 7, 4, 167, 0, 4, 3, 54, 6, 21, 6, 154, 0, 6, 26, 116, 59, 26]
abbrev dktJ18_getChars_0 : List UInt8 := dkwJ18_getChars_0 ++ dktJ18_getChars_1
theorem dksJ18_getChars_0 : cJ18_getChars.data.toList.drop 0 = dktJ18_getChars_0 := by decide +kernel
theorem dksJ18_getChars_1 : cJ18_getChars.data.toList.drop 23 = dktJ18_getChars_1 := dk_seg dksJ18_getChars_0 23 rfl rfl
theorem dksJ18_getChars_2 : cJ18_getChars.data.toList.drop 47 = dktJ18_getChars_2 := dk_seg dksJ18_getChars_1 24 rfl rfl
theorem dksJ18_getChars_3 : cJ18_getChars.data.toList.drop 69 = dktJ18_getChars_3 := dk_seg dksJ18_getChars_2 22 rfl rfl
theorem dksJ18_getChars_4 : cJ18_getChars.data.toList.drop 92 = dktJ18_getChars_4 := dk_seg dksJ18_getChars_3 23 rfl rfl
theorem dksJ18_getChars_5 : cJ18_getChars.data.toList.drop 115 = dktJ18_getChars_5 := dk_seg dksJ18_getChars_4 23 rfl rfl
theorem dJ18_getChars_0 : decode cJ18_getChars 0 = .ok (.iload_n 1, 1) := dk_27 (dk_at dksJ18_getChars_0 0 rfl rfl)
theorem dJ18_getChars_1 : decode cJ18_getChars 1 = .ok (.istore 5, 2) := dk_54 5 (dk_at dksJ18_getChars_0 1 rfl rfl)
theorem dJ18_getChars_3 : decode cJ18_getChars 3 = .ok (.iload_n 0, 1) := dk_26 (dk_at dksJ18_getChars_0 3 rfl rfl)
theorem dJ18_getChars_4 : decode cJ18_getChars 4 = .ok (.ifCond .ge 7, 3) := dk_156 0 7 (dk_at dksJ18_getChars_0 4 rfl rfl)
theorem dJ18_getChars_7 : decode cJ18_getChars 7 = .ok (.iconst 1, 1) := dk_4 (dk_at dksJ18_getChars_0 7 rfl rfl)
theorem dJ18_getChars_8 : decode cJ18_getChars 8 = .ok (.goto 4, 3) := dk_167 0 4 (dk_at dksJ18_getChars_0 8 rfl rfl)
theorem dJ18_getChars_11 : decode cJ18_getChars 11 = .ok (.iconst 0, 1) := dk_3 (dk_at dksJ18_getChars_0 11 rfl rfl)
theorem dJ18_getChars_12 : decode cJ18_getChars 12 = .ok (.istore 6, 2) := dk_54 6 (dk_at dksJ18_getChars_0 12 rfl rfl)
theorem dJ18_getChars_14 : decode cJ18_getChars 14 = .ok (.iload 6, 2) := dk_21 6 (dk_at dksJ18_getChars_0 14 rfl rfl)
theorem dJ18_getChars_16 : decode cJ18_getChars 16 = .ok (.ifCond .ne 6, 3) := dk_154 0 6 (dk_at dksJ18_getChars_0 16 rfl rfl)
theorem dJ18_getChars_19 : decode cJ18_getChars 19 = .ok (.iload_n 0, 1) := dk_26 (dk_at dksJ18_getChars_0 19 rfl rfl)
theorem dJ18_getChars_20 : decode cJ18_getChars 20 = .ok (.ineg, 1) := dk_116 (dk_at dksJ18_getChars_0 20 rfl rfl)
theorem dJ18_getChars_21 : decode cJ18_getChars 21 = .ok (.istore_n 0, 1) := dk_59 (dk_at dksJ18_getChars_0 21 rfl rfl)
theorem dJ18_getChars_22 : decode cJ18_getChars 22 = .ok (.iload_n 0, 1) := dk_26 (dk_at dksJ18_getChars_0 22 rfl rfl)
theorem dJ18_getChars_23 : decode cJ18_getChars 23 = .ok (.bipush (-100), 2) := dk_16 156 (dk_at dksJ18_getChars_1 0 rfl rfl)
theorem dJ18_getChars_25 : decode cJ18_getChars 25 = .ok (.if_icmp .gt 47, 3) := dk_163 0 47 (dk_at dksJ18_getChars_1 2 rfl rfl)
theorem dJ18_getChars_28 : decode cJ18_getChars 28 = .ok (.iload_n 0, 1) := dk_26 (dk_at dksJ18_getChars_1 5 rfl rfl)
theorem dJ18_getChars_29 : decode cJ18_getChars 29 = .ok (.bipush 100, 2) := dk_16 100 (dk_at dksJ18_getChars_1 6 rfl rfl)
theorem dJ18_getChars_31 : decode cJ18_getChars 31 = .ok (.idiv, 1) := dk_108 (dk_at dksJ18_getChars_1 8 rfl rfl)
theorem dJ18_getChars_32 : decode cJ18_getChars 32 = .ok (.istore_n 3, 1) := dk_62 (dk_at dksJ18_getChars_1 9 rfl rfl)
theorem dJ18_getChars_33 : decode cJ18_getChars 33 = .ok (.iload_n 3, 1) := dk_29 (dk_at dksJ18_getChars_1 10 rfl rfl)
theorem dJ18_getChars_34 : decode cJ18_getChars 34 = .ok (.bipush 100, 2) := dk_16 100 (dk_at dksJ18_getChars_1 11 rfl rfl)
theorem dJ18_getChars_36 : decode cJ18_getChars 36 = .ok (.imul, 1) := dk_104 (dk_at dksJ18_getChars_1 13 rfl rfl)
theorem dJ18_getChars_37 : decode cJ18_getChars 37 = .ok (.iload_n 0, 1) := dk_26 (dk_at dksJ18_getChars_1 14 rfl rfl)
theorem dJ18_getChars_38 : decode cJ18_getChars 38 = .ok (.isub, 1) := dk_100 (dk_at dksJ18_getChars_1 15 rfl rfl)
theorem dJ18_getChars_39 : decode cJ18_getChars 39 = .ok (.istore 4, 2) := dk_54 4 (dk_at dksJ18_getChars_1 16 rfl rfl)
theorem dJ18_getChars_41 : decode cJ18_getChars 41 = .ok (.iload_n 3, 1) := dk_29 (dk_at dksJ18_getChars_1 18 rfl rfl)
theorem dJ18_getChars_42 : decode cJ18_getChars 42 = .ok (.istore_n 0, 1) := dk_59 (dk_at dksJ18_getChars_1 19 rfl rfl)
theorem dJ18_getChars_43 : decode cJ18_getChars 43 = .ok (.aload_n 2, 1) := dk_44 (dk_at dksJ18_getChars_1 20 rfl rfl)
theorem dJ18_getChars_44 : decode cJ18_getChars 44 = .ok (.iinc 5 (-1), 3) := dk_132 5 255 (dk_at dksJ18_getChars_1 21 rfl rfl)
theorem dJ18_getChars_47 : decode cJ18_getChars 47 = .ok (.iload 5, 2) := dk_21 5 (dk_at dksJ18_getChars_2 0 rfl rfl)
theorem dJ18_getChars_49 : decode cJ18_getChars 49 = .ok (.getstatic 83, 3) := dk_178 0 83 (dk_at dksJ18_getChars_2 2 rfl rfl)
theorem dJ18_getChars_52 : decode cJ18_getChars 52 = .ok (.iload 4, 2) := dk_21 4 (dk_at dksJ18_getChars_2 5 rfl rfl)
theorem dJ18_getChars_54 : decode cJ18_getChars 54 = .ok (.baload, 1) := dk_51 (dk_at dksJ18_getChars_2 7 rfl rfl)
theorem dJ18_getChars_55 : decode cJ18_getChars 55 = .ok (.bastore, 1) := dk_84 (dk_at dksJ18_getChars_2 8 rfl rfl)
theorem dJ18_getChars_56 : decode cJ18_getChars 56 = .ok (.aload_n 2, 1) := dk_44 (dk_at dksJ18_getChars_2 9 rfl rfl)
theorem dJ18_getChars_57 : decode cJ18_getChars 57 = .ok (.iinc 5 (-1), 3) := dk_132 5 255 (dk_at dksJ18_getChars_2 10 rfl rfl)
theorem dJ18_getChars_60 : decode cJ18_getChars 60 = .ok (.iload 5, 2) := dk_21 5 (dk_at dksJ18_getChars_2 13 rfl rfl)
theorem dJ18_getChars_62 : decode cJ18_getChars 62 = .ok (.getstatic 87, 3) := dk_178 0 87 (dk_at dksJ18_getChars_2 15 rfl rfl)
theorem dJ18_getChars_65 : decode cJ18_getChars 65 = .ok (.iload 4, 2) := dk_21 4 (dk_at dksJ18_getChars_2 18 rfl rfl)
theorem dJ18_getChars_67 : decode cJ18_getChars 67 = .ok (.baload, 1) := dk_51 (dk_at dksJ18_getChars_2 20 rfl rfl)
theorem dJ18_getChars_68 : decode cJ18_getChars 68 = .ok (.bastore, 1) := dk_84 (dk_at dksJ18_getChars_2 21 rfl rfl)
theorem dJ18_getChars_69 : decode cJ18_getChars 69 = .ok (.goto (-47), 3) := dk_167 255 209 (dk_at dksJ18_getChars_3 0 rfl rfl)
theorem dJ18_getChars_72 : decode cJ18_getChars 72 = .ok (.aload_n 2, 1) := dk_44 (dk_at dksJ18_getChars_3 3 rfl rfl)
theorem dJ18_getChars_73 : decode cJ18_getChars 73 = .ok (.iinc 5 (-1), 3) := dk_132 5 255 (dk_at dksJ18_getChars_3 4 rfl rfl)
theorem dJ18_getChars_76 : decode cJ18_getChars 76 = .ok (.iload 5, 2) := dk_21 5 (dk_at dksJ18_getChars_3 7 rfl rfl)
theorem dJ18_getChars_78 : decode cJ18_getChars 78 = .ok (.getstatic 83, 3) := dk_178 0 83 (dk_at dksJ18_getChars_3 9 rfl rfl)
theorem dJ18_getChars_81 : decode cJ18_getChars 81 = .ok (.iload_n 0, 1) := dk_26 (dk_at dksJ18_getChars_3 12 rfl rfl)
theorem dJ18_getChars_82 : decode cJ18_getChars 82 = .ok (.ineg, 1) := dk_116 (dk_at dksJ18_getChars_3 13 rfl rfl)
theorem dJ18_getChars_83 : decode cJ18_getChars 83 = .ok (.baload, 1) := dk_51 (dk_at dksJ18_getChars_3 14 rfl rfl)
theorem dJ18_getChars_84 : decode cJ18_getChars 84 = .ok (.bastore, 1) := dk_84 (dk_at dksJ18_getChars_3 15 rfl rfl)
theorem dJ18_getChars_85 : decode cJ18_getChars 85 = .ok (.iload_n 0, 1) := dk_26 (dk_at dksJ18_getChars_3 16 rfl rfl)
theorem dJ18_getChars_86 : decode cJ18_getChars 86 = .ok (.bipush (-9), 2) := dk_16 247 (dk_at dksJ18_getChars_3 17 rfl rfl)
theorem dJ18_getChars_88 : decode cJ18_getChars 88 = .ok (.if_icmp .ge 16, 3) := dk_162 0 16 (dk_at dksJ18_getChars_3 19 rfl rfl)
theorem dJ18_getChars_91 : decode cJ18_getChars 91 = .ok (.aload_n 2, 1) := dk_44 (dk_at dksJ18_getChars_3 22 rfl rfl)
theorem dJ18_getChars_92 : decode cJ18_getChars 92 = .ok (.iinc 5 (-1), 3) := dk_132 5 255 (dk_at dksJ18_getChars_4 0 rfl rfl)
theorem dJ18_getChars_95 : decode cJ18_getChars 95 = .ok (.iload 5, 2) := dk_21 5 (dk_at dksJ18_getChars_4 3 rfl rfl)
theorem dJ18_getChars_97 : decode cJ18_getChars 97 = .ok (.getstatic 87, 3) := dk_178 0 87 (dk_at dksJ18_getChars_4 5 rfl rfl)
theorem dJ18_getChars_100 : decode cJ18_getChars 100 = .ok (.iload_n 0, 1) := dk_26 (dk_at dksJ18_getChars_4 8 rfl rfl)
theorem dJ18_getChars_101 : decode cJ18_getChars 101 = .ok (.ineg, 1) := dk_116 (dk_at dksJ18_getChars_4 9 rfl rfl)
theorem dJ18_getChars_102 : decode cJ18_getChars 102 = .ok (.baload, 1) := dk_51 (dk_at dksJ18_getChars_4 10 rfl rfl)
theorem dJ18_getChars_103 : decode cJ18_getChars 103 = .ok (.bastore, 1) := dk_84 (dk_at dksJ18_getChars_4 11 rfl rfl)
theorem dJ18_getChars_104 : decode cJ18_getChars 104 = .ok (.iload 6, 2) := dk_21 6 (dk_at dksJ18_getChars_4 12 rfl rfl)
theorem dJ18_getChars_106 : decode cJ18_getChars 106 = .ok (.ifCond .eq 12, 3) := dk_153 0 12 (dk_at dksJ18_getChars_4 14 rfl rfl)
theorem dJ18_getChars_109 : decode cJ18_getChars 109 = .ok (.aload_n 2, 1) := dk_44 (dk_at dksJ18_getChars_4 17 rfl rfl)
theorem dJ18_getChars_110 : decode cJ18_getChars 110 = .ok (.iinc 5 (-1), 3) := dk_132 5 255 (dk_at dksJ18_getChars_4 18 rfl rfl)
theorem dJ18_getChars_113 : decode cJ18_getChars 113 = .ok (.iload 5, 2) := dk_21 5 (dk_at dksJ18_getChars_4 21 rfl rfl)
theorem dJ18_getChars_115 : decode cJ18_getChars 115 = .ok (.bipush 45, 2) := dk_16 45 (dk_at dksJ18_getChars_5 0 rfl rfl)
theorem dJ18_getChars_117 : decode cJ18_getChars 117 = .ok (.bastore, 1) := dk_84 (dk_at dksJ18_getChars_5 2 rfl rfl)
theorem dJ18_getChars_118 : decode cJ18_getChars 118 = .ok (.iload 5, 2) := dk_21 5 (dk_at dksJ18_getChars_5 3 rfl rfl)
theorem dJ18_getChars_120 : decode cJ18_getChars 120 = .ok (.ireturn, 1) := dk_172 (dk_at dksJ18_getChars_5 5 rfl rfl)
abbrev cJ18_valueOf : ByteArray := prog_28_method_22_code
def yJ18_valueOf : MethodName := ⟨RJ18, "valueOf", "(I)Ljava/lang/Integer;"⟩
def dkwJ18_valueOf_1 : List UInt8 := [187, 0, 1, 89, 26, 183, 0, 199, 176]
abbrev dktJ18_valueOf_1 : List UInt8 := dkwJ18_valueOf_1 ++ []
def dkwJ18_valueOf_0 : List UInt8 := [26, 16, 128, 161, 0, 20, 26, 178, 0, 191, 163, 0, 13, 178, 0, 195, 26, 17, 0, 128, 96, 50, 176]
abbrev dktJ18_valueOf_0 : List UInt8 := dkwJ18_valueOf_0 ++ dktJ18_valueOf_1
theorem dksJ18_valueOf_0 : cJ18_valueOf.data.toList.drop 0 = dktJ18_valueOf_0 := by decide +kernel
theorem dksJ18_valueOf_1 : cJ18_valueOf.data.toList.drop 23 = dktJ18_valueOf_1 := dk_seg dksJ18_valueOf_0 23 rfl rfl
theorem dJ18_valueOf_0 : decode cJ18_valueOf 0 = .ok (.iload_n 0, 1) := dk_26 (dk_at dksJ18_valueOf_0 0 rfl rfl)
theorem dJ18_valueOf_1 : decode cJ18_valueOf 1 = .ok (.bipush (-128), 2) := dk_16 128 (dk_at dksJ18_valueOf_0 1 rfl rfl)
theorem dJ18_valueOf_3 : decode cJ18_valueOf 3 = .ok (.if_icmp .lt 20, 3) := dk_161 0 20 (dk_at dksJ18_valueOf_0 3 rfl rfl)
theorem dJ18_valueOf_6 : decode cJ18_valueOf 6 = .ok (.iload_n 0, 1) := dk_26 (dk_at dksJ18_valueOf_0 6 rfl rfl)
theorem dJ18_valueOf_7 : decode cJ18_valueOf 7 = .ok (.getstatic 191, 3) := dk_178 0 191 (dk_at dksJ18_valueOf_0 7 rfl rfl)
theorem dJ18_valueOf_10 : decode cJ18_valueOf 10 = .ok (.if_icmp .gt 13, 3) := dk_163 0 13 (dk_at dksJ18_valueOf_0 10 rfl rfl)
theorem dJ18_valueOf_13 : decode cJ18_valueOf 13 = .ok (.getstatic 195, 3) := dk_178 0 195 (dk_at dksJ18_valueOf_0 13 rfl rfl)
theorem dJ18_valueOf_16 : decode cJ18_valueOf 16 = .ok (.iload_n 0, 1) := dk_26 (dk_at dksJ18_valueOf_0 16 rfl rfl)
theorem dJ18_valueOf_17 : decode cJ18_valueOf 17 = .ok (.sipush 128, 3) := dk_17 0 128 (dk_at dksJ18_valueOf_0 17 rfl rfl)
theorem dJ18_valueOf_20 : decode cJ18_valueOf 20 = .ok (.iadd, 1) := dk_96 (dk_at dksJ18_valueOf_0 20 rfl rfl)
theorem dJ18_valueOf_21 : decode cJ18_valueOf 21 = .ok (.aaload, 1) := dk_50 (dk_at dksJ18_valueOf_0 21 rfl rfl)
theorem dJ18_valueOf_22 : decode cJ18_valueOf 22 = .ok (.areturn, 1) := dk_176 (dk_at dksJ18_valueOf_0 22 rfl rfl)
theorem dJ18_valueOf_23 : decode cJ18_valueOf 23 = .ok (.new 1, 3) := dk_187 0 1 (dk_at dksJ18_valueOf_1 0 rfl rfl)
theorem dJ18_valueOf_26 : decode cJ18_valueOf 26 = .ok (.dup, 1) := dk_89 (dk_at dksJ18_valueOf_1 3 rfl rfl)
theorem dJ18_valueOf_27 : decode cJ18_valueOf 27 = .ok (.iload_n 0, 1) := dk_26 (dk_at dksJ18_valueOf_1 4 rfl rfl)
theorem dJ18_valueOf_28 : decode cJ18_valueOf 28 = .ok (.invokespecial 199, 3) := dk_183 0 199 (dk_at dksJ18_valueOf_1 5 rfl rfl)
theorem dJ18_valueOf_31 : decode cJ18_valueOf 31 = .ok (.areturn, 1) := dk_176 (dk_at dksJ18_valueOf_1 8 rfl rfl)
abbrev cJ18_init : ByteArray := prog_28_method_23_code
def yJ18_init : MethodName := ⟨RJ18, "<init>", "(I)V"⟩
def dkwJ18_init_0 : List UInt8 := [42, 183, 0, 202, 42, 27, 181, 0, 205, 177]
abbrev dktJ18_init_0 : List UInt8 := dkwJ18_init_0 ++ []
theorem dksJ18_init_0 : cJ18_init.data.toList.drop 0 = dktJ18_init_0 := by decide +kernel
theorem dJ18_init_0 : decode cJ18_init 0 = .ok (.aload_n 0, 1) := dk_42 (dk_at dksJ18_init_0 0 rfl rfl)
theorem dJ18_init_1 : decode cJ18_init 1 = .ok (.invokespecial 202, 3) := dk_183 0 202 (dk_at dksJ18_init_0 1 rfl rfl)
theorem dJ18_init_4 : decode cJ18_init 4 = .ok (.aload_n 0, 1) := dk_42 (dk_at dksJ18_init_0 4 rfl rfl)
theorem dJ18_init_5 : decode cJ18_init 5 = .ok (.iload_n 1, 1) := dk_27 (dk_at dksJ18_init_0 5 rfl rfl)
theorem dJ18_init_6 : decode cJ18_init 6 = .ok (.putfield 205, 3) := dk_181 0 205 (dk_at dksJ18_init_0 6 rfl rfl)
theorem dJ18_init_9 : decode cJ18_init 9 = .ok (.return_, 1) := dk_177 (dk_at dksJ18_init_0 9 rfl rfl)
abbrev cJ18_intValue : ByteArray := prog_28_method_27_code
def yJ18_intValue : MethodName := ⟨RJ18, "intValue", "()I"⟩
theorem dJ18_intValue_0 : decode cJ18_intValue 0 = .ok (.aload_n 0, 1) := by decide +kernel
theorem dJ18_intValue_1 : decode cJ18_intValue 1 = .ok (.getfield 205, 3) := by decide +kernel
theorem dJ18_intValue_4 : decode cJ18_intValue 4 = .ok (.ireturn, 1) := by decide +kernel
abbrev cJ18_numberOfTrailingZeros : ByteArray := prog_28_method_48_code
def yJ18_numberOfTrailingZeros : MethodName := ⟨RJ18, "numberOfTrailingZeros", "(I)I"⟩
def dkwJ18_numberOfTrailingZeros_3 : List UInt8 := [5, 124, 59, 27, 26, 4, 124, 96, 172]
abbrev dktJ18_numberOfTrailingZeros_3 : List UInt8 := dkwJ18_numberOfTrailingZeros_3 ++ []
def dkwJ18_numberOfTrailingZeros_2 : List UInt8 := [124, 59, 26, 16, 16, 164, 0, 10, 132, 1, 4, 26, 7, 124, 59, 26, 7, 164, 0, 10, 132, 1, 2, 26]
abbrev dktJ18_numberOfTrailingZeros_2 : List UInt8 := dkwJ18_numberOfTrailingZeros_2 ++ dktJ18_numberOfTrailingZeros_3
def dkwJ18_numberOfTrailingZeros_1 : List UInt8 := [164, 0, 11, 132, 1, 16, 26, 16, 16, 124, 59, 26, 17, 1, 0, 164, 0, 11, 132, 1, 8, 26, 16, 8]
abbrev dktJ18_numberOfTrailingZeros_1 : List UInt8 := dkwJ18_numberOfTrailingZeros_1 ++ dktJ18_numberOfTrailingZeros_2
def dkwJ18_numberOfTrailingZeros_0 : List UInt8 := [26, 2, 130, 26, 4, 100, 126, 59, 26, 157, 0, 8, 26, 16, 32, 126, 172, 4, 60, 26, 19, 1, 8]
abbrev dktJ18_numberOfTrailingZeros_0 : List UInt8 := dkwJ18_numberOfTrailingZeros_0 ++ dktJ18_numberOfTrailingZeros_1
theorem dksJ18_numberOfTrailingZeros_0 : cJ18_numberOfTrailingZeros.data.toList.drop 0 = dktJ18_numberOfTrailingZeros_0 := by decide +kernel
theorem dksJ18_numberOfTrailingZeros_1 : cJ18_numberOfTrailingZeros.data.toList.drop 23 = dktJ18_numberOfTrailingZeros_1 := dk_seg dksJ18_numberOfTrailingZeros_0 23 rfl rfl
theorem dksJ18_numberOfTrailingZeros_2 : cJ18_numberOfTrailingZeros.data.toList.drop 47 = dktJ18_numberOfTrailingZeros_2 := dk_seg dksJ18_numberOfTrailingZeros_1 24 rfl rfl
theorem dksJ18_numberOfTrailingZeros_3 : cJ18_numberOfTrailingZeros.data.toList.drop 71 = dktJ18_numberOfTrailingZeros_3 := dk_seg dksJ18_numberOfTrailingZeros_2 24 rfl rfl
theorem dJ18_numberOfTrailingZeros_0 : decode cJ18_numberOfTrailingZeros 0 = .ok (.iload_n 0, 1) := dk_26 (dk_at dksJ18_numberOfTrailingZeros_0 0 rfl rfl)
theorem dJ18_numberOfTrailingZeros_1 : decode cJ18_numberOfTrailingZeros 1 = .ok (.iconst (-1), 1) := dk_2 (dk_at dksJ18_numberOfTrailingZeros_0 1 rfl rfl)
theorem dJ18_numberOfTrailingZeros_2 : decode cJ18_numberOfTrailingZeros 2 = .ok (.ixor, 1) := dk_130 (dk_at dksJ18_numberOfTrailingZeros_0 2 rfl rfl)
theorem dJ18_numberOfTrailingZeros_3 : decode cJ18_numberOfTrailingZeros 3 = .ok (.iload_n 0, 1) := dk_26 (dk_at dksJ18_numberOfTrailingZeros_0 3 rfl rfl)
theorem dJ18_numberOfTrailingZeros_4 : decode cJ18_numberOfTrailingZeros 4 = .ok (.iconst 1, 1) := dk_4 (dk_at dksJ18_numberOfTrailingZeros_0 4 rfl rfl)
theorem dJ18_numberOfTrailingZeros_5 : decode cJ18_numberOfTrailingZeros 5 = .ok (.isub, 1) := dk_100 (dk_at dksJ18_numberOfTrailingZeros_0 5 rfl rfl)
theorem dJ18_numberOfTrailingZeros_6 : decode cJ18_numberOfTrailingZeros 6 = .ok (.iand, 1) := dk_126 (dk_at dksJ18_numberOfTrailingZeros_0 6 rfl rfl)
theorem dJ18_numberOfTrailingZeros_7 : decode cJ18_numberOfTrailingZeros 7 = .ok (.istore_n 0, 1) := dk_59 (dk_at dksJ18_numberOfTrailingZeros_0 7 rfl rfl)
theorem dJ18_numberOfTrailingZeros_8 : decode cJ18_numberOfTrailingZeros 8 = .ok (.iload_n 0, 1) := dk_26 (dk_at dksJ18_numberOfTrailingZeros_0 8 rfl rfl)
theorem dJ18_numberOfTrailingZeros_9 : decode cJ18_numberOfTrailingZeros 9 = .ok (.ifCond .gt 8, 3) := dk_157 0 8 (dk_at dksJ18_numberOfTrailingZeros_0 9 rfl rfl)
theorem dJ18_numberOfTrailingZeros_12 : decode cJ18_numberOfTrailingZeros 12 = .ok (.iload_n 0, 1) := dk_26 (dk_at dksJ18_numberOfTrailingZeros_0 12 rfl rfl)
theorem dJ18_numberOfTrailingZeros_13 : decode cJ18_numberOfTrailingZeros 13 = .ok (.bipush 32, 2) := dk_16 32 (dk_at dksJ18_numberOfTrailingZeros_0 13 rfl rfl)
theorem dJ18_numberOfTrailingZeros_15 : decode cJ18_numberOfTrailingZeros 15 = .ok (.iand, 1) := dk_126 (dk_at dksJ18_numberOfTrailingZeros_0 15 rfl rfl)
theorem dJ18_numberOfTrailingZeros_16 : decode cJ18_numberOfTrailingZeros 16 = .ok (.ireturn, 1) := dk_172 (dk_at dksJ18_numberOfTrailingZeros_0 16 rfl rfl)
theorem dJ18_numberOfTrailingZeros_17 : decode cJ18_numberOfTrailingZeros 17 = .ok (.iconst 1, 1) := dk_4 (dk_at dksJ18_numberOfTrailingZeros_0 17 rfl rfl)
theorem dJ18_numberOfTrailingZeros_18 : decode cJ18_numberOfTrailingZeros 18 = .ok (.istore_n 1, 1) := dk_60 (dk_at dksJ18_numberOfTrailingZeros_0 18 rfl rfl)
theorem dJ18_numberOfTrailingZeros_19 : decode cJ18_numberOfTrailingZeros 19 = .ok (.iload_n 0, 1) := dk_26 (dk_at dksJ18_numberOfTrailingZeros_0 19 rfl rfl)
theorem dJ18_numberOfTrailingZeros_20 : decode cJ18_numberOfTrailingZeros 20 = .ok (.ldc_w 264, 3) := dk_19 1 8 (dk_at dksJ18_numberOfTrailingZeros_0 20 rfl rfl)
theorem dJ18_numberOfTrailingZeros_23 : decode cJ18_numberOfTrailingZeros 23 = .ok (.if_icmp .le 11, 3) := dk_164 0 11 (dk_at dksJ18_numberOfTrailingZeros_1 0 rfl rfl)
theorem dJ18_numberOfTrailingZeros_26 : decode cJ18_numberOfTrailingZeros 26 = .ok (.iinc 1 16, 3) := dk_132 1 16 (dk_at dksJ18_numberOfTrailingZeros_1 3 rfl rfl)
theorem dJ18_numberOfTrailingZeros_29 : decode cJ18_numberOfTrailingZeros 29 = .ok (.iload_n 0, 1) := dk_26 (dk_at dksJ18_numberOfTrailingZeros_1 6 rfl rfl)
theorem dJ18_numberOfTrailingZeros_30 : decode cJ18_numberOfTrailingZeros 30 = .ok (.bipush 16, 2) := dk_16 16 (dk_at dksJ18_numberOfTrailingZeros_1 7 rfl rfl)
theorem dJ18_numberOfTrailingZeros_32 : decode cJ18_numberOfTrailingZeros 32 = .ok (.iushr, 1) := dk_124 (dk_at dksJ18_numberOfTrailingZeros_1 9 rfl rfl)
theorem dJ18_numberOfTrailingZeros_33 : decode cJ18_numberOfTrailingZeros 33 = .ok (.istore_n 0, 1) := dk_59 (dk_at dksJ18_numberOfTrailingZeros_1 10 rfl rfl)
theorem dJ18_numberOfTrailingZeros_34 : decode cJ18_numberOfTrailingZeros 34 = .ok (.iload_n 0, 1) := dk_26 (dk_at dksJ18_numberOfTrailingZeros_1 11 rfl rfl)
theorem dJ18_numberOfTrailingZeros_35 : decode cJ18_numberOfTrailingZeros 35 = .ok (.sipush 256, 3) := dk_17 1 0 (dk_at dksJ18_numberOfTrailingZeros_1 12 rfl rfl)
theorem dJ18_numberOfTrailingZeros_38 : decode cJ18_numberOfTrailingZeros 38 = .ok (.if_icmp .le 11, 3) := dk_164 0 11 (dk_at dksJ18_numberOfTrailingZeros_1 15 rfl rfl)
theorem dJ18_numberOfTrailingZeros_41 : decode cJ18_numberOfTrailingZeros 41 = .ok (.iinc 1 8, 3) := dk_132 1 8 (dk_at dksJ18_numberOfTrailingZeros_1 18 rfl rfl)
theorem dJ18_numberOfTrailingZeros_44 : decode cJ18_numberOfTrailingZeros 44 = .ok (.iload_n 0, 1) := dk_26 (dk_at dksJ18_numberOfTrailingZeros_1 21 rfl rfl)
theorem dJ18_numberOfTrailingZeros_45 : decode cJ18_numberOfTrailingZeros 45 = .ok (.bipush 8, 2) := dk_16 8 (dk_at dksJ18_numberOfTrailingZeros_1 22 rfl rfl)
theorem dJ18_numberOfTrailingZeros_47 : decode cJ18_numberOfTrailingZeros 47 = .ok (.iushr, 1) := dk_124 (dk_at dksJ18_numberOfTrailingZeros_2 0 rfl rfl)
theorem dJ18_numberOfTrailingZeros_48 : decode cJ18_numberOfTrailingZeros 48 = .ok (.istore_n 0, 1) := dk_59 (dk_at dksJ18_numberOfTrailingZeros_2 1 rfl rfl)
theorem dJ18_numberOfTrailingZeros_49 : decode cJ18_numberOfTrailingZeros 49 = .ok (.iload_n 0, 1) := dk_26 (dk_at dksJ18_numberOfTrailingZeros_2 2 rfl rfl)
theorem dJ18_numberOfTrailingZeros_50 : decode cJ18_numberOfTrailingZeros 50 = .ok (.bipush 16, 2) := dk_16 16 (dk_at dksJ18_numberOfTrailingZeros_2 3 rfl rfl)
theorem dJ18_numberOfTrailingZeros_52 : decode cJ18_numberOfTrailingZeros 52 = .ok (.if_icmp .le 10, 3) := dk_164 0 10 (dk_at dksJ18_numberOfTrailingZeros_2 5 rfl rfl)
theorem dJ18_numberOfTrailingZeros_55 : decode cJ18_numberOfTrailingZeros 55 = .ok (.iinc 1 4, 3) := dk_132 1 4 (dk_at dksJ18_numberOfTrailingZeros_2 8 rfl rfl)
theorem dJ18_numberOfTrailingZeros_58 : decode cJ18_numberOfTrailingZeros 58 = .ok (.iload_n 0, 1) := dk_26 (dk_at dksJ18_numberOfTrailingZeros_2 11 rfl rfl)
theorem dJ18_numberOfTrailingZeros_59 : decode cJ18_numberOfTrailingZeros 59 = .ok (.iconst 4, 1) := dk_7 (dk_at dksJ18_numberOfTrailingZeros_2 12 rfl rfl)
theorem dJ18_numberOfTrailingZeros_60 : decode cJ18_numberOfTrailingZeros 60 = .ok (.iushr, 1) := dk_124 (dk_at dksJ18_numberOfTrailingZeros_2 13 rfl rfl)
theorem dJ18_numberOfTrailingZeros_61 : decode cJ18_numberOfTrailingZeros 61 = .ok (.istore_n 0, 1) := dk_59 (dk_at dksJ18_numberOfTrailingZeros_2 14 rfl rfl)
theorem dJ18_numberOfTrailingZeros_62 : decode cJ18_numberOfTrailingZeros 62 = .ok (.iload_n 0, 1) := dk_26 (dk_at dksJ18_numberOfTrailingZeros_2 15 rfl rfl)
theorem dJ18_numberOfTrailingZeros_63 : decode cJ18_numberOfTrailingZeros 63 = .ok (.iconst 4, 1) := dk_7 (dk_at dksJ18_numberOfTrailingZeros_2 16 rfl rfl)
theorem dJ18_numberOfTrailingZeros_64 : decode cJ18_numberOfTrailingZeros 64 = .ok (.if_icmp .le 10, 3) := dk_164 0 10 (dk_at dksJ18_numberOfTrailingZeros_2 17 rfl rfl)
theorem dJ18_numberOfTrailingZeros_67 : decode cJ18_numberOfTrailingZeros 67 = .ok (.iinc 1 2, 3) := dk_132 1 2 (dk_at dksJ18_numberOfTrailingZeros_2 20 rfl rfl)
theorem dJ18_numberOfTrailingZeros_70 : decode cJ18_numberOfTrailingZeros 70 = .ok (.iload_n 0, 1) := dk_26 (dk_at dksJ18_numberOfTrailingZeros_2 23 rfl rfl)
theorem dJ18_numberOfTrailingZeros_71 : decode cJ18_numberOfTrailingZeros 71 = .ok (.iconst 2, 1) := dk_5 (dk_at dksJ18_numberOfTrailingZeros_3 0 rfl rfl)
theorem dJ18_numberOfTrailingZeros_72 : decode cJ18_numberOfTrailingZeros 72 = .ok (.iushr, 1) := dk_124 (dk_at dksJ18_numberOfTrailingZeros_3 1 rfl rfl)
theorem dJ18_numberOfTrailingZeros_73 : decode cJ18_numberOfTrailingZeros 73 = .ok (.istore_n 0, 1) := dk_59 (dk_at dksJ18_numberOfTrailingZeros_3 2 rfl rfl)
theorem dJ18_numberOfTrailingZeros_74 : decode cJ18_numberOfTrailingZeros 74 = .ok (.iload_n 1, 1) := dk_27 (dk_at dksJ18_numberOfTrailingZeros_3 3 rfl rfl)
theorem dJ18_numberOfTrailingZeros_75 : decode cJ18_numberOfTrailingZeros 75 = .ok (.iload_n 0, 1) := dk_26 (dk_at dksJ18_numberOfTrailingZeros_3 4 rfl rfl)
theorem dJ18_numberOfTrailingZeros_76 : decode cJ18_numberOfTrailingZeros 76 = .ok (.iconst 1, 1) := dk_4 (dk_at dksJ18_numberOfTrailingZeros_3 5 rfl rfl)
theorem dJ18_numberOfTrailingZeros_77 : decode cJ18_numberOfTrailingZeros 77 = .ok (.iushr, 1) := dk_124 (dk_at dksJ18_numberOfTrailingZeros_3 6 rfl rfl)
theorem dJ18_numberOfTrailingZeros_78 : decode cJ18_numberOfTrailingZeros 78 = .ok (.iadd, 1) := dk_96 (dk_at dksJ18_numberOfTrailingZeros_3 7 rfl rfl)
theorem dJ18_numberOfTrailingZeros_79 : decode cJ18_numberOfTrailingZeros 79 = .ok (.ireturn, 1) := dk_172 (dk_at dksJ18_numberOfTrailingZeros_3 8 rfl rfl)
abbrev cJ18_equals : ByteArray := prog_28_method_34_code
def yJ18_equals : MethodName := ⟨RJ18, "equals", "(Ljava/lang/Object;)Z"⟩
def dkwJ18_equals_1 : List UInt8 := [167, 0, 4, 3, 172, 3, 172]
abbrev dktJ18_equals_1 : List UInt8 := dkwJ18_equals_1 ++ []
def dkwJ18_equals_0 : List UInt8 := [43, 193, 0, 1, 153, 0, 23, 42, 180, 0, 205, 43, 192, 0, 1, 182, 0, 211, 160, 0, 7, 4]
abbrev dktJ18_equals_0 : List UInt8 := dkwJ18_equals_0 ++ dktJ18_equals_1
theorem dksJ18_equals_0 : cJ18_equals.data.toList.drop 0 = dktJ18_equals_0 := by decide +kernel
theorem dksJ18_equals_1 : cJ18_equals.data.toList.drop 22 = dktJ18_equals_1 := dk_seg dksJ18_equals_0 22 rfl rfl
theorem dJ18_equals_0 : decode cJ18_equals 0 = .ok (.aload_n 1, 1) := dk_43 (dk_at dksJ18_equals_0 0 rfl rfl)
theorem dJ18_equals_1 : decode cJ18_equals 1 = .ok (.instanceof 1, 3) := dk_193 0 1 (dk_at dksJ18_equals_0 1 rfl rfl)
theorem dJ18_equals_4 : decode cJ18_equals 4 = .ok (.ifCond .eq 23, 3) := dk_153 0 23 (dk_at dksJ18_equals_0 4 rfl rfl)
theorem dJ18_equals_7 : decode cJ18_equals 7 = .ok (.aload_n 0, 1) := dk_42 (dk_at dksJ18_equals_0 7 rfl rfl)
theorem dJ18_equals_8 : decode cJ18_equals 8 = .ok (.getfield 205, 3) := dk_180 0 205 (dk_at dksJ18_equals_0 8 rfl rfl)
theorem dJ18_equals_11 : decode cJ18_equals 11 = .ok (.aload_n 1, 1) := dk_43 (dk_at dksJ18_equals_0 11 rfl rfl)
theorem dJ18_equals_12 : decode cJ18_equals 12 = .ok (.checkcast 1, 3) := dk_192 0 1 (dk_at dksJ18_equals_0 12 rfl rfl)
theorem dJ18_equals_15 : decode cJ18_equals 15 = .ok (.invokevirtual 211, 3) := dk_182 0 211 (dk_at dksJ18_equals_0 15 rfl rfl)
theorem dJ18_equals_18 : decode cJ18_equals 18 = .ok (.if_icmp .ne 7, 3) := dk_160 0 7 (dk_at dksJ18_equals_0 18 rfl rfl)
theorem dJ18_equals_21 : decode cJ18_equals 21 = .ok (.iconst 1, 1) := dk_4 (dk_at dksJ18_equals_0 21 rfl rfl)
theorem dJ18_equals_22 : decode cJ18_equals 22 = .ok (.goto 4, 3) := dk_167 0 4 (dk_at dksJ18_equals_1 0 rfl rfl)
theorem dJ18_equals_25 : decode cJ18_equals 25 = .ok (.iconst 0, 1) := dk_3 (dk_at dksJ18_equals_1 3 rfl rfl)
theorem dJ18_equals_26 : decode cJ18_equals 26 = .ok (.ireturn, 1) := dk_172 (dk_at dksJ18_equals_1 4 rfl rfl)
theorem dJ18_equals_27 : decode cJ18_equals 27 = .ok (.iconst 0, 1) := dk_3 (dk_at dksJ18_equals_1 5 rfl rfl)
theorem dJ18_equals_28 : decode cJ18_equals 28 = .ok (.ireturn, 1) := dk_172 (dk_at dksJ18_equals_1 6 rfl rfl)
theorem q127 : (Jvm.Cond.initialized "java/lang/Integer") ∈ lw_all := lw_g (lw_at lw_m1 25 rfl) rfl
theorem q273 : (Jvm.Cond.selects "java/lang/Integer" ({ cls := "java/lang/Object", name := "getClass", desc := "()Ljava/lang/Class;" } : Jvm.MethodName) ({ cls := "java/lang/Object", name := "getClass", desc := "()Ljava/lang/Class;" } : Jvm.MethodName)) ∈ lw_all := lw_g (lw_at lw_m1 171 rfl) rfl
theorem q777 : (Jvm.Cond.static ({ cls := "java/lang/Integer", name := "stringSize", desc := "(I)I" } : Jvm.MethodName)) ∈ lw_all := lw_g (lw_at lw_m3 195 rfl) rfl
theorem q778 : (Jvm.Cond.code ({ cls := "java/lang/Integer", name := "stringSize", desc := "(I)I" } : Jvm.MethodName) prog_28_method_13_code (4 : Nat) (Option.some Jvm.ClassFile.FieldType.int)) ∈ lw_all := lw_g (lw_at lw_m3 196 rfl) rfl
theorem q780 : (Jvm.Cond.static ({ cls := "java/lang/Integer", name := "getChars", desc := "(II[B)I" } : Jvm.MethodName)) ∈ lw_all := lw_g (lw_at lw_m3 198 rfl) rfl
theorem q781 : (Jvm.Cond.code ({ cls := "java/lang/Integer", name := "getChars", desc := "(II[B)I" } : Jvm.MethodName) prog_28_method_12_code (7 : Nat) (Option.some Jvm.ClassFile.FieldType.int)) ∈ lw_all := lw_g (lw_at lw_m3 199 rfl) rfl
theorem q782 : (Jvm.Cond.fieldLink "java/lang/Integer" (83 : Nat) "java/lang/Integer" "DigitOnes" "[B") ∈ lw_all := lw_g (lw_at lw_m3 200 rfl) rfl
theorem q783 : (Jvm.Cond.laysStatic "java/lang/Integer" "DigitOnes" "[B") ∈ lw_tbl := lw_at lw_m3 201 rfl
theorem q784 : (Jvm.Cond.fieldLink "java/lang/Integer" (87 : Nat) "java/lang/Integer" "DigitTens" "[B") ∈ lw_all := lw_g (lw_at lw_m3 202 rfl) rfl
theorem q785 : (Jvm.Cond.laysStatic "java/lang/Integer" "DigitTens" "[B") ∈ lw_tbl := lw_at lw_m3 203 rfl
theorem q1029 : (Jvm.Cond.static ({ cls := "java/lang/Integer", name := "valueOf", desc := "(I)Ljava/lang/Integer;" } : Jvm.MethodName)) ∈ lw_all := lw_g (lw_at lw_m4 207 rfl) rfl
theorem q1030 : (Jvm.Cond.code ({ cls := "java/lang/Integer", name := "valueOf", desc := "(I)Ljava/lang/Integer;" } : Jvm.MethodName) prog_28_method_22_code (1 : Nat) (Option.some (Jvm.ClassFile.FieldType.object "java/lang/Integer"))) ∈ lw_all := lw_g (lw_at lw_m4 208 rfl) rfl
theorem q1031 : (Jvm.Cond.fieldLink "java/lang/Integer" (191 : Nat) "java/lang/Integer$IntegerCache" "high" "I") ∈ lw_all := lw_g (lw_at lw_m4 209 rfl) rfl
theorem q1033 : (Jvm.Cond.fieldLink "java/lang/Integer" (195 : Nat) "java/lang/Integer$IntegerCache" "cache" "[Ljava/lang/Integer;") ∈ lw_all := lw_g (lw_at lw_m4 211 rfl) rfl
theorem q1035 : (Jvm.Cond.classLink "java/lang/Integer" (1 : Nat) "java/lang/Integer") ∈ lw_all := lw_g (lw_at lw_m4 213 rfl) rfl
theorem q1036 : (Jvm.Cond.instantiable "java/lang/Integer" (1 : Nat)) ∈ lw_all := lw_g (lw_at lw_m4 214 rfl) rfl
theorem q1037 : (Jvm.Cond.methodLink "java/lang/Integer" (199 : Nat) ({ cls := "java/lang/Integer", name := "<init>", desc := "(I)V" } : Jvm.MethodName)) ∈ lw_all := lw_g (lw_at lw_m4 215 rfl) rfl
theorem q1038 : (Jvm.Cond.instanceMethod ({ cls := "java/lang/Integer", name := "<init>", desc := "(I)V" } : Jvm.MethodName)) ∈ lw_all := lw_g (lw_at lw_m4 216 rfl) rfl
theorem q1039 : (Jvm.Cond.code ({ cls := "java/lang/Integer", name := "<init>", desc := "(I)V" } : Jvm.MethodName) prog_28_method_23_code (2 : Nat) (Option.none : Option Jvm.ClassFile.FieldType)) ∈ lw_all := lw_g (lw_at lw_m4 217 rfl) rfl
theorem q1040 : (Jvm.Cond.methodLink "java/lang/Integer" (202 : Nat) ({ cls := "java/lang/Number", name := "<init>", desc := "()V" } : Jvm.MethodName)) ∈ lw_all := lw_g (lw_at lw_m4 218 rfl) rfl
theorem q1044 : (Jvm.Cond.fieldLink "java/lang/Integer" (205 : Nat) "java/lang/Integer" "value" "I") ∈ lw_all := lw_g (lw_at lw_m4 222 rfl) rfl
theorem q1045 : (Jvm.Cond.laysFinal "java/lang/Integer" "java/lang/Integer" "value" "I") ∈ lw_all := lw_g (lw_at lw_m4 223 rfl) rfl
theorem q1046 : (Jvm.Cond.soleField "java/lang/Integer" "value") ∈ lw_all := lw_g (lw_at lw_m4 224 rfl) rfl
theorem q1047 : (Jvm.Cond.superclass "java/lang/Integer" "java/lang/Number") ∈ lw_all := lw_g (lw_at lw_m4 225 rfl) rfl
theorem q1192 : (Jvm.Cond.instanceMethod ({ cls := "java/lang/Integer", name := "intValue", desc := "()I" } : Jvm.MethodName)) ∈ lw_all := lw_g (lw_at lw_m5 130 rfl) rfl
theorem q1193 : (Jvm.Cond.selects "java/lang/Integer" ({ cls := "java/lang/Integer", name := "intValue", desc := "()I" } : Jvm.MethodName) ({ cls := "java/lang/Integer", name := "intValue", desc := "()I" } : Jvm.MethodName)) ∈ lw_all := lw_g (lw_at lw_m5 131 rfl) rfl
theorem q1194 : (Jvm.Cond.code ({ cls := "java/lang/Integer", name := "intValue", desc := "()I" } : Jvm.MethodName) prog_28_method_27_code (1 : Nat) (Option.some Jvm.ClassFile.FieldType.int)) ∈ lw_all := lw_g (lw_at lw_m5 132 rfl) rfl
theorem q1295 : (Jvm.Cond.static ({ cls := "java/lang/Integer", name := "numberOfTrailingZeros", desc := "(I)I" } : Jvm.MethodName)) ∈ lw_all := lw_g (lw_at lw_m5 233 rfl) rfl
theorem q1296 : (Jvm.Cond.code ({ cls := "java/lang/Integer", name := "numberOfTrailingZeros", desc := "(I)I" } : Jvm.MethodName) prog_28_method_48_code (2 : Nat) (Option.some Jvm.ClassFile.FieldType.int)) ∈ lw_all := lw_g (lw_at lw_m5 234 rfl) rfl
theorem q1297 : (Jvm.Cond.constant "java/lang/Integer" (264 : Nat) (65536 : Int32)) ∈ lw_all := lw_g (lw_at lw_m5 235 rfl) rfl
theorem q1792 : (Jvm.Cond.selects "java/lang/Integer" ({ cls := "java/lang/Object", name := "equals", desc := "(Ljava/lang/Object;)Z" } : Jvm.MethodName) ({ cls := "java/lang/Integer", name := "equals", desc := "(Ljava/lang/Object;)Z" } : Jvm.MethodName)) ∈ lw_all := lw_g (lw_at lw_m8 10 rfl) rfl
theorem q1793 : (Jvm.Cond.instanceMethod ({ cls := "java/lang/Integer", name := "equals", desc := "(Ljava/lang/Object;)Z" } : Jvm.MethodName)) ∈ lw_all := lw_g (lw_at lw_m8 11 rfl) rfl
theorem q1794 : (Jvm.Cond.code ({ cls := "java/lang/Integer", name := "equals", desc := "(Ljava/lang/Object;)Z" } : Jvm.MethodName) prog_28_method_34_code (2 : Nat) (Option.some Jvm.ClassFile.FieldType.boolean)) ∈ lw_all := lw_g (lw_at lw_m8 12 rfl) rfl
theorem q1795 : (Jvm.Cond.methodLink "java/lang/Integer" (211 : Nat) ({ cls := "java/lang/Integer", name := "intValue", desc := "()I" } : Jvm.MethodName)) ∈ lw_all := lw_g (lw_at lw_m8 13 rfl) rfl
theorem q3189 : (Jvm.Cond.castable "java/lang/Integer" "java/lang/Object") ∈ lw_tbl := lw_at lw_m13 207 rfl
theorem in_J18 : ∀ w ∈ wsJ180, w ∈ lw_all := lw_in wsJ180 [1045] (by decide +kernel) (by decide +kernel)
/-! jdk/internal/util/Preconditions -/
set_option maxRecDepth 100000
def RJ19 : String := "jdk/internal/util/Preconditions"
abbrev cJ19_checkIndex : ByteArray := prog_71_method_11_code
def yJ19_checkIndex : MethodName := ⟨RJ19, "checkIndex", "(IILjava/util/function/BiFunction;)I"⟩
def dkwJ19_checkIndex_0 : List UInt8 := [26, 155, 0, 8, 26, 27, 161, 0, 10, 44, 26, 27, 184, 0, 95, 191, 26, 172]
abbrev dktJ19_checkIndex_0 : List UInt8 := dkwJ19_checkIndex_0 ++ []
theorem dksJ19_checkIndex_0 : cJ19_checkIndex.data.toList.drop 0 = dktJ19_checkIndex_0 := by decide +kernel
theorem dJ19_checkIndex_0 : decode cJ19_checkIndex 0 = .ok (.iload_n 0, 1) := dk_26 (dk_at dksJ19_checkIndex_0 0 rfl rfl)
theorem dJ19_checkIndex_1 : decode cJ19_checkIndex 1 = .ok (.ifCond .lt 8, 3) := dk_155 0 8 (dk_at dksJ19_checkIndex_0 1 rfl rfl)
theorem dJ19_checkIndex_4 : decode cJ19_checkIndex 4 = .ok (.iload_n 0, 1) := dk_26 (dk_at dksJ19_checkIndex_0 4 rfl rfl)
theorem dJ19_checkIndex_5 : decode cJ19_checkIndex 5 = .ok (.iload_n 1, 1) := dk_27 (dk_at dksJ19_checkIndex_0 5 rfl rfl)
theorem dJ19_checkIndex_6 : decode cJ19_checkIndex 6 = .ok (.if_icmp .lt 10, 3) := dk_161 0 10 (dk_at dksJ19_checkIndex_0 6 rfl rfl)
theorem dJ19_checkIndex_9 : decode cJ19_checkIndex 9 = .ok (.aload_n 2, 1) := dk_44 (dk_at dksJ19_checkIndex_0 9 rfl rfl)
theorem dJ19_checkIndex_10 : decode cJ19_checkIndex 10 = .ok (.iload_n 0, 1) := dk_26 (dk_at dksJ19_checkIndex_0 10 rfl rfl)
theorem dJ19_checkIndex_11 : decode cJ19_checkIndex 11 = .ok (.iload_n 1, 1) := dk_27 (dk_at dksJ19_checkIndex_0 11 rfl rfl)
theorem dJ19_checkIndex_12 : decode cJ19_checkIndex 12 = .ok (.invokestatic 95, 3) := dk_184 0 95 (dk_at dksJ19_checkIndex_0 12 rfl rfl)
theorem dJ19_checkIndex_15 : decode cJ19_checkIndex 15 = .ok (.athrow, 1) := dk_191 (dk_at dksJ19_checkIndex_0 15 rfl rfl)
theorem dJ19_checkIndex_16 : decode cJ19_checkIndex 16 = .ok (.iload_n 0, 1) := dk_26 (dk_at dksJ19_checkIndex_0 16 rfl rfl)
theorem dJ19_checkIndex_17 : decode cJ19_checkIndex 17 = .ok (.ireturn, 1) := dk_172 (dk_at dksJ19_checkIndex_0 17 rfl rfl)
abbrev cJ19_checkFromToIndex : ByteArray := prog_71_method_12_code
def yJ19_checkFromToIndex : MethodName := ⟨RJ19, "checkFromToIndex", "(IIILjava/util/function/BiFunction;)I"⟩
def dkwJ19_checkFromToIndex_0 : List UInt8 := [26, 155, 0, 13, 26, 27, 163, 0, 8, 27, 28, 164, 0, 11, 45, 26, 27, 28, 184, 0, 99, 191, 26, 172]
abbrev dktJ19_checkFromToIndex_0 : List UInt8 := dkwJ19_checkFromToIndex_0 ++ []
theorem dksJ19_checkFromToIndex_0 : cJ19_checkFromToIndex.data.toList.drop 0 = dktJ19_checkFromToIndex_0 := by decide +kernel
theorem dJ19_checkFromToIndex_0 : decode cJ19_checkFromToIndex 0 = .ok (.iload_n 0, 1) := dk_26 (dk_at dksJ19_checkFromToIndex_0 0 rfl rfl)
theorem dJ19_checkFromToIndex_1 : decode cJ19_checkFromToIndex 1 = .ok (.ifCond .lt 13, 3) := dk_155 0 13 (dk_at dksJ19_checkFromToIndex_0 1 rfl rfl)
theorem dJ19_checkFromToIndex_4 : decode cJ19_checkFromToIndex 4 = .ok (.iload_n 0, 1) := dk_26 (dk_at dksJ19_checkFromToIndex_0 4 rfl rfl)
theorem dJ19_checkFromToIndex_5 : decode cJ19_checkFromToIndex 5 = .ok (.iload_n 1, 1) := dk_27 (dk_at dksJ19_checkFromToIndex_0 5 rfl rfl)
theorem dJ19_checkFromToIndex_6 : decode cJ19_checkFromToIndex 6 = .ok (.if_icmp .gt 8, 3) := dk_163 0 8 (dk_at dksJ19_checkFromToIndex_0 6 rfl rfl)
theorem dJ19_checkFromToIndex_9 : decode cJ19_checkFromToIndex 9 = .ok (.iload_n 1, 1) := dk_27 (dk_at dksJ19_checkFromToIndex_0 9 rfl rfl)
theorem dJ19_checkFromToIndex_10 : decode cJ19_checkFromToIndex 10 = .ok (.iload_n 2, 1) := dk_28 (dk_at dksJ19_checkFromToIndex_0 10 rfl rfl)
theorem dJ19_checkFromToIndex_11 : decode cJ19_checkFromToIndex 11 = .ok (.if_icmp .le 11, 3) := dk_164 0 11 (dk_at dksJ19_checkFromToIndex_0 11 rfl rfl)
theorem dJ19_checkFromToIndex_14 : decode cJ19_checkFromToIndex 14 = .ok (.aload_n 3, 1) := dk_45 (dk_at dksJ19_checkFromToIndex_0 14 rfl rfl)
theorem dJ19_checkFromToIndex_15 : decode cJ19_checkFromToIndex 15 = .ok (.iload_n 0, 1) := dk_26 (dk_at dksJ19_checkFromToIndex_0 15 rfl rfl)
theorem dJ19_checkFromToIndex_16 : decode cJ19_checkFromToIndex 16 = .ok (.iload_n 1, 1) := dk_27 (dk_at dksJ19_checkFromToIndex_0 16 rfl rfl)
theorem dJ19_checkFromToIndex_17 : decode cJ19_checkFromToIndex 17 = .ok (.iload_n 2, 1) := dk_28 (dk_at dksJ19_checkFromToIndex_0 17 rfl rfl)
theorem dJ19_checkFromToIndex_18 : decode cJ19_checkFromToIndex 18 = .ok (.invokestatic 99, 3) := dk_184 0 99 (dk_at dksJ19_checkFromToIndex_0 18 rfl rfl)
theorem dJ19_checkFromToIndex_21 : decode cJ19_checkFromToIndex 21 = .ok (.athrow, 1) := dk_191 (dk_at dksJ19_checkFromToIndex_0 21 rfl rfl)
theorem dJ19_checkFromToIndex_22 : decode cJ19_checkFromToIndex 22 = .ok (.iload_n 0, 1) := dk_26 (dk_at dksJ19_checkFromToIndex_0 22 rfl rfl)
theorem dJ19_checkFromToIndex_23 : decode cJ19_checkFromToIndex 23 = .ok (.ireturn, 1) := dk_172 (dk_at dksJ19_checkFromToIndex_0 23 rfl rfl)
abbrev cJ19_checkFromIndexSize : ByteArray := prog_71_method_13_code
def yJ19_checkFromIndexSize : MethodName := ⟨RJ19, "checkFromIndexSize", "(IIILjava/util/function/BiFunction;)I"⟩
def dkwJ19_checkFromIndexSize_1 : List UInt8 := [172]
abbrev dktJ19_checkFromIndexSize_1 : List UInt8 := dkwJ19_checkFromIndexSize_1 ++ []
def dkwJ19_checkFromIndexSize_0 : List UInt8 := [28, 26, 128, 27, 128, 155, 0, 10, 27, 28, 26, 100, 164, 0, 11, 45, 26, 27, 28, 184, 0, 103, 191, 26]
abbrev dktJ19_checkFromIndexSize_0 : List UInt8 := dkwJ19_checkFromIndexSize_0 ++ dktJ19_checkFromIndexSize_1
theorem dksJ19_checkFromIndexSize_0 : cJ19_checkFromIndexSize.data.toList.drop 0 = dktJ19_checkFromIndexSize_0 := by decide +kernel
theorem dksJ19_checkFromIndexSize_1 : cJ19_checkFromIndexSize.data.toList.drop 24 = dktJ19_checkFromIndexSize_1 := dk_seg dksJ19_checkFromIndexSize_0 24 rfl rfl
theorem dJ19_checkFromIndexSize_0 : decode cJ19_checkFromIndexSize 0 = .ok (.iload_n 2, 1) := dk_28 (dk_at dksJ19_checkFromIndexSize_0 0 rfl rfl)
theorem dJ19_checkFromIndexSize_1 : decode cJ19_checkFromIndexSize 1 = .ok (.iload_n 0, 1) := dk_26 (dk_at dksJ19_checkFromIndexSize_0 1 rfl rfl)
theorem dJ19_checkFromIndexSize_2 : decode cJ19_checkFromIndexSize 2 = .ok (.ior, 1) := dk_128 (dk_at dksJ19_checkFromIndexSize_0 2 rfl rfl)
theorem dJ19_checkFromIndexSize_3 : decode cJ19_checkFromIndexSize 3 = .ok (.iload_n 1, 1) := dk_27 (dk_at dksJ19_checkFromIndexSize_0 3 rfl rfl)
theorem dJ19_checkFromIndexSize_4 : decode cJ19_checkFromIndexSize 4 = .ok (.ior, 1) := dk_128 (dk_at dksJ19_checkFromIndexSize_0 4 rfl rfl)
theorem dJ19_checkFromIndexSize_5 : decode cJ19_checkFromIndexSize 5 = .ok (.ifCond .lt 10, 3) := dk_155 0 10 (dk_at dksJ19_checkFromIndexSize_0 5 rfl rfl)
theorem dJ19_checkFromIndexSize_8 : decode cJ19_checkFromIndexSize 8 = .ok (.iload_n 1, 1) := dk_27 (dk_at dksJ19_checkFromIndexSize_0 8 rfl rfl)
theorem dJ19_checkFromIndexSize_9 : decode cJ19_checkFromIndexSize 9 = .ok (.iload_n 2, 1) := dk_28 (dk_at dksJ19_checkFromIndexSize_0 9 rfl rfl)
theorem dJ19_checkFromIndexSize_10 : decode cJ19_checkFromIndexSize 10 = .ok (.iload_n 0, 1) := dk_26 (dk_at dksJ19_checkFromIndexSize_0 10 rfl rfl)
theorem dJ19_checkFromIndexSize_11 : decode cJ19_checkFromIndexSize 11 = .ok (.isub, 1) := dk_100 (dk_at dksJ19_checkFromIndexSize_0 11 rfl rfl)
theorem dJ19_checkFromIndexSize_12 : decode cJ19_checkFromIndexSize 12 = .ok (.if_icmp .le 11, 3) := dk_164 0 11 (dk_at dksJ19_checkFromIndexSize_0 12 rfl rfl)
theorem dJ19_checkFromIndexSize_15 : decode cJ19_checkFromIndexSize 15 = .ok (.aload_n 3, 1) := dk_45 (dk_at dksJ19_checkFromIndexSize_0 15 rfl rfl)
theorem dJ19_checkFromIndexSize_16 : decode cJ19_checkFromIndexSize 16 = .ok (.iload_n 0, 1) := dk_26 (dk_at dksJ19_checkFromIndexSize_0 16 rfl rfl)
theorem dJ19_checkFromIndexSize_17 : decode cJ19_checkFromIndexSize 17 = .ok (.iload_n 1, 1) := dk_27 (dk_at dksJ19_checkFromIndexSize_0 17 rfl rfl)
theorem dJ19_checkFromIndexSize_18 : decode cJ19_checkFromIndexSize 18 = .ok (.iload_n 2, 1) := dk_28 (dk_at dksJ19_checkFromIndexSize_0 18 rfl rfl)
theorem dJ19_checkFromIndexSize_19 : decode cJ19_checkFromIndexSize 19 = .ok (.invokestatic 103, 3) := dk_184 0 103 (dk_at dksJ19_checkFromIndexSize_0 19 rfl rfl)
theorem dJ19_checkFromIndexSize_22 : decode cJ19_checkFromIndexSize 22 = .ok (.athrow, 1) := dk_191 (dk_at dksJ19_checkFromIndexSize_0 22 rfl rfl)
theorem dJ19_checkFromIndexSize_23 : decode cJ19_checkFromIndexSize 23 = .ok (.iload_n 0, 1) := dk_26 (dk_at dksJ19_checkFromIndexSize_0 23 rfl rfl)
theorem dJ19_checkFromIndexSize_24 : decode cJ19_checkFromIndexSize 24 = .ok (.ireturn, 1) := dk_172 (dk_at dksJ19_checkFromIndexSize_1 0 rfl rfl)
theorem q128 : (Jvm.Cond.initialized "jdk/internal/util/Preconditions") ∈ lw_all := lw_g (lw_at lw_m1 26 rfl) rfl
theorem q470 : (Jvm.Cond.static ({ cls := "jdk/internal/util/Preconditions", name := "checkIndex", desc := "(IILjava/util/function/BiFunction;)I" } : Jvm.MethodName)) ∈ lw_all := lw_g (lw_at lw_m2 128 rfl) rfl
theorem q471 : (Jvm.Cond.code ({ cls := "jdk/internal/util/Preconditions", name := "checkIndex", desc := "(IILjava/util/function/BiFunction;)I" } : Jvm.MethodName) prog_71_method_11_code (3 : Nat) (Option.some Jvm.ClassFile.FieldType.int)) ∈ lw_all := lw_g (lw_at lw_m2 129 rfl) rfl
theorem q713 : (Jvm.Cond.laysStatic "jdk/internal/util/Preconditions" "SIOOBE_FORMATTER" "Ljava/util/function/BiFunction;") ∈ lw_tbl := lw_at lw_m3 131 rfl
theorem q715 : (Jvm.Cond.static ({ cls := "jdk/internal/util/Preconditions", name := "checkFromToIndex", desc := "(IIILjava/util/function/BiFunction;)I" } : Jvm.MethodName)) ∈ lw_all := lw_g (lw_at lw_m3 133 rfl) rfl
theorem q716 : (Jvm.Cond.code ({ cls := "jdk/internal/util/Preconditions", name := "checkFromToIndex", desc := "(IIILjava/util/function/BiFunction;)I" } : Jvm.MethodName) prog_71_method_12_code (4 : Nat) (Option.some Jvm.ClassFile.FieldType.int)) ∈ lw_all := lw_g (lw_at lw_m3 134 rfl) rfl
theorem q761 : (Jvm.Cond.static ({ cls := "jdk/internal/util/Preconditions", name := "checkFromIndexSize", desc := "(IIILjava/util/function/BiFunction;)I" } : Jvm.MethodName)) ∈ lw_all := lw_g (lw_at lw_m3 179 rfl) rfl
theorem q762 : (Jvm.Cond.code ({ cls := "jdk/internal/util/Preconditions", name := "checkFromIndexSize", desc := "(IIILjava/util/function/BiFunction;)I" } : Jvm.MethodName) prog_71_method_13_code (4 : Nat) (Option.some Jvm.ClassFile.FieldType.int)) ∈ lw_all := lw_g (lw_at lw_m3 180 rfl) rfl
/-! java/lang/StringLatin1 -/
set_option maxRecDepth 100000
def RJ20 : String := "java/lang/StringLatin1"
abbrev cJ20_inflate : ByteArray := prog_37_method_50_code
def yJ20_inflate : MethodName := ⟨RJ20, "inflate", "([BI[BII)V"⟩
def dkwJ20_inflate_0 : List UInt8 := [42, 27, 44, 29, 21, 4, 184, 0, 240, 177]
abbrev dktJ20_inflate_0 : List UInt8 := dkwJ20_inflate_0 ++ []
theorem dksJ20_inflate_0 : cJ20_inflate.data.toList.drop 0 = dktJ20_inflate_0 := by decide +kernel
theorem dJ20_inflate_0 : decode cJ20_inflate 0 = .ok (.aload_n 0, 1) := dk_42 (dk_at dksJ20_inflate_0 0 rfl rfl)
theorem dJ20_inflate_1 : decode cJ20_inflate 1 = .ok (.iload_n 1, 1) := dk_27 (dk_at dksJ20_inflate_0 1 rfl rfl)
theorem dJ20_inflate_2 : decode cJ20_inflate 2 = .ok (.aload_n 2, 1) := dk_44 (dk_at dksJ20_inflate_0 2 rfl rfl)
theorem dJ20_inflate_3 : decode cJ20_inflate 3 = .ok (.iload_n 3, 1) := dk_29 (dk_at dksJ20_inflate_0 3 rfl rfl)
theorem dJ20_inflate_4 : decode cJ20_inflate 4 = .ok (.iload 4, 2) := dk_21 4 (dk_at dksJ20_inflate_0 4 rfl rfl)
theorem dJ20_inflate_6 : decode cJ20_inflate 6 = .ok (.invokestatic 240, 3) := dk_184 0 240 (dk_at dksJ20_inflate_0 6 rfl rfl)
theorem dJ20_inflate_9 : decode cJ20_inflate 9 = .ok (.return_, 1) := dk_177 (dk_at dksJ20_inflate_0 9 rfl rfl)
abbrev cJ20_hashCode : ByteArray := prog_37_method_21_code
def yJ20_hashCode : MethodName := ⟨RJ20, "hashCode", "([B)I"⟩
def dkwJ20_hashCode_2 : List UInt8 := [3, 167, 0, 22, 42, 3, 51, 17, 0, 255, 126, 167, 0, 12, 42, 3, 42, 190, 3, 7, 184, 0, 84, 172]
abbrev dktJ20_hashCode_2 : List UInt8 := dkwJ20_hashCode_2 ++ []
def dkwJ20_hashCode_1 : List UInt8 := [171, 0, 0, 0, 0, 40, 0, 0, 0, 2, 0, 0, 0, 0, 0, 0, 0, 26, 0, 0, 0, 1, 0, 0, 0, 30]
abbrev dktJ20_hashCode_1 : List UInt8 := dkwJ20_hashCode_1 ++ dktJ20_hashCode_2
def dkwJ20_hashCode_0 : List UInt8 := [42, 190]
abbrev dktJ20_hashCode_0 : List UInt8 := dkwJ20_hashCode_0 ++ dktJ20_hashCode_1
theorem dksJ20_hashCode_0 : cJ20_hashCode.data.toList.drop 0 = dktJ20_hashCode_0 := by decide +kernel
theorem dksJ20_hashCode_1 : cJ20_hashCode.data.toList.drop 2 = dktJ20_hashCode_1 := dk_seg dksJ20_hashCode_0 2 rfl rfl
theorem dksJ20_hashCode_2 : cJ20_hashCode.data.toList.drop 28 = dktJ20_hashCode_2 := dk_seg dksJ20_hashCode_1 26 rfl rfl
theorem dJ20_hashCode_0 : decode cJ20_hashCode 0 = .ok (.aload_n 0, 1) := dk_42 (dk_at dksJ20_hashCode_0 0 rfl rfl)
theorem dJ20_hashCode_1 : decode cJ20_hashCode 1 = .ok (.arraylength, 1) := dk_190 (dk_at dksJ20_hashCode_0 1 rfl rfl)
theorem dJ20_hashCode_2 : decode cJ20_hashCode 2 = .ok (.lookupswitch 40 #[(0, 26), (1, 30)], 26) := by decide +kernel
theorem dJ20_hashCode_28 : decode cJ20_hashCode 28 = .ok (.iconst 0, 1) := dk_3 (dk_at dksJ20_hashCode_2 0 rfl rfl)
theorem dJ20_hashCode_29 : decode cJ20_hashCode 29 = .ok (.goto 22, 3) := dk_167 0 22 (dk_at dksJ20_hashCode_2 1 rfl rfl)
theorem dJ20_hashCode_32 : decode cJ20_hashCode 32 = .ok (.aload_n 0, 1) := dk_42 (dk_at dksJ20_hashCode_2 4 rfl rfl)
theorem dJ20_hashCode_33 : decode cJ20_hashCode 33 = .ok (.iconst 0, 1) := dk_3 (dk_at dksJ20_hashCode_2 5 rfl rfl)
theorem dJ20_hashCode_34 : decode cJ20_hashCode 34 = .ok (.baload, 1) := dk_51 (dk_at dksJ20_hashCode_2 6 rfl rfl)
theorem dJ20_hashCode_35 : decode cJ20_hashCode 35 = .ok (.sipush 255, 3) := dk_17 0 255 (dk_at dksJ20_hashCode_2 7 rfl rfl)
theorem dJ20_hashCode_38 : decode cJ20_hashCode 38 = .ok (.iand, 1) := dk_126 (dk_at dksJ20_hashCode_2 10 rfl rfl)
theorem dJ20_hashCode_39 : decode cJ20_hashCode 39 = .ok (.goto 12, 3) := dk_167 0 12 (dk_at dksJ20_hashCode_2 11 rfl rfl)
theorem dJ20_hashCode_42 : decode cJ20_hashCode 42 = .ok (.aload_n 0, 1) := dk_42 (dk_at dksJ20_hashCode_2 14 rfl rfl)
theorem dJ20_hashCode_43 : decode cJ20_hashCode 43 = .ok (.iconst 0, 1) := dk_3 (dk_at dksJ20_hashCode_2 15 rfl rfl)
theorem dJ20_hashCode_44 : decode cJ20_hashCode 44 = .ok (.aload_n 0, 1) := dk_42 (dk_at dksJ20_hashCode_2 16 rfl rfl)
theorem dJ20_hashCode_45 : decode cJ20_hashCode 45 = .ok (.arraylength, 1) := dk_190 (dk_at dksJ20_hashCode_2 17 rfl rfl)
theorem dJ20_hashCode_46 : decode cJ20_hashCode 46 = .ok (.iconst 0, 1) := dk_3 (dk_at dksJ20_hashCode_2 18 rfl rfl)
theorem dJ20_hashCode_47 : decode cJ20_hashCode 47 = .ok (.iconst 4, 1) := dk_7 (dk_at dksJ20_hashCode_2 19 rfl rfl)
theorem dJ20_hashCode_48 : decode cJ20_hashCode 48 = .ok (.invokestatic 84, 3) := dk_184 0 84 (dk_at dksJ20_hashCode_2 20 rfl rfl)
theorem dJ20_hashCode_51 : decode cJ20_hashCode 51 = .ok (.ireturn, 1) := dk_172 (dk_at dksJ20_hashCode_2 23 rfl rfl)
abbrev cJ20_equals : ByteArray := prog_37_method_13_code
def yJ20_equals : MethodName := ⟨RJ20, "equals", "([B[B)Z"⟩
def dkwJ20_equals_1 : List UInt8 := [3, 172, 132, 2, 1, 167, 255, 236, 4, 172, 3, 172]
abbrev dktJ20_equals_1 : List UInt8 := dkwJ20_equals_1 ++ []
def dkwJ20_equals_0 : List UInt8 := [42, 190, 43, 190, 160, 0, 30, 3, 61, 28, 42, 190, 162, 0, 20, 42, 28, 51, 43, 28, 51, 159, 0, 5]
abbrev dktJ20_equals_0 : List UInt8 := dkwJ20_equals_0 ++ dktJ20_equals_1
theorem dksJ20_equals_0 : cJ20_equals.data.toList.drop 0 = dktJ20_equals_0 := by decide +kernel
theorem dksJ20_equals_1 : cJ20_equals.data.toList.drop 24 = dktJ20_equals_1 := dk_seg dksJ20_equals_0 24 rfl rfl
theorem dJ20_equals_0 : decode cJ20_equals 0 = .ok (.aload_n 0, 1) := dk_42 (dk_at dksJ20_equals_0 0 rfl rfl)
theorem dJ20_equals_1 : decode cJ20_equals 1 = .ok (.arraylength, 1) := dk_190 (dk_at dksJ20_equals_0 1 rfl rfl)
theorem dJ20_equals_2 : decode cJ20_equals 2 = .ok (.aload_n 1, 1) := dk_43 (dk_at dksJ20_equals_0 2 rfl rfl)
theorem dJ20_equals_3 : decode cJ20_equals 3 = .ok (.arraylength, 1) := dk_190 (dk_at dksJ20_equals_0 3 rfl rfl)
theorem dJ20_equals_4 : decode cJ20_equals 4 = .ok (.if_icmp .ne 30, 3) := dk_160 0 30 (dk_at dksJ20_equals_0 4 rfl rfl)
theorem dJ20_equals_7 : decode cJ20_equals 7 = .ok (.iconst 0, 1) := dk_3 (dk_at dksJ20_equals_0 7 rfl rfl)
theorem dJ20_equals_8 : decode cJ20_equals 8 = .ok (.istore_n 2, 1) := dk_61 (dk_at dksJ20_equals_0 8 rfl rfl)
theorem dJ20_equals_9 : decode cJ20_equals 9 = .ok (.iload_n 2, 1) := dk_28 (dk_at dksJ20_equals_0 9 rfl rfl)
theorem dJ20_equals_10 : decode cJ20_equals 10 = .ok (.aload_n 0, 1) := dk_42 (dk_at dksJ20_equals_0 10 rfl rfl)
theorem dJ20_equals_11 : decode cJ20_equals 11 = .ok (.arraylength, 1) := dk_190 (dk_at dksJ20_equals_0 11 rfl rfl)
theorem dJ20_equals_12 : decode cJ20_equals 12 = .ok (.if_icmp .ge 20, 3) := dk_162 0 20 (dk_at dksJ20_equals_0 12 rfl rfl)
theorem dJ20_equals_15 : decode cJ20_equals 15 = .ok (.aload_n 0, 1) := dk_42 (dk_at dksJ20_equals_0 15 rfl rfl)
theorem dJ20_equals_16 : decode cJ20_equals 16 = .ok (.iload_n 2, 1) := dk_28 (dk_at dksJ20_equals_0 16 rfl rfl)
theorem dJ20_equals_17 : decode cJ20_equals 17 = .ok (.baload, 1) := dk_51 (dk_at dksJ20_equals_0 17 rfl rfl)
theorem dJ20_equals_18 : decode cJ20_equals 18 = .ok (.aload_n 1, 1) := dk_43 (dk_at dksJ20_equals_0 18 rfl rfl)
theorem dJ20_equals_19 : decode cJ20_equals 19 = .ok (.iload_n 2, 1) := dk_28 (dk_at dksJ20_equals_0 19 rfl rfl)
theorem dJ20_equals_20 : decode cJ20_equals 20 = .ok (.baload, 1) := dk_51 (dk_at dksJ20_equals_0 20 rfl rfl)
theorem dJ20_equals_21 : decode cJ20_equals 21 = .ok (.if_icmp .eq 5, 3) := dk_159 0 5 (dk_at dksJ20_equals_0 21 rfl rfl)
theorem dJ20_equals_24 : decode cJ20_equals 24 = .ok (.iconst 0, 1) := dk_3 (dk_at dksJ20_equals_1 0 rfl rfl)
theorem dJ20_equals_25 : decode cJ20_equals 25 = .ok (.ireturn, 1) := dk_172 (dk_at dksJ20_equals_1 1 rfl rfl)
theorem dJ20_equals_26 : decode cJ20_equals 26 = .ok (.iinc 2 1, 3) := dk_132 2 1 (dk_at dksJ20_equals_1 2 rfl rfl)
theorem dJ20_equals_29 : decode cJ20_equals 29 = .ok (.goto (-20), 3) := dk_167 255 236 (dk_at dksJ20_equals_1 5 rfl rfl)
theorem dJ20_equals_32 : decode cJ20_equals 32 = .ok (.iconst 1, 1) := dk_4 (dk_at dksJ20_equals_1 8 rfl rfl)
theorem dJ20_equals_33 : decode cJ20_equals 33 = .ok (.ireturn, 1) := dk_172 (dk_at dksJ20_equals_1 9 rfl rfl)
theorem dJ20_equals_34 : decode cJ20_equals 34 = .ok (.iconst 0, 1) := dk_3 (dk_at dksJ20_equals_1 10 rfl rfl)
theorem dJ20_equals_35 : decode cJ20_equals 35 = .ok (.ireturn, 1) := dk_172 (dk_at dksJ20_equals_1 11 rfl rfl)
abbrev cJ20_canEncode : ByteArray := prog_37_method_3_code
def yJ20_canEncode : MethodName := ⟨RJ20, "canEncode", "(C)Z"⟩
def dkwJ20_canEncode_0 : List UInt8 := [26, 17, 0, 255, 163, 0, 7, 4, 167, 0, 4, 3, 172]
abbrev dktJ20_canEncode_0 : List UInt8 := dkwJ20_canEncode_0 ++ []
theorem dksJ20_canEncode_0 : cJ20_canEncode.data.toList.drop 0 = dktJ20_canEncode_0 := by decide +kernel
theorem dJ20_canEncode_0 : decode cJ20_canEncode 0 = .ok (.iload_n 0, 1) := dk_26 (dk_at dksJ20_canEncode_0 0 rfl rfl)
theorem dJ20_canEncode_1 : decode cJ20_canEncode 1 = .ok (.sipush 255, 3) := dk_17 0 255 (dk_at dksJ20_canEncode_0 1 rfl rfl)
theorem dJ20_canEncode_4 : decode cJ20_canEncode 4 = .ok (.if_icmp .gt 7, 3) := dk_163 0 7 (dk_at dksJ20_canEncode_0 4 rfl rfl)
theorem dJ20_canEncode_7 : decode cJ20_canEncode 7 = .ok (.iconst 1, 1) := dk_4 (dk_at dksJ20_canEncode_0 7 rfl rfl)
theorem dJ20_canEncode_8 : decode cJ20_canEncode 8 = .ok (.goto 4, 3) := dk_167 0 4 (dk_at dksJ20_canEncode_0 8 rfl rfl)
theorem dJ20_canEncode_11 : decode cJ20_canEncode 11 = .ok (.iconst 0, 1) := dk_3 (dk_at dksJ20_canEncode_0 11 rfl rfl)
theorem dJ20_canEncode_12 : decode cJ20_canEncode 12 = .ok (.ireturn, 1) := dk_172 (dk_at dksJ20_canEncode_0 12 rfl rfl)
abbrev cJ20_charAt : ByteArray := prog_37_method_2_code
def yJ20_charAt : MethodName := ⟨RJ20, "charAt", "([BI)C"⟩
def dkwJ20_charAt_0 : List UInt8 := [27, 42, 190, 184, 0, 9, 42, 27, 51, 17, 0, 255, 126, 146, 172]
abbrev dktJ20_charAt_0 : List UInt8 := dkwJ20_charAt_0 ++ []
theorem dksJ20_charAt_0 : cJ20_charAt.data.toList.drop 0 = dktJ20_charAt_0 := by decide +kernel
theorem dJ20_charAt_0 : decode cJ20_charAt 0 = .ok (.iload_n 1, 1) := dk_27 (dk_at dksJ20_charAt_0 0 rfl rfl)
theorem dJ20_charAt_1 : decode cJ20_charAt 1 = .ok (.aload_n 0, 1) := dk_42 (dk_at dksJ20_charAt_0 1 rfl rfl)
theorem dJ20_charAt_2 : decode cJ20_charAt 2 = .ok (.arraylength, 1) := dk_190 (dk_at dksJ20_charAt_0 2 rfl rfl)
theorem dJ20_charAt_3 : decode cJ20_charAt 3 = .ok (.invokestatic 9, 3) := dk_184 0 9 (dk_at dksJ20_charAt_0 3 rfl rfl)
theorem dJ20_charAt_6 : decode cJ20_charAt 6 = .ok (.aload_n 0, 1) := dk_42 (dk_at dksJ20_charAt_0 6 rfl rfl)
theorem dJ20_charAt_7 : decode cJ20_charAt 7 = .ok (.iload_n 1, 1) := dk_27 (dk_at dksJ20_charAt_0 7 rfl rfl)
theorem dJ20_charAt_8 : decode cJ20_charAt 8 = .ok (.baload, 1) := dk_51 (dk_at dksJ20_charAt_0 8 rfl rfl)
theorem dJ20_charAt_9 : decode cJ20_charAt 9 = .ok (.sipush 255, 3) := dk_17 0 255 (dk_at dksJ20_charAt_0 9 rfl rfl)
theorem dJ20_charAt_12 : decode cJ20_charAt 12 = .ok (.iand, 1) := dk_126 (dk_at dksJ20_charAt_0 12 rfl rfl)
theorem dJ20_charAt_13 : decode cJ20_charAt 13 = .ok (.i2c, 1) := dk_146 (dk_at dksJ20_charAt_0 13 rfl rfl)
theorem dJ20_charAt_14 : decode cJ20_charAt 14 = .ok (.ireturn, 1) := dk_172 (dk_at dksJ20_charAt_0 14 rfl rfl)
abbrev cJ20_indexOf : ByteArray := prog_37_method_22_code
def yJ20_indexOf : MethodName := ⟨RJ20, "indexOf", "([BIII)I"⟩
def dkwJ20_indexOf_1 : List UInt8 := [161, 0, 5, 2, 172, 42, 27, 28, 29, 184, 0, 95, 172]
abbrev dktJ20_indexOf_1 : List UInt8 := dkwJ20_indexOf_1 ++ []
def dkwJ20_indexOf_0 : List UInt8 := [27, 184, 0, 88, 154, 0, 5, 2, 172, 28, 3, 184, 0, 92, 61, 29, 42, 190, 184, 0, 38, 62, 28, 29]
abbrev dktJ20_indexOf_0 : List UInt8 := dkwJ20_indexOf_0 ++ dktJ20_indexOf_1
theorem dksJ20_indexOf_0 : cJ20_indexOf.data.toList.drop 0 = dktJ20_indexOf_0 := by decide +kernel
theorem dksJ20_indexOf_1 : cJ20_indexOf.data.toList.drop 24 = dktJ20_indexOf_1 := dk_seg dksJ20_indexOf_0 24 rfl rfl
theorem dJ20_indexOf_0 : decode cJ20_indexOf 0 = .ok (.iload_n 1, 1) := dk_27 (dk_at dksJ20_indexOf_0 0 rfl rfl)
theorem dJ20_indexOf_1 : decode cJ20_indexOf 1 = .ok (.invokestatic 88, 3) := dk_184 0 88 (dk_at dksJ20_indexOf_0 1 rfl rfl)
theorem dJ20_indexOf_4 : decode cJ20_indexOf 4 = .ok (.ifCond .ne 5, 3) := dk_154 0 5 (dk_at dksJ20_indexOf_0 4 rfl rfl)
theorem dJ20_indexOf_7 : decode cJ20_indexOf 7 = .ok (.iconst (-1), 1) := dk_2 (dk_at dksJ20_indexOf_0 7 rfl rfl)
theorem dJ20_indexOf_8 : decode cJ20_indexOf 8 = .ok (.ireturn, 1) := dk_172 (dk_at dksJ20_indexOf_0 8 rfl rfl)
theorem dJ20_indexOf_9 : decode cJ20_indexOf 9 = .ok (.iload_n 2, 1) := dk_28 (dk_at dksJ20_indexOf_0 9 rfl rfl)
theorem dJ20_indexOf_10 : decode cJ20_indexOf 10 = .ok (.iconst 0, 1) := dk_3 (dk_at dksJ20_indexOf_0 10 rfl rfl)
theorem dJ20_indexOf_11 : decode cJ20_indexOf 11 = .ok (.invokestatic 92, 3) := dk_184 0 92 (dk_at dksJ20_indexOf_0 11 rfl rfl)
theorem dJ20_indexOf_14 : decode cJ20_indexOf 14 = .ok (.istore_n 2, 1) := dk_61 (dk_at dksJ20_indexOf_0 14 rfl rfl)
theorem dJ20_indexOf_15 : decode cJ20_indexOf 15 = .ok (.iload_n 3, 1) := dk_29 (dk_at dksJ20_indexOf_0 15 rfl rfl)
theorem dJ20_indexOf_16 : decode cJ20_indexOf 16 = .ok (.aload_n 0, 1) := dk_42 (dk_at dksJ20_indexOf_0 16 rfl rfl)
theorem dJ20_indexOf_17 : decode cJ20_indexOf 17 = .ok (.arraylength, 1) := dk_190 (dk_at dksJ20_indexOf_0 17 rfl rfl)
theorem dJ20_indexOf_18 : decode cJ20_indexOf 18 = .ok (.invokestatic 38, 3) := dk_184 0 38 (dk_at dksJ20_indexOf_0 18 rfl rfl)
theorem dJ20_indexOf_21 : decode cJ20_indexOf 21 = .ok (.istore_n 3, 1) := dk_62 (dk_at dksJ20_indexOf_0 21 rfl rfl)
theorem dJ20_indexOf_22 : decode cJ20_indexOf 22 = .ok (.iload_n 2, 1) := dk_28 (dk_at dksJ20_indexOf_0 22 rfl rfl)
theorem dJ20_indexOf_23 : decode cJ20_indexOf 23 = .ok (.iload_n 3, 1) := dk_29 (dk_at dksJ20_indexOf_0 23 rfl rfl)
theorem dJ20_indexOf_24 : decode cJ20_indexOf 24 = .ok (.if_icmp .lt 5, 3) := dk_161 0 5 (dk_at dksJ20_indexOf_1 0 rfl rfl)
theorem dJ20_indexOf_27 : decode cJ20_indexOf 27 = .ok (.iconst (-1), 1) := dk_2 (dk_at dksJ20_indexOf_1 3 rfl rfl)
theorem dJ20_indexOf_28 : decode cJ20_indexOf 28 = .ok (.ireturn, 1) := dk_172 (dk_at dksJ20_indexOf_1 4 rfl rfl)
theorem dJ20_indexOf_29 : decode cJ20_indexOf 29 = .ok (.aload_n 0, 1) := dk_42 (dk_at dksJ20_indexOf_1 5 rfl rfl)
theorem dJ20_indexOf_30 : decode cJ20_indexOf 30 = .ok (.iload_n 1, 1) := dk_27 (dk_at dksJ20_indexOf_1 6 rfl rfl)
theorem dJ20_indexOf_31 : decode cJ20_indexOf 31 = .ok (.iload_n 2, 1) := dk_28 (dk_at dksJ20_indexOf_1 7 rfl rfl)
theorem dJ20_indexOf_32 : decode cJ20_indexOf 32 = .ok (.iload_n 3, 1) := dk_29 (dk_at dksJ20_indexOf_1 8 rfl rfl)
theorem dJ20_indexOf_33 : decode cJ20_indexOf 33 = .ok (.invokestatic 95, 3) := dk_184 0 95 (dk_at dksJ20_indexOf_1 9 rfl rfl)
theorem dJ20_indexOf_36 : decode cJ20_indexOf 36 = .ok (.ireturn, 1) := dk_172 (dk_at dksJ20_indexOf_1 12 rfl rfl)
abbrev cJ20_canEncode_2 : ByteArray := prog_37_method_4_code
def yJ20_canEncode_2 : MethodName := ⟨RJ20, "canEncode", "(I)Z"⟩
def dkwJ20_canEncode_2_0 : List UInt8 := [26, 155, 0, 14, 26, 17, 0, 255, 163, 0, 7, 4, 167, 0, 4, 3, 172]
abbrev dktJ20_canEncode_2_0 : List UInt8 := dkwJ20_canEncode_2_0 ++ []
theorem dksJ20_canEncode_2_0 : cJ20_canEncode_2.data.toList.drop 0 = dktJ20_canEncode_2_0 := by decide +kernel
theorem dJ20_canEncode_2_0 : decode cJ20_canEncode_2 0 = .ok (.iload_n 0, 1) := dk_26 (dk_at dksJ20_canEncode_2_0 0 rfl rfl)
theorem dJ20_canEncode_2_1 : decode cJ20_canEncode_2 1 = .ok (.ifCond .lt 14, 3) := dk_155 0 14 (dk_at dksJ20_canEncode_2_0 1 rfl rfl)
theorem dJ20_canEncode_2_4 : decode cJ20_canEncode_2 4 = .ok (.iload_n 0, 1) := dk_26 (dk_at dksJ20_canEncode_2_0 4 rfl rfl)
theorem dJ20_canEncode_2_5 : decode cJ20_canEncode_2 5 = .ok (.sipush 255, 3) := dk_17 0 255 (dk_at dksJ20_canEncode_2_0 5 rfl rfl)
theorem dJ20_canEncode_2_8 : decode cJ20_canEncode_2 8 = .ok (.if_icmp .gt 7, 3) := dk_163 0 7 (dk_at dksJ20_canEncode_2_0 8 rfl rfl)
theorem dJ20_canEncode_2_11 : decode cJ20_canEncode_2 11 = .ok (.iconst 1, 1) := dk_4 (dk_at dksJ20_canEncode_2_0 11 rfl rfl)
theorem dJ20_canEncode_2_12 : decode cJ20_canEncode_2 12 = .ok (.goto 4, 3) := dk_167 0 4 (dk_at dksJ20_canEncode_2_0 12 rfl rfl)
theorem dJ20_canEncode_2_15 : decode cJ20_canEncode_2 15 = .ok (.iconst 0, 1) := dk_3 (dk_at dksJ20_canEncode_2_0 15 rfl rfl)
theorem dJ20_canEncode_2_16 : decode cJ20_canEncode_2 16 = .ok (.ireturn, 1) := dk_172 (dk_at dksJ20_canEncode_2_0 16 rfl rfl)
abbrev cJ20_indexOfChar : ByteArray := prog_37_method_23_code
def yJ20_indexOfChar : MethodName := ⟨RJ20, "indexOfChar", "([BIII)I"⟩
def dkwJ20_indexOfChar_1 : List UInt8 := [172, 132, 5, 1, 167, 255, 235, 2, 172]
abbrev dktJ20_indexOfChar_1 : List UInt8 := dkwJ20_indexOfChar_1 ++ []
def dkwJ20_indexOfChar_0 : List UInt8 := [27, 145, 54, 4, 28, 54, 5, 21, 5, 29, 162, 0, 21, 42, 21, 5, 51, 21, 4, 160, 0, 6, 21, 5]
abbrev dktJ20_indexOfChar_0 : List UInt8 := dkwJ20_indexOfChar_0 ++ dktJ20_indexOfChar_1
theorem dksJ20_indexOfChar_0 : cJ20_indexOfChar.data.toList.drop 0 = dktJ20_indexOfChar_0 := by decide +kernel
theorem dksJ20_indexOfChar_1 : cJ20_indexOfChar.data.toList.drop 24 = dktJ20_indexOfChar_1 := dk_seg dksJ20_indexOfChar_0 24 rfl rfl
theorem dJ20_indexOfChar_0 : decode cJ20_indexOfChar 0 = .ok (.iload_n 1, 1) := dk_27 (dk_at dksJ20_indexOfChar_0 0 rfl rfl)
theorem dJ20_indexOfChar_1 : decode cJ20_indexOfChar 1 = .ok (.i2b, 1) := dk_145 (dk_at dksJ20_indexOfChar_0 1 rfl rfl)
theorem dJ20_indexOfChar_2 : decode cJ20_indexOfChar 2 = .ok (.istore 4, 2) := dk_54 4 (dk_at dksJ20_indexOfChar_0 2 rfl rfl)
theorem dJ20_indexOfChar_4 : decode cJ20_indexOfChar 4 = .ok (.iload_n 2, 1) := dk_28 (dk_at dksJ20_indexOfChar_0 4 rfl rfl)
theorem dJ20_indexOfChar_5 : decode cJ20_indexOfChar 5 = .ok (.istore 5, 2) := dk_54 5 (dk_at dksJ20_indexOfChar_0 5 rfl rfl)
theorem dJ20_indexOfChar_7 : decode cJ20_indexOfChar 7 = .ok (.iload 5, 2) := dk_21 5 (dk_at dksJ20_indexOfChar_0 7 rfl rfl)
theorem dJ20_indexOfChar_9 : decode cJ20_indexOfChar 9 = .ok (.iload_n 3, 1) := dk_29 (dk_at dksJ20_indexOfChar_0 9 rfl rfl)
theorem dJ20_indexOfChar_10 : decode cJ20_indexOfChar 10 = .ok (.if_icmp .ge 21, 3) := dk_162 0 21 (dk_at dksJ20_indexOfChar_0 10 rfl rfl)
theorem dJ20_indexOfChar_13 : decode cJ20_indexOfChar 13 = .ok (.aload_n 0, 1) := dk_42 (dk_at dksJ20_indexOfChar_0 13 rfl rfl)
theorem dJ20_indexOfChar_14 : decode cJ20_indexOfChar 14 = .ok (.iload 5, 2) := dk_21 5 (dk_at dksJ20_indexOfChar_0 14 rfl rfl)
theorem dJ20_indexOfChar_16 : decode cJ20_indexOfChar 16 = .ok (.baload, 1) := dk_51 (dk_at dksJ20_indexOfChar_0 16 rfl rfl)
theorem dJ20_indexOfChar_17 : decode cJ20_indexOfChar 17 = .ok (.iload 4, 2) := dk_21 4 (dk_at dksJ20_indexOfChar_0 17 rfl rfl)
theorem dJ20_indexOfChar_19 : decode cJ20_indexOfChar 19 = .ok (.if_icmp .ne 6, 3) := dk_160 0 6 (dk_at dksJ20_indexOfChar_0 19 rfl rfl)
theorem dJ20_indexOfChar_22 : decode cJ20_indexOfChar 22 = .ok (.iload 5, 2) := dk_21 5 (dk_at dksJ20_indexOfChar_0 22 rfl rfl)
theorem dJ20_indexOfChar_24 : decode cJ20_indexOfChar 24 = .ok (.ireturn, 1) := dk_172 (dk_at dksJ20_indexOfChar_1 0 rfl rfl)
theorem dJ20_indexOfChar_25 : decode cJ20_indexOfChar 25 = .ok (.iinc 5 1, 3) := dk_132 5 1 (dk_at dksJ20_indexOfChar_1 1 rfl rfl)
theorem dJ20_indexOfChar_28 : decode cJ20_indexOfChar 28 = .ok (.goto (-21), 3) := dk_167 255 235 (dk_at dksJ20_indexOfChar_1 4 rfl rfl)
theorem dJ20_indexOfChar_31 : decode cJ20_indexOfChar 31 = .ok (.iconst (-1), 1) := dk_2 (dk_at dksJ20_indexOfChar_1 7 rfl rfl)
theorem dJ20_indexOfChar_32 : decode cJ20_indexOfChar 32 = .ok (.ireturn, 1) := dk_172 (dk_at dksJ20_indexOfChar_1 8 rfl rfl)
theorem q129 : (Jvm.Cond.initialized "java/lang/StringLatin1") ∈ lw_all := lw_g (lw_at lw_m1 27 rfl) rfl
theorem q749 : (Jvm.Cond.static ({ cls := "java/lang/StringLatin1", name := "inflate", desc := "([BI[BII)V" } : Jvm.MethodName)) ∈ lw_all := lw_g (lw_at lw_m3 167 rfl) rfl
theorem q750 : (Jvm.Cond.code ({ cls := "java/lang/StringLatin1", name := "inflate", desc := "([BI[BII)V" } : Jvm.MethodName) prog_37_method_50_code (5 : Nat) (Option.none : Option Jvm.ClassFile.FieldType)) ∈ lw_all := lw_g (lw_at lw_m3 168 rfl) rfl
theorem q751 : (Jvm.Cond.methodLink "java/lang/StringLatin1" (240 : Nat) ({ cls := "java/lang/StringUTF16", name := "inflate", desc := "([BI[BII)V" } : Jvm.MethodName)) ∈ lw_all := lw_g (lw_at lw_m3 169 rfl) rfl
theorem q1493 : (Jvm.Cond.static ({ cls := "java/lang/StringLatin1", name := "hashCode", desc := "([B)I" } : Jvm.MethodName)) ∈ lw_all := lw_g (lw_at lw_m6 191 rfl) rfl
theorem q1494 : (Jvm.Cond.code ({ cls := "java/lang/StringLatin1", name := "hashCode", desc := "([B)I" } : Jvm.MethodName) prog_37_method_21_code (1 : Nat) (Option.some Jvm.ClassFile.FieldType.int)) ∈ lw_all := lw_g (lw_at lw_m6 192 rfl) rfl
theorem q1495 : (Jvm.Cond.methodLink "java/lang/StringLatin1" (84 : Nat) ({ cls := "jdk/internal/util/ArraysSupport", name := "vectorizedHashCode", desc := "(Ljava/lang/Object;IIII)I" } : Jvm.MethodName)) ∈ lw_all := lw_g (lw_at lw_m6 193 rfl) rfl
theorem q1552 : (Jvm.Cond.static ({ cls := "java/lang/StringLatin1", name := "equals", desc := "([B[B)Z" } : Jvm.MethodName)) ∈ lw_all := lw_g (lw_at lw_m7 10 rfl) rfl
theorem q1553 : (Jvm.Cond.code ({ cls := "java/lang/StringLatin1", name := "equals", desc := "([B[B)Z" } : Jvm.MethodName) prog_37_method_13_code (3 : Nat) (Option.some Jvm.ClassFile.FieldType.boolean)) ∈ lw_all := lw_g (lw_at lw_m7 11 rfl) rfl
theorem q2280 : (Jvm.Cond.static ({ cls := "java/lang/StringLatin1", name := "canEncode", desc := "(C)Z" } : Jvm.MethodName)) ∈ lw_all := lw_g (lw_at lw_m10 18 rfl) rfl
theorem q2281 : (Jvm.Cond.code ({ cls := "java/lang/StringLatin1", name := "canEncode", desc := "(C)Z" } : Jvm.MethodName) prog_37_method_3_code (1 : Nat) (Option.some Jvm.ClassFile.FieldType.boolean)) ∈ lw_all := lw_g (lw_at lw_m10 19 rfl) rfl
theorem q2368 : (Jvm.Cond.static ({ cls := "java/lang/StringLatin1", name := "charAt", desc := "([BI)C" } : Jvm.MethodName)) ∈ lw_all := lw_g (lw_at lw_m10 106 rfl) rfl
theorem q2369 : (Jvm.Cond.code ({ cls := "java/lang/StringLatin1", name := "charAt", desc := "([BI)C" } : Jvm.MethodName) prog_37_method_2_code (2 : Nat) (Option.some Jvm.ClassFile.FieldType.char)) ∈ lw_all := lw_g (lw_at lw_m10 107 rfl) rfl
theorem q2370 : (Jvm.Cond.methodLink "java/lang/StringLatin1" (9 : Nat) ({ cls := "java/lang/String", name := "checkIndex", desc := "(II)V" } : Jvm.MethodName)) ∈ lw_all := lw_g (lw_at lw_m10 108 rfl) rfl
theorem q3066 : (Jvm.Cond.static ({ cls := "java/lang/StringLatin1", name := "indexOf", desc := "([BIII)I" } : Jvm.MethodName)) ∈ lw_all := lw_g (lw_at lw_m13 84 rfl) rfl
theorem q3067 : (Jvm.Cond.code ({ cls := "java/lang/StringLatin1", name := "indexOf", desc := "([BIII)I" } : Jvm.MethodName) prog_37_method_22_code (4 : Nat) (Option.some Jvm.ClassFile.FieldType.int)) ∈ lw_all := lw_g (lw_at lw_m13 85 rfl) rfl
theorem q3068 : (Jvm.Cond.methodLink "java/lang/StringLatin1" (88 : Nat) ({ cls := "java/lang/StringLatin1", name := "canEncode", desc := "(I)Z" } : Jvm.MethodName)) ∈ lw_all := lw_g (lw_at lw_m13 86 rfl) rfl
theorem q3069 : (Jvm.Cond.static ({ cls := "java/lang/StringLatin1", name := "canEncode", desc := "(I)Z" } : Jvm.MethodName)) ∈ lw_all := lw_g (lw_at lw_m13 87 rfl) rfl
theorem q3070 : (Jvm.Cond.code ({ cls := "java/lang/StringLatin1", name := "canEncode", desc := "(I)Z" } : Jvm.MethodName) prog_37_method_4_code (1 : Nat) (Option.some Jvm.ClassFile.FieldType.boolean)) ∈ lw_all := lw_g (lw_at lw_m13 88 rfl) rfl
theorem q3071 : (Jvm.Cond.methodLink "java/lang/StringLatin1" (92 : Nat) ({ cls := "java/lang/Math", name := "max", desc := "(II)I" } : Jvm.MethodName)) ∈ lw_all := lw_g (lw_at lw_m13 89 rfl) rfl
theorem q3072 : (Jvm.Cond.methodLink "java/lang/StringLatin1" (38 : Nat) ({ cls := "java/lang/Math", name := "min", desc := "(II)I" } : Jvm.MethodName)) ∈ lw_all := lw_g (lw_at lw_m13 90 rfl) rfl
theorem q3073 : (Jvm.Cond.methodLink "java/lang/StringLatin1" (95 : Nat) ({ cls := "java/lang/StringLatin1", name := "indexOfChar", desc := "([BIII)I" } : Jvm.MethodName)) ∈ lw_all := lw_g (lw_at lw_m13 91 rfl) rfl
theorem q3074 : (Jvm.Cond.static ({ cls := "java/lang/StringLatin1", name := "indexOfChar", desc := "([BIII)I" } : Jvm.MethodName)) ∈ lw_all := lw_g (lw_at lw_m13 92 rfl) rfl
theorem q3075 : (Jvm.Cond.code ({ cls := "java/lang/StringLatin1", name := "indexOfChar", desc := "([BIII)I" } : Jvm.MethodName) prog_37_method_23_code (6 : Nat) (Option.some Jvm.ClassFile.FieldType.int)) ∈ lw_all := lw_g (lw_at lw_m13 93 rfl) rfl
/-! java/util/ArrayList$Itr -/
set_option maxRecDepth 100000
def RJ21 : String := "java/util/ArrayList$Itr"
def TJ21 : u_T := fun k => match k with
  | 0 => ("java/util/ArrayList$Itr", "cursor", "I", false)
  | 1 => ("java/util/ArrayList$Itr", "lastRet", "I", false)
  | 2 => ("java/util/ArrayList$Itr", "expectedModCount", "I", false)
  | _ => ("java/util/ArrayList$Itr", "this$0", "Ljava/util/ArrayList;", true)
def tyJ21 : Nat → FieldType := fun k => match k with
  | 0 => .int
  | 1 => .int
  | 2 => .int
  | _ => .object "java/util/ArrayList"
abbrev wsJ210 : List Cond := u_ws RJ21 TJ21 4
theorem nmJ21 : ∀ a, a < 4 → ∀ b, b < 4 → a ≠ b → (TJ21 a).2.1 ≠ (TJ21 b).2.1 := by decide +kernel
theorem tyJ21_ok : ∀ k, k < 4 → parseFieldDescriptor (TJ21 k).2.2.1 = some (tyJ21 k) := by decide +kernel
abbrev cJ21_init : ByteArray := prog_52_method_1_code
def yJ21_init : MethodName := ⟨RJ21, "<init>", "(Ljava/util/ArrayList;)V"⟩
def dkwJ21_init_1 : List UInt8 := [181, 0, 22, 177]
abbrev dktJ21_init_1 : List UInt8 := dkwJ21_init_1 ++ []
def dkwJ21_init_0 : List UInt8 := [42, 43, 181, 0, 1, 42, 183, 0, 7, 42, 2, 181, 0, 13, 42, 42, 180, 0, 1, 180, 0, 17]
abbrev dktJ21_init_0 : List UInt8 := dkwJ21_init_0 ++ dktJ21_init_1
theorem dksJ21_init_0 : cJ21_init.data.toList.drop 0 = dktJ21_init_0 := by decide +kernel
theorem dksJ21_init_1 : cJ21_init.data.toList.drop 22 = dktJ21_init_1 := dk_seg dksJ21_init_0 22 rfl rfl
theorem dJ21_init_0 : decode cJ21_init 0 = .ok (.aload_n 0, 1) := dk_42 (dk_at dksJ21_init_0 0 rfl rfl)
theorem dJ21_init_1 : decode cJ21_init 1 = .ok (.aload_n 1, 1) := dk_43 (dk_at dksJ21_init_0 1 rfl rfl)
theorem dJ21_init_2 : decode cJ21_init 2 = .ok (.putfield 1, 3) := dk_181 0 1 (dk_at dksJ21_init_0 2 rfl rfl)
theorem dJ21_init_5 : decode cJ21_init 5 = .ok (.aload_n 0, 1) := dk_42 (dk_at dksJ21_init_0 5 rfl rfl)
theorem dJ21_init_6 : decode cJ21_init 6 = .ok (.invokespecial 7, 3) := dk_183 0 7 (dk_at dksJ21_init_0 6 rfl rfl)
theorem dJ21_init_9 : decode cJ21_init 9 = .ok (.aload_n 0, 1) := dk_42 (dk_at dksJ21_init_0 9 rfl rfl)
theorem dJ21_init_10 : decode cJ21_init 10 = .ok (.iconst (-1), 1) := dk_2 (dk_at dksJ21_init_0 10 rfl rfl)
theorem dJ21_init_11 : decode cJ21_init 11 = .ok (.putfield 13, 3) := dk_181 0 13 (dk_at dksJ21_init_0 11 rfl rfl)
theorem dJ21_init_14 : decode cJ21_init 14 = .ok (.aload_n 0, 1) := dk_42 (dk_at dksJ21_init_0 14 rfl rfl)
theorem dJ21_init_15 : decode cJ21_init 15 = .ok (.aload_n 0, 1) := dk_42 (dk_at dksJ21_init_0 15 rfl rfl)
theorem dJ21_init_16 : decode cJ21_init 16 = .ok (.getfield 1, 3) := dk_180 0 1 (dk_at dksJ21_init_0 16 rfl rfl)
theorem dJ21_init_19 : decode cJ21_init 19 = .ok (.getfield 17, 3) := dk_180 0 17 (dk_at dksJ21_init_0 19 rfl rfl)
theorem dJ21_init_22 : decode cJ21_init 22 = .ok (.putfield 22, 3) := dk_181 0 22 (dk_at dksJ21_init_1 0 rfl rfl)
theorem dJ21_init_25 : decode cJ21_init 25 = .ok (.return_, 1) := dk_177 (dk_at dksJ21_init_1 3 rfl rfl)
abbrev cJ21_hasNext : ByteArray := prog_52_method_2_code
def yJ21_hasNext : MethodName := ⟨RJ21, "hasNext", "()Z"⟩
def dkwJ21_hasNext_0 : List UInt8 := [42, 180, 0, 25, 42, 180, 0, 1, 180, 0, 28, 159, 0, 7, 4, 167, 0, 4, 3, 172]
abbrev dktJ21_hasNext_0 : List UInt8 := dkwJ21_hasNext_0 ++ []
theorem dksJ21_hasNext_0 : cJ21_hasNext.data.toList.drop 0 = dktJ21_hasNext_0 := by decide +kernel
theorem dJ21_hasNext_0 : decode cJ21_hasNext 0 = .ok (.aload_n 0, 1) := dk_42 (dk_at dksJ21_hasNext_0 0 rfl rfl)
theorem dJ21_hasNext_1 : decode cJ21_hasNext 1 = .ok (.getfield 25, 3) := dk_180 0 25 (dk_at dksJ21_hasNext_0 1 rfl rfl)
theorem dJ21_hasNext_4 : decode cJ21_hasNext 4 = .ok (.aload_n 0, 1) := dk_42 (dk_at dksJ21_hasNext_0 4 rfl rfl)
theorem dJ21_hasNext_5 : decode cJ21_hasNext 5 = .ok (.getfield 1, 3) := dk_180 0 1 (dk_at dksJ21_hasNext_0 5 rfl rfl)
theorem dJ21_hasNext_8 : decode cJ21_hasNext 8 = .ok (.getfield 28, 3) := dk_180 0 28 (dk_at dksJ21_hasNext_0 8 rfl rfl)
theorem dJ21_hasNext_11 : decode cJ21_hasNext 11 = .ok (.if_icmp .eq 7, 3) := dk_159 0 7 (dk_at dksJ21_hasNext_0 11 rfl rfl)
theorem dJ21_hasNext_14 : decode cJ21_hasNext 14 = .ok (.iconst 1, 1) := dk_4 (dk_at dksJ21_hasNext_0 14 rfl rfl)
theorem dJ21_hasNext_15 : decode cJ21_hasNext 15 = .ok (.goto 4, 3) := dk_167 0 4 (dk_at dksJ21_hasNext_0 15 rfl rfl)
theorem dJ21_hasNext_18 : decode cJ21_hasNext 18 = .ok (.iconst 0, 1) := dk_3 (dk_at dksJ21_hasNext_0 18 rfl rfl)
theorem dJ21_hasNext_19 : decode cJ21_hasNext 19 = .ok (.ireturn, 1) := dk_172 (dk_at dksJ21_hasNext_0 19 rfl rfl)
abbrev cJ21_next : ByteArray := prog_52_method_3_code
def yJ21_next : MethodName := ⟨RJ21, "next", "()Ljava/lang/Object;"⟩
def dkwJ21_next_2 : List UInt8 := [183, 0, 43, 191, 42, 27, 4, 96, 181, 0, 25, 44, 42, 27, 90, 181, 0, 13, 50, 176]
abbrev dktJ21_next_2 : List UInt8 := dkwJ21_next_2 ++ []
def dkwJ21_next_1 : List UInt8 := [183, 0, 36, 191, 42, 180, 0, 1, 180, 0, 37, 77, 27, 44, 190, 161, 0, 11, 187, 0, 41, 89]
abbrev dktJ21_next_1 : List UInt8 := dkwJ21_next_1 ++ dktJ21_next_2
def dkwJ21_next_0 : List UInt8 := [42, 182, 0, 31, 42, 180, 0, 25, 60, 27, 42, 180, 0, 1, 180, 0, 28, 161, 0, 11, 187, 0, 34, 89]
abbrev dktJ21_next_0 : List UInt8 := dkwJ21_next_0 ++ dktJ21_next_1
theorem dksJ21_next_0 : cJ21_next.data.toList.drop 0 = dktJ21_next_0 := by decide +kernel
theorem dksJ21_next_1 : cJ21_next.data.toList.drop 24 = dktJ21_next_1 := dk_seg dksJ21_next_0 24 rfl rfl
theorem dksJ21_next_2 : cJ21_next.data.toList.drop 46 = dktJ21_next_2 := dk_seg dksJ21_next_1 22 rfl rfl
theorem dJ21_next_0 : decode cJ21_next 0 = .ok (.aload_n 0, 1) := dk_42 (dk_at dksJ21_next_0 0 rfl rfl)
theorem dJ21_next_1 : decode cJ21_next 1 = .ok (.invokevirtual 31, 3) := dk_182 0 31 (dk_at dksJ21_next_0 1 rfl rfl)
theorem dJ21_next_4 : decode cJ21_next 4 = .ok (.aload_n 0, 1) := dk_42 (dk_at dksJ21_next_0 4 rfl rfl)
theorem dJ21_next_5 : decode cJ21_next 5 = .ok (.getfield 25, 3) := dk_180 0 25 (dk_at dksJ21_next_0 5 rfl rfl)
theorem dJ21_next_8 : decode cJ21_next 8 = .ok (.istore_n 1, 1) := dk_60 (dk_at dksJ21_next_0 8 rfl rfl)
theorem dJ21_next_9 : decode cJ21_next 9 = .ok (.iload_n 1, 1) := dk_27 (dk_at dksJ21_next_0 9 rfl rfl)
theorem dJ21_next_10 : decode cJ21_next 10 = .ok (.aload_n 0, 1) := dk_42 (dk_at dksJ21_next_0 10 rfl rfl)
theorem dJ21_next_11 : decode cJ21_next 11 = .ok (.getfield 1, 3) := dk_180 0 1 (dk_at dksJ21_next_0 11 rfl rfl)
theorem dJ21_next_14 : decode cJ21_next 14 = .ok (.getfield 28, 3) := dk_180 0 28 (dk_at dksJ21_next_0 14 rfl rfl)
theorem dJ21_next_17 : decode cJ21_next 17 = .ok (.if_icmp .lt 11, 3) := dk_161 0 11 (dk_at dksJ21_next_0 17 rfl rfl)
theorem dJ21_next_20 : decode cJ21_next 20 = .ok (.new 34, 3) := dk_187 0 34 (dk_at dksJ21_next_0 20 rfl rfl)
theorem dJ21_next_23 : decode cJ21_next 23 = .ok (.dup, 1) := dk_89 (dk_at dksJ21_next_0 23 rfl rfl)
theorem dJ21_next_24 : decode cJ21_next 24 = .ok (.invokespecial 36, 3) := dk_183 0 36 (dk_at dksJ21_next_1 0 rfl rfl)
theorem dJ21_next_27 : decode cJ21_next 27 = .ok (.athrow, 1) := dk_191 (dk_at dksJ21_next_1 3 rfl rfl)
theorem dJ21_next_28 : decode cJ21_next 28 = .ok (.aload_n 0, 1) := dk_42 (dk_at dksJ21_next_1 4 rfl rfl)
theorem dJ21_next_29 : decode cJ21_next 29 = .ok (.getfield 1, 3) := dk_180 0 1 (dk_at dksJ21_next_1 5 rfl rfl)
theorem dJ21_next_32 : decode cJ21_next 32 = .ok (.getfield 37, 3) := dk_180 0 37 (dk_at dksJ21_next_1 8 rfl rfl)
theorem dJ21_next_35 : decode cJ21_next 35 = .ok (.astore_n 2, 1) := dk_77 (dk_at dksJ21_next_1 11 rfl rfl)
theorem dJ21_next_36 : decode cJ21_next 36 = .ok (.iload_n 1, 1) := dk_27 (dk_at dksJ21_next_1 12 rfl rfl)
theorem dJ21_next_37 : decode cJ21_next 37 = .ok (.aload_n 2, 1) := dk_44 (dk_at dksJ21_next_1 13 rfl rfl)
theorem dJ21_next_38 : decode cJ21_next 38 = .ok (.arraylength, 1) := dk_190 (dk_at dksJ21_next_1 14 rfl rfl)
theorem dJ21_next_39 : decode cJ21_next 39 = .ok (.if_icmp .lt 11, 3) := dk_161 0 11 (dk_at dksJ21_next_1 15 rfl rfl)
theorem dJ21_next_42 : decode cJ21_next 42 = .ok (.new 41, 3) := dk_187 0 41 (dk_at dksJ21_next_1 18 rfl rfl)
theorem dJ21_next_45 : decode cJ21_next 45 = .ok (.dup, 1) := dk_89 (dk_at dksJ21_next_1 21 rfl rfl)
theorem dJ21_next_46 : decode cJ21_next 46 = .ok (.invokespecial 43, 3) := dk_183 0 43 (dk_at dksJ21_next_2 0 rfl rfl)
theorem dJ21_next_49 : decode cJ21_next 49 = .ok (.athrow, 1) := dk_191 (dk_at dksJ21_next_2 3 rfl rfl)
theorem dJ21_next_50 : decode cJ21_next 50 = .ok (.aload_n 0, 1) := dk_42 (dk_at dksJ21_next_2 4 rfl rfl)
theorem dJ21_next_51 : decode cJ21_next 51 = .ok (.iload_n 1, 1) := dk_27 (dk_at dksJ21_next_2 5 rfl rfl)
theorem dJ21_next_52 : decode cJ21_next 52 = .ok (.iconst 1, 1) := dk_4 (dk_at dksJ21_next_2 6 rfl rfl)
theorem dJ21_next_53 : decode cJ21_next 53 = .ok (.iadd, 1) := dk_96 (dk_at dksJ21_next_2 7 rfl rfl)
theorem dJ21_next_54 : decode cJ21_next 54 = .ok (.putfield 25, 3) := dk_181 0 25 (dk_at dksJ21_next_2 8 rfl rfl)
theorem dJ21_next_57 : decode cJ21_next 57 = .ok (.aload_n 2, 1) := dk_44 (dk_at dksJ21_next_2 11 rfl rfl)
theorem dJ21_next_58 : decode cJ21_next 58 = .ok (.aload_n 0, 1) := dk_42 (dk_at dksJ21_next_2 12 rfl rfl)
theorem dJ21_next_59 : decode cJ21_next 59 = .ok (.iload_n 1, 1) := dk_27 (dk_at dksJ21_next_2 13 rfl rfl)
theorem dJ21_next_60 : decode cJ21_next 60 = .ok (.dup_x1, 1) := dk_90 (dk_at dksJ21_next_2 14 rfl rfl)
theorem dJ21_next_61 : decode cJ21_next 61 = .ok (.putfield 13, 3) := dk_181 0 13 (dk_at dksJ21_next_2 15 rfl rfl)
theorem dJ21_next_64 : decode cJ21_next 64 = .ok (.aaload, 1) := dk_50 (dk_at dksJ21_next_2 18 rfl rfl)
theorem dJ21_next_65 : decode cJ21_next 65 = .ok (.areturn, 1) := dk_176 (dk_at dksJ21_next_2 19 rfl rfl)
abbrev cJ21_checkForComodification : ByteArray := prog_52_method_6_code
def yJ21_checkForComodification : MethodName := ⟨RJ21, "checkForComodification", "()V"⟩
def dkwJ21_checkForComodification_0 : List UInt8 := [42, 180, 0, 1, 180, 0, 17, 42, 180, 0, 22, 159, 0, 11, 187, 0, 41, 89, 183, 0, 43, 191, 177]
abbrev dktJ21_checkForComodification_0 : List UInt8 := dkwJ21_checkForComodification_0 ++ []
theorem dksJ21_checkForComodification_0 : cJ21_checkForComodification.data.toList.drop 0 = dktJ21_checkForComodification_0 := by decide +kernel
theorem dJ21_checkForComodification_0 : decode cJ21_checkForComodification 0 = .ok (.aload_n 0, 1) := dk_42 (dk_at dksJ21_checkForComodification_0 0 rfl rfl)
theorem dJ21_checkForComodification_1 : decode cJ21_checkForComodification 1 = .ok (.getfield 1, 3) := dk_180 0 1 (dk_at dksJ21_checkForComodification_0 1 rfl rfl)
theorem dJ21_checkForComodification_4 : decode cJ21_checkForComodification 4 = .ok (.getfield 17, 3) := dk_180 0 17 (dk_at dksJ21_checkForComodification_0 4 rfl rfl)
theorem dJ21_checkForComodification_7 : decode cJ21_checkForComodification 7 = .ok (.aload_n 0, 1) := dk_42 (dk_at dksJ21_checkForComodification_0 7 rfl rfl)
theorem dJ21_checkForComodification_8 : decode cJ21_checkForComodification 8 = .ok (.getfield 22, 3) := dk_180 0 22 (dk_at dksJ21_checkForComodification_0 8 rfl rfl)
theorem dJ21_checkForComodification_11 : decode cJ21_checkForComodification 11 = .ok (.if_icmp .eq 11, 3) := dk_159 0 11 (dk_at dksJ21_checkForComodification_0 11 rfl rfl)
theorem dJ21_checkForComodification_14 : decode cJ21_checkForComodification 14 = .ok (.new 41, 3) := dk_187 0 41 (dk_at dksJ21_checkForComodification_0 14 rfl rfl)
theorem dJ21_checkForComodification_17 : decode cJ21_checkForComodification 17 = .ok (.dup, 1) := dk_89 (dk_at dksJ21_checkForComodification_0 17 rfl rfl)
theorem dJ21_checkForComodification_18 : decode cJ21_checkForComodification 18 = .ok (.invokespecial 43, 3) := dk_183 0 43 (dk_at dksJ21_checkForComodification_0 18 rfl rfl)
theorem dJ21_checkForComodification_21 : decode cJ21_checkForComodification 21 = .ok (.athrow, 1) := dk_191 (dk_at dksJ21_checkForComodification_0 21 rfl rfl)
theorem dJ21_checkForComodification_22 : decode cJ21_checkForComodification 22 = .ok (.return_, 1) := dk_177 (dk_at dksJ21_checkForComodification_0 22 rfl rfl)
theorem q130 : (Jvm.Cond.initialized "java/util/ArrayList$Itr") ∈ lw_all := lw_g (lw_at lw_m1 28 rfl) rfl
theorem q183 : (Jvm.Cond.fieldLink "java/util/ArrayList$Itr" (37 : Nat) "java/util/ArrayList" "elementData" "[Ljava/lang/Object;") ∈ lw_all := lw_g (lw_at lw_m1 81 rfl) rfl
theorem q184 : (Jvm.Cond.fieldLinkNest "java/util/ArrayList$Itr" (28 : Nat) "java/util/ArrayList" "size" "I" "java/util/ArrayList") ∈ lw_tbl := lw_at lw_m1 82 rfl
theorem q189 : (Jvm.Cond.fieldLink "java/util/ArrayList$Itr" (17 : Nat) "java/util/ArrayList" "modCount" "I") ∈ lw_all := lw_g (lw_at lw_m1 87 rfl) rfl
theorem q281 : (Jvm.Cond.selects "java/util/ArrayList$Itr" ({ cls := "java/lang/Object", name := "getClass", desc := "()Ljava/lang/Class;" } : Jvm.MethodName) ({ cls := "java/lang/Object", name := "getClass", desc := "()Ljava/lang/Class;" } : Jvm.MethodName)) ∈ lw_all := lw_g (lw_at lw_m1 179 rfl) rfl
theorem q529 : (Jvm.Cond.instantiable "java/util/ArrayList$Itr" (4 : Nat)) ∈ lw_all := lw_g (lw_at lw_m2 187 rfl) rfl
theorem q531 : (Jvm.Cond.instanceMethod ({ cls := "java/util/ArrayList$Itr", name := "<init>", desc := "(Ljava/util/ArrayList;)V" } : Jvm.MethodName)) ∈ lw_all := lw_g (lw_at lw_m2 189 rfl) rfl
theorem q532 : (Jvm.Cond.code ({ cls := "java/util/ArrayList$Itr", name := "<init>", desc := "(Ljava/util/ArrayList;)V" } : Jvm.MethodName) prog_52_method_1_code (2 : Nat) (Option.none : Option Jvm.ClassFile.FieldType)) ∈ lw_all := lw_g (lw_at lw_m2 190 rfl) rfl
theorem q533 : (Jvm.Cond.methodLink "java/util/ArrayList$Itr" (7 : Nat) ({ cls := "java/lang/Object", name := "<init>", desc := "()V" } : Jvm.MethodName)) ∈ lw_all := lw_g (lw_at lw_m2 191 rfl) rfl
theorem q536 : (Jvm.Cond.fieldLink "java/util/ArrayList$Itr" (25 : Nat) "java/util/ArrayList$Itr" "cursor" "I") ∈ lw_all := lw_g (lw_at lw_m2 194 rfl) rfl
theorem q537 : (Jvm.Cond.fieldLink "java/util/ArrayList$Itr" (13 : Nat) "java/util/ArrayList$Itr" "lastRet" "I") ∈ lw_all := lw_g (lw_at lw_m2 195 rfl) rfl
theorem q538 : (Jvm.Cond.fieldLink "java/util/ArrayList$Itr" (22 : Nat) "java/util/ArrayList$Itr" "expectedModCount" "I") ∈ lw_all := lw_g (lw_at lw_m2 196 rfl) rfl
theorem q539 : (Jvm.Cond.fieldLink "java/util/ArrayList$Itr" (1 : Nat) "java/util/ArrayList$Itr" "this$0" "Ljava/util/ArrayList;") ∈ lw_all := lw_g (lw_at lw_m2 197 rfl) rfl
theorem q540 : (Jvm.Cond.lays "java/util/ArrayList$Itr" "java/util/ArrayList$Itr" "cursor" "I") ∈ lw_all := lw_g (lw_at lw_m2 198 rfl) rfl
theorem q541 : (Jvm.Cond.soleField "java/util/ArrayList$Itr" "cursor") ∈ lw_all := lw_g (lw_at lw_m2 199 rfl) rfl
theorem q542 : (Jvm.Cond.lays "java/util/ArrayList$Itr" "java/util/ArrayList$Itr" "lastRet" "I") ∈ lw_all := lw_g (lw_at lw_m2 200 rfl) rfl
theorem q543 : (Jvm.Cond.soleField "java/util/ArrayList$Itr" "lastRet") ∈ lw_all := lw_g (lw_at lw_m2 201 rfl) rfl
theorem q544 : (Jvm.Cond.lays "java/util/ArrayList$Itr" "java/util/ArrayList$Itr" "expectedModCount" "I") ∈ lw_all := lw_g (lw_at lw_m2 202 rfl) rfl
theorem q545 : (Jvm.Cond.soleField "java/util/ArrayList$Itr" "expectedModCount") ∈ lw_all := lw_g (lw_at lw_m2 203 rfl) rfl
theorem q546 : (Jvm.Cond.laysFinal "java/util/ArrayList$Itr" "java/util/ArrayList$Itr" "this$0" "Ljava/util/ArrayList;") ∈ lw_all := lw_g (lw_at lw_m2 204 rfl) rfl
theorem q547 : (Jvm.Cond.soleField "java/util/ArrayList$Itr" "this$0") ∈ lw_all := lw_g (lw_at lw_m2 205 rfl) rfl
theorem q548 : (Jvm.Cond.superclass "java/util/ArrayList$Itr" "java/lang/Object") ∈ lw_all := lw_g (lw_at lw_m2 206 rfl) rfl
theorem q566 : (Jvm.Cond.castable "java/util/ArrayList$Itr" "java/util/Iterator") ∈ lw_tbl := lw_at lw_m2 224 rfl
theorem q567 : (Jvm.Cond.selects "java/util/ArrayList$Itr" ({ cls := "java/util/Iterator", name := "hasNext", desc := "()Z" } : Jvm.MethodName) ({ cls := "java/util/ArrayList$Itr", name := "hasNext", desc := "()Z" } : Jvm.MethodName)) ∈ lw_all := lw_g (lw_at lw_m2 225 rfl) rfl
theorem q568 : (Jvm.Cond.unhidden "java/util/ArrayList$Itr" "hasNext" "()Z") ∈ lw_tbl := lw_at lw_m2 226 rfl
theorem q569 : (Jvm.Cond.instanceMethod ({ cls := "java/util/ArrayList$Itr", name := "hasNext", desc := "()Z" } : Jvm.MethodName)) ∈ lw_all := lw_g (lw_at lw_m2 227 rfl) rfl
theorem q570 : (Jvm.Cond.publicMethod ({ cls := "java/util/ArrayList$Itr", name := "hasNext", desc := "()Z" } : Jvm.MethodName)) ∈ lw_tbl := lw_at lw_m2 228 rfl
theorem q571 : (Jvm.Cond.code ({ cls := "java/util/ArrayList$Itr", name := "hasNext", desc := "()Z" } : Jvm.MethodName) prog_52_method_2_code (1 : Nat) (Option.some Jvm.ClassFile.FieldType.boolean)) ∈ lw_all := lw_g (lw_at lw_m2 229 rfl) rfl
theorem q975 : (Jvm.Cond.selects "java/util/ArrayList$Itr" ({ cls := "java/util/Iterator", name := "next", desc := "()Ljava/lang/Object;" } : Jvm.MethodName) ({ cls := "java/util/ArrayList$Itr", name := "next", desc := "()Ljava/lang/Object;" } : Jvm.MethodName)) ∈ lw_all := lw_g (lw_at lw_m4 153 rfl) rfl
theorem q976 : (Jvm.Cond.unhidden "java/util/ArrayList$Itr" "next" "()Ljava/lang/Object;") ∈ lw_tbl := lw_at lw_m4 154 rfl
theorem q977 : (Jvm.Cond.instanceMethod ({ cls := "java/util/ArrayList$Itr", name := "next", desc := "()Ljava/lang/Object;" } : Jvm.MethodName)) ∈ lw_all := lw_g (lw_at lw_m4 155 rfl) rfl
theorem q978 : (Jvm.Cond.publicMethod ({ cls := "java/util/ArrayList$Itr", name := "next", desc := "()Ljava/lang/Object;" } : Jvm.MethodName)) ∈ lw_tbl := lw_at lw_m4 156 rfl
theorem q979 : (Jvm.Cond.code ({ cls := "java/util/ArrayList$Itr", name := "next", desc := "()Ljava/lang/Object;" } : Jvm.MethodName) prog_52_method_3_code (3 : Nat) (Option.some (Jvm.ClassFile.FieldType.object "java/lang/Object"))) ∈ lw_all := lw_g (lw_at lw_m4 157 rfl) rfl
theorem q980 : (Jvm.Cond.methodLink "java/util/ArrayList$Itr" (31 : Nat) ({ cls := "java/util/ArrayList$Itr", name := "checkForComodification", desc := "()V" } : Jvm.MethodName)) ∈ lw_all := lw_g (lw_at lw_m4 158 rfl) rfl
theorem q981 : (Jvm.Cond.instanceMethod ({ cls := "java/util/ArrayList$Itr", name := "checkForComodification", desc := "()V" } : Jvm.MethodName)) ∈ lw_all := lw_g (lw_at lw_m4 159 rfl) rfl
theorem q982 : (Jvm.Cond.selects "java/util/ArrayList$Itr" ({ cls := "java/util/ArrayList$Itr", name := "checkForComodification", desc := "()V" } : Jvm.MethodName) ({ cls := "java/util/ArrayList$Itr", name := "checkForComodification", desc := "()V" } : Jvm.MethodName)) ∈ lw_all := lw_g (lw_at lw_m4 160 rfl) rfl
theorem q983 : (Jvm.Cond.sameMethod "java/util/ArrayList$Itr" "java/util/ArrayList$Itr" "checkForComodification" "()V") ∈ lw_all := lw_g (lw_at lw_m4 161 rfl) rfl
theorem q985 : (Jvm.Cond.code ({ cls := "java/util/ArrayList$Itr", name := "checkForComodification", desc := "()V" } : Jvm.MethodName) prog_52_method_6_code (1 : Nat) (Option.none : Option Jvm.ClassFile.FieldType)) ∈ lw_all := lw_g (lw_at lw_m4 163 rfl) rfl
theorem q986 : (Jvm.Cond.classLink "java/util/ArrayList$Itr" (34 : Nat) "java/util/NoSuchElementException") ∈ lw_all := lw_g (lw_at lw_m4 164 rfl) rfl
theorem q987 : (Jvm.Cond.methodLink "java/util/ArrayList$Itr" (36 : Nat) ({ cls := "java/util/NoSuchElementException", name := "<init>", desc := "()V" } : Jvm.MethodName)) ∈ lw_all := lw_g (lw_at lw_m4 165 rfl) rfl
theorem q3180 : (Jvm.Cond.castable "java/util/ArrayList$Itr" "java/lang/Object") ∈ lw_tbl := lw_at lw_m13 198 rfl
theorem in_J21 : ∀ w ∈ wsJ210, w ∈ lw_all := lw_in wsJ210 [540, 542, 544, 546] (by decide +kernel) (by decide +kernel)
/-! java/util/Objects -/
set_option maxRecDepth 100000
def RJ22 : String := "java/util/Objects"
abbrev cJ22_checkIndex : ByteArray := prog_65_method_17_code
def yJ22_checkIndex : MethodName := ⟨RJ22, "checkIndex", "(II)I"⟩
def dkwJ22_checkIndex_0 : List UInt8 := [26, 27, 1, 184, 0, 105, 172]
abbrev dktJ22_checkIndex_0 : List UInt8 := dkwJ22_checkIndex_0 ++ []
theorem dksJ22_checkIndex_0 : cJ22_checkIndex.data.toList.drop 0 = dktJ22_checkIndex_0 := by decide +kernel
theorem dJ22_checkIndex_0 : decode cJ22_checkIndex 0 = .ok (.iload_n 0, 1) := dk_26 (dk_at dksJ22_checkIndex_0 0 rfl rfl)
theorem dJ22_checkIndex_1 : decode cJ22_checkIndex 1 = .ok (.iload_n 1, 1) := dk_27 (dk_at dksJ22_checkIndex_0 1 rfl rfl)
theorem dJ22_checkIndex_2 : decode cJ22_checkIndex 2 = .ok (.aconst_null, 1) := dk_1 (dk_at dksJ22_checkIndex_0 2 rfl rfl)
theorem dJ22_checkIndex_3 : decode cJ22_checkIndex 3 = .ok (.invokestatic 105, 3) := dk_184 0 105 (dk_at dksJ22_checkIndex_0 3 rfl rfl)
theorem dJ22_checkIndex_6 : decode cJ22_checkIndex 6 = .ok (.ireturn, 1) := dk_172 (dk_at dksJ22_checkIndex_0 6 rfl rfl)
abbrev cJ22_requireNonNull : ByteArray := prog_65_method_10_code
def yJ22_requireNonNull : MethodName := ⟨RJ22, "requireNonNull", "(Ljava/lang/Object;)Ljava/lang/Object;"⟩
def dkwJ22_requireNonNull_0 : List UInt8 := [42, 199, 0, 11, 187, 0, 84, 89, 183, 0, 86, 191, 42, 176]
abbrev dktJ22_requireNonNull_0 : List UInt8 := dkwJ22_requireNonNull_0 ++ []
theorem dksJ22_requireNonNull_0 : cJ22_requireNonNull.data.toList.drop 0 = dktJ22_requireNonNull_0 := by decide +kernel
theorem dJ22_requireNonNull_0 : decode cJ22_requireNonNull 0 = .ok (.aload_n 0, 1) := dk_42 (dk_at dksJ22_requireNonNull_0 0 rfl rfl)
theorem dJ22_requireNonNull_1 : decode cJ22_requireNonNull 1 = .ok (.ifnonnull 11, 3) := dk_199 0 11 (dk_at dksJ22_requireNonNull_0 1 rfl rfl)
theorem dJ22_requireNonNull_4 : decode cJ22_requireNonNull 4 = .ok (.new 84, 3) := dk_187 0 84 (dk_at dksJ22_requireNonNull_0 4 rfl rfl)
theorem dJ22_requireNonNull_7 : decode cJ22_requireNonNull 7 = .ok (.dup, 1) := dk_89 (dk_at dksJ22_requireNonNull_0 7 rfl rfl)
theorem dJ22_requireNonNull_8 : decode cJ22_requireNonNull 8 = .ok (.invokespecial 86, 3) := dk_183 0 86 (dk_at dksJ22_requireNonNull_0 8 rfl rfl)
theorem dJ22_requireNonNull_11 : decode cJ22_requireNonNull 11 = .ok (.athrow, 1) := dk_191 (dk_at dksJ22_requireNonNull_0 11 rfl rfl)
theorem dJ22_requireNonNull_12 : decode cJ22_requireNonNull 12 = .ok (.aload_n 0, 1) := dk_42 (dk_at dksJ22_requireNonNull_0 12 rfl rfl)
theorem dJ22_requireNonNull_13 : decode cJ22_requireNonNull 13 = .ok (.areturn, 1) := dk_176 (dk_at dksJ22_requireNonNull_0 13 rfl rfl)
theorem q131 : (Jvm.Cond.initialized "java/util/Objects") ∈ lw_all := lw_g (lw_at lw_m1 29 rfl) rfl
theorem q467 : (Jvm.Cond.static ({ cls := "java/util/Objects", name := "checkIndex", desc := "(II)I" } : Jvm.MethodName)) ∈ lw_all := lw_g (lw_at lw_m2 125 rfl) rfl
theorem q468 : (Jvm.Cond.code ({ cls := "java/util/Objects", name := "checkIndex", desc := "(II)I" } : Jvm.MethodName) prog_65_method_17_code (2 : Nat) (Option.some Jvm.ClassFile.FieldType.int)) ∈ lw_all := lw_g (lw_at lw_m2 126 rfl) rfl
theorem q469 : (Jvm.Cond.methodLink "java/util/Objects" (105 : Nat) ({ cls := "jdk/internal/util/Preconditions", name := "checkIndex", desc := "(IILjava/util/function/BiFunction;)I" } : Jvm.MethodName)) ∈ lw_all := lw_g (lw_at lw_m2 127 rfl) rfl
theorem q1875 : (Jvm.Cond.static ({ cls := "java/util/Objects", name := "requireNonNull", desc := "(Ljava/lang/Object;)Ljava/lang/Object;" } : Jvm.MethodName)) ∈ lw_all := lw_g (lw_at lw_m8 93 rfl) rfl
theorem q1876 : (Jvm.Cond.code ({ cls := "java/util/Objects", name := "requireNonNull", desc := "(Ljava/lang/Object;)Ljava/lang/Object;" } : Jvm.MethodName) prog_65_method_10_code (1 : Nat) (Option.some (Jvm.ClassFile.FieldType.object "java/lang/Object"))) ∈ lw_all := lw_g (lw_at lw_m8 94 rfl) rfl
/-! java/lang/IndexOutOfBoundsException -/
set_option maxRecDepth 100000
def RJ23 : String := "java/lang/IndexOutOfBoundsException"
def TJ23 : u_T := fun k => match k with
  | 0 => ("java/lang/Throwable", "cause", "Ljava/lang/Throwable;", false)
  | 1 => ("java/lang/Throwable", "stackTrace", "[Ljava/lang/StackTraceElement;", false)
  | 2 => ("java/lang/Throwable", "suppressedExceptions", "Ljava/util/List;", false)
  | 3 => ("java/lang/Throwable", "detailMessage", "Ljava/lang/String;", false)
  | 4 => ("java/lang/Throwable", "backtrace", "Ljava/lang/Object;", false)
  | _ => ("java/lang/Throwable", "depth", "I", false)
def tyJ23 : Nat → FieldType := fun k => match k with
  | 0 => .object "java/lang/Throwable"
  | 1 => .array (.object "java/lang/StackTraceElement")
  | 2 => .object "java/util/List"
  | 3 => .object "java/lang/String"
  | 4 => .object "java/lang/Object"
  | _ => .int
abbrev wsJ230 : List Cond := u_ws RJ23 TJ23 6
theorem nmJ23 : ∀ a, a < 6 → ∀ b, b < 6 → a ≠ b → (TJ23 a).2.1 ≠ (TJ23 b).2.1 := by decide +kernel
theorem tyJ23_ok : ∀ k, k < 6 → parseFieldDescriptor (TJ23 k).2.2.1 = some (tyJ23 k) := by decide +kernel
abbrev cJ23_init : ByteArray := prog_27_method_2_code
def yJ23_init : MethodName := ⟨RJ23, "<init>", "(Ljava/lang/String;)V"⟩
def dkwJ23_init_0 : List UInt8 := [42, 43, 183, 0, 7, 177]
abbrev dktJ23_init_0 : List UInt8 := dkwJ23_init_0 ++ []
theorem dksJ23_init_0 : cJ23_init.data.toList.drop 0 = dktJ23_init_0 := by decide +kernel
theorem dJ23_init_0 : decode cJ23_init 0 = .ok (.aload_n 0, 1) := dk_42 (dk_at dksJ23_init_0 0 rfl rfl)
theorem dJ23_init_1 : decode cJ23_init 1 = .ok (.aload_n 1, 1) := dk_43 (dk_at dksJ23_init_0 1 rfl rfl)
theorem dJ23_init_2 : decode cJ23_init 2 = .ok (.invokespecial 7, 3) := dk_183 0 7 (dk_at dksJ23_init_0 2 rfl rfl)
theorem dJ23_init_5 : decode cJ23_init 5 = .ok (.return_, 1) := dk_177 (dk_at dksJ23_init_0 5 rfl rfl)
abbrev cJ23_init_2 : ByteArray := prog_27_method_1_code
def yJ23_init_2 : MethodName := ⟨RJ23, "<init>", "()V"⟩
theorem dJ23_init_2_0 : decode cJ23_init_2 0 = .ok (.aload_n 0, 1) := by decide +kernel
theorem dJ23_init_2_1 : decode cJ23_init_2 1 = .ok (.invokespecial 1, 3) := by decide +kernel
theorem dJ23_init_2_4 : decode cJ23_init_2 4 = .ok (.return_, 1) := by decide +kernel
theorem q132 : (Jvm.Cond.initialized "java/lang/IndexOutOfBoundsException") ∈ lw_all := lw_g (lw_at lw_m1 30 rfl) rfl
theorem q272 : (Jvm.Cond.selects "java/lang/IndexOutOfBoundsException" ({ cls := "java/lang/Object", name := "getClass", desc := "()Ljava/lang/Class;" } : Jvm.MethodName) ({ cls := "java/lang/Object", name := "getClass", desc := "()Ljava/lang/Class;" } : Jvm.MethodName)) ∈ lw_all := lw_g (lw_at lw_m1 170 rfl) rfl
theorem q611 : (Jvm.Cond.instantiable "java/lang/IndexOutOfBoundsException" (6 : Nat)) ∈ lw_all := lw_g (lw_at lw_m3 29 rfl) rfl
theorem q612 : (Jvm.Cond.castable "java/lang/IndexOutOfBoundsException" "java/lang/IndexOutOfBoundsException") ∈ lw_tbl := lw_at lw_m3 30 rfl
theorem q619 : (Jvm.Cond.selects "java/lang/IndexOutOfBoundsException" ({ cls := "java/lang/Throwable", name := "fillInStackTrace", desc := "(I)Ljava/lang/Throwable;" } : Jvm.MethodName) ({ cls := "java/lang/Throwable", name := "fillInStackTrace", desc := "(I)Ljava/lang/Throwable;" } : Jvm.MethodName)) ∈ lw_all := lw_g (lw_at lw_m3 37 rfl) rfl
theorem q620 : (Jvm.Cond.selects "java/lang/IndexOutOfBoundsException" ({ cls := "java/lang/Throwable", name := "fillInStackTrace", desc := "()Ljava/lang/Throwable;" } : Jvm.MethodName) ({ cls := "java/lang/Throwable", name := "fillInStackTrace", desc := "()Ljava/lang/Throwable;" } : Jvm.MethodName)) ∈ lw_all := lw_g (lw_at lw_m3 38 rfl) rfl
theorem q621 : (Jvm.Cond.lays "java/lang/IndexOutOfBoundsException" "java/lang/Throwable" "cause" "Ljava/lang/Throwable;") ∈ lw_all := lw_g (lw_at lw_m3 39 rfl) rfl
theorem q623 : (Jvm.Cond.lays "java/lang/IndexOutOfBoundsException" "java/lang/Throwable" "stackTrace" "[Ljava/lang/StackTraceElement;") ∈ lw_all := lw_g (lw_at lw_m3 41 rfl) rfl
theorem q625 : (Jvm.Cond.lays "java/lang/IndexOutOfBoundsException" "java/lang/Throwable" "suppressedExceptions" "Ljava/util/List;") ∈ lw_all := lw_g (lw_at lw_m3 43 rfl) rfl
theorem q627 : (Jvm.Cond.lays "java/lang/IndexOutOfBoundsException" "java/lang/Throwable" "detailMessage" "Ljava/lang/String;") ∈ lw_all := lw_g (lw_at lw_m3 45 rfl) rfl
theorem q629 : (Jvm.Cond.lays "java/lang/IndexOutOfBoundsException" "java/lang/Throwable" "backtrace" "Ljava/lang/Object;") ∈ lw_all := lw_g (lw_at lw_m3 47 rfl) rfl
theorem q898 : (Jvm.Cond.instanceMethod ({ cls := "java/lang/IndexOutOfBoundsException", name := "<init>", desc := "(Ljava/lang/String;)V" } : Jvm.MethodName)) ∈ lw_all := lw_g (lw_at lw_m4 76 rfl) rfl
theorem q899 : (Jvm.Cond.code ({ cls := "java/lang/IndexOutOfBoundsException", name := "<init>", desc := "(Ljava/lang/String;)V" } : Jvm.MethodName) prog_27_method_2_code (2 : Nat) (Option.none : Option Jvm.ClassFile.FieldType)) ∈ lw_all := lw_g (lw_at lw_m4 77 rfl) rfl
theorem q900 : (Jvm.Cond.methodLink "java/lang/IndexOutOfBoundsException" (7 : Nat) ({ cls := "java/lang/RuntimeException", name := "<init>", desc := "(Ljava/lang/String;)V" } : Jvm.MethodName)) ∈ lw_all := lw_g (lw_at lw_m4 78 rfl) rfl
theorem q901 : (Jvm.Cond.lays "java/lang/IndexOutOfBoundsException" "java/lang/Throwable" "depth" "I") ∈ lw_all := lw_g (lw_at lw_m4 79 rfl) rfl
theorem q902 : (Jvm.Cond.superclass "java/lang/IndexOutOfBoundsException" "java/lang/RuntimeException") ∈ lw_all := lw_g (lw_at lw_m4 80 rfl) rfl
theorem q937 : (Jvm.Cond.selects "java/lang/IndexOutOfBoundsException" ({ cls := "java/lang/Throwable", name := "toString", desc := "()Ljava/lang/String;" } : Jvm.MethodName) ({ cls := "java/lang/Throwable", name := "toString", desc := "()Ljava/lang/String;" } : Jvm.MethodName)) ∈ lw_all := lw_g (lw_at lw_m4 115 rfl) rfl
theorem q951 : (Jvm.Cond.selects "java/lang/IndexOutOfBoundsException" ({ cls := "java/lang/Throwable", name := "getLocalizedMessage", desc := "()Ljava/lang/String;" } : Jvm.MethodName) ({ cls := "java/lang/Throwable", name := "getLocalizedMessage", desc := "()Ljava/lang/String;" } : Jvm.MethodName)) ∈ lw_all := lw_g (lw_at lw_m4 129 rfl) rfl
theorem q964 : (Jvm.Cond.selects "java/lang/IndexOutOfBoundsException" ({ cls := "java/lang/Throwable", name := "getMessage", desc := "()Ljava/lang/String;" } : Jvm.MethodName) ({ cls := "java/lang/Throwable", name := "getMessage", desc := "()Ljava/lang/String;" } : Jvm.MethodName)) ∈ lw_all := lw_g (lw_at lw_m4 142 rfl) rfl
theorem q1315 : (Jvm.Cond.instanceMethod ({ cls := "java/lang/IndexOutOfBoundsException", name := "<init>", desc := "()V" } : Jvm.MethodName)) ∈ lw_all := lw_g (lw_at lw_m6 13 rfl) rfl
theorem q1316 : (Jvm.Cond.code ({ cls := "java/lang/IndexOutOfBoundsException", name := "<init>", desc := "()V" } : Jvm.MethodName) prog_27_method_1_code (1 : Nat) (Option.none : Option Jvm.ClassFile.FieldType)) ∈ lw_all := lw_g (lw_at lw_m6 14 rfl) rfl
theorem q1317 : (Jvm.Cond.methodLink "java/lang/IndexOutOfBoundsException" (1 : Nat) ({ cls := "java/lang/RuntimeException", name := "<init>", desc := "()V" } : Jvm.MethodName)) ∈ lw_all := lw_g (lw_at lw_m6 15 rfl) rfl
theorem q1791 : (Jvm.Cond.selects "java/lang/IndexOutOfBoundsException" ({ cls := "java/lang/Object", name := "equals", desc := "(Ljava/lang/Object;)Z" } : Jvm.MethodName) ({ cls := "java/lang/Object", name := "equals", desc := "(Ljava/lang/Object;)Z" } : Jvm.MethodName)) ∈ lw_all := lw_g (lw_at lw_m8 9 rfl) rfl
theorem q1982 : (Jvm.Cond.declares ({ cls := "java/lang/IndexOutOfBoundsException", name := "<init>", desc := "()V" } : Jvm.MethodName)) ∈ lw_tbl := lw_at lw_m8 200 rfl
theorem q1983 : (Jvm.Cond.declares ({ cls := "java/lang/IndexOutOfBoundsException", name := "<init>", desc := "(Ljava/lang/String;)V" } : Jvm.MethodName)) ∈ lw_tbl := lw_at lw_m8 201 rfl
theorem q3183 : (Jvm.Cond.castable "java/lang/IndexOutOfBoundsException" "java/lang/Object") ∈ lw_tbl := lw_at lw_m13 201 rfl
theorem in_J23 : ∀ w ∈ wsJ230, w ∈ lw_all := lw_in wsJ230 [621, 623, 625, 627, 629, 901] (by decide +kernel) (by decide +kernel)
/-! java/util/NoSuchElementException -/
set_option maxRecDepth 100000
def RJ24 : String := "java/util/NoSuchElementException"
def TJ24 : u_T := fun k => match k with
  | 0 => ("java/lang/Throwable", "cause", "Ljava/lang/Throwable;", false)
  | 1 => ("java/lang/Throwable", "stackTrace", "[Ljava/lang/StackTraceElement;", false)
  | 2 => ("java/lang/Throwable", "suppressedExceptions", "Ljava/util/List;", false)
  | 3 => ("java/lang/Throwable", "detailMessage", "Ljava/lang/String;", false)
  | 4 => ("java/lang/Throwable", "backtrace", "Ljava/lang/Object;", false)
  | _ => ("java/lang/Throwable", "depth", "I", false)
def tyJ24 : Nat → FieldType := fun k => match k with
  | 0 => .object "java/lang/Throwable"
  | 1 => .array (.object "java/lang/StackTraceElement")
  | 2 => .object "java/util/List"
  | 3 => .object "java/lang/String"
  | 4 => .object "java/lang/Object"
  | _ => .int
abbrev wsJ240 : List Cond := u_ws RJ24 TJ24 6
theorem nmJ24 : ∀ a, a < 6 → ∀ b, b < 6 → a ≠ b → (TJ24 a).2.1 ≠ (TJ24 b).2.1 := by decide +kernel
theorem tyJ24_ok : ∀ k, k < 6 → parseFieldDescriptor (TJ24 k).2.2.1 = some (tyJ24 k) := by decide +kernel
abbrev cJ24_init : ByteArray := prog_64_method_3_code
def yJ24_init : MethodName := ⟨RJ24, "<init>", "(Ljava/lang/Throwable;)V"⟩
def dkwJ24_init_0 : List UInt8 := [42, 43, 183, 0, 10, 177]
abbrev dktJ24_init_0 : List UInt8 := dkwJ24_init_0 ++ []
theorem dksJ24_init_0 : cJ24_init.data.toList.drop 0 = dktJ24_init_0 := by decide +kernel
theorem dJ24_init_0 : decode cJ24_init 0 = .ok (.aload_n 0, 1) := dk_42 (dk_at dksJ24_init_0 0 rfl rfl)
theorem dJ24_init_1 : decode cJ24_init 1 = .ok (.aload_n 1, 1) := dk_43 (dk_at dksJ24_init_0 1 rfl rfl)
theorem dJ24_init_2 : decode cJ24_init 2 = .ok (.invokespecial 10, 3) := dk_183 0 10 (dk_at dksJ24_init_0 2 rfl rfl)
theorem dJ24_init_5 : decode cJ24_init 5 = .ok (.return_, 1) := dk_177 (dk_at dksJ24_init_0 5 rfl rfl)
abbrev cJ24_init_2 : ByteArray := prog_64_method_1_code
def yJ24_init_2 : MethodName := ⟨RJ24, "<init>", "()V"⟩
theorem dJ24_init_2_0 : decode cJ24_init_2 0 = .ok (.aload_n 0, 1) := by decide +kernel
theorem dJ24_init_2_1 : decode cJ24_init_2 1 = .ok (.invokespecial 1, 3) := by decide +kernel
theorem dJ24_init_2_4 : decode cJ24_init_2 4 = .ok (.return_, 1) := by decide +kernel
theorem q133 : (Jvm.Cond.initialized "java/util/NoSuchElementException") ∈ lw_all := lw_g (lw_at lw_m1 31 rfl) rfl
theorem q287 : (Jvm.Cond.selects "java/util/NoSuchElementException" ({ cls := "java/lang/Object", name := "getClass", desc := "()Ljava/lang/Class;" } : Jvm.MethodName) ({ cls := "java/lang/Object", name := "getClass", desc := "()Ljava/lang/Class;" } : Jvm.MethodName)) ∈ lw_all := lw_g (lw_at lw_m1 185 rfl) rfl
theorem q650 : (Jvm.Cond.selects "java/util/NoSuchElementException" ({ cls := "java/lang/Throwable", name := "fillInStackTrace", desc := "()Ljava/lang/Throwable;" } : Jvm.MethodName) ({ cls := "java/lang/Throwable", name := "fillInStackTrace", desc := "()Ljava/lang/Throwable;" } : Jvm.MethodName)) ∈ lw_all := lw_g (lw_at lw_m3 68 rfl) rfl
theorem q908 : (Jvm.Cond.instantiable "java/util/NoSuchElementException" (6 : Nat)) ∈ lw_all := lw_g (lw_at lw_m4 86 rfl) rfl
theorem q909 : (Jvm.Cond.castable "java/util/NoSuchElementException" "java/util/NoSuchElementException") ∈ lw_tbl := lw_at lw_m4 87 rfl
theorem q910 : (Jvm.Cond.selects "java/util/NoSuchElementException" ({ cls := "java/lang/Throwable", name := "fillInStackTrace", desc := "(I)Ljava/lang/Throwable;" } : Jvm.MethodName) ({ cls := "java/lang/Throwable", name := "fillInStackTrace", desc := "(I)Ljava/lang/Throwable;" } : Jvm.MethodName)) ∈ lw_all := lw_g (lw_at lw_m4 88 rfl) rfl
theorem q911 : (Jvm.Cond.lays "java/util/NoSuchElementException" "java/lang/Throwable" "cause" "Ljava/lang/Throwable;") ∈ lw_all := lw_g (lw_at lw_m4 89 rfl) rfl
theorem q912 : (Jvm.Cond.lays "java/util/NoSuchElementException" "java/lang/Throwable" "stackTrace" "[Ljava/lang/StackTraceElement;") ∈ lw_all := lw_g (lw_at lw_m4 90 rfl) rfl
theorem q913 : (Jvm.Cond.lays "java/util/NoSuchElementException" "java/lang/Throwable" "suppressedExceptions" "Ljava/util/List;") ∈ lw_all := lw_g (lw_at lw_m4 91 rfl) rfl
theorem q914 : (Jvm.Cond.lays "java/util/NoSuchElementException" "java/lang/Throwable" "detailMessage" "Ljava/lang/String;") ∈ lw_all := lw_g (lw_at lw_m4 92 rfl) rfl
theorem q915 : (Jvm.Cond.lays "java/util/NoSuchElementException" "java/lang/Throwable" "backtrace" "Ljava/lang/Object;") ∈ lw_all := lw_g (lw_at lw_m4 93 rfl) rfl
theorem q917 : (Jvm.Cond.instanceMethod ({ cls := "java/util/NoSuchElementException", name := "<init>", desc := "(Ljava/lang/Throwable;)V" } : Jvm.MethodName)) ∈ lw_all := lw_g (lw_at lw_m4 95 rfl) rfl
theorem q918 : (Jvm.Cond.code ({ cls := "java/util/NoSuchElementException", name := "<init>", desc := "(Ljava/lang/Throwable;)V" } : Jvm.MethodName) prog_64_method_3_code (2 : Nat) (Option.none : Option Jvm.ClassFile.FieldType)) ∈ lw_all := lw_g (lw_at lw_m4 96 rfl) rfl
theorem q919 : (Jvm.Cond.methodLink "java/util/NoSuchElementException" (10 : Nat) ({ cls := "java/lang/RuntimeException", name := "<init>", desc := "(Ljava/lang/Throwable;)V" } : Jvm.MethodName)) ∈ lw_all := lw_g (lw_at lw_m4 97 rfl) rfl
theorem q939 : (Jvm.Cond.selects "java/util/NoSuchElementException" ({ cls := "java/lang/Throwable", name := "toString", desc := "()Ljava/lang/String;" } : Jvm.MethodName) ({ cls := "java/lang/Throwable", name := "toString", desc := "()Ljava/lang/String;" } : Jvm.MethodName)) ∈ lw_all := lw_g (lw_at lw_m4 117 rfl) rfl
theorem q953 : (Jvm.Cond.selects "java/util/NoSuchElementException" ({ cls := "java/lang/Throwable", name := "getLocalizedMessage", desc := "()Ljava/lang/String;" } : Jvm.MethodName) ({ cls := "java/lang/Throwable", name := "getLocalizedMessage", desc := "()Ljava/lang/String;" } : Jvm.MethodName)) ∈ lw_all := lw_g (lw_at lw_m4 131 rfl) rfl
theorem q966 : (Jvm.Cond.selects "java/util/NoSuchElementException" ({ cls := "java/lang/Throwable", name := "getMessage", desc := "()Ljava/lang/String;" } : Jvm.MethodName) ({ cls := "java/lang/Throwable", name := "getMessage", desc := "()Ljava/lang/String;" } : Jvm.MethodName)) ∈ lw_all := lw_g (lw_at lw_m4 144 rfl) rfl
theorem q973 : (Jvm.Cond.lays "java/util/NoSuchElementException" "java/lang/Throwable" "depth" "I") ∈ lw_all := lw_g (lw_at lw_m4 151 rfl) rfl
theorem q974 : (Jvm.Cond.superclass "java/util/NoSuchElementException" "java/lang/RuntimeException") ∈ lw_all := lw_g (lw_at lw_m4 152 rfl) rfl
theorem q988 : (Jvm.Cond.instanceMethod ({ cls := "java/util/NoSuchElementException", name := "<init>", desc := "()V" } : Jvm.MethodName)) ∈ lw_all := lw_g (lw_at lw_m4 166 rfl) rfl
theorem q989 : (Jvm.Cond.code ({ cls := "java/util/NoSuchElementException", name := "<init>", desc := "()V" } : Jvm.MethodName) prog_64_method_1_code (1 : Nat) (Option.none : Option Jvm.ClassFile.FieldType)) ∈ lw_all := lw_g (lw_at lw_m4 167 rfl) rfl
theorem q990 : (Jvm.Cond.methodLink "java/util/NoSuchElementException" (1 : Nat) ({ cls := "java/lang/RuntimeException", name := "<init>", desc := "()V" } : Jvm.MethodName)) ∈ lw_all := lw_g (lw_at lw_m4 168 rfl) rfl
theorem q3181 : (Jvm.Cond.castable "java/util/NoSuchElementException" "java/lang/Object") ∈ lw_tbl := lw_at lw_m13 199 rfl
theorem in_J24 : ∀ w ∈ wsJ240, w ∈ lw_all := lw_in wsJ240 [911, 912, 913, 914, 915, 973] (by decide +kernel) (by decide +kernel)
