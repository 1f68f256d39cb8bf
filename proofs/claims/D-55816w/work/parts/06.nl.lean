/-! java/util/LinkedList$Node -/
set_option maxRecDepth 100000
def RJ25 : String := "java/util/LinkedList$Node"
def TJ25 : u_T := fun k => match k with
  | 0 => ("java/util/LinkedList$Node", "item", "Ljava/lang/Object;", false)
  | 1 => ("java/util/LinkedList$Node", "next", "Ljava/util/LinkedList$Node;", false)
  | _ => ("java/util/LinkedList$Node", "prev", "Ljava/util/LinkedList$Node;", false)
def tyJ25 : Nat → FieldType := fun k => match k with
  | 0 => .object "java/lang/Object"
  | 1 => .object "java/util/LinkedList$Node"
  | _ => .object "java/util/LinkedList$Node"
abbrev wsJ250 : List Cond := u_ws RJ25 TJ25 3
theorem nmJ25 : ∀ a, a < 3 → ∀ b, b < 3 → a ≠ b → (TJ25 a).2.1 ≠ (TJ25 b).2.1 := by decide +kernel
theorem tyJ25_ok : ∀ k, k < 3 → parseFieldDescriptor (TJ25 k).2.2.1 = some (tyJ25 k) := by decide +kernel
abbrev cJ25_init : ByteArray := prog_61_method_1_code
def yJ25_init : MethodName := ⟨RJ25, "<init>", "(Ljava/util/LinkedList$Node;Ljava/lang/Object;Ljava/util/LinkedList$Node;)V"⟩
def dkwJ25_init_0 : List UInt8 := [42, 183, 0, 1, 42, 44, 181, 0, 7, 42, 45, 181, 0, 13, 42, 43, 181, 0, 17, 177]
abbrev dktJ25_init_0 : List UInt8 := dkwJ25_init_0 ++ []
theorem dksJ25_init_0 : cJ25_init.data.toList.drop 0 = dktJ25_init_0 := by decide +kernel
theorem dJ25_init_0 : decode cJ25_init 0 = .ok (.aload_n 0, 1) := dk_42 (dk_at dksJ25_init_0 0 rfl rfl)
theorem dJ25_init_1 : decode cJ25_init 1 = .ok (.invokespecial 1, 3) := dk_183 0 1 (dk_at dksJ25_init_0 1 rfl rfl)
theorem dJ25_init_4 : decode cJ25_init 4 = .ok (.aload_n 0, 1) := dk_42 (dk_at dksJ25_init_0 4 rfl rfl)
theorem dJ25_init_5 : decode cJ25_init 5 = .ok (.aload_n 2, 1) := dk_44 (dk_at dksJ25_init_0 5 rfl rfl)
theorem dJ25_init_6 : decode cJ25_init 6 = .ok (.putfield 7, 3) := dk_181 0 7 (dk_at dksJ25_init_0 6 rfl rfl)
theorem dJ25_init_9 : decode cJ25_init 9 = .ok (.aload_n 0, 1) := dk_42 (dk_at dksJ25_init_0 9 rfl rfl)
theorem dJ25_init_10 : decode cJ25_init 10 = .ok (.aload_n 3, 1) := dk_45 (dk_at dksJ25_init_0 10 rfl rfl)
theorem dJ25_init_11 : decode cJ25_init 11 = .ok (.putfield 13, 3) := dk_181 0 13 (dk_at dksJ25_init_0 11 rfl rfl)
theorem dJ25_init_14 : decode cJ25_init 14 = .ok (.aload_n 0, 1) := dk_42 (dk_at dksJ25_init_0 14 rfl rfl)
theorem dJ25_init_15 : decode cJ25_init 15 = .ok (.aload_n 1, 1) := dk_43 (dk_at dksJ25_init_0 15 rfl rfl)
theorem dJ25_init_16 : decode cJ25_init 16 = .ok (.putfield 17, 3) := dk_181 0 17 (dk_at dksJ25_init_0 16 rfl rfl)
theorem dJ25_init_19 : decode cJ25_init 19 = .ok (.return_, 1) := dk_177 (dk_at dksJ25_init_0 19 rfl rfl)
theorem q135 : (Jvm.Cond.initialized "java/util/LinkedList$Node") ∈ lw_all := lw_g (lw_at lw_m1 33 rfl) rfl
theorem q286 : (Jvm.Cond.selects "java/util/LinkedList$Node" ({ cls := "java/lang/Object", name := "getClass", desc := "()Ljava/lang/Class;" } : Jvm.MethodName) ({ cls := "java/lang/Object", name := "getClass", desc := "()Ljava/lang/Class;" } : Jvm.MethodName)) ∈ lw_all := lw_g (lw_at lw_m1 184 rfl) rfl
theorem q1057 : (Jvm.Cond.instantiable "java/util/LinkedList$Node" (3 : Nat)) ∈ lw_all := lw_g (lw_at lw_m4 235 rfl) rfl
theorem q1059 : (Jvm.Cond.instanceMethod ({ cls := "java/util/LinkedList$Node", name := "<init>", desc := "(Ljava/util/LinkedList$Node;Ljava/lang/Object;Ljava/util/LinkedList$Node;)V" } : Jvm.MethodName)) ∈ lw_all := lw_g (lw_at lw_m4 237 rfl) rfl
theorem q1060 : (Jvm.Cond.code ({ cls := "java/util/LinkedList$Node", name := "<init>", desc := "(Ljava/util/LinkedList$Node;Ljava/lang/Object;Ljava/util/LinkedList$Node;)V" } : Jvm.MethodName) prog_61_method_1_code (4 : Nat) (Option.none : Option Jvm.ClassFile.FieldType)) ∈ lw_all := lw_g (lw_at lw_m4 238 rfl) rfl
theorem q1061 : (Jvm.Cond.methodLink "java/util/LinkedList$Node" (1 : Nat) ({ cls := "java/lang/Object", name := "<init>", desc := "()V" } : Jvm.MethodName)) ∈ lw_all := lw_g (lw_at lw_m4 239 rfl) rfl
theorem q1062 : (Jvm.Cond.fieldLink "java/util/LinkedList$Node" (7 : Nat) "java/util/LinkedList$Node" "item" "Ljava/lang/Object;") ∈ lw_all := lw_g (lw_at lw_m5 0 rfl) rfl
theorem q1065 : (Jvm.Cond.fieldLink "java/util/LinkedList$Node" (13 : Nat) "java/util/LinkedList$Node" "next" "Ljava/util/LinkedList$Node;") ∈ lw_all := lw_g (lw_at lw_m5 3 rfl) rfl
theorem q1068 : (Jvm.Cond.fieldLink "java/util/LinkedList$Node" (17 : Nat) "java/util/LinkedList$Node" "prev" "Ljava/util/LinkedList$Node;") ∈ lw_all := lw_g (lw_at lw_m5 6 rfl) rfl
theorem q1070 : (Jvm.Cond.lays "java/util/LinkedList$Node" "java/util/LinkedList$Node" "item" "Ljava/lang/Object;") ∈ lw_all := lw_g (lw_at lw_m5 8 rfl) rfl
theorem q1071 : (Jvm.Cond.soleField "java/util/LinkedList$Node" "item") ∈ lw_all := lw_g (lw_at lw_m5 9 rfl) rfl
theorem q1072 : (Jvm.Cond.lays "java/util/LinkedList$Node" "java/util/LinkedList$Node" "next" "Ljava/util/LinkedList$Node;") ∈ lw_all := lw_g (lw_at lw_m5 10 rfl) rfl
theorem q1073 : (Jvm.Cond.soleField "java/util/LinkedList$Node" "next") ∈ lw_all := lw_g (lw_at lw_m5 11 rfl) rfl
theorem q1074 : (Jvm.Cond.lays "java/util/LinkedList$Node" "java/util/LinkedList$Node" "prev" "Ljava/util/LinkedList$Node;") ∈ lw_all := lw_g (lw_at lw_m5 12 rfl) rfl
theorem q1075 : (Jvm.Cond.soleField "java/util/LinkedList$Node" "prev") ∈ lw_all := lw_g (lw_at lw_m5 13 rfl) rfl
theorem q1076 : (Jvm.Cond.superclass "java/util/LinkedList$Node" "java/lang/Object") ∈ lw_all := lw_g (lw_at lw_m5 14 rfl) rfl
theorem q3184 : (Jvm.Cond.castable "java/util/LinkedList$Node" "java/lang/Object") ∈ lw_tbl := lw_at lw_m13 202 rfl
theorem in_J25 : ∀ w ∈ wsJ250, w ∈ lw_all := lw_in wsJ250 [1070, 1072, 1074] (by decide +kernel) (by decide +kernel)
/-! java/lang/IllegalStateException -/
set_option maxRecDepth 100000
def RJ26 : String := "java/lang/IllegalStateException"
def TJ26 : u_T := fun k => match k with
  | 0 => ("java/lang/Throwable", "cause", "Ljava/lang/Throwable;", false)
  | 1 => ("java/lang/Throwable", "stackTrace", "[Ljava/lang/StackTraceElement;", false)
  | 2 => ("java/lang/Throwable", "suppressedExceptions", "Ljava/util/List;", false)
  | 3 => ("java/lang/Throwable", "detailMessage", "Ljava/lang/String;", false)
  | 4 => ("java/lang/Throwable", "backtrace", "Ljava/lang/Object;", false)
  | _ => ("java/lang/Throwable", "depth", "I", false)
def tyJ26 : Nat → FieldType := fun k => match k with
  | 0 => .object "java/lang/Throwable"
  | 1 => .array (.object "java/lang/StackTraceElement")
  | 2 => .object "java/util/List"
  | 3 => .object "java/lang/String"
  | 4 => .object "java/lang/Object"
  | _ => .int
abbrev wsJ260 : List Cond := u_ws RJ26 TJ26 6
theorem nmJ26 : ∀ a, a < 6 → ∀ b, b < 6 → a ≠ b → (TJ26 a).2.1 ≠ (TJ26 b).2.1 := by decide +kernel
theorem tyJ26_ok : ∀ k, k < 6 → parseFieldDescriptor (TJ26 k).2.2.1 = some (tyJ26 k) := by decide +kernel
abbrev cJ26_init : ByteArray := prog_26_method_2_code
def yJ26_init : MethodName := ⟨RJ26, "<init>", "(Ljava/lang/String;)V"⟩
def dkwJ26_init_0 : List UInt8 := [42, 43, 183, 0, 7, 177]
abbrev dktJ26_init_0 : List UInt8 := dkwJ26_init_0 ++ []
theorem dksJ26_init_0 : cJ26_init.data.toList.drop 0 = dktJ26_init_0 := by decide +kernel
theorem dJ26_init_0 : decode cJ26_init 0 = .ok (.aload_n 0, 1) := dk_42 (dk_at dksJ26_init_0 0 rfl rfl)
theorem dJ26_init_1 : decode cJ26_init 1 = .ok (.aload_n 1, 1) := dk_43 (dk_at dksJ26_init_0 1 rfl rfl)
theorem dJ26_init_2 : decode cJ26_init 2 = .ok (.invokespecial 7, 3) := dk_183 0 7 (dk_at dksJ26_init_0 2 rfl rfl)
theorem dJ26_init_5 : decode cJ26_init 5 = .ok (.return_, 1) := dk_177 (dk_at dksJ26_init_0 5 rfl rfl)
abbrev cJ26_init_2 : ByteArray := prog_26_method_1_code
def yJ26_init_2 : MethodName := ⟨RJ26, "<init>", "()V"⟩
theorem dJ26_init_2_0 : decode cJ26_init_2 0 = .ok (.aload_n 0, 1) := by decide +kernel
theorem dJ26_init_2_1 : decode cJ26_init_2 1 = .ok (.invokespecial 1, 3) := by decide +kernel
theorem dJ26_init_2_4 : decode cJ26_init_2 4 = .ok (.return_, 1) := by decide +kernel
theorem q141 : (Jvm.Cond.initialized "java/lang/IllegalStateException") ∈ lw_all := lw_g (lw_at lw_m1 39 rfl) rfl
theorem q271 : (Jvm.Cond.selects "java/lang/IllegalStateException" ({ cls := "java/lang/Object", name := "getClass", desc := "()Ljava/lang/Class;" } : Jvm.MethodName) ({ cls := "java/lang/Object", name := "getClass", desc := "()Ljava/lang/Class;" } : Jvm.MethodName)) ∈ lw_all := lw_g (lw_at lw_m1 169 rfl) rfl
theorem q648 : (Jvm.Cond.selects "java/lang/IllegalStateException" ({ cls := "java/lang/Throwable", name := "fillInStackTrace", desc := "()Ljava/lang/Throwable;" } : Jvm.MethodName) ({ cls := "java/lang/Throwable", name := "fillInStackTrace", desc := "()Ljava/lang/Throwable;" } : Jvm.MethodName)) ∈ lw_all := lw_g (lw_at lw_m3 66 rfl) rfl
theorem q936 : (Jvm.Cond.selects "java/lang/IllegalStateException" ({ cls := "java/lang/Throwable", name := "toString", desc := "()Ljava/lang/String;" } : Jvm.MethodName) ({ cls := "java/lang/Throwable", name := "toString", desc := "()Ljava/lang/String;" } : Jvm.MethodName)) ∈ lw_all := lw_g (lw_at lw_m4 114 rfl) rfl
theorem q950 : (Jvm.Cond.selects "java/lang/IllegalStateException" ({ cls := "java/lang/Throwable", name := "getLocalizedMessage", desc := "()Ljava/lang/String;" } : Jvm.MethodName) ({ cls := "java/lang/Throwable", name := "getLocalizedMessage", desc := "()Ljava/lang/String;" } : Jvm.MethodName)) ∈ lw_all := lw_g (lw_at lw_m4 128 rfl) rfl
theorem q963 : (Jvm.Cond.selects "java/lang/IllegalStateException" ({ cls := "java/lang/Throwable", name := "getMessage", desc := "()Ljava/lang/String;" } : Jvm.MethodName) ({ cls := "java/lang/Throwable", name := "getMessage", desc := "()Ljava/lang/String;" } : Jvm.MethodName)) ∈ lw_all := lw_g (lw_at lw_m4 141 rfl) rfl
theorem q1790 : (Jvm.Cond.selects "java/lang/IllegalStateException" ({ cls := "java/lang/Object", name := "equals", desc := "(Ljava/lang/Object;)Z" } : Jvm.MethodName) ({ cls := "java/lang/Object", name := "equals", desc := "(Ljava/lang/Object;)Z" } : Jvm.MethodName)) ∈ lw_all := lw_g (lw_at lw_m8 8 rfl) rfl
theorem q1818 : (Jvm.Cond.instantiable "java/lang/IllegalStateException" (6 : Nat)) ∈ lw_all := lw_g (lw_at lw_m8 36 rfl) rfl
theorem q1819 : (Jvm.Cond.castable "java/lang/IllegalStateException" "java/lang/IllegalStateException") ∈ lw_tbl := lw_at lw_m8 37 rfl
theorem q1820 : (Jvm.Cond.selects "java/lang/IllegalStateException" ({ cls := "java/lang/Throwable", name := "fillInStackTrace", desc := "(I)Ljava/lang/Throwable;" } : Jvm.MethodName) ({ cls := "java/lang/Throwable", name := "fillInStackTrace", desc := "(I)Ljava/lang/Throwable;" } : Jvm.MethodName)) ∈ lw_all := lw_g (lw_at lw_m8 38 rfl) rfl
theorem q1821 : (Jvm.Cond.lays "java/lang/IllegalStateException" "java/lang/Throwable" "cause" "Ljava/lang/Throwable;") ∈ lw_all := lw_g (lw_at lw_m8 39 rfl) rfl
theorem q1822 : (Jvm.Cond.lays "java/lang/IllegalStateException" "java/lang/Throwable" "stackTrace" "[Ljava/lang/StackTraceElement;") ∈ lw_all := lw_g (lw_at lw_m8 40 rfl) rfl
theorem q1823 : (Jvm.Cond.lays "java/lang/IllegalStateException" "java/lang/Throwable" "suppressedExceptions" "Ljava/util/List;") ∈ lw_all := lw_g (lw_at lw_m8 41 rfl) rfl
theorem q1824 : (Jvm.Cond.lays "java/lang/IllegalStateException" "java/lang/Throwable" "detailMessage" "Ljava/lang/String;") ∈ lw_all := lw_g (lw_at lw_m8 42 rfl) rfl
theorem q1825 : (Jvm.Cond.lays "java/lang/IllegalStateException" "java/lang/Throwable" "backtrace" "Ljava/lang/Object;") ∈ lw_all := lw_g (lw_at lw_m8 43 rfl) rfl
theorem q1828 : (Jvm.Cond.instanceMethod ({ cls := "java/lang/IllegalStateException", name := "<init>", desc := "(Ljava/lang/String;)V" } : Jvm.MethodName)) ∈ lw_all := lw_g (lw_at lw_m8 46 rfl) rfl
theorem q1829 : (Jvm.Cond.code ({ cls := "java/lang/IllegalStateException", name := "<init>", desc := "(Ljava/lang/String;)V" } : Jvm.MethodName) prog_26_method_2_code (2 : Nat) (Option.none : Option Jvm.ClassFile.FieldType)) ∈ lw_all := lw_g (lw_at lw_m8 47 rfl) rfl
theorem q1830 : (Jvm.Cond.methodLink "java/lang/IllegalStateException" (7 : Nat) ({ cls := "java/lang/RuntimeException", name := "<init>", desc := "(Ljava/lang/String;)V" } : Jvm.MethodName)) ∈ lw_all := lw_g (lw_at lw_m8 48 rfl) rfl
theorem q1831 : (Jvm.Cond.lays "java/lang/IllegalStateException" "java/lang/Throwable" "depth" "I") ∈ lw_all := lw_g (lw_at lw_m8 49 rfl) rfl
theorem q1832 : (Jvm.Cond.superclass "java/lang/IllegalStateException" "java/lang/RuntimeException") ∈ lw_all := lw_g (lw_at lw_m8 50 rfl) rfl
theorem q2387 : (Jvm.Cond.instanceMethod ({ cls := "java/lang/IllegalStateException", name := "<init>", desc := "()V" } : Jvm.MethodName)) ∈ lw_all := lw_g (lw_at lw_m10 125 rfl) rfl
theorem q2388 : (Jvm.Cond.code ({ cls := "java/lang/IllegalStateException", name := "<init>", desc := "()V" } : Jvm.MethodName) prog_26_method_1_code (1 : Nat) (Option.none : Option Jvm.ClassFile.FieldType)) ∈ lw_all := lw_g (lw_at lw_m10 126 rfl) rfl
theorem q2389 : (Jvm.Cond.methodLink "java/lang/IllegalStateException" (1 : Nat) ({ cls := "java/lang/RuntimeException", name := "<init>", desc := "()V" } : Jvm.MethodName)) ∈ lw_all := lw_g (lw_at lw_m10 127 rfl) rfl
theorem q3190 : (Jvm.Cond.castable "java/lang/IllegalStateException" "java/lang/Object") ∈ lw_tbl := lw_at lw_m13 208 rfl
theorem in_J26 : ∀ w ∈ wsJ260, w ∈ lw_all := lw_in wsJ260 [1821, 1822, 1823, 1824, 1825, 1831] (by decide +kernel) (by decide +kernel)
/-! java/util/AbstractList$Itr -/
set_option maxRecDepth 100000
def RJ27 : String := "java/util/AbstractList$Itr"
abbrev cJ27_hasNext : ByteArray := prog_47_method_2_code
def yJ27_hasNext : MethodName := ⟨RJ27, "hasNext", "()Z"⟩
def dkwJ27_hasNext_0 : List UInt8 := [42, 180, 0, 13, 42, 180, 0, 1, 182, 0, 28, 159, 0, 7, 4, 167, 0, 4, 3, 172]
abbrev dktJ27_hasNext_0 : List UInt8 := dkwJ27_hasNext_0 ++ []
theorem dksJ27_hasNext_0 : cJ27_hasNext.data.toList.drop 0 = dktJ27_hasNext_0 := by decide +kernel
theorem dJ27_hasNext_0 : decode cJ27_hasNext 0 = .ok (.aload_n 0, 1) := dk_42 (dk_at dksJ27_hasNext_0 0 rfl rfl)
theorem dJ27_hasNext_1 : decode cJ27_hasNext 1 = .ok (.getfield 13, 3) := dk_180 0 13 (dk_at dksJ27_hasNext_0 1 rfl rfl)
theorem dJ27_hasNext_4 : decode cJ27_hasNext 4 = .ok (.aload_n 0, 1) := dk_42 (dk_at dksJ27_hasNext_0 4 rfl rfl)
theorem dJ27_hasNext_5 : decode cJ27_hasNext 5 = .ok (.getfield 1, 3) := dk_180 0 1 (dk_at dksJ27_hasNext_0 5 rfl rfl)
theorem dJ27_hasNext_8 : decode cJ27_hasNext 8 = .ok (.invokevirtual 28, 3) := dk_182 0 28 (dk_at dksJ27_hasNext_0 8 rfl rfl)
theorem dJ27_hasNext_11 : decode cJ27_hasNext 11 = .ok (.if_icmp .eq 7, 3) := dk_159 0 7 (dk_at dksJ27_hasNext_0 11 rfl rfl)
theorem dJ27_hasNext_14 : decode cJ27_hasNext 14 = .ok (.iconst 1, 1) := dk_4 (dk_at dksJ27_hasNext_0 14 rfl rfl)
theorem dJ27_hasNext_15 : decode cJ27_hasNext 15 = .ok (.goto 4, 3) := dk_167 0 4 (dk_at dksJ27_hasNext_0 15 rfl rfl)
theorem dJ27_hasNext_18 : decode cJ27_hasNext 18 = .ok (.iconst 0, 1) := dk_3 (dk_at dksJ27_hasNext_0 18 rfl rfl)
theorem dJ27_hasNext_19 : decode cJ27_hasNext 19 = .ok (.ireturn, 1) := dk_172 (dk_at dksJ27_hasNext_0 19 rfl rfl)
abbrev cJ27_next : ByteArray := prog_47_method_3_code
def yJ27_next : MethodName := ⟨RJ27, "next", "()Ljava/lang/Object;"⟩
def dkwJ27_next_1 : List UInt8 := [27, 4, 96, 181, 0, 13, 44, 176, 76, 42, 182, 0, 32, 187, 0, 41, 89, 43, 183, 0, 43, 191]
abbrev dktJ27_next_1 : List UInt8 := dkwJ27_next_1 ++ []
def dkwJ27_next_0 : List UInt8 := [42, 182, 0, 32, 42, 180, 0, 13, 60, 42, 180, 0, 1, 27, 182, 0, 35, 77, 42, 27, 181, 0, 17, 42]
abbrev dktJ27_next_0 : List UInt8 := dkwJ27_next_0 ++ dktJ27_next_1
theorem dksJ27_next_0 : cJ27_next.data.toList.drop 0 = dktJ27_next_0 := by decide +kernel
theorem dksJ27_next_1 : cJ27_next.data.toList.drop 24 = dktJ27_next_1 := dk_seg dksJ27_next_0 24 rfl rfl
theorem dJ27_next_0 : decode cJ27_next 0 = .ok (.aload_n 0, 1) := dk_42 (dk_at dksJ27_next_0 0 rfl rfl)
theorem dJ27_next_1 : decode cJ27_next 1 = .ok (.invokevirtual 32, 3) := dk_182 0 32 (dk_at dksJ27_next_0 1 rfl rfl)
theorem dJ27_next_4 : decode cJ27_next 4 = .ok (.aload_n 0, 1) := dk_42 (dk_at dksJ27_next_0 4 rfl rfl)
theorem dJ27_next_5 : decode cJ27_next 5 = .ok (.getfield 13, 3) := dk_180 0 13 (dk_at dksJ27_next_0 5 rfl rfl)
theorem dJ27_next_8 : decode cJ27_next 8 = .ok (.istore_n 1, 1) := dk_60 (dk_at dksJ27_next_0 8 rfl rfl)
theorem dJ27_next_9 : decode cJ27_next 9 = .ok (.aload_n 0, 1) := dk_42 (dk_at dksJ27_next_0 9 rfl rfl)
theorem dJ27_next_10 : decode cJ27_next 10 = .ok (.getfield 1, 3) := dk_180 0 1 (dk_at dksJ27_next_0 10 rfl rfl)
theorem dJ27_next_13 : decode cJ27_next 13 = .ok (.iload_n 1, 1) := dk_27 (dk_at dksJ27_next_0 13 rfl rfl)
theorem dJ27_next_14 : decode cJ27_next 14 = .ok (.invokevirtual 35, 3) := dk_182 0 35 (dk_at dksJ27_next_0 14 rfl rfl)
theorem dJ27_next_17 : decode cJ27_next 17 = .ok (.astore_n 2, 1) := dk_77 (dk_at dksJ27_next_0 17 rfl rfl)
theorem dJ27_next_18 : decode cJ27_next 18 = .ok (.aload_n 0, 1) := dk_42 (dk_at dksJ27_next_0 18 rfl rfl)
theorem dJ27_next_19 : decode cJ27_next 19 = .ok (.iload_n 1, 1) := dk_27 (dk_at dksJ27_next_0 19 rfl rfl)
theorem dJ27_next_20 : decode cJ27_next 20 = .ok (.putfield 17, 3) := dk_181 0 17 (dk_at dksJ27_next_0 20 rfl rfl)
theorem dJ27_next_23 : decode cJ27_next 23 = .ok (.aload_n 0, 1) := dk_42 (dk_at dksJ27_next_0 23 rfl rfl)
theorem dJ27_next_24 : decode cJ27_next 24 = .ok (.iload_n 1, 1) := dk_27 (dk_at dksJ27_next_1 0 rfl rfl)
theorem dJ27_next_25 : decode cJ27_next 25 = .ok (.iconst 1, 1) := dk_4 (dk_at dksJ27_next_1 1 rfl rfl)
theorem dJ27_next_26 : decode cJ27_next 26 = .ok (.iadd, 1) := dk_96 (dk_at dksJ27_next_1 2 rfl rfl)
theorem dJ27_next_27 : decode cJ27_next 27 = .ok (.putfield 13, 3) := dk_181 0 13 (dk_at dksJ27_next_1 3 rfl rfl)
theorem dJ27_next_30 : decode cJ27_next 30 = .ok (.aload_n 2, 1) := dk_44 (dk_at dksJ27_next_1 6 rfl rfl)
theorem dJ27_next_31 : decode cJ27_next 31 = .ok (.areturn, 1) := dk_176 (dk_at dksJ27_next_1 7 rfl rfl)
theorem dJ27_next_32 : decode cJ27_next 32 = .ok (.astore_n 1, 1) := dk_76 (dk_at dksJ27_next_1 8 rfl rfl)
theorem dJ27_next_33 : decode cJ27_next 33 = .ok (.aload_n 0, 1) := dk_42 (dk_at dksJ27_next_1 9 rfl rfl)
theorem dJ27_next_34 : decode cJ27_next 34 = .ok (.invokevirtual 32, 3) := dk_182 0 32 (dk_at dksJ27_next_1 10 rfl rfl)
theorem dJ27_next_37 : decode cJ27_next 37 = .ok (.new 41, 3) := dk_187 0 41 (dk_at dksJ27_next_1 13 rfl rfl)
theorem dJ27_next_40 : decode cJ27_next 40 = .ok (.dup, 1) := dk_89 (dk_at dksJ27_next_1 16 rfl rfl)
theorem dJ27_next_41 : decode cJ27_next 41 = .ok (.aload_n 1, 1) := dk_43 (dk_at dksJ27_next_1 17 rfl rfl)
theorem dJ27_next_42 : decode cJ27_next 42 = .ok (.invokespecial 43, 3) := dk_183 0 43 (dk_at dksJ27_next_1 18 rfl rfl)
theorem dJ27_next_45 : decode cJ27_next 45 = .ok (.athrow, 1) := dk_191 (dk_at dksJ27_next_1 21 rfl rfl)
abbrev cJ27_checkForComodification : ByteArray := prog_47_method_5_code
def yJ27_checkForComodification : MethodName := ⟨RJ27, "checkForComodification", "()V"⟩
def dkwJ27_checkForComodification_0 : List UInt8 := [42, 180, 0, 1, 180, 0, 20, 42, 180, 0, 25, 159, 0, 11, 187, 0, 52, 89, 183, 0, 54, 191, 177]
abbrev dktJ27_checkForComodification_0 : List UInt8 := dkwJ27_checkForComodification_0 ++ []
theorem dksJ27_checkForComodification_0 : cJ27_checkForComodification.data.toList.drop 0 = dktJ27_checkForComodification_0 := by decide +kernel
theorem dJ27_checkForComodification_0 : decode cJ27_checkForComodification 0 = .ok (.aload_n 0, 1) := dk_42 (dk_at dksJ27_checkForComodification_0 0 rfl rfl)
theorem dJ27_checkForComodification_1 : decode cJ27_checkForComodification 1 = .ok (.getfield 1, 3) := dk_180 0 1 (dk_at dksJ27_checkForComodification_0 1 rfl rfl)
theorem dJ27_checkForComodification_4 : decode cJ27_checkForComodification 4 = .ok (.getfield 20, 3) := dk_180 0 20 (dk_at dksJ27_checkForComodification_0 4 rfl rfl)
theorem dJ27_checkForComodification_7 : decode cJ27_checkForComodification 7 = .ok (.aload_n 0, 1) := dk_42 (dk_at dksJ27_checkForComodification_0 7 rfl rfl)
theorem dJ27_checkForComodification_8 : decode cJ27_checkForComodification 8 = .ok (.getfield 25, 3) := dk_180 0 25 (dk_at dksJ27_checkForComodification_0 8 rfl rfl)
theorem dJ27_checkForComodification_11 : decode cJ27_checkForComodification 11 = .ok (.if_icmp .eq 11, 3) := dk_159 0 11 (dk_at dksJ27_checkForComodification_0 11 rfl rfl)
theorem dJ27_checkForComodification_14 : decode cJ27_checkForComodification 14 = .ok (.new 52, 3) := dk_187 0 52 (dk_at dksJ27_checkForComodification_0 14 rfl rfl)
theorem dJ27_checkForComodification_17 : decode cJ27_checkForComodification 17 = .ok (.dup, 1) := dk_89 (dk_at dksJ27_checkForComodification_0 17 rfl rfl)
theorem dJ27_checkForComodification_18 : decode cJ27_checkForComodification 18 = .ok (.invokespecial 54, 3) := dk_183 0 54 (dk_at dksJ27_checkForComodification_0 18 rfl rfl)
theorem dJ27_checkForComodification_21 : decode cJ27_checkForComodification 21 = .ok (.athrow, 1) := dk_191 (dk_at dksJ27_checkForComodification_0 21 rfl rfl)
theorem dJ27_checkForComodification_22 : decode cJ27_checkForComodification 22 = .ok (.return_, 1) := dk_177 (dk_at dksJ27_checkForComodification_0 22 rfl rfl)
theorem q142 : (Jvm.Cond.initialized "java/util/AbstractList$Itr") ∈ lw_all := lw_g (lw_at lw_m1 40 rfl) rfl
theorem q191 : (Jvm.Cond.fieldLink "java/util/AbstractList$Itr" (20 : Nat) "java/util/AbstractList" "modCount" "I") ∈ lw_all := lw_g (lw_at lw_m1 89 rfl) rfl
theorem q556 : (Jvm.Cond.instanceMethod ({ cls := "java/util/AbstractList$Itr", name := "hasNext", desc := "()Z" } : Jvm.MethodName)) ∈ lw_all := lw_g (lw_at lw_m2 214 rfl) rfl
theorem q557 : (Jvm.Cond.publicMethod ({ cls := "java/util/AbstractList$Itr", name := "hasNext", desc := "()Z" } : Jvm.MethodName)) ∈ lw_tbl := lw_at lw_m2 215 rfl
theorem q558 : (Jvm.Cond.code ({ cls := "java/util/AbstractList$Itr", name := "hasNext", desc := "()Z" } : Jvm.MethodName) prog_47_method_2_code (1 : Nat) (Option.some Jvm.ClassFile.FieldType.boolean)) ∈ lw_all := lw_g (lw_at lw_m2 216 rfl) rfl
theorem q559 : (Jvm.Cond.methodLink "java/util/AbstractList$Itr" (28 : Nat) ({ cls := "java/util/AbstractList", name := "size", desc := "()I" } : Jvm.MethodName)) ∈ lw_all := lw_g (lw_at lw_m2 217 rfl) rfl
theorem q587 : (Jvm.Cond.instanceMethod ({ cls := "java/util/AbstractList$Itr", name := "next", desc := "()Ljava/lang/Object;" } : Jvm.MethodName)) ∈ lw_all := lw_g (lw_at lw_m3 5 rfl) rfl
theorem q588 : (Jvm.Cond.publicMethod ({ cls := "java/util/AbstractList$Itr", name := "next", desc := "()Ljava/lang/Object;" } : Jvm.MethodName)) ∈ lw_tbl := lw_at lw_m3 6 rfl
theorem q589 : (Jvm.Cond.codeWith ({ cls := "java/util/AbstractList$Itr", name := "next", desc := "()Ljava/lang/Object;" } : Jvm.MethodName) prog_47_method_3_code (3 : Nat) (Option.some (Jvm.ClassFile.FieldType.object "java/lang/Object")) [((4 : Nat), (31 : Nat), (32 : Nat), (39 : Nat))]) ∈ lw_all := lw_g (lw_at lw_m3 7 rfl) rfl
theorem q590 : (Jvm.Cond.methodLink "java/util/AbstractList$Itr" (32 : Nat) ({ cls := "java/util/AbstractList$Itr", name := "checkForComodification", desc := "()V" } : Jvm.MethodName)) ∈ lw_all := lw_g (lw_at lw_m3 8 rfl) rfl
theorem q591 : (Jvm.Cond.instanceMethod ({ cls := "java/util/AbstractList$Itr", name := "checkForComodification", desc := "()V" } : Jvm.MethodName)) ∈ lw_all := lw_g (lw_at lw_m3 9 rfl) rfl
theorem q592 : (Jvm.Cond.sameMethod "java/util/AbstractList$Itr" "java/util/AbstractList$Itr" "checkForComodification" "()V") ∈ lw_all := lw_g (lw_at lw_m3 10 rfl) rfl
theorem q594 : (Jvm.Cond.code ({ cls := "java/util/AbstractList$Itr", name := "checkForComodification", desc := "()V" } : Jvm.MethodName) prog_47_method_5_code (1 : Nat) (Option.none : Option Jvm.ClassFile.FieldType)) ∈ lw_all := lw_g (lw_at lw_m3 12 rfl) rfl
theorem q595 : (Jvm.Cond.methodLink "java/util/AbstractList$Itr" (35 : Nat) ({ cls := "java/util/AbstractList", name := "get", desc := "(I)Ljava/lang/Object;" } : Jvm.MethodName)) ∈ lw_all := lw_g (lw_at lw_m3 13 rfl) rfl
theorem q907 : (Jvm.Cond.classLink "java/util/AbstractList$Itr" (41 : Nat) "java/util/NoSuchElementException") ∈ lw_all := lw_g (lw_at lw_m4 85 rfl) rfl
theorem q916 : (Jvm.Cond.methodLink "java/util/AbstractList$Itr" (43 : Nat) ({ cls := "java/util/NoSuchElementException", name := "<init>", desc := "(Ljava/lang/Throwable;)V" } : Jvm.MethodName)) ∈ lw_all := lw_g (lw_at lw_m4 94 rfl) rfl
theorem q3212 : (Jvm.Cond.fieldLink "java/util/AbstractList$Itr" (13 : Nat) "java/util/AbstractList$Itr" "cursor" "I") ∈ lw_all := lw_g (lw_at lw_m13 230 rfl) rfl
theorem q3213 : (Jvm.Cond.fieldLink "java/util/AbstractList$Itr" (1 : Nat) "java/util/AbstractList$Itr" "this$0" "Ljava/util/AbstractList;") ∈ lw_all := lw_g (lw_at lw_m13 231 rfl) rfl
theorem q3214 : (Jvm.Cond.fieldLink "java/util/AbstractList$Itr" (25 : Nat) "java/util/AbstractList$Itr" "expectedModCount" "I") ∈ lw_all := lw_g (lw_at lw_m13 232 rfl) rfl
theorem q3215 : (Jvm.Cond.fieldLink "java/util/AbstractList$Itr" (17 : Nat) "java/util/AbstractList$Itr" "lastRet" "I") ∈ lw_all := lw_g (lw_at lw_m13 233 rfl) rfl
/-! java/util/ArrayList$ListItr -/
set_option maxRecDepth 100000
def RJ28 : String := "java/util/ArrayList$ListItr"
def TJ28 : u_T := fun k => match k with
  | 0 => ("java/util/ArrayList$Itr", "cursor", "I", false)
  | 1 => ("java/util/ArrayList$Itr", "lastRet", "I", false)
  | 2 => ("java/util/ArrayList$Itr", "expectedModCount", "I", false)
  | 3 => ("java/util/ArrayList$Itr", "this$0", "Ljava/util/ArrayList;", true)
  | _ => ("java/util/ArrayList$ListItr", "this$0", "Ljava/util/ArrayList;", true)
def tyJ28 : Nat → FieldType := fun k => match k with
  | 0 => .int
  | 1 => .int
  | 2 => .int
  | 3 => .object "java/util/ArrayList"
  | _ => .object "java/util/ArrayList"
abbrev wsJ280 : List Cond := u_ws RJ28 TJ28 5
-- two fields of one name: no nmJ28
theorem tyJ28_ok : ∀ k, k < 5 → parseFieldDescriptor (TJ28 k).2.2.1 = some (tyJ28 k) := by decide +kernel
abbrev cJ28_init : ByteArray := prog_53_method_1_code
def yJ28_init : MethodName := ⟨RJ28, "<init>", "(Ljava/util/ArrayList;I)V"⟩
def dkwJ28_init_0 : List UInt8 := [42, 43, 181, 0, 1, 42, 43, 183, 0, 7, 42, 28, 181, 0, 13, 177]
abbrev dktJ28_init_0 : List UInt8 := dkwJ28_init_0 ++ []
theorem dksJ28_init_0 : cJ28_init.data.toList.drop 0 = dktJ28_init_0 := by decide +kernel
theorem dJ28_init_0 : decode cJ28_init 0 = .ok (.aload_n 0, 1) := dk_42 (dk_at dksJ28_init_0 0 rfl rfl)
theorem dJ28_init_1 : decode cJ28_init 1 = .ok (.aload_n 1, 1) := dk_43 (dk_at dksJ28_init_0 1 rfl rfl)
theorem dJ28_init_2 : decode cJ28_init 2 = .ok (.putfield 1, 3) := dk_181 0 1 (dk_at dksJ28_init_0 2 rfl rfl)
theorem dJ28_init_5 : decode cJ28_init 5 = .ok (.aload_n 0, 1) := dk_42 (dk_at dksJ28_init_0 5 rfl rfl)
theorem dJ28_init_6 : decode cJ28_init 6 = .ok (.aload_n 1, 1) := dk_43 (dk_at dksJ28_init_0 6 rfl rfl)
theorem dJ28_init_7 : decode cJ28_init 7 = .ok (.invokespecial 7, 3) := dk_183 0 7 (dk_at dksJ28_init_0 7 rfl rfl)
theorem dJ28_init_10 : decode cJ28_init 10 = .ok (.aload_n 0, 1) := dk_42 (dk_at dksJ28_init_0 10 rfl rfl)
theorem dJ28_init_11 : decode cJ28_init 11 = .ok (.iload_n 2, 1) := dk_28 (dk_at dksJ28_init_0 11 rfl rfl)
theorem dJ28_init_12 : decode cJ28_init 12 = .ok (.putfield 13, 3) := dk_181 0 13 (dk_at dksJ28_init_0 12 rfl rfl)
theorem dJ28_init_15 : decode cJ28_init 15 = .ok (.return_, 1) := dk_177 (dk_at dksJ28_init_0 15 rfl rfl)
theorem q144 : (Jvm.Cond.initialized "java/util/ArrayList$ListItr") ∈ lw_all := lw_g (lw_at lw_m1 42 rfl) rfl
theorem q282 : (Jvm.Cond.selects "java/util/ArrayList$ListItr" ({ cls := "java/lang/Object", name := "getClass", desc := "()Ljava/lang/Class;" } : Jvm.MethodName) ({ cls := "java/lang/Object", name := "getClass", desc := "()Ljava/lang/Class;" } : Jvm.MethodName)) ∈ lw_all := lw_g (lw_at lw_m1 180 rfl) rfl
theorem q534 : (Jvm.Cond.fieldLink "java/util/ArrayList$ListItr" (13 : Nat) "java/util/ArrayList$ListItr" "cursor" "I") ∈ lw_all := lw_g (lw_at lw_m2 192 rfl) rfl
theorem q535 : (Jvm.Cond.sameField "java/util/ArrayList$ListItr" "java/util/ArrayList$Itr" "cursor" "I") ∈ lw_all := lw_g (lw_at lw_m2 193 rfl) rfl
theorem q572 : (Jvm.Cond.castable "java/util/ArrayList$ListItr" "java/util/Iterator") ∈ lw_tbl := lw_at lw_m2 230 rfl
theorem q573 : (Jvm.Cond.selects "java/util/ArrayList$ListItr" ({ cls := "java/util/Iterator", name := "hasNext", desc := "()Z" } : Jvm.MethodName) ({ cls := "java/util/ArrayList$Itr", name := "hasNext", desc := "()Z" } : Jvm.MethodName)) ∈ lw_all := lw_g (lw_at lw_m2 231 rfl) rfl
theorem q574 : (Jvm.Cond.unhidden "java/util/ArrayList$ListItr" "hasNext" "()Z") ∈ lw_tbl := lw_at lw_m2 232 rfl
theorem q984 : (Jvm.Cond.selects "java/util/ArrayList$ListItr" ({ cls := "java/util/ArrayList$Itr", name := "checkForComodification", desc := "()V" } : Jvm.MethodName) ({ cls := "java/util/ArrayList$Itr", name := "checkForComodification", desc := "()V" } : Jvm.MethodName)) ∈ lw_all := lw_g (lw_at lw_m4 162 rfl) rfl
theorem q997 : (Jvm.Cond.selects "java/util/ArrayList$ListItr" ({ cls := "java/util/Iterator", name := "next", desc := "()Ljava/lang/Object;" } : Jvm.MethodName) ({ cls := "java/util/ArrayList$Itr", name := "next", desc := "()Ljava/lang/Object;" } : Jvm.MethodName)) ∈ lw_all := lw_g (lw_at lw_m4 175 rfl) rfl
theorem q998 : (Jvm.Cond.unhidden "java/util/ArrayList$ListItr" "next" "()Ljava/lang/Object;") ∈ lw_tbl := lw_at lw_m4 176 rfl
theorem q1142 : (Jvm.Cond.instantiable "java/util/ArrayList$ListItr" (5 : Nat)) ∈ lw_all := lw_g (lw_at lw_m5 80 rfl) rfl
theorem q1144 : (Jvm.Cond.instanceMethod ({ cls := "java/util/ArrayList$ListItr", name := "<init>", desc := "(Ljava/util/ArrayList;I)V" } : Jvm.MethodName)) ∈ lw_all := lw_g (lw_at lw_m5 82 rfl) rfl
theorem q1145 : (Jvm.Cond.code ({ cls := "java/util/ArrayList$ListItr", name := "<init>", desc := "(Ljava/util/ArrayList;I)V" } : Jvm.MethodName) prog_53_method_1_code (3 : Nat) (Option.none : Option Jvm.ClassFile.FieldType)) ∈ lw_all := lw_g (lw_at lw_m5 83 rfl) rfl
theorem q1146 : (Jvm.Cond.methodLink "java/util/ArrayList$ListItr" (7 : Nat) ({ cls := "java/util/ArrayList$Itr", name := "<init>", desc := "(Ljava/util/ArrayList;)V" } : Jvm.MethodName)) ∈ lw_all := lw_g (lw_at lw_m5 84 rfl) rfl
theorem q1147 : (Jvm.Cond.fieldLink "java/util/ArrayList$ListItr" (1 : Nat) "java/util/ArrayList$ListItr" "this$0" "Ljava/util/ArrayList;") ∈ lw_all := lw_g (lw_at lw_m5 85 rfl) rfl
theorem q1148 : (Jvm.Cond.laysFinal "java/util/ArrayList$ListItr" "java/util/ArrayList$ListItr" "this$0" "Ljava/util/ArrayList;") ∈ lw_all := lw_g (lw_at lw_m5 86 rfl) rfl
theorem q1149 : (Jvm.Cond.soleField "java/util/ArrayList$ListItr" "this$0") ∈ lw_all := lw_g (lw_at lw_m5 87 rfl) rfl
theorem q1150 : (Jvm.Cond.lays "java/util/ArrayList$ListItr" "java/util/ArrayList$Itr" "cursor" "I") ∈ lw_all := lw_g (lw_at lw_m5 88 rfl) rfl
theorem q1151 : (Jvm.Cond.lays "java/util/ArrayList$ListItr" "java/util/ArrayList$Itr" "lastRet" "I") ∈ lw_all := lw_g (lw_at lw_m5 89 rfl) rfl
theorem q1152 : (Jvm.Cond.lays "java/util/ArrayList$ListItr" "java/util/ArrayList$Itr" "expectedModCount" "I") ∈ lw_all := lw_g (lw_at lw_m5 90 rfl) rfl
theorem q1153 : (Jvm.Cond.laysFinal "java/util/ArrayList$ListItr" "java/util/ArrayList$Itr" "this$0" "Ljava/util/ArrayList;") ∈ lw_all := lw_g (lw_at lw_m5 91 rfl) rfl
theorem q1154 : (Jvm.Cond.superclass "java/util/ArrayList$ListItr" "java/util/ArrayList$Itr") ∈ lw_all := lw_g (lw_at lw_m5 92 rfl) rfl
theorem q3192 : (Jvm.Cond.castable "java/util/ArrayList$ListItr" "java/lang/Object") ∈ lw_tbl := lw_at lw_m13 210 rfl
theorem in_J28 : ∀ w ∈ wsJ280, w ∈ lw_all := lw_in wsJ280 [1150, 1151, 1152, 1153, 1148] (by decide +kernel) (by decide +kernel)
/-! java/util/LinkedList$ListItr -/
set_option maxRecDepth 100000
def RJ29 : String := "java/util/LinkedList$ListItr"
def TJ29 : u_T := fun k => match k with
  | 0 => ("java/util/LinkedList$ListItr", "lastReturned", "Ljava/util/LinkedList$Node;", false)
  | 1 => ("java/util/LinkedList$ListItr", "next", "Ljava/util/LinkedList$Node;", false)
  | 2 => ("java/util/LinkedList$ListItr", "nextIndex", "I", false)
  | 3 => ("java/util/LinkedList$ListItr", "expectedModCount", "I", false)
  | _ => ("java/util/LinkedList$ListItr", "this$0", "Ljava/util/LinkedList;", true)
def tyJ29 : Nat → FieldType := fun k => match k with
  | 0 => .object "java/util/LinkedList$Node"
  | 1 => .object "java/util/LinkedList$Node"
  | 2 => .int
  | 3 => .int
  | _ => .object "java/util/LinkedList"
abbrev wsJ290 : List Cond := u_ws RJ29 TJ29 5
theorem nmJ29 : ∀ a, a < 5 → ∀ b, b < 5 → a ≠ b → (TJ29 a).2.1 ≠ (TJ29 b).2.1 := by decide +kernel
theorem tyJ29_ok : ∀ k, k < 5 → parseFieldDescriptor (TJ29 k).2.2.1 = some (tyJ29 k) := by decide +kernel
abbrev cJ29_hasNext : ByteArray := prog_60_method_2_code
def yJ29_hasNext : MethodName := ⟨RJ29, "hasNext", "()Z"⟩
def dkwJ29_hasNext_0 : List UInt8 := [42, 180, 0, 33, 42, 180, 0, 1, 180, 0, 22, 162, 0, 7, 4, 167, 0, 4, 3, 172]
abbrev dktJ29_hasNext_0 : List UInt8 := dkwJ29_hasNext_0 ++ []
theorem dksJ29_hasNext_0 : cJ29_hasNext.data.toList.drop 0 = dktJ29_hasNext_0 := by decide +kernel
theorem dJ29_hasNext_0 : decode cJ29_hasNext 0 = .ok (.aload_n 0, 1) := dk_42 (dk_at dksJ29_hasNext_0 0 rfl rfl)
theorem dJ29_hasNext_1 : decode cJ29_hasNext 1 = .ok (.getfield 33, 3) := dk_180 0 33 (dk_at dksJ29_hasNext_0 1 rfl rfl)
theorem dJ29_hasNext_4 : decode cJ29_hasNext 4 = .ok (.aload_n 0, 1) := dk_42 (dk_at dksJ29_hasNext_0 4 rfl rfl)
theorem dJ29_hasNext_5 : decode cJ29_hasNext 5 = .ok (.getfield 1, 3) := dk_180 0 1 (dk_at dksJ29_hasNext_0 5 rfl rfl)
theorem dJ29_hasNext_8 : decode cJ29_hasNext 8 = .ok (.getfield 22, 3) := dk_180 0 22 (dk_at dksJ29_hasNext_0 8 rfl rfl)
theorem dJ29_hasNext_11 : decode cJ29_hasNext 11 = .ok (.if_icmp .ge 7, 3) := dk_162 0 7 (dk_at dksJ29_hasNext_0 11 rfl rfl)
theorem dJ29_hasNext_14 : decode cJ29_hasNext 14 = .ok (.iconst 1, 1) := dk_4 (dk_at dksJ29_hasNext_0 14 rfl rfl)
theorem dJ29_hasNext_15 : decode cJ29_hasNext 15 = .ok (.goto 4, 3) := dk_167 0 4 (dk_at dksJ29_hasNext_0 15 rfl rfl)
theorem dJ29_hasNext_18 : decode cJ29_hasNext 18 = .ok (.iconst 0, 1) := dk_3 (dk_at dksJ29_hasNext_0 18 rfl rfl)
theorem dJ29_hasNext_19 : decode cJ29_hasNext 19 = .ok (.ireturn, 1) := dk_172 (dk_at dksJ29_hasNext_0 19 rfl rfl)
abbrev cJ29_next : ByteArray := prog_60_method_3_code
def yJ29_next : MethodName := ⟨RJ29, "next", "()Ljava/lang/Object;"⟩
def dkwJ29_next_2 : List UInt8 := [42, 180, 0, 46, 180, 0, 52, 176]
abbrev dktJ29_next_2 : List UInt8 := dkwJ29_next_2 ++ []
def dkwJ29_next_1 : List UInt8 := [181, 0, 46, 42, 42, 180, 0, 29, 180, 0, 49, 181, 0, 29, 42, 89, 180, 0, 33, 4, 96, 181, 0, 33]
abbrev dktJ29_next_1 : List UInt8 := dkwJ29_next_1 ++ dktJ29_next_2
def dkwJ29_next_0 : List UInt8 := [42, 182, 0, 36, 42, 182, 0, 39, 154, 0, 11, 187, 0, 43, 89, 183, 0, 45, 191, 42, 42, 180, 0, 29]
abbrev dktJ29_next_0 : List UInt8 := dkwJ29_next_0 ++ dktJ29_next_1
theorem dksJ29_next_0 : cJ29_next.data.toList.drop 0 = dktJ29_next_0 := by decide +kernel
theorem dksJ29_next_1 : cJ29_next.data.toList.drop 24 = dktJ29_next_1 := dk_seg dksJ29_next_0 24 rfl rfl
theorem dksJ29_next_2 : cJ29_next.data.toList.drop 48 = dktJ29_next_2 := dk_seg dksJ29_next_1 24 rfl rfl
theorem dJ29_next_0 : decode cJ29_next 0 = .ok (.aload_n 0, 1) := dk_42 (dk_at dksJ29_next_0 0 rfl rfl)
theorem dJ29_next_1 : decode cJ29_next 1 = .ok (.invokevirtual 36, 3) := dk_182 0 36 (dk_at dksJ29_next_0 1 rfl rfl)
theorem dJ29_next_4 : decode cJ29_next 4 = .ok (.aload_n 0, 1) := dk_42 (dk_at dksJ29_next_0 4 rfl rfl)
theorem dJ29_next_5 : decode cJ29_next 5 = .ok (.invokevirtual 39, 3) := dk_182 0 39 (dk_at dksJ29_next_0 5 rfl rfl)
theorem dJ29_next_8 : decode cJ29_next 8 = .ok (.ifCond .ne 11, 3) := dk_154 0 11 (dk_at dksJ29_next_0 8 rfl rfl)
theorem dJ29_next_11 : decode cJ29_next 11 = .ok (.new 43, 3) := dk_187 0 43 (dk_at dksJ29_next_0 11 rfl rfl)
theorem dJ29_next_14 : decode cJ29_next 14 = .ok (.dup, 1) := dk_89 (dk_at dksJ29_next_0 14 rfl rfl)
theorem dJ29_next_15 : decode cJ29_next 15 = .ok (.invokespecial 45, 3) := dk_183 0 45 (dk_at dksJ29_next_0 15 rfl rfl)
theorem dJ29_next_18 : decode cJ29_next 18 = .ok (.athrow, 1) := dk_191 (dk_at dksJ29_next_0 18 rfl rfl)
theorem dJ29_next_19 : decode cJ29_next 19 = .ok (.aload_n 0, 1) := dk_42 (dk_at dksJ29_next_0 19 rfl rfl)
theorem dJ29_next_20 : decode cJ29_next 20 = .ok (.aload_n 0, 1) := dk_42 (dk_at dksJ29_next_0 20 rfl rfl)
theorem dJ29_next_21 : decode cJ29_next 21 = .ok (.getfield 29, 3) := dk_180 0 29 (dk_at dksJ29_next_0 21 rfl rfl)
theorem dJ29_next_24 : decode cJ29_next 24 = .ok (.putfield 46, 3) := dk_181 0 46 (dk_at dksJ29_next_1 0 rfl rfl)
theorem dJ29_next_27 : decode cJ29_next 27 = .ok (.aload_n 0, 1) := dk_42 (dk_at dksJ29_next_1 3 rfl rfl)
theorem dJ29_next_28 : decode cJ29_next 28 = .ok (.aload_n 0, 1) := dk_42 (dk_at dksJ29_next_1 4 rfl rfl)
theorem dJ29_next_29 : decode cJ29_next 29 = .ok (.getfield 29, 3) := dk_180 0 29 (dk_at dksJ29_next_1 5 rfl rfl)
theorem dJ29_next_32 : decode cJ29_next 32 = .ok (.getfield 49, 3) := dk_180 0 49 (dk_at dksJ29_next_1 8 rfl rfl)
theorem dJ29_next_35 : decode cJ29_next 35 = .ok (.putfield 29, 3) := dk_181 0 29 (dk_at dksJ29_next_1 11 rfl rfl)
theorem dJ29_next_38 : decode cJ29_next 38 = .ok (.aload_n 0, 1) := dk_42 (dk_at dksJ29_next_1 14 rfl rfl)
theorem dJ29_next_39 : decode cJ29_next 39 = .ok (.dup, 1) := dk_89 (dk_at dksJ29_next_1 15 rfl rfl)
theorem dJ29_next_40 : decode cJ29_next 40 = .ok (.getfield 33, 3) := dk_180 0 33 (dk_at dksJ29_next_1 16 rfl rfl)
theorem dJ29_next_43 : decode cJ29_next 43 = .ok (.iconst 1, 1) := dk_4 (dk_at dksJ29_next_1 19 rfl rfl)
theorem dJ29_next_44 : decode cJ29_next 44 = .ok (.iadd, 1) := dk_96 (dk_at dksJ29_next_1 20 rfl rfl)
theorem dJ29_next_45 : decode cJ29_next 45 = .ok (.putfield 33, 3) := dk_181 0 33 (dk_at dksJ29_next_1 21 rfl rfl)
theorem dJ29_next_48 : decode cJ29_next 48 = .ok (.aload_n 0, 1) := dk_42 (dk_at dksJ29_next_2 0 rfl rfl)
theorem dJ29_next_49 : decode cJ29_next 49 = .ok (.getfield 46, 3) := dk_180 0 46 (dk_at dksJ29_next_2 1 rfl rfl)
theorem dJ29_next_52 : decode cJ29_next 52 = .ok (.getfield 52, 3) := dk_180 0 52 (dk_at dksJ29_next_2 4 rfl rfl)
theorem dJ29_next_55 : decode cJ29_next 55 = .ok (.areturn, 1) := dk_176 (dk_at dksJ29_next_2 7 rfl rfl)
abbrev cJ29_checkForComodification : ByteArray := prog_60_method_12_code
def yJ29_checkForComodification : MethodName := ⟨RJ29, "checkForComodification", "()V"⟩
def dkwJ29_checkForComodification_0 : List UInt8 := [42, 180, 0, 1, 180, 0, 13, 42, 180, 0, 19, 159, 0, 11, 187, 0, 91, 89, 183, 0, 93, 191, 177]
abbrev dktJ29_checkForComodification_0 : List UInt8 := dkwJ29_checkForComodification_0 ++ []
theorem dksJ29_checkForComodification_0 : cJ29_checkForComodification.data.toList.drop 0 = dktJ29_checkForComodification_0 := by decide +kernel
theorem dJ29_checkForComodification_0 : decode cJ29_checkForComodification 0 = .ok (.aload_n 0, 1) := dk_42 (dk_at dksJ29_checkForComodification_0 0 rfl rfl)
theorem dJ29_checkForComodification_1 : decode cJ29_checkForComodification 1 = .ok (.getfield 1, 3) := dk_180 0 1 (dk_at dksJ29_checkForComodification_0 1 rfl rfl)
theorem dJ29_checkForComodification_4 : decode cJ29_checkForComodification 4 = .ok (.getfield 13, 3) := dk_180 0 13 (dk_at dksJ29_checkForComodification_0 4 rfl rfl)
theorem dJ29_checkForComodification_7 : decode cJ29_checkForComodification 7 = .ok (.aload_n 0, 1) := dk_42 (dk_at dksJ29_checkForComodification_0 7 rfl rfl)
theorem dJ29_checkForComodification_8 : decode cJ29_checkForComodification 8 = .ok (.getfield 19, 3) := dk_180 0 19 (dk_at dksJ29_checkForComodification_0 8 rfl rfl)
theorem dJ29_checkForComodification_11 : decode cJ29_checkForComodification 11 = .ok (.if_icmp .eq 11, 3) := dk_159 0 11 (dk_at dksJ29_checkForComodification_0 11 rfl rfl)
theorem dJ29_checkForComodification_14 : decode cJ29_checkForComodification 14 = .ok (.new 91, 3) := dk_187 0 91 (dk_at dksJ29_checkForComodification_0 14 rfl rfl)
theorem dJ29_checkForComodification_17 : decode cJ29_checkForComodification 17 = .ok (.dup, 1) := dk_89 (dk_at dksJ29_checkForComodification_0 17 rfl rfl)
theorem dJ29_checkForComodification_18 : decode cJ29_checkForComodification 18 = .ok (.invokespecial 93, 3) := dk_183 0 93 (dk_at dksJ29_checkForComodification_0 18 rfl rfl)
theorem dJ29_checkForComodification_21 : decode cJ29_checkForComodification 21 = .ok (.athrow, 1) := dk_191 (dk_at dksJ29_checkForComodification_0 21 rfl rfl)
theorem dJ29_checkForComodification_22 : decode cJ29_checkForComodification 22 = .ok (.return_, 1) := dk_177 (dk_at dksJ29_checkForComodification_0 22 rfl rfl)
abbrev cJ29_init : ByteArray := prog_60_method_1_code
def yJ29_init : MethodName := ⟨RJ29, "<init>", "(Ljava/util/LinkedList;I)V"⟩
def dkwJ29_init_1 : List UInt8 := [180, 0, 22, 160, 0, 7, 1, 167, 0, 8, 43, 28, 182, 0, 25, 181, 0, 29, 42, 28, 181, 0, 33, 177]
abbrev dktJ29_init_1 : List UInt8 := dkwJ29_init_1 ++ []
def dkwJ29_init_0 : List UInt8 := [42, 43, 181, 0, 1, 42, 183, 0, 7, 42, 42, 180, 0, 1, 180, 0, 13, 181, 0, 19, 42, 28, 43]
abbrev dktJ29_init_0 : List UInt8 := dkwJ29_init_0 ++ dktJ29_init_1
theorem dksJ29_init_0 : cJ29_init.data.toList.drop 0 = dktJ29_init_0 := by decide +kernel
theorem dksJ29_init_1 : cJ29_init.data.toList.drop 23 = dktJ29_init_1 := dk_seg dksJ29_init_0 23 rfl rfl
theorem dJ29_init_0 : decode cJ29_init 0 = .ok (.aload_n 0, 1) := dk_42 (dk_at dksJ29_init_0 0 rfl rfl)
theorem dJ29_init_1 : decode cJ29_init 1 = .ok (.aload_n 1, 1) := dk_43 (dk_at dksJ29_init_0 1 rfl rfl)
theorem dJ29_init_2 : decode cJ29_init 2 = .ok (.putfield 1, 3) := dk_181 0 1 (dk_at dksJ29_init_0 2 rfl rfl)
theorem dJ29_init_5 : decode cJ29_init 5 = .ok (.aload_n 0, 1) := dk_42 (dk_at dksJ29_init_0 5 rfl rfl)
theorem dJ29_init_6 : decode cJ29_init 6 = .ok (.invokespecial 7, 3) := dk_183 0 7 (dk_at dksJ29_init_0 6 rfl rfl)
theorem dJ29_init_9 : decode cJ29_init 9 = .ok (.aload_n 0, 1) := dk_42 (dk_at dksJ29_init_0 9 rfl rfl)
theorem dJ29_init_10 : decode cJ29_init 10 = .ok (.aload_n 0, 1) := dk_42 (dk_at dksJ29_init_0 10 rfl rfl)
theorem dJ29_init_11 : decode cJ29_init 11 = .ok (.getfield 1, 3) := dk_180 0 1 (dk_at dksJ29_init_0 11 rfl rfl)
theorem dJ29_init_14 : decode cJ29_init 14 = .ok (.getfield 13, 3) := dk_180 0 13 (dk_at dksJ29_init_0 14 rfl rfl)
theorem dJ29_init_17 : decode cJ29_init 17 = .ok (.putfield 19, 3) := dk_181 0 19 (dk_at dksJ29_init_0 17 rfl rfl)
theorem dJ29_init_20 : decode cJ29_init 20 = .ok (.aload_n 0, 1) := dk_42 (dk_at dksJ29_init_0 20 rfl rfl)
theorem dJ29_init_21 : decode cJ29_init 21 = .ok (.iload_n 2, 1) := dk_28 (dk_at dksJ29_init_0 21 rfl rfl)
theorem dJ29_init_22 : decode cJ29_init 22 = .ok (.aload_n 1, 1) := dk_43 (dk_at dksJ29_init_0 22 rfl rfl)
theorem dJ29_init_23 : decode cJ29_init 23 = .ok (.getfield 22, 3) := dk_180 0 22 (dk_at dksJ29_init_1 0 rfl rfl)
theorem dJ29_init_26 : decode cJ29_init 26 = .ok (.if_icmp .ne 7, 3) := dk_160 0 7 (dk_at dksJ29_init_1 3 rfl rfl)
theorem dJ29_init_29 : decode cJ29_init 29 = .ok (.aconst_null, 1) := dk_1 (dk_at dksJ29_init_1 6 rfl rfl)
theorem dJ29_init_30 : decode cJ29_init 30 = .ok (.goto 8, 3) := dk_167 0 8 (dk_at dksJ29_init_1 7 rfl rfl)
theorem dJ29_init_33 : decode cJ29_init 33 = .ok (.aload_n 1, 1) := dk_43 (dk_at dksJ29_init_1 10 rfl rfl)
theorem dJ29_init_34 : decode cJ29_init 34 = .ok (.iload_n 2, 1) := dk_28 (dk_at dksJ29_init_1 11 rfl rfl)
theorem dJ29_init_35 : decode cJ29_init 35 = .ok (.invokevirtual 25, 3) := dk_182 0 25 (dk_at dksJ29_init_1 12 rfl rfl)
theorem dJ29_init_38 : decode cJ29_init 38 = .ok (.putfield 29, 3) := dk_181 0 29 (dk_at dksJ29_init_1 15 rfl rfl)
theorem dJ29_init_41 : decode cJ29_init 41 = .ok (.aload_n 0, 1) := dk_42 (dk_at dksJ29_init_1 18 rfl rfl)
theorem dJ29_init_42 : decode cJ29_init 42 = .ok (.iload_n 2, 1) := dk_28 (dk_at dksJ29_init_1 19 rfl rfl)
theorem dJ29_init_43 : decode cJ29_init 43 = .ok (.putfield 33, 3) := dk_181 0 33 (dk_at dksJ29_init_1 20 rfl rfl)
theorem dJ29_init_46 : decode cJ29_init 46 = .ok (.return_, 1) := dk_177 (dk_at dksJ29_init_1 23 rfl rfl)
theorem q145 : (Jvm.Cond.initialized "java/util/LinkedList$ListItr") ∈ lw_all := lw_g (lw_at lw_m1 43 rfl) rfl
theorem q187 : (Jvm.Cond.fieldLink "java/util/LinkedList$ListItr" (13 : Nat) "java/util/LinkedList" "modCount" "I") ∈ lw_all := lw_g (lw_at lw_m1 85 rfl) rfl
theorem q213 : (Jvm.Cond.fieldLink "java/util/LinkedList$ListItr" (22 : Nat) "java/util/LinkedList" "size" "I") ∈ lw_all := lw_g (lw_at lw_m1 111 rfl) rfl
theorem q285 : (Jvm.Cond.selects "java/util/LinkedList$ListItr" ({ cls := "java/lang/Object", name := "getClass", desc := "()Ljava/lang/Class;" } : Jvm.MethodName) ({ cls := "java/lang/Object", name := "getClass", desc := "()Ljava/lang/Class;" } : Jvm.MethodName)) ∈ lw_all := lw_g (lw_at lw_m1 183 rfl) rfl
theorem q575 : (Jvm.Cond.castable "java/util/LinkedList$ListItr" "java/util/Iterator") ∈ lw_tbl := lw_at lw_m2 233 rfl
theorem q576 : (Jvm.Cond.selects "java/util/LinkedList$ListItr" ({ cls := "java/util/Iterator", name := "hasNext", desc := "()Z" } : Jvm.MethodName) ({ cls := "java/util/LinkedList$ListItr", name := "hasNext", desc := "()Z" } : Jvm.MethodName)) ∈ lw_all := lw_g (lw_at lw_m2 234 rfl) rfl
theorem q577 : (Jvm.Cond.unhidden "java/util/LinkedList$ListItr" "hasNext" "()Z") ∈ lw_tbl := lw_at lw_m2 235 rfl
theorem q578 : (Jvm.Cond.instanceMethod ({ cls := "java/util/LinkedList$ListItr", name := "hasNext", desc := "()Z" } : Jvm.MethodName)) ∈ lw_all := lw_g (lw_at lw_m2 236 rfl) rfl
theorem q579 : (Jvm.Cond.publicMethod ({ cls := "java/util/LinkedList$ListItr", name := "hasNext", desc := "()Z" } : Jvm.MethodName)) ∈ lw_tbl := lw_at lw_m2 237 rfl
theorem q580 : (Jvm.Cond.code ({ cls := "java/util/LinkedList$ListItr", name := "hasNext", desc := "()Z" } : Jvm.MethodName) prog_60_method_2_code (1 : Nat) (Option.some Jvm.ClassFile.FieldType.boolean)) ∈ lw_all := lw_g (lw_at lw_m2 238 rfl) rfl
theorem q999 : (Jvm.Cond.selects "java/util/LinkedList$ListItr" ({ cls := "java/util/Iterator", name := "next", desc := "()Ljava/lang/Object;" } : Jvm.MethodName) ({ cls := "java/util/LinkedList$ListItr", name := "next", desc := "()Ljava/lang/Object;" } : Jvm.MethodName)) ∈ lw_all := lw_g (lw_at lw_m4 177 rfl) rfl
theorem q1000 : (Jvm.Cond.unhidden "java/util/LinkedList$ListItr" "next" "()Ljava/lang/Object;") ∈ lw_tbl := lw_at lw_m4 178 rfl
theorem q1001 : (Jvm.Cond.instanceMethod ({ cls := "java/util/LinkedList$ListItr", name := "next", desc := "()Ljava/lang/Object;" } : Jvm.MethodName)) ∈ lw_all := lw_g (lw_at lw_m4 179 rfl) rfl
theorem q1002 : (Jvm.Cond.publicMethod ({ cls := "java/util/LinkedList$ListItr", name := "next", desc := "()Ljava/lang/Object;" } : Jvm.MethodName)) ∈ lw_tbl := lw_at lw_m4 180 rfl
theorem q1003 : (Jvm.Cond.code ({ cls := "java/util/LinkedList$ListItr", name := "next", desc := "()Ljava/lang/Object;" } : Jvm.MethodName) prog_60_method_3_code (1 : Nat) (Option.some (Jvm.ClassFile.FieldType.object "java/lang/Object"))) ∈ lw_all := lw_g (lw_at lw_m4 181 rfl) rfl
theorem q1004 : (Jvm.Cond.methodLink "java/util/LinkedList$ListItr" (36 : Nat) ({ cls := "java/util/LinkedList$ListItr", name := "checkForComodification", desc := "()V" } : Jvm.MethodName)) ∈ lw_all := lw_g (lw_at lw_m4 182 rfl) rfl
theorem q1005 : (Jvm.Cond.instanceMethod ({ cls := "java/util/LinkedList$ListItr", name := "checkForComodification", desc := "()V" } : Jvm.MethodName)) ∈ lw_all := lw_g (lw_at lw_m4 183 rfl) rfl
theorem q1006 : (Jvm.Cond.selects "java/util/LinkedList$ListItr" ({ cls := "java/util/LinkedList$ListItr", name := "checkForComodification", desc := "()V" } : Jvm.MethodName) ({ cls := "java/util/LinkedList$ListItr", name := "checkForComodification", desc := "()V" } : Jvm.MethodName)) ∈ lw_all := lw_g (lw_at lw_m4 184 rfl) rfl
theorem q1007 : (Jvm.Cond.code ({ cls := "java/util/LinkedList$ListItr", name := "checkForComodification", desc := "()V" } : Jvm.MethodName) prog_60_method_12_code (1 : Nat) (Option.none : Option Jvm.ClassFile.FieldType)) ∈ lw_all := lw_g (lw_at lw_m4 185 rfl) rfl
theorem q1008 : (Jvm.Cond.methodLink "java/util/LinkedList$ListItr" (39 : Nat) ({ cls := "java/util/LinkedList$ListItr", name := "hasNext", desc := "()Z" } : Jvm.MethodName)) ∈ lw_all := lw_g (lw_at lw_m4 186 rfl) rfl
theorem q1009 : (Jvm.Cond.classLink "java/util/LinkedList$ListItr" (43 : Nat) "java/util/NoSuchElementException") ∈ lw_all := lw_g (lw_at lw_m4 187 rfl) rfl
theorem q1010 : (Jvm.Cond.methodLink "java/util/LinkedList$ListItr" (45 : Nat) ({ cls := "java/util/NoSuchElementException", name := "<init>", desc := "()V" } : Jvm.MethodName)) ∈ lw_all := lw_g (lw_at lw_m4 188 rfl) rfl
theorem q1063 : (Jvm.Cond.fieldLink "java/util/LinkedList$ListItr" (52 : Nat) "java/util/LinkedList$Node" "item" "Ljava/lang/Object;") ∈ lw_all := lw_g (lw_at lw_m5 1 rfl) rfl
theorem q1066 : (Jvm.Cond.fieldLink "java/util/LinkedList$ListItr" (49 : Nat) "java/util/LinkedList$Node" "next" "Ljava/util/LinkedList$Node;") ∈ lw_all := lw_g (lw_at lw_m5 4 rfl) rfl
theorem q1167 : (Jvm.Cond.instantiable "java/util/LinkedList$ListItr" (5 : Nat)) ∈ lw_all := lw_g (lw_at lw_m5 105 rfl) rfl
theorem q1169 : (Jvm.Cond.instanceMethod ({ cls := "java/util/LinkedList$ListItr", name := "<init>", desc := "(Ljava/util/LinkedList;I)V" } : Jvm.MethodName)) ∈ lw_all := lw_g (lw_at lw_m5 107 rfl) rfl
theorem q1170 : (Jvm.Cond.code ({ cls := "java/util/LinkedList$ListItr", name := "<init>", desc := "(Ljava/util/LinkedList;I)V" } : Jvm.MethodName) prog_60_method_1_code (3 : Nat) (Option.none : Option Jvm.ClassFile.FieldType)) ∈ lw_all := lw_g (lw_at lw_m5 108 rfl) rfl
theorem q1171 : (Jvm.Cond.methodLink "java/util/LinkedList$ListItr" (7 : Nat) ({ cls := "java/lang/Object", name := "<init>", desc := "()V" } : Jvm.MethodName)) ∈ lw_all := lw_g (lw_at lw_m5 109 rfl) rfl
theorem q1172 : (Jvm.Cond.methodLink "java/util/LinkedList$ListItr" (25 : Nat) ({ cls := "java/util/LinkedList", name := "node", desc := "(I)Ljava/util/LinkedList$Node;" } : Jvm.MethodName)) ∈ lw_all := lw_g (lw_at lw_m5 110 rfl) rfl
theorem q1173 : (Jvm.Cond.fieldLink "java/util/LinkedList$ListItr" (46 : Nat) "java/util/LinkedList$ListItr" "lastReturned" "Ljava/util/LinkedList$Node;") ∈ lw_all := lw_g (lw_at lw_m5 111 rfl) rfl
theorem q1174 : (Jvm.Cond.fieldLink "java/util/LinkedList$ListItr" (29 : Nat) "java/util/LinkedList$ListItr" "next" "Ljava/util/LinkedList$Node;") ∈ lw_all := lw_g (lw_at lw_m5 112 rfl) rfl
theorem q1175 : (Jvm.Cond.fieldLink "java/util/LinkedList$ListItr" (33 : Nat) "java/util/LinkedList$ListItr" "nextIndex" "I") ∈ lw_all := lw_g (lw_at lw_m5 113 rfl) rfl
theorem q1176 : (Jvm.Cond.fieldLink "java/util/LinkedList$ListItr" (19 : Nat) "java/util/LinkedList$ListItr" "expectedModCount" "I") ∈ lw_all := lw_g (lw_at lw_m5 114 rfl) rfl
theorem q1177 : (Jvm.Cond.fieldLink "java/util/LinkedList$ListItr" (1 : Nat) "java/util/LinkedList$ListItr" "this$0" "Ljava/util/LinkedList;") ∈ lw_all := lw_g (lw_at lw_m5 115 rfl) rfl
theorem q1178 : (Jvm.Cond.lays "java/util/LinkedList$ListItr" "java/util/LinkedList$ListItr" "lastReturned" "Ljava/util/LinkedList$Node;") ∈ lw_all := lw_g (lw_at lw_m5 116 rfl) rfl
theorem q1179 : (Jvm.Cond.soleField "java/util/LinkedList$ListItr" "lastReturned") ∈ lw_all := lw_g (lw_at lw_m5 117 rfl) rfl
theorem q1180 : (Jvm.Cond.lays "java/util/LinkedList$ListItr" "java/util/LinkedList$ListItr" "next" "Ljava/util/LinkedList$Node;") ∈ lw_all := lw_g (lw_at lw_m5 118 rfl) rfl
theorem q1181 : (Jvm.Cond.soleField "java/util/LinkedList$ListItr" "next") ∈ lw_all := lw_g (lw_at lw_m5 119 rfl) rfl
theorem q1182 : (Jvm.Cond.lays "java/util/LinkedList$ListItr" "java/util/LinkedList$ListItr" "nextIndex" "I") ∈ lw_all := lw_g (lw_at lw_m5 120 rfl) rfl
theorem q1183 : (Jvm.Cond.soleField "java/util/LinkedList$ListItr" "nextIndex") ∈ lw_all := lw_g (lw_at lw_m5 121 rfl) rfl
theorem q1184 : (Jvm.Cond.lays "java/util/LinkedList$ListItr" "java/util/LinkedList$ListItr" "expectedModCount" "I") ∈ lw_all := lw_g (lw_at lw_m5 122 rfl) rfl
theorem q1185 : (Jvm.Cond.soleField "java/util/LinkedList$ListItr" "expectedModCount") ∈ lw_all := lw_g (lw_at lw_m5 123 rfl) rfl
theorem q1186 : (Jvm.Cond.laysFinal "java/util/LinkedList$ListItr" "java/util/LinkedList$ListItr" "this$0" "Ljava/util/LinkedList;") ∈ lw_all := lw_g (lw_at lw_m5 124 rfl) rfl
theorem q1187 : (Jvm.Cond.soleField "java/util/LinkedList$ListItr" "this$0") ∈ lw_all := lw_g (lw_at lw_m5 125 rfl) rfl
theorem q1188 : (Jvm.Cond.superclass "java/util/LinkedList$ListItr" "java/lang/Object") ∈ lw_all := lw_g (lw_at lw_m5 126 rfl) rfl
theorem q3156 : (Jvm.Cond.selects "java/util/LinkedList$ListItr" ({ cls := "java/util/LinkedList$ListItr", name := "hasNext", desc := "()Z" } : Jvm.MethodName) ({ cls := "java/util/LinkedList$ListItr", name := "hasNext", desc := "()Z" } : Jvm.MethodName)) ∈ lw_all := lw_g (lw_at lw_m13 174 rfl) rfl
theorem q3193 : (Jvm.Cond.castable "java/util/LinkedList$ListItr" "java/lang/Object") ∈ lw_tbl := lw_at lw_m13 211 rfl
theorem in_J29 : ∀ w ∈ wsJ290, w ∈ lw_all := lw_in wsJ290 [1178, 1180, 1182, 1184, 1186] (by decide +kernel) (by decide +kernel)
/-! java/lang/UnsupportedOperationException -/
set_option maxRecDepth 100000
def RJ30 : String := "java/lang/UnsupportedOperationException"
def TJ30 : u_T := fun k => match k with
  | 0 => ("java/lang/Throwable", "cause", "Ljava/lang/Throwable;", false)
  | 1 => ("java/lang/Throwable", "stackTrace", "[Ljava/lang/StackTraceElement;", false)
  | 2 => ("java/lang/Throwable", "suppressedExceptions", "Ljava/util/List;", false)
  | 3 => ("java/lang/Throwable", "detailMessage", "Ljava/lang/String;", false)
  | 4 => ("java/lang/Throwable", "backtrace", "Ljava/lang/Object;", false)
  | _ => ("java/lang/Throwable", "depth", "I", false)
def tyJ30 : Nat → FieldType := fun k => match k with
  | 0 => .object "java/lang/Throwable"
  | 1 => .array (.object "java/lang/StackTraceElement")
  | 2 => .object "java/util/List"
  | 3 => .object "java/lang/String"
  | 4 => .object "java/lang/Object"
  | _ => .int
abbrev wsJ300 : List Cond := u_ws RJ30 TJ30 6
theorem nmJ30 : ∀ a, a < 6 → ∀ b, b < 6 → a ≠ b → (TJ30 a).2.1 ≠ (TJ30 b).2.1 := by decide +kernel
theorem tyJ30_ok : ∀ k, k < 6 → parseFieldDescriptor (TJ30 k).2.2.1 = some (tyJ30 k) := by decide +kernel
abbrev cJ30_init : ByteArray := prog_42_method_1_code
def yJ30_init : MethodName := ⟨RJ30, "<init>", "()V"⟩
theorem dJ30_init_0 : decode cJ30_init 0 = .ok (.aload_n 0, 1) := by decide +kernel
theorem dJ30_init_1 : decode cJ30_init 1 = .ok (.invokespecial 1, 3) := by decide +kernel
theorem dJ30_init_4 : decode cJ30_init 4 = .ok (.return_, 1) := by decide +kernel
theorem q146 : (Jvm.Cond.initialized "java/lang/UnsupportedOperationException") ∈ lw_all := lw_g (lw_at lw_m1 44 rfl) rfl
theorem q277 : (Jvm.Cond.selects "java/lang/UnsupportedOperationException" ({ cls := "java/lang/Object", name := "getClass", desc := "()Ljava/lang/Class;" } : Jvm.MethodName) ({ cls := "java/lang/Object", name := "getClass", desc := "()Ljava/lang/Class;" } : Jvm.MethodName)) ∈ lw_all := lw_g (lw_at lw_m1 175 rfl) rfl
theorem q649 : (Jvm.Cond.selects "java/lang/UnsupportedOperationException" ({ cls := "java/lang/Throwable", name := "fillInStackTrace", desc := "()Ljava/lang/Throwable;" } : Jvm.MethodName) ({ cls := "java/lang/Throwable", name := "fillInStackTrace", desc := "()Ljava/lang/Throwable;" } : Jvm.MethodName)) ∈ lw_all := lw_g (lw_at lw_m3 67 rfl) rfl
theorem q938 : (Jvm.Cond.selects "java/lang/UnsupportedOperationException" ({ cls := "java/lang/Throwable", name := "toString", desc := "()Ljava/lang/String;" } : Jvm.MethodName) ({ cls := "java/lang/Throwable", name := "toString", desc := "()Ljava/lang/String;" } : Jvm.MethodName)) ∈ lw_all := lw_g (lw_at lw_m4 116 rfl) rfl
theorem q952 : (Jvm.Cond.selects "java/lang/UnsupportedOperationException" ({ cls := "java/lang/Throwable", name := "getLocalizedMessage", desc := "()Ljava/lang/String;" } : Jvm.MethodName) ({ cls := "java/lang/Throwable", name := "getLocalizedMessage", desc := "()Ljava/lang/String;" } : Jvm.MethodName)) ∈ lw_all := lw_g (lw_at lw_m4 130 rfl) rfl
theorem q965 : (Jvm.Cond.selects "java/lang/UnsupportedOperationException" ({ cls := "java/lang/Throwable", name := "getMessage", desc := "()Ljava/lang/String;" } : Jvm.MethodName) ({ cls := "java/lang/Throwable", name := "getMessage", desc := "()Ljava/lang/String;" } : Jvm.MethodName)) ∈ lw_all := lw_g (lw_at lw_m4 143 rfl) rfl
theorem q1799 : (Jvm.Cond.selects "java/lang/UnsupportedOperationException" ({ cls := "java/lang/Object", name := "equals", desc := "(Ljava/lang/Object;)Z" } : Jvm.MethodName) ({ cls := "java/lang/Object", name := "equals", desc := "(Ljava/lang/Object;)Z" } : Jvm.MethodName)) ∈ lw_all := lw_g (lw_at lw_m8 17 rfl) rfl
theorem q1945 : (Jvm.Cond.instantiable "java/lang/UnsupportedOperationException" (6 : Nat)) ∈ lw_all := lw_g (lw_at lw_m8 163 rfl) rfl
theorem q1946 : (Jvm.Cond.castable "java/lang/UnsupportedOperationException" "java/lang/UnsupportedOperationException") ∈ lw_tbl := lw_at lw_m8 164 rfl
theorem q1947 : (Jvm.Cond.selects "java/lang/UnsupportedOperationException" ({ cls := "java/lang/Throwable", name := "fillInStackTrace", desc := "(I)Ljava/lang/Throwable;" } : Jvm.MethodName) ({ cls := "java/lang/Throwable", name := "fillInStackTrace", desc := "(I)Ljava/lang/Throwable;" } : Jvm.MethodName)) ∈ lw_all := lw_g (lw_at lw_m8 165 rfl) rfl
theorem q1948 : (Jvm.Cond.lays "java/lang/UnsupportedOperationException" "java/lang/Throwable" "cause" "Ljava/lang/Throwable;") ∈ lw_all := lw_g (lw_at lw_m8 166 rfl) rfl
theorem q1949 : (Jvm.Cond.lays "java/lang/UnsupportedOperationException" "java/lang/Throwable" "stackTrace" "[Ljava/lang/StackTraceElement;") ∈ lw_all := lw_g (lw_at lw_m8 167 rfl) rfl
theorem q1950 : (Jvm.Cond.lays "java/lang/UnsupportedOperationException" "java/lang/Throwable" "suppressedExceptions" "Ljava/util/List;") ∈ lw_all := lw_g (lw_at lw_m8 168 rfl) rfl
theorem q1951 : (Jvm.Cond.lays "java/lang/UnsupportedOperationException" "java/lang/Throwable" "detailMessage" "Ljava/lang/String;") ∈ lw_all := lw_g (lw_at lw_m8 169 rfl) rfl
theorem q1952 : (Jvm.Cond.lays "java/lang/UnsupportedOperationException" "java/lang/Throwable" "backtrace" "Ljava/lang/Object;") ∈ lw_all := lw_g (lw_at lw_m8 170 rfl) rfl
theorem q1954 : (Jvm.Cond.instanceMethod ({ cls := "java/lang/UnsupportedOperationException", name := "<init>", desc := "()V" } : Jvm.MethodName)) ∈ lw_all := lw_g (lw_at lw_m8 172 rfl) rfl
theorem q1955 : (Jvm.Cond.code ({ cls := "java/lang/UnsupportedOperationException", name := "<init>", desc := "()V" } : Jvm.MethodName) prog_42_method_1_code (1 : Nat) (Option.none : Option Jvm.ClassFile.FieldType)) ∈ lw_all := lw_g (lw_at lw_m8 173 rfl) rfl
theorem q1956 : (Jvm.Cond.methodLink "java/lang/UnsupportedOperationException" (1 : Nat) ({ cls := "java/lang/RuntimeException", name := "<init>", desc := "()V" } : Jvm.MethodName)) ∈ lw_all := lw_g (lw_at lw_m8 174 rfl) rfl
theorem q1957 : (Jvm.Cond.lays "java/lang/UnsupportedOperationException" "java/lang/Throwable" "depth" "I") ∈ lw_all := lw_g (lw_at lw_m8 175 rfl) rfl
theorem q1958 : (Jvm.Cond.superclass "java/lang/UnsupportedOperationException" "java/lang/RuntimeException") ∈ lw_all := lw_g (lw_at lw_m8 176 rfl) rfl
theorem q3194 : (Jvm.Cond.castable "java/lang/UnsupportedOperationException" "java/lang/Object") ∈ lw_tbl := lw_at lw_m13 212 rfl
theorem in_J30 : ∀ w ∈ wsJ300, w ∈ lw_all := lw_in wsJ300 [1948, 1949, 1950, 1951, 1952, 1957] (by decide +kernel) (by decide +kernel)
/-! java/lang/ArrayIndexOutOfBoundsException -/
set_option maxRecDepth 100000
def RJ31 : String := "java/lang/ArrayIndexOutOfBoundsException"
def TJ31 : u_T := fun k => match k with
  | 0 => ("java/lang/Throwable", "backtrace", "Ljava/lang/Object;", false)
  | 1 => ("java/lang/Throwable", "detailMessage", "Ljava/lang/String;", false)
  | 2 => ("java/lang/Throwable", "cause", "Ljava/lang/Throwable;", false)
  | 3 => ("java/lang/Throwable", "stackTrace", "[Ljava/lang/StackTraceElement;", false)
  | 4 => ("java/lang/Throwable", "depth", "I", false)
  | _ => ("java/lang/Throwable", "suppressedExceptions", "Ljava/util/List;", false)
def tyJ31 : Nat → FieldType := fun k => match k with
  | 0 => .object "java/lang/Object"
  | 1 => .object "java/lang/String"
  | 2 => .object "java/lang/Throwable"
  | 3 => .array (.object "java/lang/StackTraceElement")
  | 4 => .int
  | _ => .object "java/util/List"
abbrev wsJ310 : List Cond := u_ws RJ31 TJ31 6
theorem nmJ31 : ∀ a, a < 6 → ∀ b, b < 6 → a ≠ b → (TJ31 a).2.1 ≠ (TJ31 b).2.1 := by decide +kernel
theorem tyJ31_ok : ∀ k, k < 6 → parseFieldDescriptor (TJ31 k).2.2.1 = some (tyJ31 k) := by decide +kernel
abbrev cJ31_init : ByteArray := prog_19_method_2_code
def yJ31_init : MethodName := ⟨RJ31, "<init>", "(Ljava/lang/String;)V"⟩
def dkwJ31_init_0 : List UInt8 := [42, 43, 183, 0, 7, 177]
abbrev dktJ31_init_0 : List UInt8 := dkwJ31_init_0 ++ []
theorem dksJ31_init_0 : cJ31_init.data.toList.drop 0 = dktJ31_init_0 := by decide +kernel
theorem dJ31_init_0 : decode cJ31_init 0 = .ok (.aload_n 0, 1) := dk_42 (dk_at dksJ31_init_0 0 rfl rfl)
theorem dJ31_init_1 : decode cJ31_init 1 = .ok (.aload_n 1, 1) := dk_43 (dk_at dksJ31_init_0 1 rfl rfl)
theorem dJ31_init_2 : decode cJ31_init 2 = .ok (.invokespecial 7, 3) := dk_183 0 7 (dk_at dksJ31_init_0 2 rfl rfl)
theorem dJ31_init_5 : decode cJ31_init 5 = .ok (.return_, 1) := dk_177 (dk_at dksJ31_init_0 5 rfl rfl)
theorem q147 : (Jvm.Cond.initialized "java/lang/ArrayIndexOutOfBoundsException") ∈ lw_all := lw_g (lw_at lw_m1 45 rfl) rfl
theorem q269 : (Jvm.Cond.selects "java/lang/ArrayIndexOutOfBoundsException" ({ cls := "java/lang/Object", name := "getClass", desc := "()Ljava/lang/Class;" } : Jvm.MethodName) ({ cls := "java/lang/Object", name := "getClass", desc := "()Ljava/lang/Class;" } : Jvm.MethodName)) ∈ lw_all := lw_g (lw_at lw_m1 167 rfl) rfl
theorem q646 : (Jvm.Cond.selects "java/lang/ArrayIndexOutOfBoundsException" ({ cls := "java/lang/Throwable", name := "fillInStackTrace", desc := "()Ljava/lang/Throwable;" } : Jvm.MethodName) ({ cls := "java/lang/Throwable", name := "fillInStackTrace", desc := "()Ljava/lang/Throwable;" } : Jvm.MethodName)) ∈ lw_all := lw_g (lw_at lw_m3 64 rfl) rfl
theorem q934 : (Jvm.Cond.selects "java/lang/ArrayIndexOutOfBoundsException" ({ cls := "java/lang/Throwable", name := "toString", desc := "()Ljava/lang/String;" } : Jvm.MethodName) ({ cls := "java/lang/Throwable", name := "toString", desc := "()Ljava/lang/String;" } : Jvm.MethodName)) ∈ lw_all := lw_g (lw_at lw_m4 112 rfl) rfl
theorem q948 : (Jvm.Cond.selects "java/lang/ArrayIndexOutOfBoundsException" ({ cls := "java/lang/Throwable", name := "getLocalizedMessage", desc := "()Ljava/lang/String;" } : Jvm.MethodName) ({ cls := "java/lang/Throwable", name := "getLocalizedMessage", desc := "()Ljava/lang/String;" } : Jvm.MethodName)) ∈ lw_all := lw_g (lw_at lw_m4 126 rfl) rfl
theorem q961 : (Jvm.Cond.selects "java/lang/ArrayIndexOutOfBoundsException" ({ cls := "java/lang/Throwable", name := "getMessage", desc := "()Ljava/lang/String;" } : Jvm.MethodName) ({ cls := "java/lang/Throwable", name := "getMessage", desc := "()Ljava/lang/String;" } : Jvm.MethodName)) ∈ lw_all := lw_g (lw_at lw_m4 139 rfl) rfl
theorem q1788 : (Jvm.Cond.selects "java/lang/ArrayIndexOutOfBoundsException" ({ cls := "java/lang/Object", name := "equals", desc := "(Ljava/lang/Object;)Z" } : Jvm.MethodName) ({ cls := "java/lang/Object", name := "equals", desc := "(Ljava/lang/Object;)Z" } : Jvm.MethodName)) ∈ lw_all := lw_g (lw_at lw_m8 6 rfl) rfl
theorem q1970 : (Jvm.Cond.instantiable "java/lang/ArrayIndexOutOfBoundsException" (6 : Nat)) ∈ lw_all := lw_g (lw_at lw_m8 188 rfl) rfl
theorem q1971 : (Jvm.Cond.instanceMethod ({ cls := "java/lang/ArrayIndexOutOfBoundsException", name := "<init>", desc := "(Ljava/lang/String;)V" } : Jvm.MethodName)) ∈ lw_all := lw_g (lw_at lw_m8 189 rfl) rfl
theorem q1972 : (Jvm.Cond.code ({ cls := "java/lang/ArrayIndexOutOfBoundsException", name := "<init>", desc := "(Ljava/lang/String;)V" } : Jvm.MethodName) prog_19_method_2_code (2 : Nat) (Option.none : Option Jvm.ClassFile.FieldType)) ∈ lw_all := lw_g (lw_at lw_m8 190 rfl) rfl
theorem q1973 : (Jvm.Cond.methodLink "java/lang/ArrayIndexOutOfBoundsException" (7 : Nat) ({ cls := "java/lang/IndexOutOfBoundsException", name := "<init>", desc := "(Ljava/lang/String;)V" } : Jvm.MethodName)) ∈ lw_all := lw_g (lw_at lw_m8 191 rfl) rfl
theorem q1974 : (Jvm.Cond.lays "java/lang/ArrayIndexOutOfBoundsException" "java/lang/Throwable" "backtrace" "Ljava/lang/Object;") ∈ lw_all := lw_g (lw_at lw_m8 192 rfl) rfl
theorem q1975 : (Jvm.Cond.lays "java/lang/ArrayIndexOutOfBoundsException" "java/lang/Throwable" "detailMessage" "Ljava/lang/String;") ∈ lw_all := lw_g (lw_at lw_m8 193 rfl) rfl
theorem q1976 : (Jvm.Cond.lays "java/lang/ArrayIndexOutOfBoundsException" "java/lang/Throwable" "cause" "Ljava/lang/Throwable;") ∈ lw_all := lw_g (lw_at lw_m8 194 rfl) rfl
theorem q1977 : (Jvm.Cond.lays "java/lang/ArrayIndexOutOfBoundsException" "java/lang/Throwable" "stackTrace" "[Ljava/lang/StackTraceElement;") ∈ lw_all := lw_g (lw_at lw_m8 195 rfl) rfl
theorem q1978 : (Jvm.Cond.lays "java/lang/ArrayIndexOutOfBoundsException" "java/lang/Throwable" "depth" "I") ∈ lw_all := lw_g (lw_at lw_m8 196 rfl) rfl
theorem q1979 : (Jvm.Cond.lays "java/lang/ArrayIndexOutOfBoundsException" "java/lang/Throwable" "suppressedExceptions" "Ljava/util/List;") ∈ lw_all := lw_g (lw_at lw_m8 197 rfl) rfl
theorem q1980 : (Jvm.Cond.superclass "java/lang/ArrayIndexOutOfBoundsException" "java/lang/IndexOutOfBoundsException") ∈ lw_all := lw_g (lw_at lw_m8 198 rfl) rfl
theorem q1981 : (Jvm.Cond.castable "java/lang/ArrayIndexOutOfBoundsException" "java/lang/ArrayIndexOutOfBoundsException") ∈ lw_tbl := lw_at lw_m8 199 rfl
theorem q1984 : (Jvm.Cond.selects "java/lang/ArrayIndexOutOfBoundsException" ({ cls := "java/lang/Throwable", name := "fillInStackTrace", desc := "(I)Ljava/lang/Throwable;" } : Jvm.MethodName) ({ cls := "java/lang/Throwable", name := "fillInStackTrace", desc := "(I)Ljava/lang/Throwable;" } : Jvm.MethodName)) ∈ lw_all := lw_g (lw_at lw_m8 202 rfl) rfl
theorem q3168 : (Jvm.Cond.castable "java/lang/ArrayIndexOutOfBoundsException" "java/lang/IndexOutOfBoundsException") ∈ lw_tbl := lw_at lw_m13 186 rfl
theorem q3195 : (Jvm.Cond.castable "java/lang/ArrayIndexOutOfBoundsException" "java/lang/Object") ∈ lw_tbl := lw_at lw_m13 213 rfl
theorem in_J31 : ∀ w ∈ wsJ310, w ∈ lw_all := lw_in wsJ310 [1974, 1975, 1976, 1977, 1978, 1979] (by decide +kernel) (by decide +kernel)
/-! java/util/BitSet -/
set_option maxRecDepth 100000
def RJ32 : String := "java/util/BitSet"
def TJ32 : u_T := fun k => match k with
  | 0 => ("java/util/BitSet", "words", "[J", false)
  | 1 => ("java/util/BitSet", "wordsInUse", "I", false)
  | _ => ("java/util/BitSet", "sizeIsSticky", "Z", false)
def tyJ32 : Nat → FieldType := fun k => match k with
  | 0 => .array .long
  | 1 => .int
  | _ => .boolean
abbrev wsJ320 : List Cond := u_ws RJ32 TJ32 3
theorem nmJ32 : ∀ a, a < 3 → ∀ b, b < 3 → a ≠ b → (TJ32 a).2.1 ≠ (TJ32 b).2.1 := by decide +kernel
theorem tyJ32_ok : ∀ k, k < 3 → parseFieldDescriptor (TJ32 k).2.2.1 = some (tyJ32 k) := by decide +kernel
abbrev cJ32_init : ByteArray := prog_55_method_5_code
def yJ32_init : MethodName := ⟨RJ32, "<init>", "(I)V"⟩
def dkwJ32_init_2 : List UInt8 := [27, 182, 0, 27, 42, 4, 181, 0, 24, 177]
abbrev dktJ32_init_2 : List UInt8 := dkwJ32_init_2 ++ []
def dkwJ32_init_1 : List UInt8 := [187, 0, 33, 89, 183, 0, 35, 18, 36, 182, 0, 38, 27, 182, 0, 42, 182, 0, 45, 183, 0, 49, 191, 42]
abbrev dktJ32_init_1 : List UInt8 := dkwJ32_init_1 ++ dktJ32_init_2
def dkwJ32_init_0 : List UInt8 := [42, 183, 0, 21, 42, 3, 181, 0, 7, 42, 3, 181, 0, 24, 27, 156, 0, 30, 187, 0, 31, 89]
abbrev dktJ32_init_0 : List UInt8 := dkwJ32_init_0 ++ dktJ32_init_1
theorem dksJ32_init_0 : cJ32_init.data.toList.drop 0 = dktJ32_init_0 := by decide +kernel
theorem dksJ32_init_1 : cJ32_init.data.toList.drop 22 = dktJ32_init_1 := dk_seg dksJ32_init_0 22 rfl rfl
theorem dksJ32_init_2 : cJ32_init.data.toList.drop 46 = dktJ32_init_2 := dk_seg dksJ32_init_1 24 rfl rfl
theorem dJ32_init_0 : decode cJ32_init 0 = .ok (.aload_n 0, 1) := dk_42 (dk_at dksJ32_init_0 0 rfl rfl)
theorem dJ32_init_1 : decode cJ32_init 1 = .ok (.invokespecial 21, 3) := dk_183 0 21 (dk_at dksJ32_init_0 1 rfl rfl)
theorem dJ32_init_4 : decode cJ32_init 4 = .ok (.aload_n 0, 1) := dk_42 (dk_at dksJ32_init_0 4 rfl rfl)
theorem dJ32_init_5 : decode cJ32_init 5 = .ok (.iconst 0, 1) := dk_3 (dk_at dksJ32_init_0 5 rfl rfl)
theorem dJ32_init_6 : decode cJ32_init 6 = .ok (.putfield 7, 3) := dk_181 0 7 (dk_at dksJ32_init_0 6 rfl rfl)
theorem dJ32_init_9 : decode cJ32_init 9 = .ok (.aload_n 0, 1) := dk_42 (dk_at dksJ32_init_0 9 rfl rfl)
theorem dJ32_init_10 : decode cJ32_init 10 = .ok (.iconst 0, 1) := dk_3 (dk_at dksJ32_init_0 10 rfl rfl)
theorem dJ32_init_11 : decode cJ32_init 11 = .ok (.putfield 24, 3) := dk_181 0 24 (dk_at dksJ32_init_0 11 rfl rfl)
theorem dJ32_init_14 : decode cJ32_init 14 = .ok (.iload_n 1, 1) := dk_27 (dk_at dksJ32_init_0 14 rfl rfl)
theorem dJ32_init_15 : decode cJ32_init 15 = .ok (.ifCond .ge 30, 3) := dk_156 0 30 (dk_at dksJ32_init_0 15 rfl rfl)
theorem dJ32_init_18 : decode cJ32_init 18 = .ok (.new 31, 3) := dk_187 0 31 (dk_at dksJ32_init_0 18 rfl rfl)
theorem dJ32_init_21 : decode cJ32_init 21 = .ok (.dup, 1) := dk_89 (dk_at dksJ32_init_0 21 rfl rfl)
theorem dJ32_init_22 : decode cJ32_init 22 = .ok (.new 33, 3) := dk_187 0 33 (dk_at dksJ32_init_1 0 rfl rfl)
theorem dJ32_init_25 : decode cJ32_init 25 = .ok (.dup, 1) := dk_89 (dk_at dksJ32_init_1 3 rfl rfl)
theorem dJ32_init_26 : decode cJ32_init 26 = .ok (.invokespecial 35, 3) := dk_183 0 35 (dk_at dksJ32_init_1 4 rfl rfl)
theorem dJ32_init_29 : decode cJ32_init 29 = .ok (.ldc 36, 2) := dk_18 36 (dk_at dksJ32_init_1 7 rfl rfl)
theorem dJ32_init_31 : decode cJ32_init 31 = .ok (.invokevirtual 38, 3) := dk_182 0 38 (dk_at dksJ32_init_1 9 rfl rfl)
theorem dJ32_init_34 : decode cJ32_init 34 = .ok (.iload_n 1, 1) := dk_27 (dk_at dksJ32_init_1 12 rfl rfl)
theorem dJ32_init_35 : decode cJ32_init 35 = .ok (.invokevirtual 42, 3) := dk_182 0 42 (dk_at dksJ32_init_1 13 rfl rfl)
theorem dJ32_init_38 : decode cJ32_init 38 = .ok (.invokevirtual 45, 3) := dk_182 0 45 (dk_at dksJ32_init_1 16 rfl rfl)
theorem dJ32_init_41 : decode cJ32_init 41 = .ok (.invokespecial 49, 3) := dk_183 0 49 (dk_at dksJ32_init_1 19 rfl rfl)
theorem dJ32_init_44 : decode cJ32_init 44 = .ok (.athrow, 1) := dk_191 (dk_at dksJ32_init_1 22 rfl rfl)
theorem dJ32_init_45 : decode cJ32_init 45 = .ok (.aload_n 0, 1) := dk_42 (dk_at dksJ32_init_1 23 rfl rfl)
theorem dJ32_init_46 : decode cJ32_init 46 = .ok (.iload_n 1, 1) := dk_27 (dk_at dksJ32_init_2 0 rfl rfl)
theorem dJ32_init_47 : decode cJ32_init 47 = .ok (.invokevirtual 27, 3) := dk_182 0 27 (dk_at dksJ32_init_2 1 rfl rfl)
theorem dJ32_init_50 : decode cJ32_init 50 = .ok (.aload_n 0, 1) := dk_42 (dk_at dksJ32_init_2 4 rfl rfl)
theorem dJ32_init_51 : decode cJ32_init 51 = .ok (.iconst 1, 1) := dk_4 (dk_at dksJ32_init_2 5 rfl rfl)
theorem dJ32_init_52 : decode cJ32_init 52 = .ok (.putfield 24, 3) := dk_181 0 24 (dk_at dksJ32_init_2 6 rfl rfl)
theorem dJ32_init_55 : decode cJ32_init 55 = .ok (.return_, 1) := dk_177 (dk_at dksJ32_init_2 9 rfl rfl)
abbrev cJ32_initWords : ByteArray := prog_55_method_6_code
def yJ32_initWords : MethodName := ⟨RJ32, "initWords", "(I)V"⟩
def dkwJ32_initWords_0 : List UInt8 := [42, 27, 4, 100, 184, 0, 52, 4, 96, 188, 11, 181, 0, 11, 177]
abbrev dktJ32_initWords_0 : List UInt8 := dkwJ32_initWords_0 ++ []
theorem dksJ32_initWords_0 : cJ32_initWords.data.toList.drop 0 = dktJ32_initWords_0 := by decide +kernel
theorem dJ32_initWords_0 : decode cJ32_initWords 0 = .ok (.aload_n 0, 1) := dk_42 (dk_at dksJ32_initWords_0 0 rfl rfl)
theorem dJ32_initWords_1 : decode cJ32_initWords 1 = .ok (.iload_n 1, 1) := dk_27 (dk_at dksJ32_initWords_0 1 rfl rfl)
theorem dJ32_initWords_2 : decode cJ32_initWords 2 = .ok (.iconst 1, 1) := dk_4 (dk_at dksJ32_initWords_0 2 rfl rfl)
theorem dJ32_initWords_3 : decode cJ32_initWords 3 = .ok (.isub, 1) := dk_100 (dk_at dksJ32_initWords_0 3 rfl rfl)
theorem dJ32_initWords_4 : decode cJ32_initWords 4 = .ok (.invokestatic 52, 3) := dk_184 0 52 (dk_at dksJ32_initWords_0 4 rfl rfl)
theorem dJ32_initWords_7 : decode cJ32_initWords 7 = .ok (.iconst 1, 1) := dk_4 (dk_at dksJ32_initWords_0 7 rfl rfl)
theorem dJ32_initWords_8 : decode cJ32_initWords 8 = .ok (.iadd, 1) := dk_96 (dk_at dksJ32_initWords_0 8 rfl rfl)
theorem dJ32_initWords_9 : decode cJ32_initWords 9 = .ok (.newarray .long, 2) := dk_188_11 (dk_at dksJ32_initWords_0 9 rfl rfl)
theorem dJ32_initWords_11 : decode cJ32_initWords 11 = .ok (.putfield 11, 3) := dk_181 0 11 (dk_at dksJ32_initWords_0 11 rfl rfl)
theorem dJ32_initWords_14 : decode cJ32_initWords 14 = .ok (.return_, 1) := dk_177 (dk_at dksJ32_initWords_0 14 rfl rfl)
abbrev cJ32_wordIndex : ByteArray := prog_55_method_1_code
def yJ32_wordIndex : MethodName := ⟨RJ32, "wordIndex", "(I)I"⟩
def dkwJ32_wordIndex_0 : List UInt8 := [26, 16, 6, 122, 172]
abbrev dktJ32_wordIndex_0 : List UInt8 := dkwJ32_wordIndex_0 ++ []
theorem dksJ32_wordIndex_0 : cJ32_wordIndex.data.toList.drop 0 = dktJ32_wordIndex_0 := by decide +kernel
theorem dJ32_wordIndex_0 : decode cJ32_wordIndex 0 = .ok (.iload_n 0, 1) := dk_26 (dk_at dksJ32_wordIndex_0 0 rfl rfl)
theorem dJ32_wordIndex_1 : decode cJ32_wordIndex 1 = .ok (.bipush 6, 2) := dk_16 6 (dk_at dksJ32_wordIndex_0 1 rfl rfl)
theorem dJ32_wordIndex_3 : decode cJ32_wordIndex 3 = .ok (.ishr, 1) := dk_122 (dk_at dksJ32_wordIndex_0 3 rfl rfl)
theorem dJ32_wordIndex_4 : decode cJ32_wordIndex 4 = .ok (.ireturn, 1) := dk_172 (dk_at dksJ32_wordIndex_0 4 rfl rfl)
abbrev cJ32_set : ByteArray := prog_55_method_21_code
def yJ32_set : MethodName := ⟨RJ32, "set", "(II)V"⟩
def dkwJ32_set_5 : List UInt8 := [42, 182, 0, 56, 177]
abbrev dktJ32_set_5 : List UInt8 := dkwJ32_set_5 ++ []
def dkwJ32_set_4 : List UInt8 := [21, 9, 20, 0, 165, 80, 132, 9, 1, 167, 255, 236, 42, 180, 0, 11, 21, 4, 92, 47, 22, 7, 129, 80]
abbrev dktJ32_set_4 : List UInt8 := dkwJ32_set_4 ++ dktJ32_set_5
def dkwJ32_set_3 : List UInt8 := [29, 92, 47, 22, 5, 129, 80, 29, 4, 96, 54, 9, 21, 9, 21, 4, 162, 0, 19, 42, 180, 0, 11]
abbrev dktJ32_set_3 : List UInt8 := dkwJ32_set_3 ++ dktJ32_set_4
def dkwJ32_set_2 : List UInt8 := [160, 0, 20, 42, 180, 0, 11, 29, 92, 47, 22, 5, 22, 7, 127, 129, 80, 167, 0, 54, 42, 180, 0, 11]
abbrev dktJ32_set_2 : List UInt8 := dkwJ32_set_2 ++ dktJ32_set_3
def dkwJ32_set_1 : List UInt8 := [42, 21, 4, 182, 0, 155, 20, 0, 165, 27, 121, 55, 5, 20, 0, 165, 28, 116, 125, 55, 7, 29, 21, 4]
abbrev dktJ32_set_1 : List UInt8 := dkwJ32_set_1 ++ dktJ32_set_2
def dkwJ32_set_0 : List UInt8 := [27, 28, 184, 0, 161, 27, 28, 160, 0, 4, 177, 27, 184, 0, 52, 62, 28, 4, 100, 184, 0, 52, 54, 4]
abbrev dktJ32_set_0 : List UInt8 := dkwJ32_set_0 ++ dktJ32_set_1
theorem dksJ32_set_0 : cJ32_set.data.toList.drop 0 = dktJ32_set_0 := by decide +kernel
theorem dksJ32_set_1 : cJ32_set.data.toList.drop 24 = dktJ32_set_1 := dk_seg dksJ32_set_0 24 rfl rfl
theorem dksJ32_set_2 : cJ32_set.data.toList.drop 48 = dktJ32_set_2 := dk_seg dksJ32_set_1 24 rfl rfl
theorem dksJ32_set_3 : cJ32_set.data.toList.drop 72 = dktJ32_set_3 := dk_seg dksJ32_set_2 24 rfl rfl
theorem dksJ32_set_4 : cJ32_set.data.toList.drop 95 = dktJ32_set_4 := dk_seg dksJ32_set_3 23 rfl rfl
theorem dksJ32_set_5 : cJ32_set.data.toList.drop 119 = dktJ32_set_5 := dk_seg dksJ32_set_4 24 rfl rfl
theorem dJ32_set_0 : decode cJ32_set 0 = .ok (.iload_n 1, 1) := dk_27 (dk_at dksJ32_set_0 0 rfl rfl)
theorem dJ32_set_1 : decode cJ32_set 1 = .ok (.iload_n 2, 1) := dk_28 (dk_at dksJ32_set_0 1 rfl rfl)
theorem dJ32_set_2 : decode cJ32_set 2 = .ok (.invokestatic 161, 3) := dk_184 0 161 (dk_at dksJ32_set_0 2 rfl rfl)
theorem dJ32_set_5 : decode cJ32_set 5 = .ok (.iload_n 1, 1) := dk_27 (dk_at dksJ32_set_0 5 rfl rfl)
theorem dJ32_set_6 : decode cJ32_set 6 = .ok (.iload_n 2, 1) := dk_28 (dk_at dksJ32_set_0 6 rfl rfl)
theorem dJ32_set_7 : decode cJ32_set 7 = .ok (.if_icmp .ne 4, 3) := dk_160 0 4 (dk_at dksJ32_set_0 7 rfl rfl)
theorem dJ32_set_10 : decode cJ32_set 10 = .ok (.return_, 1) := dk_177 (dk_at dksJ32_set_0 10 rfl rfl)
theorem dJ32_set_11 : decode cJ32_set 11 = .ok (.iload_n 1, 1) := dk_27 (dk_at dksJ32_set_0 11 rfl rfl)
theorem dJ32_set_12 : decode cJ32_set 12 = .ok (.invokestatic 52, 3) := dk_184 0 52 (dk_at dksJ32_set_0 12 rfl rfl)
theorem dJ32_set_15 : decode cJ32_set 15 = .ok (.istore_n 3, 1) := dk_62 (dk_at dksJ32_set_0 15 rfl rfl)
theorem dJ32_set_16 : decode cJ32_set 16 = .ok (.iload_n 2, 1) := dk_28 (dk_at dksJ32_set_0 16 rfl rfl)
theorem dJ32_set_17 : decode cJ32_set 17 = .ok (.iconst 1, 1) := dk_4 (dk_at dksJ32_set_0 17 rfl rfl)
theorem dJ32_set_18 : decode cJ32_set 18 = .ok (.isub, 1) := dk_100 (dk_at dksJ32_set_0 18 rfl rfl)
theorem dJ32_set_19 : decode cJ32_set 19 = .ok (.invokestatic 52, 3) := dk_184 0 52 (dk_at dksJ32_set_0 19 rfl rfl)
theorem dJ32_set_22 : decode cJ32_set 22 = .ok (.istore 4, 2) := dk_54 4 (dk_at dksJ32_set_0 22 rfl rfl)
theorem dJ32_set_24 : decode cJ32_set 24 = .ok (.aload_n 0, 1) := dk_42 (dk_at dksJ32_set_1 0 rfl rfl)
theorem dJ32_set_25 : decode cJ32_set 25 = .ok (.iload 4, 2) := dk_21 4 (dk_at dksJ32_set_1 1 rfl rfl)
theorem dJ32_set_27 : decode cJ32_set 27 = .ok (.invokevirtual 155, 3) := dk_182 0 155 (dk_at dksJ32_set_1 3 rfl rfl)
theorem dJ32_set_30 : decode cJ32_set 30 = .ok (.ldc2_w 165, 3) := dk_20 0 165 (dk_at dksJ32_set_1 6 rfl rfl)
theorem dJ32_set_33 : decode cJ32_set 33 = .ok (.iload_n 1, 1) := dk_27 (dk_at dksJ32_set_1 9 rfl rfl)
theorem dJ32_set_34 : decode cJ32_set 34 = .ok (.lshl, 1) := dk_121 (dk_at dksJ32_set_1 10 rfl rfl)
theorem dJ32_set_35 : decode cJ32_set 35 = .ok (.lstore 5, 2) := dk_55 5 (dk_at dksJ32_set_1 11 rfl rfl)
theorem dJ32_set_37 : decode cJ32_set 37 = .ok (.ldc2_w 165, 3) := dk_20 0 165 (dk_at dksJ32_set_1 13 rfl rfl)
theorem dJ32_set_40 : decode cJ32_set 40 = .ok (.iload_n 2, 1) := dk_28 (dk_at dksJ32_set_1 16 rfl rfl)
theorem dJ32_set_41 : decode cJ32_set 41 = .ok (.ineg, 1) := dk_116 (dk_at dksJ32_set_1 17 rfl rfl)
theorem dJ32_set_42 : decode cJ32_set 42 = .ok (.lushr, 1) := dk_125 (dk_at dksJ32_set_1 18 rfl rfl)
theorem dJ32_set_43 : decode cJ32_set 43 = .ok (.lstore 7, 2) := dk_55 7 (dk_at dksJ32_set_1 19 rfl rfl)
theorem dJ32_set_45 : decode cJ32_set 45 = .ok (.iload_n 3, 1) := dk_29 (dk_at dksJ32_set_1 21 rfl rfl)
theorem dJ32_set_46 : decode cJ32_set 46 = .ok (.iload 4, 2) := dk_21 4 (dk_at dksJ32_set_1 22 rfl rfl)
theorem dJ32_set_48 : decode cJ32_set 48 = .ok (.if_icmp .ne 20, 3) := dk_160 0 20 (dk_at dksJ32_set_2 0 rfl rfl)
theorem dJ32_set_51 : decode cJ32_set 51 = .ok (.aload_n 0, 1) := dk_42 (dk_at dksJ32_set_2 3 rfl rfl)
theorem dJ32_set_52 : decode cJ32_set 52 = .ok (.getfield 11, 3) := dk_180 0 11 (dk_at dksJ32_set_2 4 rfl rfl)
theorem dJ32_set_55 : decode cJ32_set 55 = .ok (.iload_n 3, 1) := dk_29 (dk_at dksJ32_set_2 7 rfl rfl)
theorem dJ32_set_56 : decode cJ32_set 56 = .ok (.dup2, 1) := dk_92 (dk_at dksJ32_set_2 8 rfl rfl)
theorem dJ32_set_57 : decode cJ32_set 57 = .ok (.laload, 1) := dk_47 (dk_at dksJ32_set_2 9 rfl rfl)
theorem dJ32_set_58 : decode cJ32_set 58 = .ok (.lload 5, 2) := dk_22 5 (dk_at dksJ32_set_2 10 rfl rfl)
theorem dJ32_set_60 : decode cJ32_set 60 = .ok (.lload 7, 2) := dk_22 7 (dk_at dksJ32_set_2 12 rfl rfl)
theorem dJ32_set_62 : decode cJ32_set 62 = .ok (.land, 1) := dk_127 (dk_at dksJ32_set_2 14 rfl rfl)
theorem dJ32_set_63 : decode cJ32_set 63 = .ok (.lor, 1) := dk_129 (dk_at dksJ32_set_2 15 rfl rfl)
theorem dJ32_set_64 : decode cJ32_set 64 = .ok (.lastore, 1) := dk_80 (dk_at dksJ32_set_2 16 rfl rfl)
theorem dJ32_set_65 : decode cJ32_set 65 = .ok (.goto 54, 3) := dk_167 0 54 (dk_at dksJ32_set_2 17 rfl rfl)
theorem dJ32_set_68 : decode cJ32_set 68 = .ok (.aload_n 0, 1) := dk_42 (dk_at dksJ32_set_2 20 rfl rfl)
theorem dJ32_set_69 : decode cJ32_set 69 = .ok (.getfield 11, 3) := dk_180 0 11 (dk_at dksJ32_set_2 21 rfl rfl)
theorem dJ32_set_72 : decode cJ32_set 72 = .ok (.iload_n 3, 1) := dk_29 (dk_at dksJ32_set_3 0 rfl rfl)
theorem dJ32_set_73 : decode cJ32_set 73 = .ok (.dup2, 1) := dk_92 (dk_at dksJ32_set_3 1 rfl rfl)
theorem dJ32_set_74 : decode cJ32_set 74 = .ok (.laload, 1) := dk_47 (dk_at dksJ32_set_3 2 rfl rfl)
theorem dJ32_set_75 : decode cJ32_set 75 = .ok (.lload 5, 2) := dk_22 5 (dk_at dksJ32_set_3 3 rfl rfl)
theorem dJ32_set_77 : decode cJ32_set 77 = .ok (.lor, 1) := dk_129 (dk_at dksJ32_set_3 5 rfl rfl)
theorem dJ32_set_78 : decode cJ32_set 78 = .ok (.lastore, 1) := dk_80 (dk_at dksJ32_set_3 6 rfl rfl)
theorem dJ32_set_79 : decode cJ32_set 79 = .ok (.iload_n 3, 1) := dk_29 (dk_at dksJ32_set_3 7 rfl rfl)
theorem dJ32_set_80 : decode cJ32_set 80 = .ok (.iconst 1, 1) := dk_4 (dk_at dksJ32_set_3 8 rfl rfl)
theorem dJ32_set_81 : decode cJ32_set 81 = .ok (.iadd, 1) := dk_96 (dk_at dksJ32_set_3 9 rfl rfl)
theorem dJ32_set_82 : decode cJ32_set 82 = .ok (.istore 9, 2) := dk_54 9 (dk_at dksJ32_set_3 10 rfl rfl)
theorem dJ32_set_84 : decode cJ32_set 84 = .ok (.iload 9, 2) := dk_21 9 (dk_at dksJ32_set_3 12 rfl rfl)
theorem dJ32_set_86 : decode cJ32_set 86 = .ok (.iload 4, 2) := dk_21 4 (dk_at dksJ32_set_3 14 rfl rfl)
theorem dJ32_set_88 : decode cJ32_set 88 = .ok (.if_icmp .ge 19, 3) := dk_162 0 19 (dk_at dksJ32_set_3 16 rfl rfl)
theorem dJ32_set_91 : decode cJ32_set 91 = .ok (.aload_n 0, 1) := dk_42 (dk_at dksJ32_set_3 19 rfl rfl)
theorem dJ32_set_92 : decode cJ32_set 92 = .ok (.getfield 11, 3) := dk_180 0 11 (dk_at dksJ32_set_3 20 rfl rfl)
theorem dJ32_set_95 : decode cJ32_set 95 = .ok (.iload 9, 2) := dk_21 9 (dk_at dksJ32_set_4 0 rfl rfl)
theorem dJ32_set_97 : decode cJ32_set 97 = .ok (.ldc2_w 165, 3) := dk_20 0 165 (dk_at dksJ32_set_4 2 rfl rfl)
theorem dJ32_set_100 : decode cJ32_set 100 = .ok (.lastore, 1) := dk_80 (dk_at dksJ32_set_4 5 rfl rfl)
theorem dJ32_set_101 : decode cJ32_set 101 = .ok (.iinc 9 1, 3) := dk_132 9 1 (dk_at dksJ32_set_4 6 rfl rfl)
theorem dJ32_set_104 : decode cJ32_set 104 = .ok (.goto (-20), 3) := dk_167 255 236 (dk_at dksJ32_set_4 9 rfl rfl)
theorem dJ32_set_107 : decode cJ32_set 107 = .ok (.aload_n 0, 1) := dk_42 (dk_at dksJ32_set_4 12 rfl rfl)
theorem dJ32_set_108 : decode cJ32_set 108 = .ok (.getfield 11, 3) := dk_180 0 11 (dk_at dksJ32_set_4 13 rfl rfl)
theorem dJ32_set_111 : decode cJ32_set 111 = .ok (.iload 4, 2) := dk_21 4 (dk_at dksJ32_set_4 16 rfl rfl)
theorem dJ32_set_113 : decode cJ32_set 113 = .ok (.dup2, 1) := dk_92 (dk_at dksJ32_set_4 18 rfl rfl)
theorem dJ32_set_114 : decode cJ32_set 114 = .ok (.laload, 1) := dk_47 (dk_at dksJ32_set_4 19 rfl rfl)
theorem dJ32_set_115 : decode cJ32_set 115 = .ok (.lload 7, 2) := dk_22 7 (dk_at dksJ32_set_4 20 rfl rfl)
theorem dJ32_set_117 : decode cJ32_set 117 = .ok (.lor, 1) := dk_129 (dk_at dksJ32_set_4 22 rfl rfl)
theorem dJ32_set_118 : decode cJ32_set 118 = .ok (.lastore, 1) := dk_80 (dk_at dksJ32_set_4 23 rfl rfl)
theorem dJ32_set_119 : decode cJ32_set 119 = .ok (.aload_n 0, 1) := dk_42 (dk_at dksJ32_set_5 0 rfl rfl)
theorem dJ32_set_120 : decode cJ32_set 120 = .ok (.invokevirtual 56, 3) := dk_182 0 56 (dk_at dksJ32_set_5 1 rfl rfl)
theorem dJ32_set_123 : decode cJ32_set 123 = .ok (.return_, 1) := dk_177 (dk_at dksJ32_set_5 4 rfl rfl)
abbrev cJ32_checkRange : ByteArray := prog_55_method_16_code
def yJ32_checkRange : MethodName := ⟨RJ32, "checkRange", "(II)V"⟩
def dkwJ32_checkRange_4 : List UInt8 := [182, 0, 42, 182, 0, 45, 183, 0, 146, 191, 177]
abbrev dktJ32_checkRange_4 : List UInt8 := dkwJ32_checkRange_4 ++ []
def dkwJ32_checkRange_3 : List UInt8 := [187, 0, 33, 89, 183, 0, 35, 18, 149, 182, 0, 38, 26, 182, 0, 42, 18, 151, 182, 0, 38, 27]
abbrev dktJ32_checkRange_3 : List UInt8 := dkwJ32_checkRange_3 ++ dktJ32_checkRange_4
def dkwJ32_checkRange_2 : List UInt8 := [182, 0, 38, 27, 182, 0, 42, 182, 0, 45, 183, 0, 146, 191, 26, 27, 164, 0, 39, 187, 0, 142, 89]
abbrev dktJ32_checkRange_2 : List UInt8 := dkwJ32_checkRange_2 ++ dktJ32_checkRange_3
def dkwJ32_checkRange_1 : List UInt8 := [182, 0, 45, 183, 0, 146, 191, 27, 156, 0, 30, 187, 0, 142, 89, 187, 0, 33, 89, 183, 0, 35, 18, 147]
abbrev dktJ32_checkRange_1 : List UInt8 := dkwJ32_checkRange_1 ++ dktJ32_checkRange_2
def dkwJ32_checkRange_0 : List UInt8 := [26, 156, 0, 30, 187, 0, 142, 89, 187, 0, 33, 89, 183, 0, 35, 18, 144, 182, 0, 38, 26, 182, 0, 42]
abbrev dktJ32_checkRange_0 : List UInt8 := dkwJ32_checkRange_0 ++ dktJ32_checkRange_1
theorem dksJ32_checkRange_0 : cJ32_checkRange.data.toList.drop 0 = dktJ32_checkRange_0 := by decide +kernel
theorem dksJ32_checkRange_1 : cJ32_checkRange.data.toList.drop 24 = dktJ32_checkRange_1 := dk_seg dksJ32_checkRange_0 24 rfl rfl
theorem dksJ32_checkRange_2 : cJ32_checkRange.data.toList.drop 48 = dktJ32_checkRange_2 := dk_seg dksJ32_checkRange_1 24 rfl rfl
theorem dksJ32_checkRange_3 : cJ32_checkRange.data.toList.drop 71 = dktJ32_checkRange_3 := dk_seg dksJ32_checkRange_2 23 rfl rfl
theorem dksJ32_checkRange_4 : cJ32_checkRange.data.toList.drop 93 = dktJ32_checkRange_4 := dk_seg dksJ32_checkRange_3 22 rfl rfl
theorem dJ32_checkRange_0 : decode cJ32_checkRange 0 = .ok (.iload_n 0, 1) := dk_26 (dk_at dksJ32_checkRange_0 0 rfl rfl)
theorem dJ32_checkRange_1 : decode cJ32_checkRange 1 = .ok (.ifCond .ge 30, 3) := dk_156 0 30 (dk_at dksJ32_checkRange_0 1 rfl rfl)
theorem dJ32_checkRange_4 : decode cJ32_checkRange 4 = .ok (.new 142, 3) := dk_187 0 142 (dk_at dksJ32_checkRange_0 4 rfl rfl)
theorem dJ32_checkRange_7 : decode cJ32_checkRange 7 = .ok (.dup, 1) := dk_89 (dk_at dksJ32_checkRange_0 7 rfl rfl)
theorem dJ32_checkRange_8 : decode cJ32_checkRange 8 = .ok (.new 33, 3) := dk_187 0 33 (dk_at dksJ32_checkRange_0 8 rfl rfl)
theorem dJ32_checkRange_11 : decode cJ32_checkRange 11 = .ok (.dup, 1) := dk_89 (dk_at dksJ32_checkRange_0 11 rfl rfl)
theorem dJ32_checkRange_12 : decode cJ32_checkRange 12 = .ok (.invokespecial 35, 3) := dk_183 0 35 (dk_at dksJ32_checkRange_0 12 rfl rfl)
theorem dJ32_checkRange_15 : decode cJ32_checkRange 15 = .ok (.ldc 144, 2) := dk_18 144 (dk_at dksJ32_checkRange_0 15 rfl rfl)
theorem dJ32_checkRange_17 : decode cJ32_checkRange 17 = .ok (.invokevirtual 38, 3) := dk_182 0 38 (dk_at dksJ32_checkRange_0 17 rfl rfl)
theorem dJ32_checkRange_20 : decode cJ32_checkRange 20 = .ok (.iload_n 0, 1) := dk_26 (dk_at dksJ32_checkRange_0 20 rfl rfl)
theorem dJ32_checkRange_21 : decode cJ32_checkRange 21 = .ok (.invokevirtual 42, 3) := dk_182 0 42 (dk_at dksJ32_checkRange_0 21 rfl rfl)
theorem dJ32_checkRange_24 : decode cJ32_checkRange 24 = .ok (.invokevirtual 45, 3) := dk_182 0 45 (dk_at dksJ32_checkRange_1 0 rfl rfl)
theorem dJ32_checkRange_27 : decode cJ32_checkRange 27 = .ok (.invokespecial 146, 3) := dk_183 0 146 (dk_at dksJ32_checkRange_1 3 rfl rfl)
theorem dJ32_checkRange_30 : decode cJ32_checkRange 30 = .ok (.athrow, 1) := dk_191 (dk_at dksJ32_checkRange_1 6 rfl rfl)
theorem dJ32_checkRange_31 : decode cJ32_checkRange 31 = .ok (.iload_n 1, 1) := dk_27 (dk_at dksJ32_checkRange_1 7 rfl rfl)
theorem dJ32_checkRange_32 : decode cJ32_checkRange 32 = .ok (.ifCond .ge 30, 3) := dk_156 0 30 (dk_at dksJ32_checkRange_1 8 rfl rfl)
theorem dJ32_checkRange_35 : decode cJ32_checkRange 35 = .ok (.new 142, 3) := dk_187 0 142 (dk_at dksJ32_checkRange_1 11 rfl rfl)
theorem dJ32_checkRange_38 : decode cJ32_checkRange 38 = .ok (.dup, 1) := dk_89 (dk_at dksJ32_checkRange_1 14 rfl rfl)
theorem dJ32_checkRange_39 : decode cJ32_checkRange 39 = .ok (.new 33, 3) := dk_187 0 33 (dk_at dksJ32_checkRange_1 15 rfl rfl)
theorem dJ32_checkRange_42 : decode cJ32_checkRange 42 = .ok (.dup, 1) := dk_89 (dk_at dksJ32_checkRange_1 18 rfl rfl)
theorem dJ32_checkRange_43 : decode cJ32_checkRange 43 = .ok (.invokespecial 35, 3) := dk_183 0 35 (dk_at dksJ32_checkRange_1 19 rfl rfl)
theorem dJ32_checkRange_46 : decode cJ32_checkRange 46 = .ok (.ldc 147, 2) := dk_18 147 (dk_at dksJ32_checkRange_1 22 rfl rfl)
theorem dJ32_checkRange_48 : decode cJ32_checkRange 48 = .ok (.invokevirtual 38, 3) := dk_182 0 38 (dk_at dksJ32_checkRange_2 0 rfl rfl)
theorem dJ32_checkRange_51 : decode cJ32_checkRange 51 = .ok (.iload_n 1, 1) := dk_27 (dk_at dksJ32_checkRange_2 3 rfl rfl)
theorem dJ32_checkRange_52 : decode cJ32_checkRange 52 = .ok (.invokevirtual 42, 3) := dk_182 0 42 (dk_at dksJ32_checkRange_2 4 rfl rfl)
theorem dJ32_checkRange_55 : decode cJ32_checkRange 55 = .ok (.invokevirtual 45, 3) := dk_182 0 45 (dk_at dksJ32_checkRange_2 7 rfl rfl)
theorem dJ32_checkRange_58 : decode cJ32_checkRange 58 = .ok (.invokespecial 146, 3) := dk_183 0 146 (dk_at dksJ32_checkRange_2 10 rfl rfl)
theorem dJ32_checkRange_61 : decode cJ32_checkRange 61 = .ok (.athrow, 1) := dk_191 (dk_at dksJ32_checkRange_2 13 rfl rfl)
theorem dJ32_checkRange_62 : decode cJ32_checkRange 62 = .ok (.iload_n 0, 1) := dk_26 (dk_at dksJ32_checkRange_2 14 rfl rfl)
theorem dJ32_checkRange_63 : decode cJ32_checkRange 63 = .ok (.iload_n 1, 1) := dk_27 (dk_at dksJ32_checkRange_2 15 rfl rfl)
theorem dJ32_checkRange_64 : decode cJ32_checkRange 64 = .ok (.if_icmp .le 39, 3) := dk_164 0 39 (dk_at dksJ32_checkRange_2 16 rfl rfl)
theorem dJ32_checkRange_67 : decode cJ32_checkRange 67 = .ok (.new 142, 3) := dk_187 0 142 (dk_at dksJ32_checkRange_2 19 rfl rfl)
theorem dJ32_checkRange_70 : decode cJ32_checkRange 70 = .ok (.dup, 1) := dk_89 (dk_at dksJ32_checkRange_2 22 rfl rfl)
theorem dJ32_checkRange_71 : decode cJ32_checkRange 71 = .ok (.new 33, 3) := dk_187 0 33 (dk_at dksJ32_checkRange_3 0 rfl rfl)
theorem dJ32_checkRange_74 : decode cJ32_checkRange 74 = .ok (.dup, 1) := dk_89 (dk_at dksJ32_checkRange_3 3 rfl rfl)
theorem dJ32_checkRange_75 : decode cJ32_checkRange 75 = .ok (.invokespecial 35, 3) := dk_183 0 35 (dk_at dksJ32_checkRange_3 4 rfl rfl)
theorem dJ32_checkRange_78 : decode cJ32_checkRange 78 = .ok (.ldc 149, 2) := dk_18 149 (dk_at dksJ32_checkRange_3 7 rfl rfl)
theorem dJ32_checkRange_80 : decode cJ32_checkRange 80 = .ok (.invokevirtual 38, 3) := dk_182 0 38 (dk_at dksJ32_checkRange_3 9 rfl rfl)
theorem dJ32_checkRange_83 : decode cJ32_checkRange 83 = .ok (.iload_n 0, 1) := dk_26 (dk_at dksJ32_checkRange_3 12 rfl rfl)
theorem dJ32_checkRange_84 : decode cJ32_checkRange 84 = .ok (.invokevirtual 42, 3) := dk_182 0 42 (dk_at dksJ32_checkRange_3 13 rfl rfl)
theorem dJ32_checkRange_87 : decode cJ32_checkRange 87 = .ok (.ldc 151, 2) := dk_18 151 (dk_at dksJ32_checkRange_3 16 rfl rfl)
theorem dJ32_checkRange_89 : decode cJ32_checkRange 89 = .ok (.invokevirtual 38, 3) := dk_182 0 38 (dk_at dksJ32_checkRange_3 18 rfl rfl)
theorem dJ32_checkRange_92 : decode cJ32_checkRange 92 = .ok (.iload_n 1, 1) := dk_27 (dk_at dksJ32_checkRange_3 21 rfl rfl)
theorem dJ32_checkRange_93 : decode cJ32_checkRange 93 = .ok (.invokevirtual 42, 3) := dk_182 0 42 (dk_at dksJ32_checkRange_4 0 rfl rfl)
theorem dJ32_checkRange_96 : decode cJ32_checkRange 96 = .ok (.invokevirtual 45, 3) := dk_182 0 45 (dk_at dksJ32_checkRange_4 3 rfl rfl)
theorem dJ32_checkRange_99 : decode cJ32_checkRange 99 = .ok (.invokespecial 146, 3) := dk_183 0 146 (dk_at dksJ32_checkRange_4 6 rfl rfl)
theorem dJ32_checkRange_102 : decode cJ32_checkRange 102 = .ok (.athrow, 1) := dk_191 (dk_at dksJ32_checkRange_4 9 rfl rfl)
theorem dJ32_checkRange_103 : decode cJ32_checkRange 103 = .ok (.return_, 1) := dk_177 (dk_at dksJ32_checkRange_4 10 rfl rfl)
abbrev cJ32_expandTo : ByteArray := prog_55_method_15_code
def yJ32_expandTo : MethodName := ⟨RJ32, "expandTo", "(I)V"⟩
def dkwJ32_expandTo_0 : List UInt8 := [27, 4, 96, 61, 42, 180, 0, 7, 28, 162, 0, 13, 42, 28, 182, 0, 139, 42, 28, 181, 0, 7, 177]
abbrev dktJ32_expandTo_0 : List UInt8 := dkwJ32_expandTo_0 ++ []
theorem dksJ32_expandTo_0 : cJ32_expandTo.data.toList.drop 0 = dktJ32_expandTo_0 := by decide +kernel
theorem dJ32_expandTo_0 : decode cJ32_expandTo 0 = .ok (.iload_n 1, 1) := dk_27 (dk_at dksJ32_expandTo_0 0 rfl rfl)
theorem dJ32_expandTo_1 : decode cJ32_expandTo 1 = .ok (.iconst 1, 1) := dk_4 (dk_at dksJ32_expandTo_0 1 rfl rfl)
theorem dJ32_expandTo_2 : decode cJ32_expandTo 2 = .ok (.iadd, 1) := dk_96 (dk_at dksJ32_expandTo_0 2 rfl rfl)
theorem dJ32_expandTo_3 : decode cJ32_expandTo 3 = .ok (.istore_n 2, 1) := dk_61 (dk_at dksJ32_expandTo_0 3 rfl rfl)
theorem dJ32_expandTo_4 : decode cJ32_expandTo 4 = .ok (.aload_n 0, 1) := dk_42 (dk_at dksJ32_expandTo_0 4 rfl rfl)
theorem dJ32_expandTo_5 : decode cJ32_expandTo 5 = .ok (.getfield 7, 3) := dk_180 0 7 (dk_at dksJ32_expandTo_0 5 rfl rfl)
theorem dJ32_expandTo_8 : decode cJ32_expandTo 8 = .ok (.iload_n 2, 1) := dk_28 (dk_at dksJ32_expandTo_0 8 rfl rfl)
theorem dJ32_expandTo_9 : decode cJ32_expandTo 9 = .ok (.if_icmp .ge 13, 3) := dk_162 0 13 (dk_at dksJ32_expandTo_0 9 rfl rfl)
theorem dJ32_expandTo_12 : decode cJ32_expandTo 12 = .ok (.aload_n 0, 1) := dk_42 (dk_at dksJ32_expandTo_0 12 rfl rfl)
theorem dJ32_expandTo_13 : decode cJ32_expandTo 13 = .ok (.iload_n 2, 1) := dk_28 (dk_at dksJ32_expandTo_0 13 rfl rfl)
theorem dJ32_expandTo_14 : decode cJ32_expandTo 14 = .ok (.invokevirtual 139, 3) := dk_182 0 139 (dk_at dksJ32_expandTo_0 14 rfl rfl)
theorem dJ32_expandTo_17 : decode cJ32_expandTo 17 = .ok (.aload_n 0, 1) := dk_42 (dk_at dksJ32_expandTo_0 17 rfl rfl)
theorem dJ32_expandTo_18 : decode cJ32_expandTo 18 = .ok (.iload_n 2, 1) := dk_28 (dk_at dksJ32_expandTo_0 18 rfl rfl)
theorem dJ32_expandTo_19 : decode cJ32_expandTo 19 = .ok (.putfield 7, 3) := dk_181 0 7 (dk_at dksJ32_expandTo_0 19 rfl rfl)
theorem dJ32_expandTo_22 : decode cJ32_expandTo 22 = .ok (.return_, 1) := dk_177 (dk_at dksJ32_expandTo_0 22 rfl rfl)
abbrev cJ32_ensureCapacity : ByteArray := prog_55_method_14_code
def yJ32_ensureCapacity : MethodName := ⟨RJ32, "ensureCapacity", "(I)V"⟩
def dkwJ32_ensureCapacity_1 : List UInt8 := [180, 0, 11, 28, 184, 0, 59, 181, 0, 11, 42, 3, 181, 0, 24, 177]
abbrev dktJ32_ensureCapacity_1 : List UInt8 := dkwJ32_ensureCapacity_1 ++ []
def dkwJ32_ensureCapacity_0 : List UInt8 := [42, 180, 0, 11, 190, 27, 162, 0, 32, 5, 42, 180, 0, 11, 190, 104, 27, 184, 0, 133, 61, 42, 42]
abbrev dktJ32_ensureCapacity_0 : List UInt8 := dkwJ32_ensureCapacity_0 ++ dktJ32_ensureCapacity_1
theorem dksJ32_ensureCapacity_0 : cJ32_ensureCapacity.data.toList.drop 0 = dktJ32_ensureCapacity_0 := by decide +kernel
theorem dksJ32_ensureCapacity_1 : cJ32_ensureCapacity.data.toList.drop 23 = dktJ32_ensureCapacity_1 := dk_seg dksJ32_ensureCapacity_0 23 rfl rfl
theorem dJ32_ensureCapacity_0 : decode cJ32_ensureCapacity 0 = .ok (.aload_n 0, 1) := dk_42 (dk_at dksJ32_ensureCapacity_0 0 rfl rfl)
theorem dJ32_ensureCapacity_1 : decode cJ32_ensureCapacity 1 = .ok (.getfield 11, 3) := dk_180 0 11 (dk_at dksJ32_ensureCapacity_0 1 rfl rfl)
theorem dJ32_ensureCapacity_4 : decode cJ32_ensureCapacity 4 = .ok (.arraylength, 1) := dk_190 (dk_at dksJ32_ensureCapacity_0 4 rfl rfl)
theorem dJ32_ensureCapacity_5 : decode cJ32_ensureCapacity 5 = .ok (.iload_n 1, 1) := dk_27 (dk_at dksJ32_ensureCapacity_0 5 rfl rfl)
theorem dJ32_ensureCapacity_6 : decode cJ32_ensureCapacity 6 = .ok (.if_icmp .ge 32, 3) := dk_162 0 32 (dk_at dksJ32_ensureCapacity_0 6 rfl rfl)
theorem dJ32_ensureCapacity_9 : decode cJ32_ensureCapacity 9 = .ok (.iconst 2, 1) := dk_5 (dk_at dksJ32_ensureCapacity_0 9 rfl rfl)
theorem dJ32_ensureCapacity_10 : decode cJ32_ensureCapacity 10 = .ok (.aload_n 0, 1) := dk_42 (dk_at dksJ32_ensureCapacity_0 10 rfl rfl)
theorem dJ32_ensureCapacity_11 : decode cJ32_ensureCapacity 11 = .ok (.getfield 11, 3) := dk_180 0 11 (dk_at dksJ32_ensureCapacity_0 11 rfl rfl)
theorem dJ32_ensureCapacity_14 : decode cJ32_ensureCapacity 14 = .ok (.arraylength, 1) := dk_190 (dk_at dksJ32_ensureCapacity_0 14 rfl rfl)
theorem dJ32_ensureCapacity_15 : decode cJ32_ensureCapacity 15 = .ok (.imul, 1) := dk_104 (dk_at dksJ32_ensureCapacity_0 15 rfl rfl)
theorem dJ32_ensureCapacity_16 : decode cJ32_ensureCapacity 16 = .ok (.iload_n 1, 1) := dk_27 (dk_at dksJ32_ensureCapacity_0 16 rfl rfl)
theorem dJ32_ensureCapacity_17 : decode cJ32_ensureCapacity 17 = .ok (.invokestatic 133, 3) := dk_184 0 133 (dk_at dksJ32_ensureCapacity_0 17 rfl rfl)
theorem dJ32_ensureCapacity_20 : decode cJ32_ensureCapacity 20 = .ok (.istore_n 2, 1) := dk_61 (dk_at dksJ32_ensureCapacity_0 20 rfl rfl)
theorem dJ32_ensureCapacity_21 : decode cJ32_ensureCapacity 21 = .ok (.aload_n 0, 1) := dk_42 (dk_at dksJ32_ensureCapacity_0 21 rfl rfl)
theorem dJ32_ensureCapacity_22 : decode cJ32_ensureCapacity 22 = .ok (.aload_n 0, 1) := dk_42 (dk_at dksJ32_ensureCapacity_0 22 rfl rfl)
theorem dJ32_ensureCapacity_23 : decode cJ32_ensureCapacity 23 = .ok (.getfield 11, 3) := dk_180 0 11 (dk_at dksJ32_ensureCapacity_1 0 rfl rfl)
theorem dJ32_ensureCapacity_26 : decode cJ32_ensureCapacity 26 = .ok (.iload_n 2, 1) := dk_28 (dk_at dksJ32_ensureCapacity_1 3 rfl rfl)
theorem dJ32_ensureCapacity_27 : decode cJ32_ensureCapacity 27 = .ok (.invokestatic 59, 3) := dk_184 0 59 (dk_at dksJ32_ensureCapacity_1 4 rfl rfl)
theorem dJ32_ensureCapacity_30 : decode cJ32_ensureCapacity 30 = .ok (.putfield 11, 3) := dk_181 0 11 (dk_at dksJ32_ensureCapacity_1 7 rfl rfl)
theorem dJ32_ensureCapacity_33 : decode cJ32_ensureCapacity 33 = .ok (.aload_n 0, 1) := dk_42 (dk_at dksJ32_ensureCapacity_1 10 rfl rfl)
theorem dJ32_ensureCapacity_34 : decode cJ32_ensureCapacity 34 = .ok (.iconst 0, 1) := dk_3 (dk_at dksJ32_ensureCapacity_1 11 rfl rfl)
theorem dJ32_ensureCapacity_35 : decode cJ32_ensureCapacity 35 = .ok (.putfield 24, 3) := dk_181 0 24 (dk_at dksJ32_ensureCapacity_1 12 rfl rfl)
theorem dJ32_ensureCapacity_38 : decode cJ32_ensureCapacity 38 = .ok (.return_, 1) := dk_177 (dk_at dksJ32_ensureCapacity_1 15 rfl rfl)
abbrev cJ32_checkInvariants : ByteArray := prog_55_method_2_code
def yJ32_checkInvariants : MethodName := ⟨RJ32, "checkInvariants", "()V"⟩
def dkwJ32_checkInvariants_4 : List UInt8 := [180, 0, 7, 47, 9, 148, 153, 0, 11, 187, 0, 15, 89, 183, 0, 17, 191, 177]
abbrev dktJ32_checkInvariants_4 : List UInt8 := dkwJ32_checkInvariants_4 ++ []
def dkwJ32_checkInvariants_3 : List UInt8 := [178, 0, 3, 154, 0, 37, 42, 180, 0, 7, 42, 180, 0, 11, 190, 159, 0, 25, 42, 180, 0, 11, 42]
abbrev dktJ32_checkInvariants_3 : List UInt8 := dkwJ32_checkInvariants_3 ++ dktJ32_checkInvariants_4
def dkwJ32_checkInvariants_2 : List UInt8 := [155, 0, 15, 42, 180, 0, 7, 42, 180, 0, 11, 190, 164, 0, 11, 187, 0, 15, 89, 183, 0, 17, 191]
abbrev dktJ32_checkInvariants_2 : List UInt8 := dkwJ32_checkInvariants_2 ++ dktJ32_checkInvariants_3
def dkwJ32_checkInvariants_1 : List UInt8 := [9, 148, 154, 0, 11, 187, 0, 15, 89, 183, 0, 17, 191, 178, 0, 3, 154, 0, 30, 42, 180, 0, 7]
abbrev dktJ32_checkInvariants_1 : List UInt8 := dkwJ32_checkInvariants_1 ++ dktJ32_checkInvariants_2
def dkwJ32_checkInvariants_0 : List UInt8 := [178, 0, 3, 154, 0, 34, 42, 180, 0, 7, 153, 0, 27, 42, 180, 0, 11, 42, 180, 0, 7, 4, 100, 47]
abbrev dktJ32_checkInvariants_0 : List UInt8 := dkwJ32_checkInvariants_0 ++ dktJ32_checkInvariants_1
theorem dksJ32_checkInvariants_0 : cJ32_checkInvariants.data.toList.drop 0 = dktJ32_checkInvariants_0 := by decide +kernel
theorem dksJ32_checkInvariants_1 : cJ32_checkInvariants.data.toList.drop 24 = dktJ32_checkInvariants_1 := dk_seg dksJ32_checkInvariants_0 24 rfl rfl
theorem dksJ32_checkInvariants_2 : cJ32_checkInvariants.data.toList.drop 47 = dktJ32_checkInvariants_2 := dk_seg dksJ32_checkInvariants_1 23 rfl rfl
theorem dksJ32_checkInvariants_3 : cJ32_checkInvariants.data.toList.drop 70 = dktJ32_checkInvariants_3 := dk_seg dksJ32_checkInvariants_2 23 rfl rfl
theorem dksJ32_checkInvariants_4 : cJ32_checkInvariants.data.toList.drop 93 = dktJ32_checkInvariants_4 := dk_seg dksJ32_checkInvariants_3 23 rfl rfl
theorem dJ32_checkInvariants_0 : decode cJ32_checkInvariants 0 = .ok (.getstatic 3, 3) := dk_178 0 3 (dk_at dksJ32_checkInvariants_0 0 rfl rfl)
theorem dJ32_checkInvariants_3 : decode cJ32_checkInvariants 3 = .ok (.ifCond .ne 34, 3) := dk_154 0 34 (dk_at dksJ32_checkInvariants_0 3 rfl rfl)
theorem dJ32_checkInvariants_6 : decode cJ32_checkInvariants 6 = .ok (.aload_n 0, 1) := dk_42 (dk_at dksJ32_checkInvariants_0 6 rfl rfl)
theorem dJ32_checkInvariants_7 : decode cJ32_checkInvariants 7 = .ok (.getfield 7, 3) := dk_180 0 7 (dk_at dksJ32_checkInvariants_0 7 rfl rfl)
theorem dJ32_checkInvariants_10 : decode cJ32_checkInvariants 10 = .ok (.ifCond .eq 27, 3) := dk_153 0 27 (dk_at dksJ32_checkInvariants_0 10 rfl rfl)
theorem dJ32_checkInvariants_13 : decode cJ32_checkInvariants 13 = .ok (.aload_n 0, 1) := dk_42 (dk_at dksJ32_checkInvariants_0 13 rfl rfl)
theorem dJ32_checkInvariants_14 : decode cJ32_checkInvariants 14 = .ok (.getfield 11, 3) := dk_180 0 11 (dk_at dksJ32_checkInvariants_0 14 rfl rfl)
theorem dJ32_checkInvariants_17 : decode cJ32_checkInvariants 17 = .ok (.aload_n 0, 1) := dk_42 (dk_at dksJ32_checkInvariants_0 17 rfl rfl)
theorem dJ32_checkInvariants_18 : decode cJ32_checkInvariants 18 = .ok (.getfield 7, 3) := dk_180 0 7 (dk_at dksJ32_checkInvariants_0 18 rfl rfl)
theorem dJ32_checkInvariants_21 : decode cJ32_checkInvariants 21 = .ok (.iconst 1, 1) := dk_4 (dk_at dksJ32_checkInvariants_0 21 rfl rfl)
theorem dJ32_checkInvariants_22 : decode cJ32_checkInvariants 22 = .ok (.isub, 1) := dk_100 (dk_at dksJ32_checkInvariants_0 22 rfl rfl)
theorem dJ32_checkInvariants_23 : decode cJ32_checkInvariants 23 = .ok (.laload, 1) := dk_47 (dk_at dksJ32_checkInvariants_0 23 rfl rfl)
theorem dJ32_checkInvariants_24 : decode cJ32_checkInvariants 24 = .ok (.lconst 0, 1) := dk_9 (dk_at dksJ32_checkInvariants_1 0 rfl rfl)
theorem dJ32_checkInvariants_25 : decode cJ32_checkInvariants 25 = .ok (.lcmp, 1) := dk_148 (dk_at dksJ32_checkInvariants_1 1 rfl rfl)
theorem dJ32_checkInvariants_26 : decode cJ32_checkInvariants 26 = .ok (.ifCond .ne 11, 3) := dk_154 0 11 (dk_at dksJ32_checkInvariants_1 2 rfl rfl)
theorem dJ32_checkInvariants_29 : decode cJ32_checkInvariants 29 = .ok (.new 15, 3) := dk_187 0 15 (dk_at dksJ32_checkInvariants_1 5 rfl rfl)
theorem dJ32_checkInvariants_32 : decode cJ32_checkInvariants 32 = .ok (.dup, 1) := dk_89 (dk_at dksJ32_checkInvariants_1 8 rfl rfl)
theorem dJ32_checkInvariants_33 : decode cJ32_checkInvariants 33 = .ok (.invokespecial 17, 3) := dk_183 0 17 (dk_at dksJ32_checkInvariants_1 9 rfl rfl)
theorem dJ32_checkInvariants_36 : decode cJ32_checkInvariants 36 = .ok (.athrow, 1) := dk_191 (dk_at dksJ32_checkInvariants_1 12 rfl rfl)
theorem dJ32_checkInvariants_37 : decode cJ32_checkInvariants 37 = .ok (.getstatic 3, 3) := dk_178 0 3 (dk_at dksJ32_checkInvariants_1 13 rfl rfl)
theorem dJ32_checkInvariants_40 : decode cJ32_checkInvariants 40 = .ok (.ifCond .ne 30, 3) := dk_154 0 30 (dk_at dksJ32_checkInvariants_1 16 rfl rfl)
theorem dJ32_checkInvariants_43 : decode cJ32_checkInvariants 43 = .ok (.aload_n 0, 1) := dk_42 (dk_at dksJ32_checkInvariants_1 19 rfl rfl)
theorem dJ32_checkInvariants_44 : decode cJ32_checkInvariants 44 = .ok (.getfield 7, 3) := dk_180 0 7 (dk_at dksJ32_checkInvariants_1 20 rfl rfl)
theorem dJ32_checkInvariants_47 : decode cJ32_checkInvariants 47 = .ok (.ifCond .lt 15, 3) := dk_155 0 15 (dk_at dksJ32_checkInvariants_2 0 rfl rfl)
theorem dJ32_checkInvariants_50 : decode cJ32_checkInvariants 50 = .ok (.aload_n 0, 1) := dk_42 (dk_at dksJ32_checkInvariants_2 3 rfl rfl)
theorem dJ32_checkInvariants_51 : decode cJ32_checkInvariants 51 = .ok (.getfield 7, 3) := dk_180 0 7 (dk_at dksJ32_checkInvariants_2 4 rfl rfl)
theorem dJ32_checkInvariants_54 : decode cJ32_checkInvariants 54 = .ok (.aload_n 0, 1) := dk_42 (dk_at dksJ32_checkInvariants_2 7 rfl rfl)
theorem dJ32_checkInvariants_55 : decode cJ32_checkInvariants 55 = .ok (.getfield 11, 3) := dk_180 0 11 (dk_at dksJ32_checkInvariants_2 8 rfl rfl)
theorem dJ32_checkInvariants_58 : decode cJ32_checkInvariants 58 = .ok (.arraylength, 1) := dk_190 (dk_at dksJ32_checkInvariants_2 11 rfl rfl)
theorem dJ32_checkInvariants_59 : decode cJ32_checkInvariants 59 = .ok (.if_icmp .le 11, 3) := dk_164 0 11 (dk_at dksJ32_checkInvariants_2 12 rfl rfl)
theorem dJ32_checkInvariants_62 : decode cJ32_checkInvariants 62 = .ok (.new 15, 3) := dk_187 0 15 (dk_at dksJ32_checkInvariants_2 15 rfl rfl)
theorem dJ32_checkInvariants_65 : decode cJ32_checkInvariants 65 = .ok (.dup, 1) := dk_89 (dk_at dksJ32_checkInvariants_2 18 rfl rfl)
theorem dJ32_checkInvariants_66 : decode cJ32_checkInvariants 66 = .ok (.invokespecial 17, 3) := dk_183 0 17 (dk_at dksJ32_checkInvariants_2 19 rfl rfl)
theorem dJ32_checkInvariants_69 : decode cJ32_checkInvariants 69 = .ok (.athrow, 1) := dk_191 (dk_at dksJ32_checkInvariants_2 22 rfl rfl)
theorem dJ32_checkInvariants_70 : decode cJ32_checkInvariants 70 = .ok (.getstatic 3, 3) := dk_178 0 3 (dk_at dksJ32_checkInvariants_3 0 rfl rfl)
theorem dJ32_checkInvariants_73 : decode cJ32_checkInvariants 73 = .ok (.ifCond .ne 37, 3) := dk_154 0 37 (dk_at dksJ32_checkInvariants_3 3 rfl rfl)
theorem dJ32_checkInvariants_76 : decode cJ32_checkInvariants 76 = .ok (.aload_n 0, 1) := dk_42 (dk_at dksJ32_checkInvariants_3 6 rfl rfl)
theorem dJ32_checkInvariants_77 : decode cJ32_checkInvariants 77 = .ok (.getfield 7, 3) := dk_180 0 7 (dk_at dksJ32_checkInvariants_3 7 rfl rfl)
theorem dJ32_checkInvariants_80 : decode cJ32_checkInvariants 80 = .ok (.aload_n 0, 1) := dk_42 (dk_at dksJ32_checkInvariants_3 10 rfl rfl)
theorem dJ32_checkInvariants_81 : decode cJ32_checkInvariants 81 = .ok (.getfield 11, 3) := dk_180 0 11 (dk_at dksJ32_checkInvariants_3 11 rfl rfl)
theorem dJ32_checkInvariants_84 : decode cJ32_checkInvariants 84 = .ok (.arraylength, 1) := dk_190 (dk_at dksJ32_checkInvariants_3 14 rfl rfl)
theorem dJ32_checkInvariants_85 : decode cJ32_checkInvariants 85 = .ok (.if_icmp .eq 25, 3) := dk_159 0 25 (dk_at dksJ32_checkInvariants_3 15 rfl rfl)
theorem dJ32_checkInvariants_88 : decode cJ32_checkInvariants 88 = .ok (.aload_n 0, 1) := dk_42 (dk_at dksJ32_checkInvariants_3 18 rfl rfl)
theorem dJ32_checkInvariants_89 : decode cJ32_checkInvariants 89 = .ok (.getfield 11, 3) := dk_180 0 11 (dk_at dksJ32_checkInvariants_3 19 rfl rfl)
theorem dJ32_checkInvariants_92 : decode cJ32_checkInvariants 92 = .ok (.aload_n 0, 1) := dk_42 (dk_at dksJ32_checkInvariants_3 22 rfl rfl)
theorem dJ32_checkInvariants_93 : decode cJ32_checkInvariants 93 = .ok (.getfield 7, 3) := dk_180 0 7 (dk_at dksJ32_checkInvariants_4 0 rfl rfl)
theorem dJ32_checkInvariants_96 : decode cJ32_checkInvariants 96 = .ok (.laload, 1) := dk_47 (dk_at dksJ32_checkInvariants_4 3 rfl rfl)
theorem dJ32_checkInvariants_97 : decode cJ32_checkInvariants 97 = .ok (.lconst 0, 1) := dk_9 (dk_at dksJ32_checkInvariants_4 4 rfl rfl)
theorem dJ32_checkInvariants_98 : decode cJ32_checkInvariants 98 = .ok (.lcmp, 1) := dk_148 (dk_at dksJ32_checkInvariants_4 5 rfl rfl)
theorem dJ32_checkInvariants_99 : decode cJ32_checkInvariants 99 = .ok (.ifCond .eq 11, 3) := dk_153 0 11 (dk_at dksJ32_checkInvariants_4 6 rfl rfl)
theorem dJ32_checkInvariants_102 : decode cJ32_checkInvariants 102 = .ok (.new 15, 3) := dk_187 0 15 (dk_at dksJ32_checkInvariants_4 9 rfl rfl)
theorem dJ32_checkInvariants_105 : decode cJ32_checkInvariants 105 = .ok (.dup, 1) := dk_89 (dk_at dksJ32_checkInvariants_4 12 rfl rfl)
theorem dJ32_checkInvariants_106 : decode cJ32_checkInvariants 106 = .ok (.invokespecial 17, 3) := dk_183 0 17 (dk_at dksJ32_checkInvariants_4 13 rfl rfl)
theorem dJ32_checkInvariants_109 : decode cJ32_checkInvariants 109 = .ok (.athrow, 1) := dk_191 (dk_at dksJ32_checkInvariants_4 16 rfl rfl)
theorem dJ32_checkInvariants_110 : decode cJ32_checkInvariants 110 = .ok (.return_, 1) := dk_177 (dk_at dksJ32_checkInvariants_4 17 rfl rfl)
abbrev cJ32_and : ByteArray := prog_55_method_36_code
def yJ32_and : MethodName := ⟨RJ32, "and", "(Ljava/util/BitSet;)V"⟩
def dkwJ32_and_3 : List UInt8 := [182, 0, 158, 42, 182, 0, 56, 177]
abbrev dktJ32_and_3 : List UInt8 := dkwJ32_and_3 ++ []
def dkwJ32_and_2 : List UInt8 := [42, 180, 0, 11, 28, 92, 47, 43, 180, 0, 11, 28, 47, 127, 80, 132, 2, 1, 167, 255, 230, 42]
abbrev dktJ32_and_2 : List UInt8 := dkwJ32_and_2 ++ dktJ32_and_3
def dkwJ32_and_1 : List UInt8 := [180, 0, 7, 4, 100, 90, 181, 0, 7, 9, 80, 167, 255, 228, 3, 61, 28, 42, 180, 0, 7, 162, 0, 24]
abbrev dktJ32_and_1 : List UInt8 := dkwJ32_and_1 ++ dktJ32_and_2
def dkwJ32_and_0 : List UInt8 := [42, 43, 166, 0, 4, 177, 42, 180, 0, 7, 43, 180, 0, 7, 164, 0, 23, 42, 180, 0, 11, 42, 89]
abbrev dktJ32_and_0 : List UInt8 := dkwJ32_and_0 ++ dktJ32_and_1
theorem dksJ32_and_0 : cJ32_and.data.toList.drop 0 = dktJ32_and_0 := by decide +kernel
theorem dksJ32_and_1 : cJ32_and.data.toList.drop 23 = dktJ32_and_1 := dk_seg dksJ32_and_0 23 rfl rfl
theorem dksJ32_and_2 : cJ32_and.data.toList.drop 47 = dktJ32_and_2 := dk_seg dksJ32_and_1 24 rfl rfl
theorem dksJ32_and_3 : cJ32_and.data.toList.drop 69 = dktJ32_and_3 := dk_seg dksJ32_and_2 22 rfl rfl
theorem dJ32_and_0 : decode cJ32_and 0 = .ok (.aload_n 0, 1) := dk_42 (dk_at dksJ32_and_0 0 rfl rfl)
theorem dJ32_and_1 : decode cJ32_and 1 = .ok (.aload_n 1, 1) := dk_43 (dk_at dksJ32_and_0 1 rfl rfl)
theorem dJ32_and_2 : decode cJ32_and 2 = .ok (.if_acmp .ne 4, 3) := dk_166 0 4 (dk_at dksJ32_and_0 2 rfl rfl)
theorem dJ32_and_5 : decode cJ32_and 5 = .ok (.return_, 1) := dk_177 (dk_at dksJ32_and_0 5 rfl rfl)
theorem dJ32_and_6 : decode cJ32_and 6 = .ok (.aload_n 0, 1) := dk_42 (dk_at dksJ32_and_0 6 rfl rfl)
theorem dJ32_and_7 : decode cJ32_and 7 = .ok (.getfield 7, 3) := dk_180 0 7 (dk_at dksJ32_and_0 7 rfl rfl)
theorem dJ32_and_10 : decode cJ32_and 10 = .ok (.aload_n 1, 1) := dk_43 (dk_at dksJ32_and_0 10 rfl rfl)
theorem dJ32_and_11 : decode cJ32_and 11 = .ok (.getfield 7, 3) := dk_180 0 7 (dk_at dksJ32_and_0 11 rfl rfl)
theorem dJ32_and_14 : decode cJ32_and 14 = .ok (.if_icmp .le 23, 3) := dk_164 0 23 (dk_at dksJ32_and_0 14 rfl rfl)
theorem dJ32_and_17 : decode cJ32_and 17 = .ok (.aload_n 0, 1) := dk_42 (dk_at dksJ32_and_0 17 rfl rfl)
theorem dJ32_and_18 : decode cJ32_and 18 = .ok (.getfield 11, 3) := dk_180 0 11 (dk_at dksJ32_and_0 18 rfl rfl)
theorem dJ32_and_21 : decode cJ32_and 21 = .ok (.aload_n 0, 1) := dk_42 (dk_at dksJ32_and_0 21 rfl rfl)
theorem dJ32_and_22 : decode cJ32_and 22 = .ok (.dup, 1) := dk_89 (dk_at dksJ32_and_0 22 rfl rfl)
theorem dJ32_and_23 : decode cJ32_and 23 = .ok (.getfield 7, 3) := dk_180 0 7 (dk_at dksJ32_and_1 0 rfl rfl)
theorem dJ32_and_26 : decode cJ32_and 26 = .ok (.iconst 1, 1) := dk_4 (dk_at dksJ32_and_1 3 rfl rfl)
theorem dJ32_and_27 : decode cJ32_and 27 = .ok (.isub, 1) := dk_100 (dk_at dksJ32_and_1 4 rfl rfl)
theorem dJ32_and_28 : decode cJ32_and 28 = .ok (.dup_x1, 1) := dk_90 (dk_at dksJ32_and_1 5 rfl rfl)
theorem dJ32_and_29 : decode cJ32_and 29 = .ok (.putfield 7, 3) := dk_181 0 7 (dk_at dksJ32_and_1 6 rfl rfl)
theorem dJ32_and_32 : decode cJ32_and 32 = .ok (.lconst 0, 1) := dk_9 (dk_at dksJ32_and_1 9 rfl rfl)
theorem dJ32_and_33 : decode cJ32_and 33 = .ok (.lastore, 1) := dk_80 (dk_at dksJ32_and_1 10 rfl rfl)
theorem dJ32_and_34 : decode cJ32_and 34 = .ok (.goto (-28), 3) := dk_167 255 228 (dk_at dksJ32_and_1 11 rfl rfl)
theorem dJ32_and_37 : decode cJ32_and 37 = .ok (.iconst 0, 1) := dk_3 (dk_at dksJ32_and_1 14 rfl rfl)
theorem dJ32_and_38 : decode cJ32_and 38 = .ok (.istore_n 2, 1) := dk_61 (dk_at dksJ32_and_1 15 rfl rfl)
theorem dJ32_and_39 : decode cJ32_and 39 = .ok (.iload_n 2, 1) := dk_28 (dk_at dksJ32_and_1 16 rfl rfl)
theorem dJ32_and_40 : decode cJ32_and 40 = .ok (.aload_n 0, 1) := dk_42 (dk_at dksJ32_and_1 17 rfl rfl)
theorem dJ32_and_41 : decode cJ32_and 41 = .ok (.getfield 7, 3) := dk_180 0 7 (dk_at dksJ32_and_1 18 rfl rfl)
theorem dJ32_and_44 : decode cJ32_and 44 = .ok (.if_icmp .ge 24, 3) := dk_162 0 24 (dk_at dksJ32_and_1 21 rfl rfl)
theorem dJ32_and_47 : decode cJ32_and 47 = .ok (.aload_n 0, 1) := dk_42 (dk_at dksJ32_and_2 0 rfl rfl)
theorem dJ32_and_48 : decode cJ32_and 48 = .ok (.getfield 11, 3) := dk_180 0 11 (dk_at dksJ32_and_2 1 rfl rfl)
theorem dJ32_and_51 : decode cJ32_and 51 = .ok (.iload_n 2, 1) := dk_28 (dk_at dksJ32_and_2 4 rfl rfl)
theorem dJ32_and_52 : decode cJ32_and 52 = .ok (.dup2, 1) := dk_92 (dk_at dksJ32_and_2 5 rfl rfl)
theorem dJ32_and_53 : decode cJ32_and 53 = .ok (.laload, 1) := dk_47 (dk_at dksJ32_and_2 6 rfl rfl)
theorem dJ32_and_54 : decode cJ32_and 54 = .ok (.aload_n 1, 1) := dk_43 (dk_at dksJ32_and_2 7 rfl rfl)
theorem dJ32_and_55 : decode cJ32_and 55 = .ok (.getfield 11, 3) := dk_180 0 11 (dk_at dksJ32_and_2 8 rfl rfl)
theorem dJ32_and_58 : decode cJ32_and 58 = .ok (.iload_n 2, 1) := dk_28 (dk_at dksJ32_and_2 11 rfl rfl)
theorem dJ32_and_59 : decode cJ32_and 59 = .ok (.laload, 1) := dk_47 (dk_at dksJ32_and_2 12 rfl rfl)
theorem dJ32_and_60 : decode cJ32_and 60 = .ok (.land, 1) := dk_127 (dk_at dksJ32_and_2 13 rfl rfl)
theorem dJ32_and_61 : decode cJ32_and 61 = .ok (.lastore, 1) := dk_80 (dk_at dksJ32_and_2 14 rfl rfl)
theorem dJ32_and_62 : decode cJ32_and 62 = .ok (.iinc 2 1, 3) := dk_132 2 1 (dk_at dksJ32_and_2 15 rfl rfl)
theorem dJ32_and_65 : decode cJ32_and 65 = .ok (.goto (-26), 3) := dk_167 255 230 (dk_at dksJ32_and_2 18 rfl rfl)
theorem dJ32_and_68 : decode cJ32_and 68 = .ok (.aload_n 0, 1) := dk_42 (dk_at dksJ32_and_2 21 rfl rfl)
theorem dJ32_and_69 : decode cJ32_and 69 = .ok (.invokevirtual 158, 3) := dk_182 0 158 (dk_at dksJ32_and_3 0 rfl rfl)
theorem dJ32_and_72 : decode cJ32_and 72 = .ok (.aload_n 0, 1) := dk_42 (dk_at dksJ32_and_3 3 rfl rfl)
theorem dJ32_and_73 : decode cJ32_and 73 = .ok (.invokevirtual 56, 3) := dk_182 0 56 (dk_at dksJ32_and_3 4 rfl rfl)
theorem dJ32_and_76 : decode cJ32_and 76 = .ok (.return_, 1) := dk_177 (dk_at dksJ32_and_3 7 rfl rfl)
abbrev cJ32_recalculateWordsInUse : ByteArray := prog_55_method_3_code
def yJ32_recalculateWordsInUse : MethodName := ⟨RJ32, "recalculateWordsInUse", "()V"⟩
def dkwJ32_recalculateWordsInUse_1 : List UInt8 := [167, 0, 9, 132, 1, 255, 167, 255, 235, 42, 27, 4, 96, 181, 0, 7, 177]
abbrev dktJ32_recalculateWordsInUse_1 : List UInt8 := dkwJ32_recalculateWordsInUse_1 ++ []
def dkwJ32_recalculateWordsInUse_0 : List UInt8 := [42, 180, 0, 7, 4, 100, 60, 27, 155, 0, 23, 42, 180, 0, 11, 27, 47, 9, 148, 153, 0, 6]
abbrev dktJ32_recalculateWordsInUse_0 : List UInt8 := dkwJ32_recalculateWordsInUse_0 ++ dktJ32_recalculateWordsInUse_1
theorem dksJ32_recalculateWordsInUse_0 : cJ32_recalculateWordsInUse.data.toList.drop 0 = dktJ32_recalculateWordsInUse_0 := by decide +kernel
theorem dksJ32_recalculateWordsInUse_1 : cJ32_recalculateWordsInUse.data.toList.drop 22 = dktJ32_recalculateWordsInUse_1 := dk_seg dksJ32_recalculateWordsInUse_0 22 rfl rfl
theorem dJ32_recalculateWordsInUse_0 : decode cJ32_recalculateWordsInUse 0 = .ok (.aload_n 0, 1) := dk_42 (dk_at dksJ32_recalculateWordsInUse_0 0 rfl rfl)
theorem dJ32_recalculateWordsInUse_1 : decode cJ32_recalculateWordsInUse 1 = .ok (.getfield 7, 3) := dk_180 0 7 (dk_at dksJ32_recalculateWordsInUse_0 1 rfl rfl)
theorem dJ32_recalculateWordsInUse_4 : decode cJ32_recalculateWordsInUse 4 = .ok (.iconst 1, 1) := dk_4 (dk_at dksJ32_recalculateWordsInUse_0 4 rfl rfl)
theorem dJ32_recalculateWordsInUse_5 : decode cJ32_recalculateWordsInUse 5 = .ok (.isub, 1) := dk_100 (dk_at dksJ32_recalculateWordsInUse_0 5 rfl rfl)
theorem dJ32_recalculateWordsInUse_6 : decode cJ32_recalculateWordsInUse 6 = .ok (.istore_n 1, 1) := dk_60 (dk_at dksJ32_recalculateWordsInUse_0 6 rfl rfl)
theorem dJ32_recalculateWordsInUse_7 : decode cJ32_recalculateWordsInUse 7 = .ok (.iload_n 1, 1) := dk_27 (dk_at dksJ32_recalculateWordsInUse_0 7 rfl rfl)
theorem dJ32_recalculateWordsInUse_8 : decode cJ32_recalculateWordsInUse 8 = .ok (.ifCond .lt 23, 3) := dk_155 0 23 (dk_at dksJ32_recalculateWordsInUse_0 8 rfl rfl)
theorem dJ32_recalculateWordsInUse_11 : decode cJ32_recalculateWordsInUse 11 = .ok (.aload_n 0, 1) := dk_42 (dk_at dksJ32_recalculateWordsInUse_0 11 rfl rfl)
theorem dJ32_recalculateWordsInUse_12 : decode cJ32_recalculateWordsInUse 12 = .ok (.getfield 11, 3) := dk_180 0 11 (dk_at dksJ32_recalculateWordsInUse_0 12 rfl rfl)
theorem dJ32_recalculateWordsInUse_15 : decode cJ32_recalculateWordsInUse 15 = .ok (.iload_n 1, 1) := dk_27 (dk_at dksJ32_recalculateWordsInUse_0 15 rfl rfl)
theorem dJ32_recalculateWordsInUse_16 : decode cJ32_recalculateWordsInUse 16 = .ok (.laload, 1) := dk_47 (dk_at dksJ32_recalculateWordsInUse_0 16 rfl rfl)
theorem dJ32_recalculateWordsInUse_17 : decode cJ32_recalculateWordsInUse 17 = .ok (.lconst 0, 1) := dk_9 (dk_at dksJ32_recalculateWordsInUse_0 17 rfl rfl)
theorem dJ32_recalculateWordsInUse_18 : decode cJ32_recalculateWordsInUse 18 = .ok (.lcmp, 1) := dk_148 (dk_at dksJ32_recalculateWordsInUse_0 18 rfl rfl)
theorem dJ32_recalculateWordsInUse_19 : decode cJ32_recalculateWordsInUse 19 = .ok (.ifCond .eq 6, 3) := dk_153 0 6 (dk_at dksJ32_recalculateWordsInUse_0 19 rfl rfl)
theorem dJ32_recalculateWordsInUse_22 : decode cJ32_recalculateWordsInUse 22 = .ok (.goto 9, 3) := dk_167 0 9 (dk_at dksJ32_recalculateWordsInUse_1 0 rfl rfl)
theorem dJ32_recalculateWordsInUse_25 : decode cJ32_recalculateWordsInUse 25 = .ok (.iinc 1 (-1), 3) := dk_132 1 255 (dk_at dksJ32_recalculateWordsInUse_1 3 rfl rfl)
theorem dJ32_recalculateWordsInUse_28 : decode cJ32_recalculateWordsInUse 28 = .ok (.goto (-21), 3) := dk_167 255 235 (dk_at dksJ32_recalculateWordsInUse_1 6 rfl rfl)
theorem dJ32_recalculateWordsInUse_31 : decode cJ32_recalculateWordsInUse 31 = .ok (.aload_n 0, 1) := dk_42 (dk_at dksJ32_recalculateWordsInUse_1 9 rfl rfl)
theorem dJ32_recalculateWordsInUse_32 : decode cJ32_recalculateWordsInUse 32 = .ok (.iload_n 1, 1) := dk_27 (dk_at dksJ32_recalculateWordsInUse_1 10 rfl rfl)
theorem dJ32_recalculateWordsInUse_33 : decode cJ32_recalculateWordsInUse 33 = .ok (.iconst 1, 1) := dk_4 (dk_at dksJ32_recalculateWordsInUse_1 11 rfl rfl)
theorem dJ32_recalculateWordsInUse_34 : decode cJ32_recalculateWordsInUse 34 = .ok (.iadd, 1) := dk_96 (dk_at dksJ32_recalculateWordsInUse_1 12 rfl rfl)
theorem dJ32_recalculateWordsInUse_35 : decode cJ32_recalculateWordsInUse 35 = .ok (.putfield 7, 3) := dk_181 0 7 (dk_at dksJ32_recalculateWordsInUse_1 13 rfl rfl)
theorem dJ32_recalculateWordsInUse_38 : decode cJ32_recalculateWordsInUse 38 = .ok (.return_, 1) := dk_177 (dk_at dksJ32_recalculateWordsInUse_1 16 rfl rfl)
abbrev cJ32_set_2 : ByteArray := prog_55_method_19_code
def yJ32_set_2 : MethodName := ⟨RJ32, "set", "(I)V"⟩
def dkwJ32_set_2_2 : List UInt8 := [10, 27, 121, 129, 80, 42, 182, 0, 56, 177]
abbrev dktJ32_set_2_2 : List UInt8 := dkwJ32_set_2_2 ++ []
def dkwJ32_set_2_1 : List UInt8 := [182, 0, 45, 183, 0, 146, 191, 27, 184, 0, 52, 61, 42, 28, 182, 0, 155, 42, 180, 0, 11, 28, 92, 47]
abbrev dktJ32_set_2_1 : List UInt8 := dkwJ32_set_2_1 ++ dktJ32_set_2_2
def dkwJ32_set_2_0 : List UInt8 := [27, 156, 0, 30, 187, 0, 142, 89, 187, 0, 33, 89, 183, 0, 35, 18, 153, 182, 0, 38, 27, 182, 0, 42]
abbrev dktJ32_set_2_0 : List UInt8 := dkwJ32_set_2_0 ++ dktJ32_set_2_1
theorem dksJ32_set_2_0 : cJ32_set_2.data.toList.drop 0 = dktJ32_set_2_0 := by decide +kernel
theorem dksJ32_set_2_1 : cJ32_set_2.data.toList.drop 24 = dktJ32_set_2_1 := dk_seg dksJ32_set_2_0 24 rfl rfl
theorem dksJ32_set_2_2 : cJ32_set_2.data.toList.drop 48 = dktJ32_set_2_2 := dk_seg dksJ32_set_2_1 24 rfl rfl
theorem dJ32_set_2_0 : decode cJ32_set_2 0 = .ok (.iload_n 1, 1) := dk_27 (dk_at dksJ32_set_2_0 0 rfl rfl)
theorem dJ32_set_2_1 : decode cJ32_set_2 1 = .ok (.ifCond .ge 30, 3) := dk_156 0 30 (dk_at dksJ32_set_2_0 1 rfl rfl)
theorem dJ32_set_2_4 : decode cJ32_set_2 4 = .ok (.new 142, 3) := dk_187 0 142 (dk_at dksJ32_set_2_0 4 rfl rfl)
theorem dJ32_set_2_7 : decode cJ32_set_2 7 = .ok (.dup, 1) := dk_89 (dk_at dksJ32_set_2_0 7 rfl rfl)
theorem dJ32_set_2_8 : decode cJ32_set_2 8 = .ok (.new 33, 3) := dk_187 0 33 (dk_at dksJ32_set_2_0 8 rfl rfl)
theorem dJ32_set_2_11 : decode cJ32_set_2 11 = .ok (.dup, 1) := dk_89 (dk_at dksJ32_set_2_0 11 rfl rfl)
theorem dJ32_set_2_12 : decode cJ32_set_2 12 = .ok (.invokespecial 35, 3) := dk_183 0 35 (dk_at dksJ32_set_2_0 12 rfl rfl)
theorem dJ32_set_2_15 : decode cJ32_set_2 15 = .ok (.ldc 153, 2) := dk_18 153 (dk_at dksJ32_set_2_0 15 rfl rfl)
theorem dJ32_set_2_17 : decode cJ32_set_2 17 = .ok (.invokevirtual 38, 3) := dk_182 0 38 (dk_at dksJ32_set_2_0 17 rfl rfl)
theorem dJ32_set_2_20 : decode cJ32_set_2 20 = .ok (.iload_n 1, 1) := dk_27 (dk_at dksJ32_set_2_0 20 rfl rfl)
theorem dJ32_set_2_21 : decode cJ32_set_2 21 = .ok (.invokevirtual 42, 3) := dk_182 0 42 (dk_at dksJ32_set_2_0 21 rfl rfl)
theorem dJ32_set_2_24 : decode cJ32_set_2 24 = .ok (.invokevirtual 45, 3) := dk_182 0 45 (dk_at dksJ32_set_2_1 0 rfl rfl)
theorem dJ32_set_2_27 : decode cJ32_set_2 27 = .ok (.invokespecial 146, 3) := dk_183 0 146 (dk_at dksJ32_set_2_1 3 rfl rfl)
theorem dJ32_set_2_30 : decode cJ32_set_2 30 = .ok (.athrow, 1) := dk_191 (dk_at dksJ32_set_2_1 6 rfl rfl)
theorem dJ32_set_2_31 : decode cJ32_set_2 31 = .ok (.iload_n 1, 1) := dk_27 (dk_at dksJ32_set_2_1 7 rfl rfl)
theorem dJ32_set_2_32 : decode cJ32_set_2 32 = .ok (.invokestatic 52, 3) := dk_184 0 52 (dk_at dksJ32_set_2_1 8 rfl rfl)
theorem dJ32_set_2_35 : decode cJ32_set_2 35 = .ok (.istore_n 2, 1) := dk_61 (dk_at dksJ32_set_2_1 11 rfl rfl)
theorem dJ32_set_2_36 : decode cJ32_set_2 36 = .ok (.aload_n 0, 1) := dk_42 (dk_at dksJ32_set_2_1 12 rfl rfl)
theorem dJ32_set_2_37 : decode cJ32_set_2 37 = .ok (.iload_n 2, 1) := dk_28 (dk_at dksJ32_set_2_1 13 rfl rfl)
theorem dJ32_set_2_38 : decode cJ32_set_2 38 = .ok (.invokevirtual 155, 3) := dk_182 0 155 (dk_at dksJ32_set_2_1 14 rfl rfl)
theorem dJ32_set_2_41 : decode cJ32_set_2 41 = .ok (.aload_n 0, 1) := dk_42 (dk_at dksJ32_set_2_1 17 rfl rfl)
theorem dJ32_set_2_42 : decode cJ32_set_2 42 = .ok (.getfield 11, 3) := dk_180 0 11 (dk_at dksJ32_set_2_1 18 rfl rfl)
theorem dJ32_set_2_45 : decode cJ32_set_2 45 = .ok (.iload_n 2, 1) := dk_28 (dk_at dksJ32_set_2_1 21 rfl rfl)
theorem dJ32_set_2_46 : decode cJ32_set_2 46 = .ok (.dup2, 1) := dk_92 (dk_at dksJ32_set_2_1 22 rfl rfl)
theorem dJ32_set_2_47 : decode cJ32_set_2 47 = .ok (.laload, 1) := dk_47 (dk_at dksJ32_set_2_1 23 rfl rfl)
theorem dJ32_set_2_48 : decode cJ32_set_2 48 = .ok (.lconst 1, 1) := dk_10 (dk_at dksJ32_set_2_2 0 rfl rfl)
theorem dJ32_set_2_49 : decode cJ32_set_2 49 = .ok (.iload_n 1, 1) := dk_27 (dk_at dksJ32_set_2_2 1 rfl rfl)
theorem dJ32_set_2_50 : decode cJ32_set_2 50 = .ok (.lshl, 1) := dk_121 (dk_at dksJ32_set_2_2 2 rfl rfl)
theorem dJ32_set_2_51 : decode cJ32_set_2 51 = .ok (.lor, 1) := dk_129 (dk_at dksJ32_set_2_2 3 rfl rfl)
theorem dJ32_set_2_52 : decode cJ32_set_2 52 = .ok (.lastore, 1) := dk_80 (dk_at dksJ32_set_2_2 4 rfl rfl)
theorem dJ32_set_2_53 : decode cJ32_set_2 53 = .ok (.aload_n 0, 1) := dk_42 (dk_at dksJ32_set_2_2 5 rfl rfl)
theorem dJ32_set_2_54 : decode cJ32_set_2 54 = .ok (.invokevirtual 56, 3) := dk_182 0 56 (dk_at dksJ32_set_2_2 6 rfl rfl)
theorem dJ32_set_2_57 : decode cJ32_set_2 57 = .ok (.return_, 1) := dk_177 (dk_at dksJ32_set_2_2 9 rfl rfl)
abbrev cJ32_clear : ByteArray := prog_55_method_23_code
def yJ32_clear : MethodName := ⟨RJ32, "clear", "(I)V"⟩
def dkwJ32_clear_2 : List UInt8 := [180, 0, 11, 28, 92, 47, 10, 27, 121, 20, 0, 165, 131, 127, 80, 42, 182, 0, 158, 42, 182, 0, 56, 177]
abbrev dktJ32_clear_2 : List UInt8 := dkwJ32_clear_2 ++ []
def dkwJ32_clear_1 : List UInt8 := [182, 0, 45, 183, 0, 146, 191, 27, 184, 0, 52, 61, 28, 42, 180, 0, 7, 161, 0, 4, 177, 42]
abbrev dktJ32_clear_1 : List UInt8 := dkwJ32_clear_1 ++ dktJ32_clear_2
def dkwJ32_clear_0 : List UInt8 := [27, 156, 0, 30, 187, 0, 142, 89, 187, 0, 33, 89, 183, 0, 35, 18, 153, 182, 0, 38, 27, 182, 0, 42]
abbrev dktJ32_clear_0 : List UInt8 := dkwJ32_clear_0 ++ dktJ32_clear_1
theorem dksJ32_clear_0 : cJ32_clear.data.toList.drop 0 = dktJ32_clear_0 := by decide +kernel
theorem dksJ32_clear_1 : cJ32_clear.data.toList.drop 24 = dktJ32_clear_1 := dk_seg dksJ32_clear_0 24 rfl rfl
theorem dksJ32_clear_2 : cJ32_clear.data.toList.drop 46 = dktJ32_clear_2 := dk_seg dksJ32_clear_1 22 rfl rfl
theorem dJ32_clear_0 : decode cJ32_clear 0 = .ok (.iload_n 1, 1) := dk_27 (dk_at dksJ32_clear_0 0 rfl rfl)
theorem dJ32_clear_1 : decode cJ32_clear 1 = .ok (.ifCond .ge 30, 3) := dk_156 0 30 (dk_at dksJ32_clear_0 1 rfl rfl)
theorem dJ32_clear_4 : decode cJ32_clear 4 = .ok (.new 142, 3) := dk_187 0 142 (dk_at dksJ32_clear_0 4 rfl rfl)
theorem dJ32_clear_7 : decode cJ32_clear 7 = .ok (.dup, 1) := dk_89 (dk_at dksJ32_clear_0 7 rfl rfl)
theorem dJ32_clear_8 : decode cJ32_clear 8 = .ok (.new 33, 3) := dk_187 0 33 (dk_at dksJ32_clear_0 8 rfl rfl)
theorem dJ32_clear_11 : decode cJ32_clear 11 = .ok (.dup, 1) := dk_89 (dk_at dksJ32_clear_0 11 rfl rfl)
theorem dJ32_clear_12 : decode cJ32_clear 12 = .ok (.invokespecial 35, 3) := dk_183 0 35 (dk_at dksJ32_clear_0 12 rfl rfl)
theorem dJ32_clear_15 : decode cJ32_clear 15 = .ok (.ldc 153, 2) := dk_18 153 (dk_at dksJ32_clear_0 15 rfl rfl)
theorem dJ32_clear_17 : decode cJ32_clear 17 = .ok (.invokevirtual 38, 3) := dk_182 0 38 (dk_at dksJ32_clear_0 17 rfl rfl)
theorem dJ32_clear_20 : decode cJ32_clear 20 = .ok (.iload_n 1, 1) := dk_27 (dk_at dksJ32_clear_0 20 rfl rfl)
theorem dJ32_clear_21 : decode cJ32_clear 21 = .ok (.invokevirtual 42, 3) := dk_182 0 42 (dk_at dksJ32_clear_0 21 rfl rfl)
theorem dJ32_clear_24 : decode cJ32_clear 24 = .ok (.invokevirtual 45, 3) := dk_182 0 45 (dk_at dksJ32_clear_1 0 rfl rfl)
theorem dJ32_clear_27 : decode cJ32_clear 27 = .ok (.invokespecial 146, 3) := dk_183 0 146 (dk_at dksJ32_clear_1 3 rfl rfl)
theorem dJ32_clear_30 : decode cJ32_clear 30 = .ok (.athrow, 1) := dk_191 (dk_at dksJ32_clear_1 6 rfl rfl)
theorem dJ32_clear_31 : decode cJ32_clear 31 = .ok (.iload_n 1, 1) := dk_27 (dk_at dksJ32_clear_1 7 rfl rfl)
theorem dJ32_clear_32 : decode cJ32_clear 32 = .ok (.invokestatic 52, 3) := dk_184 0 52 (dk_at dksJ32_clear_1 8 rfl rfl)
theorem dJ32_clear_35 : decode cJ32_clear 35 = .ok (.istore_n 2, 1) := dk_61 (dk_at dksJ32_clear_1 11 rfl rfl)
theorem dJ32_clear_36 : decode cJ32_clear 36 = .ok (.iload_n 2, 1) := dk_28 (dk_at dksJ32_clear_1 12 rfl rfl)
theorem dJ32_clear_37 : decode cJ32_clear 37 = .ok (.aload_n 0, 1) := dk_42 (dk_at dksJ32_clear_1 13 rfl rfl)
theorem dJ32_clear_38 : decode cJ32_clear 38 = .ok (.getfield 7, 3) := dk_180 0 7 (dk_at dksJ32_clear_1 14 rfl rfl)
theorem dJ32_clear_41 : decode cJ32_clear 41 = .ok (.if_icmp .lt 4, 3) := dk_161 0 4 (dk_at dksJ32_clear_1 17 rfl rfl)
theorem dJ32_clear_44 : decode cJ32_clear 44 = .ok (.return_, 1) := dk_177 (dk_at dksJ32_clear_1 20 rfl rfl)
theorem dJ32_clear_45 : decode cJ32_clear 45 = .ok (.aload_n 0, 1) := dk_42 (dk_at dksJ32_clear_1 21 rfl rfl)
theorem dJ32_clear_46 : decode cJ32_clear 46 = .ok (.getfield 11, 3) := dk_180 0 11 (dk_at dksJ32_clear_2 0 rfl rfl)
theorem dJ32_clear_49 : decode cJ32_clear 49 = .ok (.iload_n 2, 1) := dk_28 (dk_at dksJ32_clear_2 3 rfl rfl)
theorem dJ32_clear_50 : decode cJ32_clear 50 = .ok (.dup2, 1) := dk_92 (dk_at dksJ32_clear_2 4 rfl rfl)
theorem dJ32_clear_51 : decode cJ32_clear 51 = .ok (.laload, 1) := dk_47 (dk_at dksJ32_clear_2 5 rfl rfl)
theorem dJ32_clear_52 : decode cJ32_clear 52 = .ok (.lconst 1, 1) := dk_10 (dk_at dksJ32_clear_2 6 rfl rfl)
theorem dJ32_clear_53 : decode cJ32_clear 53 = .ok (.iload_n 1, 1) := dk_27 (dk_at dksJ32_clear_2 7 rfl rfl)
theorem dJ32_clear_54 : decode cJ32_clear 54 = .ok (.lshl, 1) := dk_121 (dk_at dksJ32_clear_2 8 rfl rfl)
theorem dJ32_clear_55 : decode cJ32_clear 55 = .ok (.ldc2_w 165, 3) := dk_20 0 165 (dk_at dksJ32_clear_2 9 rfl rfl)
theorem dJ32_clear_58 : decode cJ32_clear 58 = .ok (.lxor, 1) := dk_131 (dk_at dksJ32_clear_2 12 rfl rfl)
theorem dJ32_clear_59 : decode cJ32_clear 59 = .ok (.land, 1) := dk_127 (dk_at dksJ32_clear_2 13 rfl rfl)
theorem dJ32_clear_60 : decode cJ32_clear 60 = .ok (.lastore, 1) := dk_80 (dk_at dksJ32_clear_2 14 rfl rfl)
theorem dJ32_clear_61 : decode cJ32_clear 61 = .ok (.aload_n 0, 1) := dk_42 (dk_at dksJ32_clear_2 15 rfl rfl)
theorem dJ32_clear_62 : decode cJ32_clear 62 = .ok (.invokevirtual 158, 3) := dk_182 0 158 (dk_at dksJ32_clear_2 16 rfl rfl)
theorem dJ32_clear_65 : decode cJ32_clear 65 = .ok (.aload_n 0, 1) := dk_42 (dk_at dksJ32_clear_2 19 rfl rfl)
theorem dJ32_clear_66 : decode cJ32_clear 66 = .ok (.invokevirtual 56, 3) := dk_182 0 56 (dk_at dksJ32_clear_2 20 rfl rfl)
theorem dJ32_clear_69 : decode cJ32_clear 69 = .ok (.return_, 1) := dk_177 (dk_at dksJ32_clear_2 23 rfl rfl)
abbrev cJ32_nextSetBit : ByteArray := prog_55_method_28_code
def yJ32_nextSetBit : MethodName := ⟨RJ32, "nextSetBit", "(I)I"⟩
def dkwJ32_nextSetBit_4 : List UInt8 := [28, 47, 66, 167, 255, 220]
abbrev dktJ32_nextSetBit_4 : List UInt8 := dkwJ32_nextSetBit_4 ++ []
def dkwJ32_nextSetBit_3 : List UInt8 := [104, 33, 184, 0, 182, 96, 172, 132, 2, 1, 28, 42, 180, 0, 7, 160, 0, 5, 2, 172, 42, 180, 0, 11]
abbrev dktJ32_nextSetBit_3 : List UInt8 := dkwJ32_nextSetBit_3 ++ dktJ32_nextSetBit_4
def dkwJ32_nextSetBit_2 : List UInt8 := [2, 172, 42, 180, 0, 11, 28, 47, 20, 0, 165, 27, 121, 127, 66, 33, 9, 148, 153, 0, 13, 28, 16, 64]
abbrev dktJ32_nextSetBit_2 : List UInt8 := dkwJ32_nextSetBit_2 ++ dktJ32_nextSetBit_3
def dkwJ32_nextSetBit_1 : List UInt8 := [182, 0, 45, 183, 0, 146, 191, 42, 182, 0, 56, 27, 184, 0, 52, 61, 28, 42, 180, 0, 7, 161, 0, 5]
abbrev dktJ32_nextSetBit_1 : List UInt8 := dkwJ32_nextSetBit_1 ++ dktJ32_nextSetBit_2
def dkwJ32_nextSetBit_0 : List UInt8 := [27, 156, 0, 30, 187, 0, 142, 89, 187, 0, 33, 89, 183, 0, 35, 18, 144, 182, 0, 38, 27, 182, 0, 42]
abbrev dktJ32_nextSetBit_0 : List UInt8 := dkwJ32_nextSetBit_0 ++ dktJ32_nextSetBit_1
theorem dksJ32_nextSetBit_0 : cJ32_nextSetBit.data.toList.drop 0 = dktJ32_nextSetBit_0 := by decide +kernel
theorem dksJ32_nextSetBit_1 : cJ32_nextSetBit.data.toList.drop 24 = dktJ32_nextSetBit_1 := dk_seg dksJ32_nextSetBit_0 24 rfl rfl
theorem dksJ32_nextSetBit_2 : cJ32_nextSetBit.data.toList.drop 48 = dktJ32_nextSetBit_2 := dk_seg dksJ32_nextSetBit_1 24 rfl rfl
theorem dksJ32_nextSetBit_3 : cJ32_nextSetBit.data.toList.drop 72 = dktJ32_nextSetBit_3 := dk_seg dksJ32_nextSetBit_2 24 rfl rfl
theorem dksJ32_nextSetBit_4 : cJ32_nextSetBit.data.toList.drop 96 = dktJ32_nextSetBit_4 := dk_seg dksJ32_nextSetBit_3 24 rfl rfl
theorem dJ32_nextSetBit_0 : decode cJ32_nextSetBit 0 = .ok (.iload_n 1, 1) := dk_27 (dk_at dksJ32_nextSetBit_0 0 rfl rfl)
theorem dJ32_nextSetBit_1 : decode cJ32_nextSetBit 1 = .ok (.ifCond .ge 30, 3) := dk_156 0 30 (dk_at dksJ32_nextSetBit_0 1 rfl rfl)
theorem dJ32_nextSetBit_4 : decode cJ32_nextSetBit 4 = .ok (.new 142, 3) := dk_187 0 142 (dk_at dksJ32_nextSetBit_0 4 rfl rfl)
theorem dJ32_nextSetBit_7 : decode cJ32_nextSetBit 7 = .ok (.dup, 1) := dk_89 (dk_at dksJ32_nextSetBit_0 7 rfl rfl)
theorem dJ32_nextSetBit_8 : decode cJ32_nextSetBit 8 = .ok (.new 33, 3) := dk_187 0 33 (dk_at dksJ32_nextSetBit_0 8 rfl rfl)
theorem dJ32_nextSetBit_11 : decode cJ32_nextSetBit 11 = .ok (.dup, 1) := dk_89 (dk_at dksJ32_nextSetBit_0 11 rfl rfl)
theorem dJ32_nextSetBit_12 : decode cJ32_nextSetBit 12 = .ok (.invokespecial 35, 3) := dk_183 0 35 (dk_at dksJ32_nextSetBit_0 12 rfl rfl)
theorem dJ32_nextSetBit_15 : decode cJ32_nextSetBit 15 = .ok (.ldc 144, 2) := dk_18 144 (dk_at dksJ32_nextSetBit_0 15 rfl rfl)
theorem dJ32_nextSetBit_17 : decode cJ32_nextSetBit 17 = .ok (.invokevirtual 38, 3) := dk_182 0 38 (dk_at dksJ32_nextSetBit_0 17 rfl rfl)
theorem dJ32_nextSetBit_20 : decode cJ32_nextSetBit 20 = .ok (.iload_n 1, 1) := dk_27 (dk_at dksJ32_nextSetBit_0 20 rfl rfl)
theorem dJ32_nextSetBit_21 : decode cJ32_nextSetBit 21 = .ok (.invokevirtual 42, 3) := dk_182 0 42 (dk_at dksJ32_nextSetBit_0 21 rfl rfl)
theorem dJ32_nextSetBit_24 : decode cJ32_nextSetBit 24 = .ok (.invokevirtual 45, 3) := dk_182 0 45 (dk_at dksJ32_nextSetBit_1 0 rfl rfl)
theorem dJ32_nextSetBit_27 : decode cJ32_nextSetBit 27 = .ok (.invokespecial 146, 3) := dk_183 0 146 (dk_at dksJ32_nextSetBit_1 3 rfl rfl)
theorem dJ32_nextSetBit_30 : decode cJ32_nextSetBit 30 = .ok (.athrow, 1) := dk_191 (dk_at dksJ32_nextSetBit_1 6 rfl rfl)
theorem dJ32_nextSetBit_31 : decode cJ32_nextSetBit 31 = .ok (.aload_n 0, 1) := dk_42 (dk_at dksJ32_nextSetBit_1 7 rfl rfl)
theorem dJ32_nextSetBit_32 : decode cJ32_nextSetBit 32 = .ok (.invokevirtual 56, 3) := dk_182 0 56 (dk_at dksJ32_nextSetBit_1 8 rfl rfl)
theorem dJ32_nextSetBit_35 : decode cJ32_nextSetBit 35 = .ok (.iload_n 1, 1) := dk_27 (dk_at dksJ32_nextSetBit_1 11 rfl rfl)
theorem dJ32_nextSetBit_36 : decode cJ32_nextSetBit 36 = .ok (.invokestatic 52, 3) := dk_184 0 52 (dk_at dksJ32_nextSetBit_1 12 rfl rfl)
theorem dJ32_nextSetBit_39 : decode cJ32_nextSetBit 39 = .ok (.istore_n 2, 1) := dk_61 (dk_at dksJ32_nextSetBit_1 15 rfl rfl)
theorem dJ32_nextSetBit_40 : decode cJ32_nextSetBit 40 = .ok (.iload_n 2, 1) := dk_28 (dk_at dksJ32_nextSetBit_1 16 rfl rfl)
theorem dJ32_nextSetBit_41 : decode cJ32_nextSetBit 41 = .ok (.aload_n 0, 1) := dk_42 (dk_at dksJ32_nextSetBit_1 17 rfl rfl)
theorem dJ32_nextSetBit_42 : decode cJ32_nextSetBit 42 = .ok (.getfield 7, 3) := dk_180 0 7 (dk_at dksJ32_nextSetBit_1 18 rfl rfl)
theorem dJ32_nextSetBit_45 : decode cJ32_nextSetBit 45 = .ok (.if_icmp .lt 5, 3) := dk_161 0 5 (dk_at dksJ32_nextSetBit_1 21 rfl rfl)
theorem dJ32_nextSetBit_48 : decode cJ32_nextSetBit 48 = .ok (.iconst (-1), 1) := dk_2 (dk_at dksJ32_nextSetBit_2 0 rfl rfl)
theorem dJ32_nextSetBit_49 : decode cJ32_nextSetBit 49 = .ok (.ireturn, 1) := dk_172 (dk_at dksJ32_nextSetBit_2 1 rfl rfl)
theorem dJ32_nextSetBit_50 : decode cJ32_nextSetBit 50 = .ok (.aload_n 0, 1) := dk_42 (dk_at dksJ32_nextSetBit_2 2 rfl rfl)
theorem dJ32_nextSetBit_51 : decode cJ32_nextSetBit 51 = .ok (.getfield 11, 3) := dk_180 0 11 (dk_at dksJ32_nextSetBit_2 3 rfl rfl)
theorem dJ32_nextSetBit_54 : decode cJ32_nextSetBit 54 = .ok (.iload_n 2, 1) := dk_28 (dk_at dksJ32_nextSetBit_2 6 rfl rfl)
theorem dJ32_nextSetBit_55 : decode cJ32_nextSetBit 55 = .ok (.laload, 1) := dk_47 (dk_at dksJ32_nextSetBit_2 7 rfl rfl)
theorem dJ32_nextSetBit_56 : decode cJ32_nextSetBit 56 = .ok (.ldc2_w 165, 3) := dk_20 0 165 (dk_at dksJ32_nextSetBit_2 8 rfl rfl)
theorem dJ32_nextSetBit_59 : decode cJ32_nextSetBit 59 = .ok (.iload_n 1, 1) := dk_27 (dk_at dksJ32_nextSetBit_2 11 rfl rfl)
theorem dJ32_nextSetBit_60 : decode cJ32_nextSetBit 60 = .ok (.lshl, 1) := dk_121 (dk_at dksJ32_nextSetBit_2 12 rfl rfl)
theorem dJ32_nextSetBit_61 : decode cJ32_nextSetBit 61 = .ok (.land, 1) := dk_127 (dk_at dksJ32_nextSetBit_2 13 rfl rfl)
theorem dJ32_nextSetBit_62 : decode cJ32_nextSetBit 62 = .ok (.lstore_n 3, 1) := dk_66 (dk_at dksJ32_nextSetBit_2 14 rfl rfl)
theorem dJ32_nextSetBit_63 : decode cJ32_nextSetBit 63 = .ok (.lload_n 3, 1) := dk_33 (dk_at dksJ32_nextSetBit_2 15 rfl rfl)
theorem dJ32_nextSetBit_64 : decode cJ32_nextSetBit 64 = .ok (.lconst 0, 1) := dk_9 (dk_at dksJ32_nextSetBit_2 16 rfl rfl)
theorem dJ32_nextSetBit_65 : decode cJ32_nextSetBit 65 = .ok (.lcmp, 1) := dk_148 (dk_at dksJ32_nextSetBit_2 17 rfl rfl)
theorem dJ32_nextSetBit_66 : decode cJ32_nextSetBit 66 = .ok (.ifCond .eq 13, 3) := dk_153 0 13 (dk_at dksJ32_nextSetBit_2 18 rfl rfl)
theorem dJ32_nextSetBit_69 : decode cJ32_nextSetBit 69 = .ok (.iload_n 2, 1) := dk_28 (dk_at dksJ32_nextSetBit_2 21 rfl rfl)
theorem dJ32_nextSetBit_70 : decode cJ32_nextSetBit 70 = .ok (.bipush 64, 2) := dk_16 64 (dk_at dksJ32_nextSetBit_2 22 rfl rfl)
theorem dJ32_nextSetBit_72 : decode cJ32_nextSetBit 72 = .ok (.imul, 1) := dk_104 (dk_at dksJ32_nextSetBit_3 0 rfl rfl)
theorem dJ32_nextSetBit_73 : decode cJ32_nextSetBit 73 = .ok (.lload_n 3, 1) := dk_33 (dk_at dksJ32_nextSetBit_3 1 rfl rfl)
theorem dJ32_nextSetBit_74 : decode cJ32_nextSetBit 74 = .ok (.invokestatic 182, 3) := dk_184 0 182 (dk_at dksJ32_nextSetBit_3 2 rfl rfl)
theorem dJ32_nextSetBit_77 : decode cJ32_nextSetBit 77 = .ok (.iadd, 1) := dk_96 (dk_at dksJ32_nextSetBit_3 5 rfl rfl)
theorem dJ32_nextSetBit_78 : decode cJ32_nextSetBit 78 = .ok (.ireturn, 1) := dk_172 (dk_at dksJ32_nextSetBit_3 6 rfl rfl)
theorem dJ32_nextSetBit_79 : decode cJ32_nextSetBit 79 = .ok (.iinc 2 1, 3) := dk_132 2 1 (dk_at dksJ32_nextSetBit_3 7 rfl rfl)
theorem dJ32_nextSetBit_82 : decode cJ32_nextSetBit 82 = .ok (.iload_n 2, 1) := dk_28 (dk_at dksJ32_nextSetBit_3 10 rfl rfl)
theorem dJ32_nextSetBit_83 : decode cJ32_nextSetBit 83 = .ok (.aload_n 0, 1) := dk_42 (dk_at dksJ32_nextSetBit_3 11 rfl rfl)
theorem dJ32_nextSetBit_84 : decode cJ32_nextSetBit 84 = .ok (.getfield 7, 3) := dk_180 0 7 (dk_at dksJ32_nextSetBit_3 12 rfl rfl)
theorem dJ32_nextSetBit_87 : decode cJ32_nextSetBit 87 = .ok (.if_icmp .ne 5, 3) := dk_160 0 5 (dk_at dksJ32_nextSetBit_3 15 rfl rfl)
theorem dJ32_nextSetBit_90 : decode cJ32_nextSetBit 90 = .ok (.iconst (-1), 1) := dk_2 (dk_at dksJ32_nextSetBit_3 18 rfl rfl)
theorem dJ32_nextSetBit_91 : decode cJ32_nextSetBit 91 = .ok (.ireturn, 1) := dk_172 (dk_at dksJ32_nextSetBit_3 19 rfl rfl)
theorem dJ32_nextSetBit_92 : decode cJ32_nextSetBit 92 = .ok (.aload_n 0, 1) := dk_42 (dk_at dksJ32_nextSetBit_3 20 rfl rfl)
theorem dJ32_nextSetBit_93 : decode cJ32_nextSetBit 93 = .ok (.getfield 11, 3) := dk_180 0 11 (dk_at dksJ32_nextSetBit_3 21 rfl rfl)
theorem dJ32_nextSetBit_96 : decode cJ32_nextSetBit 96 = .ok (.iload_n 2, 1) := dk_28 (dk_at dksJ32_nextSetBit_4 0 rfl rfl)
theorem dJ32_nextSetBit_97 : decode cJ32_nextSetBit 97 = .ok (.laload, 1) := dk_47 (dk_at dksJ32_nextSetBit_4 1 rfl rfl)
theorem dJ32_nextSetBit_98 : decode cJ32_nextSetBit 98 = .ok (.lstore_n 3, 1) := dk_66 (dk_at dksJ32_nextSetBit_4 2 rfl rfl)
theorem dJ32_nextSetBit_99 : decode cJ32_nextSetBit 99 = .ok (.goto (-36), 3) := dk_167 255 220 (dk_at dksJ32_nextSetBit_4 3 rfl rfl)
theorem q148 : (Jvm.Cond.initialized "java/util/BitSet") ∈ lw_all := lw_g (lw_at lw_m1 46 rfl) rfl
theorem q283 : (Jvm.Cond.selects "java/util/BitSet" ({ cls := "java/lang/Object", name := "getClass", desc := "()Ljava/lang/Class;" } : Jvm.MethodName) ({ cls := "java/lang/Object", name := "getClass", desc := "()Ljava/lang/Class;" } : Jvm.MethodName)) ∈ lw_all := lw_g (lw_at lw_m1 181 rfl) rfl
theorem q1200 : (Jvm.Cond.instantiable "java/util/BitSet" (3 : Nat)) ∈ lw_all := lw_g (lw_at lw_m5 138 rfl) rfl
theorem q1202 : (Jvm.Cond.instanceMethod ({ cls := "java/util/BitSet", name := "<init>", desc := "(I)V" } : Jvm.MethodName)) ∈ lw_all := lw_g (lw_at lw_m5 140 rfl) rfl
theorem q1203 : (Jvm.Cond.code ({ cls := "java/util/BitSet", name := "<init>", desc := "(I)V" } : Jvm.MethodName) prog_55_method_5_code (2 : Nat) (Option.none : Option Jvm.ClassFile.FieldType)) ∈ lw_all := lw_g (lw_at lw_m5 141 rfl) rfl
theorem q1204 : (Jvm.Cond.methodLink "java/util/BitSet" (21 : Nat) ({ cls := "java/lang/Object", name := "<init>", desc := "()V" } : Jvm.MethodName)) ∈ lw_all := lw_g (lw_at lw_m5 142 rfl) rfl
theorem q1205 : (Jvm.Cond.methodLink "java/util/BitSet" (27 : Nat) ({ cls := "java/util/BitSet", name := "initWords", desc := "(I)V" } : Jvm.MethodName)) ∈ lw_all := lw_g (lw_at lw_m5 143 rfl) rfl
theorem q1206 : (Jvm.Cond.privateMethod ({ cls := "java/util/BitSet", name := "initWords", desc := "(I)V" } : Jvm.MethodName)) ∈ lw_tbl := lw_at lw_m5 144 rfl
theorem q1207 : (Jvm.Cond.instanceMethod ({ cls := "java/util/BitSet", name := "initWords", desc := "(I)V" } : Jvm.MethodName)) ∈ lw_all := lw_g (lw_at lw_m5 145 rfl) rfl
theorem q1208 : (Jvm.Cond.code ({ cls := "java/util/BitSet", name := "initWords", desc := "(I)V" } : Jvm.MethodName) prog_55_method_6_code (2 : Nat) (Option.none : Option Jvm.ClassFile.FieldType)) ∈ lw_all := lw_g (lw_at lw_m5 146 rfl) rfl
theorem q1209 : (Jvm.Cond.methodLink "java/util/BitSet" (52 : Nat) ({ cls := "java/util/BitSet", name := "wordIndex", desc := "(I)I" } : Jvm.MethodName)) ∈ lw_all := lw_g (lw_at lw_m5 147 rfl) rfl
theorem q1210 : (Jvm.Cond.static ({ cls := "java/util/BitSet", name := "wordIndex", desc := "(I)I" } : Jvm.MethodName)) ∈ lw_all := lw_g (lw_at lw_m5 148 rfl) rfl
theorem q1211 : (Jvm.Cond.code ({ cls := "java/util/BitSet", name := "wordIndex", desc := "(I)I" } : Jvm.MethodName) prog_55_method_1_code (1 : Nat) (Option.some Jvm.ClassFile.FieldType.int)) ∈ lw_all := lw_g (lw_at lw_m5 149 rfl) rfl
theorem q1212 : (Jvm.Cond.fieldLink "java/util/BitSet" (11 : Nat) "java/util/BitSet" "words" "[J") ∈ lw_all := lw_g (lw_at lw_m5 150 rfl) rfl
theorem q1213 : (Jvm.Cond.fieldLink "java/util/BitSet" (7 : Nat) "java/util/BitSet" "wordsInUse" "I") ∈ lw_all := lw_g (lw_at lw_m5 151 rfl) rfl
theorem q1214 : (Jvm.Cond.fieldLink "java/util/BitSet" (24 : Nat) "java/util/BitSet" "sizeIsSticky" "Z") ∈ lw_all := lw_g (lw_at lw_m5 152 rfl) rfl
theorem q1215 : (Jvm.Cond.lays "java/util/BitSet" "java/util/BitSet" "words" "[J") ∈ lw_all := lw_g (lw_at lw_m5 153 rfl) rfl
theorem q1216 : (Jvm.Cond.soleField "java/util/BitSet" "words") ∈ lw_all := lw_g (lw_at lw_m5 154 rfl) rfl
theorem q1217 : (Jvm.Cond.lays "java/util/BitSet" "java/util/BitSet" "wordsInUse" "I") ∈ lw_all := lw_g (lw_at lw_m5 155 rfl) rfl
theorem q1218 : (Jvm.Cond.soleField "java/util/BitSet" "wordsInUse") ∈ lw_all := lw_g (lw_at lw_m5 156 rfl) rfl
theorem q1219 : (Jvm.Cond.lays "java/util/BitSet" "java/util/BitSet" "sizeIsSticky" "Z") ∈ lw_all := lw_g (lw_at lw_m5 157 rfl) rfl
theorem q1220 : (Jvm.Cond.soleField "java/util/BitSet" "sizeIsSticky") ∈ lw_all := lw_g (lw_at lw_m5 158 rfl) rfl
theorem q1221 : (Jvm.Cond.superclass "java/util/BitSet" "java/lang/Object") ∈ lw_all := lw_g (lw_at lw_m5 159 rfl) rfl
theorem q1225 : (Jvm.Cond.instanceMethod ({ cls := "java/util/BitSet", name := "set", desc := "(II)V" } : Jvm.MethodName)) ∈ lw_all := lw_g (lw_at lw_m5 163 rfl) rfl
theorem q1226 : (Jvm.Cond.selects "java/util/BitSet" ({ cls := "java/util/BitSet", name := "set", desc := "(II)V" } : Jvm.MethodName) ({ cls := "java/util/BitSet", name := "set", desc := "(II)V" } : Jvm.MethodName)) ∈ lw_all := lw_g (lw_at lw_m5 164 rfl) rfl
theorem q1227 : (Jvm.Cond.code ({ cls := "java/util/BitSet", name := "set", desc := "(II)V" } : Jvm.MethodName) prog_55_method_21_code (10 : Nat) (Option.none : Option Jvm.ClassFile.FieldType)) ∈ lw_all := lw_g (lw_at lw_m5 165 rfl) rfl
theorem q1228 : (Jvm.Cond.methodLink "java/util/BitSet" (161 : Nat) ({ cls := "java/util/BitSet", name := "checkRange", desc := "(II)V" } : Jvm.MethodName)) ∈ lw_all := lw_g (lw_at lw_m5 166 rfl) rfl
theorem q1229 : (Jvm.Cond.static ({ cls := "java/util/BitSet", name := "checkRange", desc := "(II)V" } : Jvm.MethodName)) ∈ lw_all := lw_g (lw_at lw_m5 167 rfl) rfl
theorem q1230 : (Jvm.Cond.code ({ cls := "java/util/BitSet", name := "checkRange", desc := "(II)V" } : Jvm.MethodName) prog_55_method_16_code (2 : Nat) (Option.none : Option Jvm.ClassFile.FieldType)) ∈ lw_all := lw_g (lw_at lw_m5 168 rfl) rfl
theorem q1231 : (Jvm.Cond.classLink "java/util/BitSet" (142 : Nat) "java/lang/IndexOutOfBoundsException") ∈ lw_all := lw_g (lw_at lw_m5 169 rfl) rfl
theorem q1232 : (Jvm.Cond.classLink "java/util/BitSet" (33 : Nat) "java/lang/StringBuilder") ∈ lw_all := lw_g (lw_at lw_m5 170 rfl) rfl
theorem q1233 : (Jvm.Cond.methodLink "java/util/BitSet" (35 : Nat) ({ cls := "java/lang/StringBuilder", name := "<init>", desc := "()V" } : Jvm.MethodName)) ∈ lw_all := lw_g (lw_at lw_m5 171 rfl) rfl
theorem q1234 : (Jvm.Cond.stringRef "java/util/BitSet" (144 : Nat) "fromIndex < 0: ") ∈ lw_tbl := lw_at lw_m5 172 rfl
theorem q1235 : (Jvm.Cond.methodLink "java/util/BitSet" (38 : Nat) ({ cls := "java/lang/StringBuilder", name := "append", desc := "(Ljava/lang/String;)Ljava/lang/StringBuilder;" } : Jvm.MethodName)) ∈ lw_all := lw_g (lw_at lw_m5 173 rfl) rfl
theorem q1236 : (Jvm.Cond.methodLink "java/util/BitSet" (42 : Nat) ({ cls := "java/lang/StringBuilder", name := "append", desc := "(I)Ljava/lang/StringBuilder;" } : Jvm.MethodName)) ∈ lw_all := lw_g (lw_at lw_m5 174 rfl) rfl
theorem q1237 : (Jvm.Cond.methodLink "java/util/BitSet" (45 : Nat) ({ cls := "java/lang/StringBuilder", name := "toString", desc := "()Ljava/lang/String;" } : Jvm.MethodName)) ∈ lw_all := lw_g (lw_at lw_m5 175 rfl) rfl
theorem q1238 : (Jvm.Cond.methodLink "java/util/BitSet" (146 : Nat) ({ cls := "java/lang/IndexOutOfBoundsException", name := "<init>", desc := "(Ljava/lang/String;)V" } : Jvm.MethodName)) ∈ lw_all := lw_g (lw_at lw_m5 176 rfl) rfl
theorem q1239 : (Jvm.Cond.stringRef "java/util/BitSet" (147 : Nat) "toIndex < 0: ") ∈ lw_tbl := lw_at lw_m5 177 rfl
theorem q1240 : (Jvm.Cond.stringRef "java/util/BitSet" (149 : Nat) "fromIndex: ") ∈ lw_tbl := lw_at lw_m5 178 rfl
theorem q1241 : (Jvm.Cond.stringRef "java/util/BitSet" (151 : Nat) " > toIndex: ") ∈ lw_tbl := lw_at lw_m5 179 rfl
theorem q1242 : (Jvm.Cond.methodLink "java/util/BitSet" (155 : Nat) ({ cls := "java/util/BitSet", name := "expandTo", desc := "(I)V" } : Jvm.MethodName)) ∈ lw_all := lw_g (lw_at lw_m5 180 rfl) rfl
theorem q1243 : (Jvm.Cond.privateMethod ({ cls := "java/util/BitSet", name := "expandTo", desc := "(I)V" } : Jvm.MethodName)) ∈ lw_tbl := lw_at lw_m5 181 rfl
theorem q1244 : (Jvm.Cond.instanceMethod ({ cls := "java/util/BitSet", name := "expandTo", desc := "(I)V" } : Jvm.MethodName)) ∈ lw_all := lw_g (lw_at lw_m5 182 rfl) rfl
theorem q1245 : (Jvm.Cond.code ({ cls := "java/util/BitSet", name := "expandTo", desc := "(I)V" } : Jvm.MethodName) prog_55_method_15_code (3 : Nat) (Option.none : Option Jvm.ClassFile.FieldType)) ∈ lw_all := lw_g (lw_at lw_m5 183 rfl) rfl
theorem q1246 : (Jvm.Cond.methodLink "java/util/BitSet" (139 : Nat) ({ cls := "java/util/BitSet", name := "ensureCapacity", desc := "(I)V" } : Jvm.MethodName)) ∈ lw_all := lw_g (lw_at lw_m5 184 rfl) rfl
theorem q1247 : (Jvm.Cond.privateMethod ({ cls := "java/util/BitSet", name := "ensureCapacity", desc := "(I)V" } : Jvm.MethodName)) ∈ lw_tbl := lw_at lw_m5 185 rfl
theorem q1248 : (Jvm.Cond.instanceMethod ({ cls := "java/util/BitSet", name := "ensureCapacity", desc := "(I)V" } : Jvm.MethodName)) ∈ lw_all := lw_g (lw_at lw_m5 186 rfl) rfl
theorem q1249 : (Jvm.Cond.code ({ cls := "java/util/BitSet", name := "ensureCapacity", desc := "(I)V" } : Jvm.MethodName) prog_55_method_14_code (3 : Nat) (Option.none : Option Jvm.ClassFile.FieldType)) ∈ lw_all := lw_g (lw_at lw_m5 187 rfl) rfl
theorem q1250 : (Jvm.Cond.methodLink "java/util/BitSet" (133 : Nat) ({ cls := "java/lang/Math", name := "max", desc := "(II)I" } : Jvm.MethodName)) ∈ lw_all := lw_g (lw_at lw_m5 188 rfl) rfl
theorem q1251 : (Jvm.Cond.methodLink "java/util/BitSet" (59 : Nat) ({ cls := "java/util/Arrays", name := "copyOf", desc := "([JI)[J" } : Jvm.MethodName)) ∈ lw_all := lw_g (lw_at lw_m5 189 rfl) rfl
theorem q1259 : (Jvm.Cond.constantLong "java/util/BitSet" (165 : Nat) (-1 : Int64)) ∈ lw_all := lw_g (lw_at lw_m5 197 rfl) rfl
theorem q1260 : (Jvm.Cond.methodLink "java/util/BitSet" (56 : Nat) ({ cls := "java/util/BitSet", name := "checkInvariants", desc := "()V" } : Jvm.MethodName)) ∈ lw_all := lw_g (lw_at lw_m5 198 rfl) rfl
theorem q1261 : (Jvm.Cond.privateMethod ({ cls := "java/util/BitSet", name := "checkInvariants", desc := "()V" } : Jvm.MethodName)) ∈ lw_tbl := lw_at lw_m5 199 rfl
theorem q1262 : (Jvm.Cond.instanceMethod ({ cls := "java/util/BitSet", name := "checkInvariants", desc := "()V" } : Jvm.MethodName)) ∈ lw_all := lw_g (lw_at lw_m5 200 rfl) rfl
theorem q1263 : (Jvm.Cond.code ({ cls := "java/util/BitSet", name := "checkInvariants", desc := "()V" } : Jvm.MethodName) prog_55_method_2_code (1 : Nat) (Option.none : Option Jvm.ClassFile.FieldType)) ∈ lw_all := lw_g (lw_at lw_m5 201 rfl) rfl
theorem q1264 : (Jvm.Cond.fieldLink "java/util/BitSet" (3 : Nat) "java/util/BitSet" "$assertionsDisabled" "Z") ∈ lw_all := lw_g (lw_at lw_m5 202 rfl) rfl
theorem q1265 : (Jvm.Cond.laysStatic "java/util/BitSet" "$assertionsDisabled" "Z") ∈ lw_tbl := lw_at lw_m5 203 rfl
theorem q1271 : (Jvm.Cond.instanceMethod ({ cls := "java/util/BitSet", name := "and", desc := "(Ljava/util/BitSet;)V" } : Jvm.MethodName)) ∈ lw_all := lw_g (lw_at lw_m5 209 rfl) rfl
theorem q1272 : (Jvm.Cond.selects "java/util/BitSet" ({ cls := "java/util/BitSet", name := "and", desc := "(Ljava/util/BitSet;)V" } : Jvm.MethodName) ({ cls := "java/util/BitSet", name := "and", desc := "(Ljava/util/BitSet;)V" } : Jvm.MethodName)) ∈ lw_all := lw_g (lw_at lw_m5 210 rfl) rfl
theorem q1273 : (Jvm.Cond.code ({ cls := "java/util/BitSet", name := "and", desc := "(Ljava/util/BitSet;)V" } : Jvm.MethodName) prog_55_method_36_code (3 : Nat) (Option.none : Option Jvm.ClassFile.FieldType)) ∈ lw_all := lw_g (lw_at lw_m5 211 rfl) rfl
theorem q1274 : (Jvm.Cond.methodLink "java/util/BitSet" (158 : Nat) ({ cls := "java/util/BitSet", name := "recalculateWordsInUse", desc := "()V" } : Jvm.MethodName)) ∈ lw_all := lw_g (lw_at lw_m5 212 rfl) rfl
theorem q1275 : (Jvm.Cond.privateMethod ({ cls := "java/util/BitSet", name := "recalculateWordsInUse", desc := "()V" } : Jvm.MethodName)) ∈ lw_tbl := lw_at lw_m5 213 rfl
theorem q1276 : (Jvm.Cond.instanceMethod ({ cls := "java/util/BitSet", name := "recalculateWordsInUse", desc := "()V" } : Jvm.MethodName)) ∈ lw_all := lw_g (lw_at lw_m5 214 rfl) rfl
theorem q1277 : (Jvm.Cond.code ({ cls := "java/util/BitSet", name := "recalculateWordsInUse", desc := "()V" } : Jvm.MethodName) prog_55_method_3_code (2 : Nat) (Option.none : Option Jvm.ClassFile.FieldType)) ∈ lw_all := lw_g (lw_at lw_m5 215 rfl) rfl
theorem q1279 : (Jvm.Cond.instanceMethod ({ cls := "java/util/BitSet", name := "set", desc := "(I)V" } : Jvm.MethodName)) ∈ lw_all := lw_g (lw_at lw_m5 217 rfl) rfl
theorem q1280 : (Jvm.Cond.selects "java/util/BitSet" ({ cls := "java/util/BitSet", name := "set", desc := "(I)V" } : Jvm.MethodName) ({ cls := "java/util/BitSet", name := "set", desc := "(I)V" } : Jvm.MethodName)) ∈ lw_all := lw_g (lw_at lw_m5 218 rfl) rfl
theorem q1281 : (Jvm.Cond.code ({ cls := "java/util/BitSet", name := "set", desc := "(I)V" } : Jvm.MethodName) prog_55_method_19_code (3 : Nat) (Option.none : Option Jvm.ClassFile.FieldType)) ∈ lw_all := lw_g (lw_at lw_m5 219 rfl) rfl
theorem q1282 : (Jvm.Cond.stringRef "java/util/BitSet" (153 : Nat) "bitIndex < 0: ") ∈ lw_tbl := lw_at lw_m5 220 rfl
theorem q1284 : (Jvm.Cond.instanceMethod ({ cls := "java/util/BitSet", name := "clear", desc := "(I)V" } : Jvm.MethodName)) ∈ lw_all := lw_g (lw_at lw_m5 222 rfl) rfl
theorem q1285 : (Jvm.Cond.selects "java/util/BitSet" ({ cls := "java/util/BitSet", name := "clear", desc := "(I)V" } : Jvm.MethodName) ({ cls := "java/util/BitSet", name := "clear", desc := "(I)V" } : Jvm.MethodName)) ∈ lw_all := lw_g (lw_at lw_m5 223 rfl) rfl
theorem q1286 : (Jvm.Cond.code ({ cls := "java/util/BitSet", name := "clear", desc := "(I)V" } : Jvm.MethodName) prog_55_method_23_code (3 : Nat) (Option.none : Option Jvm.ClassFile.FieldType)) ∈ lw_all := lw_g (lw_at lw_m5 224 rfl) rfl
theorem q1288 : (Jvm.Cond.instanceMethod ({ cls := "java/util/BitSet", name := "nextSetBit", desc := "(I)I" } : Jvm.MethodName)) ∈ lw_all := lw_g (lw_at lw_m5 226 rfl) rfl
theorem q1289 : (Jvm.Cond.selects "java/util/BitSet" ({ cls := "java/util/BitSet", name := "nextSetBit", desc := "(I)I" } : Jvm.MethodName) ({ cls := "java/util/BitSet", name := "nextSetBit", desc := "(I)I" } : Jvm.MethodName)) ∈ lw_all := lw_g (lw_at lw_m5 227 rfl) rfl
theorem q1290 : (Jvm.Cond.code ({ cls := "java/util/BitSet", name := "nextSetBit", desc := "(I)I" } : Jvm.MethodName) prog_55_method_28_code (5 : Nat) (Option.some Jvm.ClassFile.FieldType.int)) ∈ lw_all := lw_g (lw_at lw_m5 228 rfl) rfl
theorem q1291 : (Jvm.Cond.methodLink "java/util/BitSet" (182 : Nat) ({ cls := "java/lang/Long", name := "numberOfTrailingZeros", desc := "(J)I" } : Jvm.MethodName)) ∈ lw_all := lw_g (lw_at lw_m5 229 rfl) rfl
theorem q3196 : (Jvm.Cond.castable "java/util/BitSet" "java/lang/Object") ∈ lw_tbl := lw_at lw_m13 214 rfl
theorem in_J32 : ∀ w ∈ wsJ320, w ∈ lw_all := lw_in wsJ320 [1215, 1217, 1219] (by decide +kernel) (by decide +kernel)
/-! java/lang/Long -/
set_option maxRecDepth 100000
def RJ33 : String := "java/lang/Long"
abbrev cJ33_numberOfTrailingZeros : ByteArray := prog_31_method_49_code
def yJ33_numberOfTrailingZeros : MethodName := ⟨RJ33, "numberOfTrailingZeros", "(J)I"⟩
def dkwJ33_numberOfTrailingZeros_1 : List UInt8 := [184, 1, 55, 172]
abbrev dktJ33_numberOfTrailingZeros_1 : List UInt8 := dkwJ33_numberOfTrailingZeros_1 ++ []
def dkwJ33_numberOfTrailingZeros_0 : List UInt8 := [30, 136, 61, 28, 154, 0, 17, 16, 32, 30, 16, 32, 125, 136, 184, 1, 55, 96, 167, 0, 7, 28]
abbrev dktJ33_numberOfTrailingZeros_0 : List UInt8 := dkwJ33_numberOfTrailingZeros_0 ++ dktJ33_numberOfTrailingZeros_1
theorem dksJ33_numberOfTrailingZeros_0 : cJ33_numberOfTrailingZeros.data.toList.drop 0 = dktJ33_numberOfTrailingZeros_0 := by decide +kernel
theorem dksJ33_numberOfTrailingZeros_1 : cJ33_numberOfTrailingZeros.data.toList.drop 22 = dktJ33_numberOfTrailingZeros_1 := dk_seg dksJ33_numberOfTrailingZeros_0 22 rfl rfl
theorem dJ33_numberOfTrailingZeros_0 : decode cJ33_numberOfTrailingZeros 0 = .ok (.lload_n 0, 1) := dk_30 (dk_at dksJ33_numberOfTrailingZeros_0 0 rfl rfl)
theorem dJ33_numberOfTrailingZeros_1 : decode cJ33_numberOfTrailingZeros 1 = .ok (.l2i, 1) := dk_136 (dk_at dksJ33_numberOfTrailingZeros_0 1 rfl rfl)
theorem dJ33_numberOfTrailingZeros_2 : decode cJ33_numberOfTrailingZeros 2 = .ok (.istore_n 2, 1) := dk_61 (dk_at dksJ33_numberOfTrailingZeros_0 2 rfl rfl)
theorem dJ33_numberOfTrailingZeros_3 : decode cJ33_numberOfTrailingZeros 3 = .ok (.iload_n 2, 1) := dk_28 (dk_at dksJ33_numberOfTrailingZeros_0 3 rfl rfl)
theorem dJ33_numberOfTrailingZeros_4 : decode cJ33_numberOfTrailingZeros 4 = .ok (.ifCond .ne 17, 3) := dk_154 0 17 (dk_at dksJ33_numberOfTrailingZeros_0 4 rfl rfl)
theorem dJ33_numberOfTrailingZeros_7 : decode cJ33_numberOfTrailingZeros 7 = .ok (.bipush 32, 2) := dk_16 32 (dk_at dksJ33_numberOfTrailingZeros_0 7 rfl rfl)
theorem dJ33_numberOfTrailingZeros_9 : decode cJ33_numberOfTrailingZeros 9 = .ok (.lload_n 0, 1) := dk_30 (dk_at dksJ33_numberOfTrailingZeros_0 9 rfl rfl)
theorem dJ33_numberOfTrailingZeros_10 : decode cJ33_numberOfTrailingZeros 10 = .ok (.bipush 32, 2) := dk_16 32 (dk_at dksJ33_numberOfTrailingZeros_0 10 rfl rfl)
theorem dJ33_numberOfTrailingZeros_12 : decode cJ33_numberOfTrailingZeros 12 = .ok (.lushr, 1) := dk_125 (dk_at dksJ33_numberOfTrailingZeros_0 12 rfl rfl)
theorem dJ33_numberOfTrailingZeros_13 : decode cJ33_numberOfTrailingZeros 13 = .ok (.l2i, 1) := dk_136 (dk_at dksJ33_numberOfTrailingZeros_0 13 rfl rfl)
theorem dJ33_numberOfTrailingZeros_14 : decode cJ33_numberOfTrailingZeros 14 = .ok (.invokestatic 311, 3) := dk_184 1 55 (dk_at dksJ33_numberOfTrailingZeros_0 14 rfl rfl)
theorem dJ33_numberOfTrailingZeros_17 : decode cJ33_numberOfTrailingZeros 17 = .ok (.iadd, 1) := dk_96 (dk_at dksJ33_numberOfTrailingZeros_0 17 rfl rfl)
theorem dJ33_numberOfTrailingZeros_18 : decode cJ33_numberOfTrailingZeros 18 = .ok (.goto 7, 3) := dk_167 0 7 (dk_at dksJ33_numberOfTrailingZeros_0 18 rfl rfl)
theorem dJ33_numberOfTrailingZeros_21 : decode cJ33_numberOfTrailingZeros 21 = .ok (.iload_n 2, 1) := dk_28 (dk_at dksJ33_numberOfTrailingZeros_0 21 rfl rfl)
theorem dJ33_numberOfTrailingZeros_22 : decode cJ33_numberOfTrailingZeros 22 = .ok (.invokestatic 311, 3) := dk_184 1 55 (dk_at dksJ33_numberOfTrailingZeros_1 0 rfl rfl)
theorem dJ33_numberOfTrailingZeros_25 : decode cJ33_numberOfTrailingZeros 25 = .ok (.ireturn, 1) := dk_172 (dk_at dksJ33_numberOfTrailingZeros_1 3 rfl rfl)
theorem q149 : (Jvm.Cond.initialized "java/lang/Long") ∈ lw_all := lw_g (lw_at lw_m1 47 rfl) rfl
theorem q1292 : (Jvm.Cond.static ({ cls := "java/lang/Long", name := "numberOfTrailingZeros", desc := "(J)I" } : Jvm.MethodName)) ∈ lw_all := lw_g (lw_at lw_m5 230 rfl) rfl
theorem q1293 : (Jvm.Cond.code ({ cls := "java/lang/Long", name := "numberOfTrailingZeros", desc := "(J)I" } : Jvm.MethodName) prog_31_method_49_code (3 : Nat) (Option.some Jvm.ClassFile.FieldType.int)) ∈ lw_all := lw_g (lw_at lw_m5 231 rfl) rfl
theorem q1294 : (Jvm.Cond.methodLink "java/lang/Long" (311 : Nat) ({ cls := "java/lang/Integer", name := "numberOfTrailingZeros", desc := "(I)I" } : Jvm.MethodName)) ∈ lw_all := lw_g (lw_at lw_m5 232 rfl) rfl
/-! java/lang/ArithmeticException -/
set_option maxRecDepth 100000
def RJ34 : String := "java/lang/ArithmeticException"
def TJ34 : u_T := fun k => match k with
  | 0 => ("java/lang/Throwable", "backtrace", "Ljava/lang/Object;", false)
  | 1 => ("java/lang/Throwable", "detailMessage", "Ljava/lang/String;", false)
  | 2 => ("java/lang/Throwable", "cause", "Ljava/lang/Throwable;", false)
  | 3 => ("java/lang/Throwable", "stackTrace", "[Ljava/lang/StackTraceElement;", false)
  | 4 => ("java/lang/Throwable", "depth", "I", false)
  | _ => ("java/lang/Throwable", "suppressedExceptions", "Ljava/util/List;", false)
def tyJ34 : Nat → FieldType := fun k => match k with
  | 0 => .object "java/lang/Object"
  | 1 => .object "java/lang/String"
  | 2 => .object "java/lang/Throwable"
  | 3 => .array (.object "java/lang/StackTraceElement")
  | 4 => .int
  | _ => .object "java/util/List"
abbrev wsJ340 : List Cond := u_ws RJ34 TJ34 6
theorem nmJ34 : ∀ a, a < 6 → ∀ b, b < 6 → a ≠ b → (TJ34 a).2.1 ≠ (TJ34 b).2.1 := by decide +kernel
theorem tyJ34_ok : ∀ k, k < 6 → parseFieldDescriptor (TJ34 k).2.2.1 = some (tyJ34 k) := by decide +kernel
abbrev cJ34_init : ByteArray := prog_18_method_2_code
def yJ34_init : MethodName := ⟨RJ34, "<init>", "(Ljava/lang/String;)V"⟩
def dkwJ34_init_0 : List UInt8 := [42, 43, 183, 0, 7, 177]
abbrev dktJ34_init_0 : List UInt8 := dkwJ34_init_0 ++ []
theorem dksJ34_init_0 : cJ34_init.data.toList.drop 0 = dktJ34_init_0 := by decide +kernel
theorem dJ34_init_0 : decode cJ34_init 0 = .ok (.aload_n 0, 1) := dk_42 (dk_at dksJ34_init_0 0 rfl rfl)
theorem dJ34_init_1 : decode cJ34_init 1 = .ok (.aload_n 1, 1) := dk_43 (dk_at dksJ34_init_0 1 rfl rfl)
theorem dJ34_init_2 : decode cJ34_init 2 = .ok (.invokespecial 7, 3) := dk_183 0 7 (dk_at dksJ34_init_0 2 rfl rfl)
theorem dJ34_init_5 : decode cJ34_init 5 = .ok (.return_, 1) := dk_177 (dk_at dksJ34_init_0 5 rfl rfl)
abbrev cJ34_init_2 : ByteArray := prog_18_method_1_code
def yJ34_init_2 : MethodName := ⟨RJ34, "<init>", "()V"⟩
theorem dJ34_init_2_0 : decode cJ34_init_2 0 = .ok (.aload_n 0, 1) := by decide +kernel
theorem dJ34_init_2_1 : decode cJ34_init_2 1 = .ok (.invokespecial 1, 3) := by decide +kernel
theorem dJ34_init_2_4 : decode cJ34_init_2 4 = .ok (.return_, 1) := by decide +kernel
theorem q150 : (Jvm.Cond.initialized "java/lang/ArithmeticException") ∈ lw_all := lw_g (lw_at lw_m1 48 rfl) rfl
theorem q268 : (Jvm.Cond.selects "java/lang/ArithmeticException" ({ cls := "java/lang/Object", name := "getClass", desc := "()Ljava/lang/Class;" } : Jvm.MethodName) ({ cls := "java/lang/Object", name := "getClass", desc := "()Ljava/lang/Class;" } : Jvm.MethodName)) ∈ lw_all := lw_g (lw_at lw_m1 166 rfl) rfl
theorem q645 : (Jvm.Cond.selects "java/lang/ArithmeticException" ({ cls := "java/lang/Throwable", name := "fillInStackTrace", desc := "()Ljava/lang/Throwable;" } : Jvm.MethodName) ({ cls := "java/lang/Throwable", name := "fillInStackTrace", desc := "()Ljava/lang/Throwable;" } : Jvm.MethodName)) ∈ lw_all := lw_g (lw_at lw_m3 63 rfl) rfl
theorem q933 : (Jvm.Cond.selects "java/lang/ArithmeticException" ({ cls := "java/lang/Throwable", name := "toString", desc := "()Ljava/lang/String;" } : Jvm.MethodName) ({ cls := "java/lang/Throwable", name := "toString", desc := "()Ljava/lang/String;" } : Jvm.MethodName)) ∈ lw_all := lw_g (lw_at lw_m4 111 rfl) rfl
theorem q947 : (Jvm.Cond.selects "java/lang/ArithmeticException" ({ cls := "java/lang/Throwable", name := "getLocalizedMessage", desc := "()Ljava/lang/String;" } : Jvm.MethodName) ({ cls := "java/lang/Throwable", name := "getLocalizedMessage", desc := "()Ljava/lang/String;" } : Jvm.MethodName)) ∈ lw_all := lw_g (lw_at lw_m4 125 rfl) rfl
theorem q960 : (Jvm.Cond.selects "java/lang/ArithmeticException" ({ cls := "java/lang/Throwable", name := "getMessage", desc := "()Ljava/lang/String;" } : Jvm.MethodName) ({ cls := "java/lang/Throwable", name := "getMessage", desc := "()Ljava/lang/String;" } : Jvm.MethodName)) ∈ lw_all := lw_g (lw_at lw_m4 138 rfl) rfl
theorem q1787 : (Jvm.Cond.selects "java/lang/ArithmeticException" ({ cls := "java/lang/Object", name := "equals", desc := "(Ljava/lang/Object;)Z" } : Jvm.MethodName) ({ cls := "java/lang/Object", name := "equals", desc := "(Ljava/lang/Object;)Z" } : Jvm.MethodName)) ∈ lw_all := lw_g (lw_at lw_m8 5 rfl) rfl
theorem q2429 : (Jvm.Cond.instantiable "java/lang/ArithmeticException" (6 : Nat)) ∈ lw_all := lw_g (lw_at lw_m10 167 rfl) rfl
theorem q2430 : (Jvm.Cond.instanceMethod ({ cls := "java/lang/ArithmeticException", name := "<init>", desc := "(Ljava/lang/String;)V" } : Jvm.MethodName)) ∈ lw_all := lw_g (lw_at lw_m10 168 rfl) rfl
theorem q2431 : (Jvm.Cond.code ({ cls := "java/lang/ArithmeticException", name := "<init>", desc := "(Ljava/lang/String;)V" } : Jvm.MethodName) prog_18_method_2_code (2 : Nat) (Option.none : Option Jvm.ClassFile.FieldType)) ∈ lw_all := lw_g (lw_at lw_m10 169 rfl) rfl
theorem q2432 : (Jvm.Cond.methodLink "java/lang/ArithmeticException" (7 : Nat) ({ cls := "java/lang/RuntimeException", name := "<init>", desc := "(Ljava/lang/String;)V" } : Jvm.MethodName)) ∈ lw_all := lw_g (lw_at lw_m10 170 rfl) rfl
theorem q2433 : (Jvm.Cond.lays "java/lang/ArithmeticException" "java/lang/Throwable" "backtrace" "Ljava/lang/Object;") ∈ lw_all := lw_g (lw_at lw_m10 171 rfl) rfl
theorem q2434 : (Jvm.Cond.lays "java/lang/ArithmeticException" "java/lang/Throwable" "detailMessage" "Ljava/lang/String;") ∈ lw_all := lw_g (lw_at lw_m10 172 rfl) rfl
theorem q2435 : (Jvm.Cond.lays "java/lang/ArithmeticException" "java/lang/Throwable" "cause" "Ljava/lang/Throwable;") ∈ lw_all := lw_g (lw_at lw_m10 173 rfl) rfl
theorem q2436 : (Jvm.Cond.lays "java/lang/ArithmeticException" "java/lang/Throwable" "stackTrace" "[Ljava/lang/StackTraceElement;") ∈ lw_all := lw_g (lw_at lw_m10 174 rfl) rfl
theorem q2437 : (Jvm.Cond.lays "java/lang/ArithmeticException" "java/lang/Throwable" "depth" "I") ∈ lw_all := lw_g (lw_at lw_m10 175 rfl) rfl
theorem q2438 : (Jvm.Cond.lays "java/lang/ArithmeticException" "java/lang/Throwable" "suppressedExceptions" "Ljava/util/List;") ∈ lw_all := lw_g (lw_at lw_m10 176 rfl) rfl
theorem q2439 : (Jvm.Cond.superclass "java/lang/ArithmeticException" "java/lang/RuntimeException") ∈ lw_all := lw_g (lw_at lw_m10 177 rfl) rfl
theorem q2440 : (Jvm.Cond.castable "java/lang/ArithmeticException" "java/lang/ArithmeticException") ∈ lw_tbl := lw_at lw_m10 178 rfl
theorem q2441 : (Jvm.Cond.selects "java/lang/ArithmeticException" ({ cls := "java/lang/Throwable", name := "fillInStackTrace", desc := "(I)Ljava/lang/Throwable;" } : Jvm.MethodName) ({ cls := "java/lang/Throwable", name := "fillInStackTrace", desc := "(I)Ljava/lang/Throwable;" } : Jvm.MethodName)) ∈ lw_all := lw_g (lw_at lw_m10 179 rfl) rfl
theorem q2451 : (Jvm.Cond.instanceMethod ({ cls := "java/lang/ArithmeticException", name := "<init>", desc := "()V" } : Jvm.MethodName)) ∈ lw_all := lw_g (lw_at lw_m10 189 rfl) rfl
theorem q2452 : (Jvm.Cond.code ({ cls := "java/lang/ArithmeticException", name := "<init>", desc := "()V" } : Jvm.MethodName) prog_18_method_1_code (1 : Nat) (Option.none : Option Jvm.ClassFile.FieldType)) ∈ lw_all := lw_g (lw_at lw_m10 190 rfl) rfl
theorem q2453 : (Jvm.Cond.methodLink "java/lang/ArithmeticException" (1 : Nat) ({ cls := "java/lang/RuntimeException", name := "<init>", desc := "()V" } : Jvm.MethodName)) ∈ lw_all := lw_g (lw_at lw_m10 191 rfl) rfl
theorem q3197 : (Jvm.Cond.castable "java/lang/ArithmeticException" "java/lang/Object") ∈ lw_tbl := lw_at lw_m13 215 rfl
theorem in_J34 : ∀ w ∈ wsJ340, w ∈ lw_all := lw_in wsJ340 [2433, 2434, 2435, 2436, 2437, 2438] (by decide +kernel) (by decide +kernel)
/-! java/lang/Character -/
set_option maxRecDepth 100000
def RJ35 : String := "java/lang/Character"
abbrev cJ35_isValidCodePoint : ByteArray := prog_21_method_11_code
def yJ35_isValidCodePoint : MethodName := ⟨RJ35, "isValidCodePoint", "(I)Z"⟩
def dkwJ35_isValidCodePoint_0 : List UInt8 := [26, 16, 16, 124, 60, 27, 16, 17, 162, 0, 7, 4, 167, 0, 4, 3, 172]
abbrev dktJ35_isValidCodePoint_0 : List UInt8 := dkwJ35_isValidCodePoint_0 ++ []
theorem dksJ35_isValidCodePoint_0 : cJ35_isValidCodePoint.data.toList.drop 0 = dktJ35_isValidCodePoint_0 := by decide +kernel
theorem dJ35_isValidCodePoint_0 : decode cJ35_isValidCodePoint 0 = .ok (.iload_n 0, 1) := dk_26 (dk_at dksJ35_isValidCodePoint_0 0 rfl rfl)
theorem dJ35_isValidCodePoint_1 : decode cJ35_isValidCodePoint 1 = .ok (.bipush 16, 2) := dk_16 16 (dk_at dksJ35_isValidCodePoint_0 1 rfl rfl)
theorem dJ35_isValidCodePoint_3 : decode cJ35_isValidCodePoint 3 = .ok (.iushr, 1) := dk_124 (dk_at dksJ35_isValidCodePoint_0 3 rfl rfl)
theorem dJ35_isValidCodePoint_4 : decode cJ35_isValidCodePoint 4 = .ok (.istore_n 1, 1) := dk_60 (dk_at dksJ35_isValidCodePoint_0 4 rfl rfl)
theorem dJ35_isValidCodePoint_5 : decode cJ35_isValidCodePoint 5 = .ok (.iload_n 1, 1) := dk_27 (dk_at dksJ35_isValidCodePoint_0 5 rfl rfl)
theorem dJ35_isValidCodePoint_6 : decode cJ35_isValidCodePoint 6 = .ok (.bipush 17, 2) := dk_16 17 (dk_at dksJ35_isValidCodePoint_0 6 rfl rfl)
theorem dJ35_isValidCodePoint_8 : decode cJ35_isValidCodePoint 8 = .ok (.if_icmp .ge 7, 3) := dk_162 0 7 (dk_at dksJ35_isValidCodePoint_0 8 rfl rfl)
theorem dJ35_isValidCodePoint_11 : decode cJ35_isValidCodePoint 11 = .ok (.iconst 1, 1) := dk_4 (dk_at dksJ35_isValidCodePoint_0 11 rfl rfl)
theorem dJ35_isValidCodePoint_12 : decode cJ35_isValidCodePoint 12 = .ok (.goto 4, 3) := dk_167 0 4 (dk_at dksJ35_isValidCodePoint_0 12 rfl rfl)
theorem dJ35_isValidCodePoint_15 : decode cJ35_isValidCodePoint 15 = .ok (.iconst 0, 1) := dk_3 (dk_at dksJ35_isValidCodePoint_0 15 rfl rfl)
theorem dJ35_isValidCodePoint_16 : decode cJ35_isValidCodePoint 16 = .ok (.ireturn, 1) := dk_172 (dk_at dksJ35_isValidCodePoint_0 16 rfl rfl)
abbrev cJ35_highSurrogate : ByteArray := prog_21_method_28_code
def yJ35_highSurrogate : MethodName := ⟨RJ35, "highSurrogate", "(I)C"⟩
def dkwJ35_highSurrogate_0 : List UInt8 := [26, 16, 10, 124, 18, 110, 96, 146, 172]
abbrev dktJ35_highSurrogate_0 : List UInt8 := dkwJ35_highSurrogate_0 ++ []
theorem dksJ35_highSurrogate_0 : cJ35_highSurrogate.data.toList.drop 0 = dktJ35_highSurrogate_0 := by decide +kernel
theorem dJ35_highSurrogate_0 : decode cJ35_highSurrogate 0 = .ok (.iload_n 0, 1) := dk_26 (dk_at dksJ35_highSurrogate_0 0 rfl rfl)
theorem dJ35_highSurrogate_1 : decode cJ35_highSurrogate 1 = .ok (.bipush 10, 2) := dk_16 10 (dk_at dksJ35_highSurrogate_0 1 rfl rfl)
theorem dJ35_highSurrogate_3 : decode cJ35_highSurrogate 3 = .ok (.iushr, 1) := dk_124 (dk_at dksJ35_highSurrogate_0 3 rfl rfl)
theorem dJ35_highSurrogate_4 : decode cJ35_highSurrogate 4 = .ok (.ldc 110, 2) := dk_18 110 (dk_at dksJ35_highSurrogate_0 4 rfl rfl)
theorem dJ35_highSurrogate_6 : decode cJ35_highSurrogate 6 = .ok (.iadd, 1) := dk_96 (dk_at dksJ35_highSurrogate_0 6 rfl rfl)
theorem dJ35_highSurrogate_7 : decode cJ35_highSurrogate 7 = .ok (.i2c, 1) := dk_146 (dk_at dksJ35_highSurrogate_0 7 rfl rfl)
theorem dJ35_highSurrogate_8 : decode cJ35_highSurrogate 8 = .ok (.ireturn, 1) := dk_172 (dk_at dksJ35_highSurrogate_0 8 rfl rfl)
abbrev cJ35_lowSurrogate : ByteArray := prog_21_method_29_code
def yJ35_lowSurrogate : MethodName := ⟨RJ35, "lowSurrogate", "(I)C"⟩
def dkwJ35_lowSurrogate_0 : List UInt8 := [26, 17, 3, 255, 126, 18, 76, 96, 146, 172]
abbrev dktJ35_lowSurrogate_0 : List UInt8 := dkwJ35_lowSurrogate_0 ++ []
theorem dksJ35_lowSurrogate_0 : cJ35_lowSurrogate.data.toList.drop 0 = dktJ35_lowSurrogate_0 := by decide +kernel
theorem dJ35_lowSurrogate_0 : decode cJ35_lowSurrogate 0 = .ok (.iload_n 0, 1) := dk_26 (dk_at dksJ35_lowSurrogate_0 0 rfl rfl)
theorem dJ35_lowSurrogate_1 : decode cJ35_lowSurrogate 1 = .ok (.sipush 1023, 3) := dk_17 3 255 (dk_at dksJ35_lowSurrogate_0 1 rfl rfl)
theorem dJ35_lowSurrogate_4 : decode cJ35_lowSurrogate 4 = .ok (.iand, 1) := dk_126 (dk_at dksJ35_lowSurrogate_0 4 rfl rfl)
theorem dJ35_lowSurrogate_5 : decode cJ35_lowSurrogate 5 = .ok (.ldc 76, 2) := dk_18 76 (dk_at dksJ35_lowSurrogate_0 5 rfl rfl)
theorem dJ35_lowSurrogate_7 : decode cJ35_lowSurrogate 7 = .ok (.iadd, 1) := dk_96 (dk_at dksJ35_lowSurrogate_0 7 rfl rfl)
theorem dJ35_lowSurrogate_8 : decode cJ35_lowSurrogate 8 = .ok (.i2c, 1) := dk_146 (dk_at dksJ35_lowSurrogate_0 8 rfl rfl)
theorem dJ35_lowSurrogate_9 : decode cJ35_lowSurrogate 9 = .ok (.ireturn, 1) := dk_172 (dk_at dksJ35_lowSurrogate_0 9 rfl rfl)
theorem q153 : (Jvm.Cond.initialized "java/lang/Character") ∈ lw_all := lw_g (lw_at lw_m1 51 rfl) rfl
theorem q3092 : (Jvm.Cond.static ({ cls := "java/lang/Character", name := "isValidCodePoint", desc := "(I)Z" } : Jvm.MethodName)) ∈ lw_all := lw_g (lw_at lw_m13 110 rfl) rfl
theorem q3093 : (Jvm.Cond.code ({ cls := "java/lang/Character", name := "isValidCodePoint", desc := "(I)Z" } : Jvm.MethodName) prog_21_method_11_code (2 : Nat) (Option.some Jvm.ClassFile.FieldType.boolean)) ∈ lw_all := lw_g (lw_at lw_m13 111 rfl) rfl
theorem q3095 : (Jvm.Cond.static ({ cls := "java/lang/Character", name := "highSurrogate", desc := "(I)C" } : Jvm.MethodName)) ∈ lw_all := lw_g (lw_at lw_m13 113 rfl) rfl
theorem q3096 : (Jvm.Cond.code ({ cls := "java/lang/Character", name := "highSurrogate", desc := "(I)C" } : Jvm.MethodName) prog_21_method_28_code (1 : Nat) (Option.some Jvm.ClassFile.FieldType.char)) ∈ lw_all := lw_g (lw_at lw_m13 114 rfl) rfl
theorem q3097 : (Jvm.Cond.constant "java/lang/Character" (110 : Nat) (55232 : Int32)) ∈ lw_all := lw_g (lw_at lw_m13 115 rfl) rfl
theorem q3099 : (Jvm.Cond.static ({ cls := "java/lang/Character", name := "lowSurrogate", desc := "(I)C" } : Jvm.MethodName)) ∈ lw_all := lw_g (lw_at lw_m13 117 rfl) rfl
theorem q3100 : (Jvm.Cond.code ({ cls := "java/lang/Character", name := "lowSurrogate", desc := "(I)C" } : Jvm.MethodName) prog_21_method_29_code (1 : Nat) (Option.some Jvm.ClassFile.FieldType.char)) ∈ lw_all := lw_g (lw_at lw_m13 118 rfl) rfl
theorem q3101 : (Jvm.Cond.constant "java/lang/Character" (76 : Nat) (56320 : Int32)) ∈ lw_all := lw_g (lw_at lw_m13 119 rfl) rfl
/-! java/lang/Object -/
set_option maxRecDepth 100000
def RJ36 : String := "java/lang/Object"
abbrev cJ36_init : ByteArray := object_method_1_code
def yJ36_init : MethodName := ⟨RJ36, "<init>", "()V"⟩
theorem dJ36_init_0 : decode cJ36_init 0 = .ok (.return_, 1) := by decide +kernel
abbrev cJ36_equals : ByteArray := object_method_4_code
def yJ36_equals : MethodName := ⟨RJ36, "equals", "(Ljava/lang/Object;)Z"⟩
def dkwJ36_equals_0 : List UInt8 := [42, 43, 166, 0, 7, 4, 167, 0, 4, 3, 172]
abbrev dktJ36_equals_0 : List UInt8 := dkwJ36_equals_0 ++ []
theorem dksJ36_equals_0 : cJ36_equals.data.toList.drop 0 = dktJ36_equals_0 := by decide +kernel
theorem dJ36_equals_0 : decode cJ36_equals 0 = .ok (.aload_n 0, 1) := dk_42 (dk_at dksJ36_equals_0 0 rfl rfl)
theorem dJ36_equals_1 : decode cJ36_equals 1 = .ok (.aload_n 1, 1) := dk_43 (dk_at dksJ36_equals_0 1 rfl rfl)
theorem dJ36_equals_2 : decode cJ36_equals 2 = .ok (.if_acmp .ne 7, 3) := dk_166 0 7 (dk_at dksJ36_equals_0 2 rfl rfl)
theorem dJ36_equals_5 : decode cJ36_equals 5 = .ok (.iconst 1, 1) := dk_4 (dk_at dksJ36_equals_0 5 rfl rfl)
theorem dJ36_equals_6 : decode cJ36_equals 6 = .ok (.goto 4, 3) := dk_167 0 4 (dk_at dksJ36_equals_0 6 rfl rfl)
theorem dJ36_equals_9 : decode cJ36_equals 9 = .ok (.iconst 0, 1) := dk_3 (dk_at dksJ36_equals_0 9 rfl rfl)
theorem dJ36_equals_10 : decode cJ36_equals 10 = .ok (.ireturn, 1) := dk_172 (dk_at dksJ36_equals_0 10 rfl rfl)
theorem q160 : (Jvm.Cond.instanceMethod ({ cls := "java/lang/Object", name := "<init>", desc := "()V" } : Jvm.MethodName)) ∈ lw_all := lw_g (lw_at lw_m1 58 rfl) rfl
theorem q161 : (Jvm.Cond.code ({ cls := "java/lang/Object", name := "<init>", desc := "()V" } : Jvm.MethodName) object_method_1_code (1 : Nat) (Option.none : Option Jvm.ClassFile.FieldType)) ∈ lw_all := lw_g (lw_at lw_m1 59 rfl) rfl
theorem q255 : (Jvm.Cond.instanceMethod ({ cls := "java/lang/Object", name := "getClass", desc := "()Ljava/lang/Class;" } : Jvm.MethodName)) ∈ lw_all := lw_g (lw_at lw_m1 153 rfl) rfl
theorem q256 : (Jvm.Cond.sameMethod "java/lang/Object" "java/lang/Object" "getClass" "()Ljava/lang/Class;") ∈ lw_all := lw_g (lw_at lw_m1 154 rfl) rfl
theorem q288 : (Jvm.Cond.native ({ cls := "java/lang/Object", name := "getClass", desc := "()Ljava/lang/Class;" } : Jvm.MethodName)) ∈ lw_all := lw_g (lw_at lw_m1 186 rfl) rfl
theorem q690 : (Jvm.Cond.native ({ cls := "java/lang/Object", name := "clone", desc := "()Ljava/lang/Object;" } : Jvm.MethodName)) ∈ lw_all := lw_g (lw_at lw_m3 108 rfl) rfl
theorem q691 : (Jvm.Cond.instanceMethod ({ cls := "java/lang/Object", name := "clone", desc := "()Ljava/lang/Object;" } : Jvm.MethodName)) ∈ lw_all := lw_g (lw_at lw_m3 109 rfl) rfl
theorem q1772 : (Jvm.Cond.declares ({ cls := "java/lang/Object", name := "equals", desc := "(Ljava/lang/Object;)Z" } : Jvm.MethodName)) ∈ lw_tbl := lw_at lw_m7 230 rfl
theorem q1774 : (Jvm.Cond.instanceMethod ({ cls := "java/lang/Object", name := "equals", desc := "(Ljava/lang/Object;)Z" } : Jvm.MethodName)) ∈ lw_all := lw_g (lw_at lw_m7 232 rfl) rfl
theorem q1775 : (Jvm.Cond.sameMethod "java/lang/Object" "java/lang/Object" "equals" "(Ljava/lang/Object;)Z") ∈ lw_all := lw_g (lw_at lw_m7 233 rfl) rfl
theorem q1800 : (Jvm.Cond.code ({ cls := "java/lang/Object", name := "equals", desc := "(Ljava/lang/Object;)Z" } : Jvm.MethodName) object_method_4_code (2 : Nat) (Option.some Jvm.ClassFile.FieldType.boolean)) ∈ lw_all := lw_g (lw_at lw_m8 18 rfl) rfl
theorem q2177 : (Jvm.Cond.declares ({ cls := "java/lang/Object", name := "getClass", desc := "()Ljava/lang/Class;" } : Jvm.MethodName)) ∈ lw_tbl := lw_at lw_m9 155 rfl
theorem q2179 : (Jvm.Cond.publicMethod ({ cls := "java/lang/Object", name := "getClass", desc := "()Ljava/lang/Class;" } : Jvm.MethodName)) ∈ lw_tbl := lw_at lw_m9 157 rfl
theorem q3167 : (Jvm.Cond.initialized "java/lang/Object") ∈ lw_all := lw_g (lw_at lw_m13 185 rfl) rfl
theorem q3219 : (Jvm.Cond.instantiable "java/lang/Object" (0 : Nat)) ∈ lw_all := lw_g (lw_at lw_m13 237 rfl) rfl
/-! java/lang/System$2 -/
set_option maxRecDepth 100000
def RJ37 : String := "java/lang/System$2"
abbrev cJ37_getUTF16Char : ByteArray := prog_40_method_45_code
def yJ37_getUTF16Char : MethodName := ⟨RJ37, "getUTF16Char", "([BI)C"⟩
def dkwJ37_getUTF16Char_0 : List UInt8 := [43, 28, 184, 0, 185, 172]
abbrev dktJ37_getUTF16Char_0 : List UInt8 := dkwJ37_getUTF16Char_0 ++ []
theorem dksJ37_getUTF16Char_0 : cJ37_getUTF16Char.data.toList.drop 0 = dktJ37_getUTF16Char_0 := by decide +kernel
theorem dJ37_getUTF16Char_0 : decode cJ37_getUTF16Char 0 = .ok (.aload_n 1, 1) := dk_43 (dk_at dksJ37_getUTF16Char_0 0 rfl rfl)
theorem dJ37_getUTF16Char_1 : decode cJ37_getUTF16Char 1 = .ok (.iload_n 2, 1) := dk_28 (dk_at dksJ37_getUTF16Char_0 1 rfl rfl)
theorem dJ37_getUTF16Char_2 : decode cJ37_getUTF16Char 2 = .ok (.invokestatic 185, 3) := dk_184 0 185 (dk_at dksJ37_getUTF16Char_0 2 rfl rfl)
theorem dJ37_getUTF16Char_5 : decode cJ37_getUTF16Char 5 = .ok (.ireturn, 1) := dk_172 (dk_at dksJ37_getUTF16Char_0 5 rfl rfl)
theorem q276 : (Jvm.Cond.selects "java/lang/System$2" ({ cls := "java/lang/Object", name := "getClass", desc := "()Ljava/lang/Class;" } : Jvm.MethodName) ({ cls := "java/lang/Object", name := "getClass", desc := "()Ljava/lang/Class;" } : Jvm.MethodName)) ∈ lw_all := lw_g (lw_at lw_m1 174 rfl) rfl
theorem q1511 : (Jvm.Cond.castable "java/lang/System$2" "jdk/internal/access/JavaLangAccess") ∈ lw_tbl := lw_at lw_m6 209 rfl
theorem q1512 : (Jvm.Cond.selects "java/lang/System$2" ({ cls := "jdk/internal/access/JavaLangAccess", name := "getUTF16Char", desc := "([BI)C" } : Jvm.MethodName) ({ cls := "java/lang/System$2", name := "getUTF16Char", desc := "([BI)C" } : Jvm.MethodName)) ∈ lw_all := lw_g (lw_at lw_m6 210 rfl) rfl
theorem q1513 : (Jvm.Cond.unhidden "java/lang/System$2" "getUTF16Char" "([BI)C") ∈ lw_tbl := lw_at lw_m6 211 rfl
theorem q1514 : (Jvm.Cond.instanceMethod ({ cls := "java/lang/System$2", name := "getUTF16Char", desc := "([BI)C" } : Jvm.MethodName)) ∈ lw_all := lw_g (lw_at lw_m6 212 rfl) rfl
theorem q1515 : (Jvm.Cond.publicMethod ({ cls := "java/lang/System$2", name := "getUTF16Char", desc := "([BI)C" } : Jvm.MethodName)) ∈ lw_tbl := lw_at lw_m6 213 rfl
theorem q1516 : (Jvm.Cond.code ({ cls := "java/lang/System$2", name := "getUTF16Char", desc := "([BI)C" } : Jvm.MethodName) prog_40_method_45_code (3 : Nat) (Option.some Jvm.ClassFile.FieldType.char)) ∈ lw_all := lw_g (lw_at lw_m6 214 rfl) rfl
theorem q1517 : (Jvm.Cond.methodLink "java/lang/System$2" (185 : Nat) ({ cls := "java/lang/StringUTF16", name := "getChar", desc := "([BI)C" } : Jvm.MethodName)) ∈ lw_all := lw_g (lw_at lw_m6 215 rfl) rfl
theorem q1798 : (Jvm.Cond.selects "java/lang/System$2" ({ cls := "java/lang/Object", name := "equals", desc := "(Ljava/lang/Object;)Z" } : Jvm.MethodName) ({ cls := "java/lang/Object", name := "equals", desc := "(Ljava/lang/Object;)Z" } : Jvm.MethodName)) ∈ lw_all := lw_g (lw_at lw_m8 16 rfl) rfl
theorem q3185 : (Jvm.Cond.castable "java/lang/System$2" "java/lang/Object") ∈ lw_tbl := lw_at lw_m13 203 rfl
