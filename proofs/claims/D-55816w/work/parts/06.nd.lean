/-! MissingMiddles$Reader -/
set_option maxRecDepth 100000
def RX3 : String := "MissingMiddles$Reader"
def TX3 : u_T := fun k => match k with
  | 0 => ("MissingMiddles$Reader", "trust", "I", false)
  | 1 => ("MissingMiddles$Reader", "right", "I", false)
  | _ => ("MissingMiddles$Reader", "wrong", "I", false)
def tyX3 : Nat → FieldType := fun k => match k with
  | 0 => .int
  | 1 => .int
  | _ => .int
abbrev wsX30 : List Cond := u_ws RX3 TX3 3
theorem nmX3 : ∀ a, a < 3 → ∀ b, b < 3 → a ≠ b → (TX3 a).2.1 ≠ (TX3 b).2.1 := by decide +kernel
theorem tyX3_ok : ∀ k, k < 3 → parseFieldDescriptor (TX3 k).2.2.1 = some (tyX3 k) := by decide +kernel
abbrev cX3_init : ByteArray := prog_9_method_1_code
def yX3_init : MethodName := ⟨RX3, "<init>", "()V"⟩
def dkwX3_init_0 : List UInt8 := [42, 183, 0, 3, 42, 8, 181, 0, 9, 177]
abbrev dktX3_init_0 : List UInt8 := dkwX3_init_0 ++ []
theorem dksX3_init_0 : cX3_init.data.toList.drop 0 = dktX3_init_0 := by decide +kernel
theorem dX3_init_0 : decode cX3_init 0 = .ok (.aload_n 0, 1) := dk_42 (dk_at dksX3_init_0 0 rfl rfl)
theorem dX3_init_1 : decode cX3_init 1 = .ok (.invokespecial 3, 3) := dk_183 0 3 (dk_at dksX3_init_0 1 rfl rfl)
theorem dX3_init_4 : decode cX3_init 4 = .ok (.aload_n 0, 1) := dk_42 (dk_at dksX3_init_0 4 rfl rfl)
theorem dX3_init_5 : decode cX3_init 5 = .ok (.iconst 5, 1) := dk_8 (dk_at dksX3_init_0 5 rfl rfl)
theorem dX3_init_6 : decode cX3_init 6 = .ok (.putfield 9, 3) := dk_181 0 9 (dk_at dksX3_init_0 6 rfl rfl)
theorem dX3_init_9 : decode cX3_init 9 = .ok (.return_, 1) := dk_177 (dk_at dksX3_init_0 9 rfl rfl)
abbrev cX3_copy : ByteArray := prog_9_method_2_code
def yX3_copy : MethodName := ⟨RX3, "copy", "()LMissingMiddles$Reader;"⟩
def dkwX3_copy_1 : List UInt8 := [43, 42, 180, 0, 19, 181, 0, 19, 43, 176]
abbrev dktX3_copy_1 : List UInt8 := dkwX3_copy_1 ++ []
def dkwX3_copy_0 : List UInt8 := [187, 0, 10, 89, 183, 0, 15, 76, 43, 42, 180, 0, 9, 181, 0, 9, 43, 42, 180, 0, 16, 181, 0, 16]
abbrev dktX3_copy_0 : List UInt8 := dkwX3_copy_0 ++ dktX3_copy_1
theorem dksX3_copy_0 : cX3_copy.data.toList.drop 0 = dktX3_copy_0 := by decide +kernel
theorem dksX3_copy_1 : cX3_copy.data.toList.drop 24 = dktX3_copy_1 := dk_seg dksX3_copy_0 24 rfl rfl
theorem dX3_copy_0 : decode cX3_copy 0 = .ok (.new 10, 3) := dk_187 0 10 (dk_at dksX3_copy_0 0 rfl rfl)
theorem dX3_copy_3 : decode cX3_copy 3 = .ok (.dup, 1) := dk_89 (dk_at dksX3_copy_0 3 rfl rfl)
theorem dX3_copy_4 : decode cX3_copy 4 = .ok (.invokespecial 15, 3) := dk_183 0 15 (dk_at dksX3_copy_0 4 rfl rfl)
theorem dX3_copy_7 : decode cX3_copy 7 = .ok (.astore_n 1, 1) := dk_76 (dk_at dksX3_copy_0 7 rfl rfl)
theorem dX3_copy_8 : decode cX3_copy 8 = .ok (.aload_n 1, 1) := dk_43 (dk_at dksX3_copy_0 8 rfl rfl)
theorem dX3_copy_9 : decode cX3_copy 9 = .ok (.aload_n 0, 1) := dk_42 (dk_at dksX3_copy_0 9 rfl rfl)
theorem dX3_copy_10 : decode cX3_copy 10 = .ok (.getfield 9, 3) := dk_180 0 9 (dk_at dksX3_copy_0 10 rfl rfl)
theorem dX3_copy_13 : decode cX3_copy 13 = .ok (.putfield 9, 3) := dk_181 0 9 (dk_at dksX3_copy_0 13 rfl rfl)
theorem dX3_copy_16 : decode cX3_copy 16 = .ok (.aload_n 1, 1) := dk_43 (dk_at dksX3_copy_0 16 rfl rfl)
theorem dX3_copy_17 : decode cX3_copy 17 = .ok (.aload_n 0, 1) := dk_42 (dk_at dksX3_copy_0 17 rfl rfl)
theorem dX3_copy_18 : decode cX3_copy 18 = .ok (.getfield 16, 3) := dk_180 0 16 (dk_at dksX3_copy_0 18 rfl rfl)
theorem dX3_copy_21 : decode cX3_copy 21 = .ok (.putfield 16, 3) := dk_181 0 16 (dk_at dksX3_copy_0 21 rfl rfl)
theorem dX3_copy_24 : decode cX3_copy 24 = .ok (.aload_n 1, 1) := dk_43 (dk_at dksX3_copy_1 0 rfl rfl)
theorem dX3_copy_25 : decode cX3_copy 25 = .ok (.aload_n 0, 1) := dk_42 (dk_at dksX3_copy_1 1 rfl rfl)
theorem dX3_copy_26 : decode cX3_copy 26 = .ok (.getfield 19, 3) := dk_180 0 19 (dk_at dksX3_copy_1 2 rfl rfl)
theorem dX3_copy_29 : decode cX3_copy 29 = .ok (.putfield 19, 3) := dk_181 0 19 (dk_at dksX3_copy_1 5 rfl rfl)
theorem dX3_copy_32 : decode cX3_copy 32 = .ok (.aload_n 1, 1) := dk_43 (dk_at dksX3_copy_1 8 rfl rfl)
theorem dX3_copy_33 : decode cX3_copy 33 = .ok (.areturn, 1) := dk_176 (dk_at dksX3_copy_1 9 rfl rfl)
abbrev cX3_judge : ByteArray := prog_9_method_3_code
def yX3_judge : MethodName := ⟨RX3, "judge", "(Z)V"⟩
def dkwX3_judge_2 : List UInt8 := [181, 0, 16, 42, 89, 180, 0, 19, 27, 153, 0, 7, 3, 167, 0, 4, 4, 96, 181, 0, 19, 177]
abbrev dktX3_judge_2 : List UInt8 := dkwX3_judge_2 ++ []
def dkwX3_judge_1 : List UInt8 := [5, 100, 184, 0, 28, 181, 0, 9, 42, 89, 180, 0, 16, 27, 153, 0, 7, 4, 167, 0, 4, 3, 96]
abbrev dktX3_judge_1 : List UInt8 := dkwX3_judge_1 ++ dktX3_judge_2
def dkwX3_judge_0 : List UInt8 := [42, 27, 153, 0, 17, 16, 9, 42, 180, 0, 9, 4, 96, 184, 0, 22, 167, 0, 13, 3, 42, 180, 0, 9]
abbrev dktX3_judge_0 : List UInt8 := dkwX3_judge_0 ++ dktX3_judge_1
theorem dksX3_judge_0 : cX3_judge.data.toList.drop 0 = dktX3_judge_0 := by decide +kernel
theorem dksX3_judge_1 : cX3_judge.data.toList.drop 24 = dktX3_judge_1 := dk_seg dksX3_judge_0 24 rfl rfl
theorem dksX3_judge_2 : cX3_judge.data.toList.drop 47 = dktX3_judge_2 := dk_seg dksX3_judge_1 23 rfl rfl
theorem dX3_judge_0 : decode cX3_judge 0 = .ok (.aload_n 0, 1) := dk_42 (dk_at dksX3_judge_0 0 rfl rfl)
theorem dX3_judge_1 : decode cX3_judge 1 = .ok (.iload_n 1, 1) := dk_27 (dk_at dksX3_judge_0 1 rfl rfl)
theorem dX3_judge_2 : decode cX3_judge 2 = .ok (.ifCond .eq 17, 3) := dk_153 0 17 (dk_at dksX3_judge_0 2 rfl rfl)
theorem dX3_judge_5 : decode cX3_judge 5 = .ok (.bipush 9, 2) := dk_16 9 (dk_at dksX3_judge_0 5 rfl rfl)
theorem dX3_judge_7 : decode cX3_judge 7 = .ok (.aload_n 0, 1) := dk_42 (dk_at dksX3_judge_0 7 rfl rfl)
theorem dX3_judge_8 : decode cX3_judge 8 = .ok (.getfield 9, 3) := dk_180 0 9 (dk_at dksX3_judge_0 8 rfl rfl)
theorem dX3_judge_11 : decode cX3_judge 11 = .ok (.iconst 1, 1) := dk_4 (dk_at dksX3_judge_0 11 rfl rfl)
theorem dX3_judge_12 : decode cX3_judge 12 = .ok (.iadd, 1) := dk_96 (dk_at dksX3_judge_0 12 rfl rfl)
theorem dX3_judge_13 : decode cX3_judge 13 = .ok (.invokestatic 22, 3) := dk_184 0 22 (dk_at dksX3_judge_0 13 rfl rfl)
theorem dX3_judge_16 : decode cX3_judge 16 = .ok (.goto 13, 3) := dk_167 0 13 (dk_at dksX3_judge_0 16 rfl rfl)
theorem dX3_judge_19 : decode cX3_judge 19 = .ok (.iconst 0, 1) := dk_3 (dk_at dksX3_judge_0 19 rfl rfl)
theorem dX3_judge_20 : decode cX3_judge 20 = .ok (.aload_n 0, 1) := dk_42 (dk_at dksX3_judge_0 20 rfl rfl)
theorem dX3_judge_21 : decode cX3_judge 21 = .ok (.getfield 9, 3) := dk_180 0 9 (dk_at dksX3_judge_0 21 rfl rfl)
theorem dX3_judge_24 : decode cX3_judge 24 = .ok (.iconst 2, 1) := dk_5 (dk_at dksX3_judge_1 0 rfl rfl)
theorem dX3_judge_25 : decode cX3_judge 25 = .ok (.isub, 1) := dk_100 (dk_at dksX3_judge_1 1 rfl rfl)
theorem dX3_judge_26 : decode cX3_judge 26 = .ok (.invokestatic 28, 3) := dk_184 0 28 (dk_at dksX3_judge_1 2 rfl rfl)
theorem dX3_judge_29 : decode cX3_judge 29 = .ok (.putfield 9, 3) := dk_181 0 9 (dk_at dksX3_judge_1 5 rfl rfl)
theorem dX3_judge_32 : decode cX3_judge 32 = .ok (.aload_n 0, 1) := dk_42 (dk_at dksX3_judge_1 8 rfl rfl)
theorem dX3_judge_33 : decode cX3_judge 33 = .ok (.dup, 1) := dk_89 (dk_at dksX3_judge_1 9 rfl rfl)
theorem dX3_judge_34 : decode cX3_judge 34 = .ok (.getfield 16, 3) := dk_180 0 16 (dk_at dksX3_judge_1 10 rfl rfl)
theorem dX3_judge_37 : decode cX3_judge 37 = .ok (.iload_n 1, 1) := dk_27 (dk_at dksX3_judge_1 13 rfl rfl)
theorem dX3_judge_38 : decode cX3_judge 38 = .ok (.ifCond .eq 7, 3) := dk_153 0 7 (dk_at dksX3_judge_1 14 rfl rfl)
theorem dX3_judge_41 : decode cX3_judge 41 = .ok (.iconst 1, 1) := dk_4 (dk_at dksX3_judge_1 17 rfl rfl)
theorem dX3_judge_42 : decode cX3_judge 42 = .ok (.goto 4, 3) := dk_167 0 4 (dk_at dksX3_judge_1 18 rfl rfl)
theorem dX3_judge_45 : decode cX3_judge 45 = .ok (.iconst 0, 1) := dk_3 (dk_at dksX3_judge_1 21 rfl rfl)
theorem dX3_judge_46 : decode cX3_judge 46 = .ok (.iadd, 1) := dk_96 (dk_at dksX3_judge_1 22 rfl rfl)
theorem dX3_judge_47 : decode cX3_judge 47 = .ok (.putfield 16, 3) := dk_181 0 16 (dk_at dksX3_judge_2 0 rfl rfl)
theorem dX3_judge_50 : decode cX3_judge 50 = .ok (.aload_n 0, 1) := dk_42 (dk_at dksX3_judge_2 3 rfl rfl)
theorem dX3_judge_51 : decode cX3_judge 51 = .ok (.dup, 1) := dk_89 (dk_at dksX3_judge_2 4 rfl rfl)
theorem dX3_judge_52 : decode cX3_judge 52 = .ok (.getfield 19, 3) := dk_180 0 19 (dk_at dksX3_judge_2 5 rfl rfl)
theorem dX3_judge_55 : decode cX3_judge 55 = .ok (.iload_n 1, 1) := dk_27 (dk_at dksX3_judge_2 8 rfl rfl)
theorem dX3_judge_56 : decode cX3_judge 56 = .ok (.ifCond .eq 7, 3) := dk_153 0 7 (dk_at dksX3_judge_2 9 rfl rfl)
theorem dX3_judge_59 : decode cX3_judge 59 = .ok (.iconst 0, 1) := dk_3 (dk_at dksX3_judge_2 12 rfl rfl)
theorem dX3_judge_60 : decode cX3_judge 60 = .ok (.goto 4, 3) := dk_167 0 4 (dk_at dksX3_judge_2 13 rfl rfl)
theorem dX3_judge_63 : decode cX3_judge 63 = .ok (.iconst 1, 1) := dk_4 (dk_at dksX3_judge_2 16 rfl rfl)
theorem dX3_judge_64 : decode cX3_judge 64 = .ok (.iadd, 1) := dk_96 (dk_at dksX3_judge_2 17 rfl rfl)
theorem dX3_judge_65 : decode cX3_judge 65 = .ok (.putfield 19, 3) := dk_181 0 19 (dk_at dksX3_judge_2 18 rfl rfl)
theorem dX3_judge_68 : decode cX3_judge 68 = .ok (.return_, 1) := dk_177 (dk_at dksX3_judge_2 21 rfl rfl)
theorem q114 : (Jvm.Cond.initialized "MissingMiddles$Reader") ∈ lw_all := lw_g (lw_at lw_m1 12 rfl) rfl
theorem q263 : (Jvm.Cond.selects "MissingMiddles$Reader" ({ cls := "java/lang/Object", name := "getClass", desc := "()Ljava/lang/Class;" } : Jvm.MethodName) ({ cls := "java/lang/Object", name := "getClass", desc := "()Ljava/lang/Class;" } : Jvm.MethodName)) ∈ lw_all := lw_g (lw_at lw_m1 161 rfl) rfl
theorem q303 : (Jvm.Cond.instantiable "MissingMiddles$Reader" (3 : Nat)) ∈ lw_all := lw_g (lw_at lw_m1 201 rfl) rfl
theorem q305 : (Jvm.Cond.instanceMethod ({ cls := "MissingMiddles$Reader", name := "<init>", desc := "()V" } : Jvm.MethodName)) ∈ lw_all := lw_g (lw_at lw_m1 203 rfl) rfl
theorem q306 : (Jvm.Cond.code ({ cls := "MissingMiddles$Reader", name := "<init>", desc := "()V" } : Jvm.MethodName) prog_9_method_1_code (1 : Nat) (Option.none : Option Jvm.ClassFile.FieldType)) ∈ lw_all := lw_g (lw_at lw_m1 204 rfl) rfl
theorem q307 : (Jvm.Cond.methodLink "MissingMiddles$Reader" (3 : Nat) ({ cls := "java/lang/Object", name := "<init>", desc := "()V" } : Jvm.MethodName)) ∈ lw_all := lw_g (lw_at lw_m1 205 rfl) rfl
theorem q308 : (Jvm.Cond.fieldLink "MissingMiddles$Reader" (9 : Nat) "MissingMiddles$Reader" "trust" "I") ∈ lw_all := lw_g (lw_at lw_m1 206 rfl) rfl
theorem q310 : (Jvm.Cond.fieldLink "MissingMiddles$Reader" (16 : Nat) "MissingMiddles$Reader" "right" "I") ∈ lw_all := lw_g (lw_at lw_m1 208 rfl) rfl
theorem q312 : (Jvm.Cond.fieldLink "MissingMiddles$Reader" (19 : Nat) "MissingMiddles$Reader" "wrong" "I") ∈ lw_all := lw_g (lw_at lw_m1 210 rfl) rfl
theorem q314 : (Jvm.Cond.lays "MissingMiddles$Reader" "MissingMiddles$Reader" "trust" "I") ∈ lw_all := lw_g (lw_at lw_m1 212 rfl) rfl
theorem q315 : (Jvm.Cond.soleField "MissingMiddles$Reader" "trust") ∈ lw_all := lw_g (lw_at lw_m1 213 rfl) rfl
theorem q316 : (Jvm.Cond.lays "MissingMiddles$Reader" "MissingMiddles$Reader" "right" "I") ∈ lw_all := lw_g (lw_at lw_m1 214 rfl) rfl
theorem q317 : (Jvm.Cond.soleField "MissingMiddles$Reader" "right") ∈ lw_all := lw_g (lw_at lw_m1 215 rfl) rfl
theorem q318 : (Jvm.Cond.lays "MissingMiddles$Reader" "MissingMiddles$Reader" "wrong" "I") ∈ lw_all := lw_g (lw_at lw_m1 216 rfl) rfl
theorem q319 : (Jvm.Cond.soleField "MissingMiddles$Reader" "wrong") ∈ lw_all := lw_g (lw_at lw_m1 217 rfl) rfl
theorem q320 : (Jvm.Cond.superclass "MissingMiddles$Reader" "java/lang/Object") ∈ lw_all := lw_g (lw_at lw_m1 218 rfl) rfl
theorem q1475 : (Jvm.Cond.instanceMethod ({ cls := "MissingMiddles$Reader", name := "copy", desc := "()LMissingMiddles$Reader;" } : Jvm.MethodName)) ∈ lw_all := lw_g (lw_at lw_m6 173 rfl) rfl
theorem q1476 : (Jvm.Cond.selects "MissingMiddles$Reader" ({ cls := "MissingMiddles$Reader", name := "copy", desc := "()LMissingMiddles$Reader;" } : Jvm.MethodName) ({ cls := "MissingMiddles$Reader", name := "copy", desc := "()LMissingMiddles$Reader;" } : Jvm.MethodName)) ∈ lw_all := lw_g (lw_at lw_m6 174 rfl) rfl
theorem q1477 : (Jvm.Cond.code ({ cls := "MissingMiddles$Reader", name := "copy", desc := "()LMissingMiddles$Reader;" } : Jvm.MethodName) prog_9_method_2_code (2 : Nat) (Option.some (Jvm.ClassFile.FieldType.object "MissingMiddles$Reader"))) ∈ lw_all := lw_g (lw_at lw_m6 175 rfl) rfl
theorem q1478 : (Jvm.Cond.classLink "MissingMiddles$Reader" (10 : Nat) "MissingMiddles$Reader") ∈ lw_all := lw_g (lw_at lw_m6 176 rfl) rfl
theorem q1479 : (Jvm.Cond.methodLink "MissingMiddles$Reader" (15 : Nat) ({ cls := "MissingMiddles$Reader", name := "<init>", desc := "()V" } : Jvm.MethodName)) ∈ lw_all := lw_g (lw_at lw_m6 177 rfl) rfl
theorem q1702 : (Jvm.Cond.instanceMethod ({ cls := "MissingMiddles$Reader", name := "judge", desc := "(Z)V" } : Jvm.MethodName)) ∈ lw_all := lw_g (lw_at lw_m7 160 rfl) rfl
theorem q1703 : (Jvm.Cond.selects "MissingMiddles$Reader" ({ cls := "MissingMiddles$Reader", name := "judge", desc := "(Z)V" } : Jvm.MethodName) ({ cls := "MissingMiddles$Reader", name := "judge", desc := "(Z)V" } : Jvm.MethodName)) ∈ lw_all := lw_g (lw_at lw_m7 161 rfl) rfl
theorem q1704 : (Jvm.Cond.code ({ cls := "MissingMiddles$Reader", name := "judge", desc := "(Z)V" } : Jvm.MethodName) prog_9_method_3_code (2 : Nat) (Option.none : Option Jvm.ClassFile.FieldType)) ∈ lw_all := lw_g (lw_at lw_m7 162 rfl) rfl
theorem q1705 : (Jvm.Cond.methodLink "MissingMiddles$Reader" (22 : Nat) ({ cls := "java/lang/Math", name := "min", desc := "(II)I" } : Jvm.MethodName)) ∈ lw_all := lw_g (lw_at lw_m7 163 rfl) rfl
theorem q1706 : (Jvm.Cond.methodLink "MissingMiddles$Reader" (28 : Nat) ({ cls := "java/lang/Math", name := "max", desc := "(II)I" } : Jvm.MethodName)) ∈ lw_all := lw_g (lw_at lw_m7 164 rfl) rfl
theorem q1782 : (Jvm.Cond.selects "MissingMiddles$Reader" ({ cls := "java/lang/Object", name := "equals", desc := "(Ljava/lang/Object;)Z" } : Jvm.MethodName) ({ cls := "java/lang/Object", name := "equals", desc := "(Ljava/lang/Object;)Z" } : Jvm.MethodName)) ∈ lw_all := lw_g (lw_at lw_m8 0 rfl) rfl
theorem q3169 : (Jvm.Cond.castable "MissingMiddles$Reader" "java/lang/Object") ∈ lw_tbl := lw_at lw_m13 187 rfl
theorem in_X3 : ∀ w ∈ wsX30, w ∈ lw_all := lw_in wsX30 [314, 316, 318] (by decide +kernel) (by decide +kernel)
/-! MissingMiddles$Order -/
set_option maxRecDepth 100000
def RX5 : String := "MissingMiddles$Order"
def TX5 : u_T := fun k => match k with
  | 0 => ("MissingMiddles$Order", "word", "Ljava/lang/String;", true)
  | 1 => ("MissingMiddles$Order", "isPlus", "Z", true)
  | _ => ("MissingMiddles$Order", "numbers", "[I", true)
def tyX5 : Nat → FieldType := fun k => match k with
  | 0 => .object "java/lang/String"
  | 1 => .boolean
  | _ => .array .int
abbrev wsX50 : List Cond := u_ws RX5 TX5 3
theorem nmX5 : ∀ a, a < 3 → ∀ b, b < 3 → a ≠ b → (TX5 a).2.1 ≠ (TX5 b).2.1 := by decide +kernel
theorem tyX5_ok : ∀ k, k < 3 → parseFieldDescriptor (TX5 k).2.2.1 = some (tyX5 k) := by decide +kernel
abbrev cX5_init : ByteArray := prog_7_method_1_code
def yX5_init : MethodName := ⟨RX5, "<init>", "(Ljava/lang/String;Z[I)V"⟩
def dkwX5_init_0 : List UInt8 := [42, 183, 0, 1, 42, 43, 181, 0, 7, 42, 28, 181, 0, 13, 42, 45, 181, 0, 17, 177]
abbrev dktX5_init_0 : List UInt8 := dkwX5_init_0 ++ []
theorem dksX5_init_0 : cX5_init.data.toList.drop 0 = dktX5_init_0 := by decide +kernel
theorem dX5_init_0 : decode cX5_init 0 = .ok (.aload_n 0, 1) := dk_42 (dk_at dksX5_init_0 0 rfl rfl)
theorem dX5_init_1 : decode cX5_init 1 = .ok (.invokespecial 1, 3) := dk_183 0 1 (dk_at dksX5_init_0 1 rfl rfl)
theorem dX5_init_4 : decode cX5_init 4 = .ok (.aload_n 0, 1) := dk_42 (dk_at dksX5_init_0 4 rfl rfl)
theorem dX5_init_5 : decode cX5_init 5 = .ok (.aload_n 1, 1) := dk_43 (dk_at dksX5_init_0 5 rfl rfl)
theorem dX5_init_6 : decode cX5_init 6 = .ok (.putfield 7, 3) := dk_181 0 7 (dk_at dksX5_init_0 6 rfl rfl)
theorem dX5_init_9 : decode cX5_init 9 = .ok (.aload_n 0, 1) := dk_42 (dk_at dksX5_init_0 9 rfl rfl)
theorem dX5_init_10 : decode cX5_init 10 = .ok (.iload_n 2, 1) := dk_28 (dk_at dksX5_init_0 10 rfl rfl)
theorem dX5_init_11 : decode cX5_init 11 = .ok (.putfield 13, 3) := dk_181 0 13 (dk_at dksX5_init_0 11 rfl rfl)
theorem dX5_init_14 : decode cX5_init 14 = .ok (.aload_n 0, 1) := dk_42 (dk_at dksX5_init_0 14 rfl rfl)
theorem dX5_init_15 : decode cX5_init 15 = .ok (.aload_n 3, 1) := dk_45 (dk_at dksX5_init_0 15 rfl rfl)
theorem dX5_init_16 : decode cX5_init 16 = .ok (.putfield 17, 3) := dk_181 0 17 (dk_at dksX5_init_0 16 rfl rfl)
theorem dX5_init_19 : decode cX5_init 19 = .ok (.return_, 1) := dk_177 (dk_at dksX5_init_0 19 rfl rfl)
abbrev cX5_make : ByteArray := prog_7_method_2_code
def yX5_make : MethodName := ⟨RX5, "make", "(LMissingMiddles$Office;)I"⟩
def dkwX5_make_14 : List UInt8 := [180, 0, 17, 3, 46, 182, 0, 74, 172, 43, 42, 180, 0, 17, 3, 46, 182, 0, 77, 172]
abbrev dktX5_make_14 : List UInt8 := dkwX5_make_14 ++ []
def dkwX5_make_13 : List UInt8 := [180, 0, 17, 3, 46, 182, 0, 68, 172, 43, 42, 180, 0, 17, 3, 46, 182, 0, 71, 172, 43, 42]
abbrev dktX5_make_13 : List UInt8 := dkwX5_make_13 ++ dktX5_make_14
def dkwX5_make_12 : List UInt8 := [180, 0, 13, 182, 0, 60, 172, 43, 42, 180, 0, 17, 3, 46, 42, 180, 0, 13, 182, 0, 64, 172, 43, 42]
abbrev dktX5_make_12 : List UInt8 := dkwX5_make_12 ++ dktX5_make_13
def dkwX5_make_11 : List UInt8 := [180, 0, 17, 3, 46, 182, 0, 56, 172, 43, 42, 180, 0, 17, 3, 46, 42, 180, 0, 17, 4, 46, 42]
abbrev dktX5_make_11 : List UInt8 := dkwX5_make_11 ++ dktX5_make_12
def dkwX5_make_10 : List UInt8 := [42, 180, 0, 17, 5, 46, 42, 180, 0, 17, 6, 46, 42, 180, 0, 17, 7, 46, 182, 0, 53, 172, 43, 42]
abbrev dktX5_make_10 : List UInt8 := dkwX5_make_10 ++ dktX5_make_11
def dkwX5_make_9 : List UInt8 := [46, 42, 180, 0, 17, 7, 46, 182, 0, 47, 172, 43, 42, 180, 0, 17, 3, 46, 42, 180, 0, 17, 4, 46]
abbrev dktX5_make_9 : List UInt8 := dkwX5_make_9 ++ dktX5_make_10
def dkwX5_make_8 : List UInt8 := [43, 42, 180, 0, 17, 3, 46, 42, 180, 0, 17, 4, 46, 42, 180, 0, 17, 5, 46, 42, 180, 0, 17, 6]
abbrev dktX5_make_8 : List UInt8 := dkwX5_make_8 ++ dktX5_make_9
def dkwX5_make_7 : List UInt8 := [170, 0, 0, 0, 0, 0, 0, 198, 0, 0, 0, 0, 0, 0, 0, 7, 0, 0, 0, 48, 0, 0, 0, 83, 0, 0, 0, 118, 0, 0, 0, 129, 0, 0, 0, 150, 0, 0, 0, 165, 0, 0, 0, 176, 0, 0, 0, 187]
abbrev dktX5_make_7 : List UInt8 := dkwX5_make_7 ++ dktX5_make_8
def dkwX5_make_6 : List UInt8 := [62, 167, 0, 15, 44, 18, 45, 182, 0, 29, 153, 0, 6, 16, 7, 62, 29]
abbrev dktX5_make_6 : List UInt8 := dkwX5_make_6 ++ dktX5_make_7
def dkwX5_make_5 : List UInt8 := [18, 41, 182, 0, 29, 153, 0, 35, 8, 62, 167, 0, 30, 44, 18, 43, 182, 0, 29, 153, 0, 21, 16, 6]
abbrev dktX5_make_5 : List UInt8 := dkwX5_make_5 ++ dktX5_make_6
def dkwX5_make_4 : List UInt8 := [153, 0, 63, 6, 62, 167, 0, 58, 44, 18, 39, 182, 0, 29, 153, 0, 49, 7, 62, 167, 0, 44, 44]
abbrev dktX5_make_4 : List UInt8 := dkwX5_make_4 ++ dktX5_make_5
def dkwX5_make_3 : List UInt8 := [62, 167, 0, 86, 44, 18, 35, 182, 0, 29, 153, 0, 77, 5, 62, 167, 0, 72, 44, 18, 37, 182, 0, 29]
abbrev dktX5_make_3 : List UInt8 := dkwX5_make_3 ++ dktX5_make_4
def dkwX5_make_2 : List UInt8 := [44, 18, 27, 182, 0, 29, 153, 0, 105, 3, 62, 167, 0, 100, 44, 18, 33, 182, 0, 29, 153, 0, 91, 4]
abbrev dktX5_make_2 : List UInt8 := dkwX5_make_2 ++ dktX5_make_3
def dkwX5_make_1 : List UInt8 := [170, 0, 0, 0, 184, 0, 0, 0, 98, 0, 0, 0, 112, 0, 0, 0, 73, 0, 0, 0, 172, 0, 0, 0, 157, 0, 0, 0, 184, 0, 0, 0, 101, 0, 0, 0, 184, 0, 0, 0, 87, 0, 0, 0, 184, 0, 0, 0, 184, 0, 0, 0, 184, 0, 0, 0, 184, 0, 0, 0, 143, 0, 0, 0, 184, 0, 0, 0, 115, 0, 0, 0, 129]
abbrev dktX5_make_1 : List UInt8 := dkwX5_make_1 ++ dktX5_make_2
def dkwX5_make_0 : List UInt8 := [42, 180, 0, 7, 77, 2, 62, 44, 182, 0, 21]
abbrev dktX5_make_0 : List UInt8 := dkwX5_make_0 ++ dktX5_make_1
theorem dksX5_make_0 : cX5_make.data.toList.drop 0 = dktX5_make_0 := by decide +kernel
theorem dksX5_make_1 : cX5_make.data.toList.drop 11 = dktX5_make_1 := dk_seg dksX5_make_0 11 rfl rfl
theorem dksX5_make_2 : cX5_make.data.toList.drop 84 = dktX5_make_2 := dk_seg dksX5_make_1 73 rfl rfl
theorem dksX5_make_3 : cX5_make.data.toList.drop 108 = dktX5_make_3 := dk_seg dksX5_make_2 24 rfl rfl
theorem dksX5_make_4 : cX5_make.data.toList.drop 132 = dktX5_make_4 := dk_seg dksX5_make_3 24 rfl rfl
theorem dksX5_make_5 : cX5_make.data.toList.drop 155 = dktX5_make_5 := dk_seg dksX5_make_4 23 rfl rfl
theorem dksX5_make_6 : cX5_make.data.toList.drop 179 = dktX5_make_6 := dk_seg dksX5_make_5 24 rfl rfl
theorem dksX5_make_7 : cX5_make.data.toList.drop 196 = dktX5_make_7 := dk_seg dksX5_make_6 17 rfl rfl
theorem dksX5_make_8 : cX5_make.data.toList.drop 244 = dktX5_make_8 := dk_seg dksX5_make_7 48 rfl rfl
theorem dksX5_make_9 : cX5_make.data.toList.drop 268 = dktX5_make_9 := dk_seg dksX5_make_8 24 rfl rfl
theorem dksX5_make_10 : cX5_make.data.toList.drop 292 = dktX5_make_10 := dk_seg dksX5_make_9 24 rfl rfl
theorem dksX5_make_11 : cX5_make.data.toList.drop 316 = dktX5_make_11 := dk_seg dksX5_make_10 24 rfl rfl
theorem dksX5_make_12 : cX5_make.data.toList.drop 339 = dktX5_make_12 := dk_seg dksX5_make_11 23 rfl rfl
theorem dksX5_make_13 : cX5_make.data.toList.drop 363 = dktX5_make_13 := dk_seg dksX5_make_12 24 rfl rfl
theorem dksX5_make_14 : cX5_make.data.toList.drop 385 = dktX5_make_14 := dk_seg dksX5_make_13 22 rfl rfl
theorem dX5_make_0 : decode cX5_make 0 = .ok (.aload_n 0, 1) := dk_42 (dk_at dksX5_make_0 0 rfl rfl)
theorem dX5_make_1 : decode cX5_make 1 = .ok (.getfield 7, 3) := dk_180 0 7 (dk_at dksX5_make_0 1 rfl rfl)
theorem dX5_make_4 : decode cX5_make 4 = .ok (.astore_n 2, 1) := dk_77 (dk_at dksX5_make_0 4 rfl rfl)
theorem dX5_make_5 : decode cX5_make 5 = .ok (.iconst (-1), 1) := dk_2 (dk_at dksX5_make_0 5 rfl rfl)
theorem dX5_make_6 : decode cX5_make 6 = .ok (.istore_n 3, 1) := dk_62 (dk_at dksX5_make_0 6 rfl rfl)
theorem dX5_make_7 : decode cX5_make 7 = .ok (.aload_n 2, 1) := dk_44 (dk_at dksX5_make_0 7 rfl rfl)
theorem dX5_make_8 : decode cX5_make 8 = .ok (.invokevirtual 21, 3) := dk_182 0 21 (dk_at dksX5_make_0 8 rfl rfl)
theorem dX5_make_11 : decode cX5_make 11 = .ok (.tableswitch 184 98 112 #[73, 172, 157, 184, 101, 184, 87, 184, 184, 184, 184, 143, 184, 115, 129], 73) := by decide +kernel
theorem dX5_make_84 : decode cX5_make 84 = .ok (.aload_n 2, 1) := dk_44 (dk_at dksX5_make_2 0 rfl rfl)
theorem dX5_make_85 : decode cX5_make 85 = .ok (.ldc 27, 2) := dk_18 27 (dk_at dksX5_make_2 1 rfl rfl)
theorem dX5_make_87 : decode cX5_make 87 = .ok (.invokevirtual 29, 3) := dk_182 0 29 (dk_at dksX5_make_2 3 rfl rfl)
theorem dX5_make_90 : decode cX5_make 90 = .ok (.ifCond .eq 105, 3) := dk_153 0 105 (dk_at dksX5_make_2 6 rfl rfl)
theorem dX5_make_93 : decode cX5_make 93 = .ok (.iconst 0, 1) := dk_3 (dk_at dksX5_make_2 9 rfl rfl)
theorem dX5_make_94 : decode cX5_make 94 = .ok (.istore_n 3, 1) := dk_62 (dk_at dksX5_make_2 10 rfl rfl)
theorem dX5_make_95 : decode cX5_make 95 = .ok (.goto 100, 3) := dk_167 0 100 (dk_at dksX5_make_2 11 rfl rfl)
theorem dX5_make_98 : decode cX5_make 98 = .ok (.aload_n 2, 1) := dk_44 (dk_at dksX5_make_2 14 rfl rfl)
theorem dX5_make_99 : decode cX5_make 99 = .ok (.ldc 33, 2) := dk_18 33 (dk_at dksX5_make_2 15 rfl rfl)
theorem dX5_make_101 : decode cX5_make 101 = .ok (.invokevirtual 29, 3) := dk_182 0 29 (dk_at dksX5_make_2 17 rfl rfl)
theorem dX5_make_104 : decode cX5_make 104 = .ok (.ifCond .eq 91, 3) := dk_153 0 91 (dk_at dksX5_make_2 20 rfl rfl)
theorem dX5_make_107 : decode cX5_make 107 = .ok (.iconst 1, 1) := dk_4 (dk_at dksX5_make_2 23 rfl rfl)
theorem dX5_make_108 : decode cX5_make 108 = .ok (.istore_n 3, 1) := dk_62 (dk_at dksX5_make_3 0 rfl rfl)
theorem dX5_make_109 : decode cX5_make 109 = .ok (.goto 86, 3) := dk_167 0 86 (dk_at dksX5_make_3 1 rfl rfl)
theorem dX5_make_112 : decode cX5_make 112 = .ok (.aload_n 2, 1) := dk_44 (dk_at dksX5_make_3 4 rfl rfl)
theorem dX5_make_113 : decode cX5_make 113 = .ok (.ldc 35, 2) := dk_18 35 (dk_at dksX5_make_3 5 rfl rfl)
theorem dX5_make_115 : decode cX5_make 115 = .ok (.invokevirtual 29, 3) := dk_182 0 29 (dk_at dksX5_make_3 7 rfl rfl)
theorem dX5_make_118 : decode cX5_make 118 = .ok (.ifCond .eq 77, 3) := dk_153 0 77 (dk_at dksX5_make_3 10 rfl rfl)
theorem dX5_make_121 : decode cX5_make 121 = .ok (.iconst 2, 1) := dk_5 (dk_at dksX5_make_3 13 rfl rfl)
theorem dX5_make_122 : decode cX5_make 122 = .ok (.istore_n 3, 1) := dk_62 (dk_at dksX5_make_3 14 rfl rfl)
theorem dX5_make_123 : decode cX5_make 123 = .ok (.goto 72, 3) := dk_167 0 72 (dk_at dksX5_make_3 15 rfl rfl)
theorem dX5_make_126 : decode cX5_make 126 = .ok (.aload_n 2, 1) := dk_44 (dk_at dksX5_make_3 18 rfl rfl)
theorem dX5_make_127 : decode cX5_make 127 = .ok (.ldc 37, 2) := dk_18 37 (dk_at dksX5_make_3 19 rfl rfl)
theorem dX5_make_129 : decode cX5_make 129 = .ok (.invokevirtual 29, 3) := dk_182 0 29 (dk_at dksX5_make_3 21 rfl rfl)
theorem dX5_make_132 : decode cX5_make 132 = .ok (.ifCond .eq 63, 3) := dk_153 0 63 (dk_at dksX5_make_4 0 rfl rfl)
theorem dX5_make_135 : decode cX5_make 135 = .ok (.iconst 3, 1) := dk_6 (dk_at dksX5_make_4 3 rfl rfl)
theorem dX5_make_136 : decode cX5_make 136 = .ok (.istore_n 3, 1) := dk_62 (dk_at dksX5_make_4 4 rfl rfl)
theorem dX5_make_137 : decode cX5_make 137 = .ok (.goto 58, 3) := dk_167 0 58 (dk_at dksX5_make_4 5 rfl rfl)
theorem dX5_make_140 : decode cX5_make 140 = .ok (.aload_n 2, 1) := dk_44 (dk_at dksX5_make_4 8 rfl rfl)
theorem dX5_make_141 : decode cX5_make 141 = .ok (.ldc 39, 2) := dk_18 39 (dk_at dksX5_make_4 9 rfl rfl)
theorem dX5_make_143 : decode cX5_make 143 = .ok (.invokevirtual 29, 3) := dk_182 0 29 (dk_at dksX5_make_4 11 rfl rfl)
theorem dX5_make_146 : decode cX5_make 146 = .ok (.ifCond .eq 49, 3) := dk_153 0 49 (dk_at dksX5_make_4 14 rfl rfl)
theorem dX5_make_149 : decode cX5_make 149 = .ok (.iconst 4, 1) := dk_7 (dk_at dksX5_make_4 17 rfl rfl)
theorem dX5_make_150 : decode cX5_make 150 = .ok (.istore_n 3, 1) := dk_62 (dk_at dksX5_make_4 18 rfl rfl)
theorem dX5_make_151 : decode cX5_make 151 = .ok (.goto 44, 3) := dk_167 0 44 (dk_at dksX5_make_4 19 rfl rfl)
theorem dX5_make_154 : decode cX5_make 154 = .ok (.aload_n 2, 1) := dk_44 (dk_at dksX5_make_4 22 rfl rfl)
theorem dX5_make_155 : decode cX5_make 155 = .ok (.ldc 41, 2) := dk_18 41 (dk_at dksX5_make_5 0 rfl rfl)
theorem dX5_make_157 : decode cX5_make 157 = .ok (.invokevirtual 29, 3) := dk_182 0 29 (dk_at dksX5_make_5 2 rfl rfl)
theorem dX5_make_160 : decode cX5_make 160 = .ok (.ifCond .eq 35, 3) := dk_153 0 35 (dk_at dksX5_make_5 5 rfl rfl)
theorem dX5_make_163 : decode cX5_make 163 = .ok (.iconst 5, 1) := dk_8 (dk_at dksX5_make_5 8 rfl rfl)
theorem dX5_make_164 : decode cX5_make 164 = .ok (.istore_n 3, 1) := dk_62 (dk_at dksX5_make_5 9 rfl rfl)
theorem dX5_make_165 : decode cX5_make 165 = .ok (.goto 30, 3) := dk_167 0 30 (dk_at dksX5_make_5 10 rfl rfl)
theorem dX5_make_168 : decode cX5_make 168 = .ok (.aload_n 2, 1) := dk_44 (dk_at dksX5_make_5 13 rfl rfl)
theorem dX5_make_169 : decode cX5_make 169 = .ok (.ldc 43, 2) := dk_18 43 (dk_at dksX5_make_5 14 rfl rfl)
theorem dX5_make_171 : decode cX5_make 171 = .ok (.invokevirtual 29, 3) := dk_182 0 29 (dk_at dksX5_make_5 16 rfl rfl)
theorem dX5_make_174 : decode cX5_make 174 = .ok (.ifCond .eq 21, 3) := dk_153 0 21 (dk_at dksX5_make_5 19 rfl rfl)
theorem dX5_make_177 : decode cX5_make 177 = .ok (.bipush 6, 2) := dk_16 6 (dk_at dksX5_make_5 22 rfl rfl)
theorem dX5_make_179 : decode cX5_make 179 = .ok (.istore_n 3, 1) := dk_62 (dk_at dksX5_make_6 0 rfl rfl)
theorem dX5_make_180 : decode cX5_make 180 = .ok (.goto 15, 3) := dk_167 0 15 (dk_at dksX5_make_6 1 rfl rfl)
theorem dX5_make_183 : decode cX5_make 183 = .ok (.aload_n 2, 1) := dk_44 (dk_at dksX5_make_6 4 rfl rfl)
theorem dX5_make_184 : decode cX5_make 184 = .ok (.ldc 45, 2) := dk_18 45 (dk_at dksX5_make_6 5 rfl rfl)
theorem dX5_make_186 : decode cX5_make 186 = .ok (.invokevirtual 29, 3) := dk_182 0 29 (dk_at dksX5_make_6 7 rfl rfl)
theorem dX5_make_189 : decode cX5_make 189 = .ok (.ifCond .eq 6, 3) := dk_153 0 6 (dk_at dksX5_make_6 10 rfl rfl)
theorem dX5_make_192 : decode cX5_make 192 = .ok (.bipush 7, 2) := dk_16 7 (dk_at dksX5_make_6 13 rfl rfl)
theorem dX5_make_194 : decode cX5_make 194 = .ok (.istore_n 3, 1) := dk_62 (dk_at dksX5_make_6 15 rfl rfl)
theorem dX5_make_195 : decode cX5_make 195 = .ok (.iload_n 3, 1) := dk_29 (dk_at dksX5_make_6 16 rfl rfl)
theorem dX5_make_196 : decode cX5_make 196 = .ok (.tableswitch 198 0 7 #[48, 83, 118, 129, 150, 165, 176, 187], 48) := by decide +kernel
theorem dX5_make_244 : decode cX5_make 244 = .ok (.aload_n 1, 1) := dk_43 (dk_at dksX5_make_8 0 rfl rfl)
theorem dX5_make_245 : decode cX5_make 245 = .ok (.aload_n 0, 1) := dk_42 (dk_at dksX5_make_8 1 rfl rfl)
theorem dX5_make_246 : decode cX5_make 246 = .ok (.getfield 17, 3) := dk_180 0 17 (dk_at dksX5_make_8 2 rfl rfl)
theorem dX5_make_249 : decode cX5_make 249 = .ok (.iconst 0, 1) := dk_3 (dk_at dksX5_make_8 5 rfl rfl)
theorem dX5_make_250 : decode cX5_make 250 = .ok (.iaload, 1) := dk_46 (dk_at dksX5_make_8 6 rfl rfl)
theorem dX5_make_251 : decode cX5_make 251 = .ok (.aload_n 0, 1) := dk_42 (dk_at dksX5_make_8 7 rfl rfl)
theorem dX5_make_252 : decode cX5_make 252 = .ok (.getfield 17, 3) := dk_180 0 17 (dk_at dksX5_make_8 8 rfl rfl)
theorem dX5_make_255 : decode cX5_make 255 = .ok (.iconst 1, 1) := dk_4 (dk_at dksX5_make_8 11 rfl rfl)
theorem dX5_make_256 : decode cX5_make 256 = .ok (.iaload, 1) := dk_46 (dk_at dksX5_make_8 12 rfl rfl)
theorem dX5_make_257 : decode cX5_make 257 = .ok (.aload_n 0, 1) := dk_42 (dk_at dksX5_make_8 13 rfl rfl)
theorem dX5_make_258 : decode cX5_make 258 = .ok (.getfield 17, 3) := dk_180 0 17 (dk_at dksX5_make_8 14 rfl rfl)
theorem dX5_make_261 : decode cX5_make 261 = .ok (.iconst 2, 1) := dk_5 (dk_at dksX5_make_8 17 rfl rfl)
theorem dX5_make_262 : decode cX5_make 262 = .ok (.iaload, 1) := dk_46 (dk_at dksX5_make_8 18 rfl rfl)
theorem dX5_make_263 : decode cX5_make 263 = .ok (.aload_n 0, 1) := dk_42 (dk_at dksX5_make_8 19 rfl rfl)
theorem dX5_make_264 : decode cX5_make 264 = .ok (.getfield 17, 3) := dk_180 0 17 (dk_at dksX5_make_8 20 rfl rfl)
theorem dX5_make_267 : decode cX5_make 267 = .ok (.iconst 3, 1) := dk_6 (dk_at dksX5_make_8 23 rfl rfl)
theorem dX5_make_268 : decode cX5_make 268 = .ok (.iaload, 1) := dk_46 (dk_at dksX5_make_9 0 rfl rfl)
theorem dX5_make_269 : decode cX5_make 269 = .ok (.aload_n 0, 1) := dk_42 (dk_at dksX5_make_9 1 rfl rfl)
theorem dX5_make_270 : decode cX5_make 270 = .ok (.getfield 17, 3) := dk_180 0 17 (dk_at dksX5_make_9 2 rfl rfl)
theorem dX5_make_273 : decode cX5_make 273 = .ok (.iconst 4, 1) := dk_7 (dk_at dksX5_make_9 5 rfl rfl)
theorem dX5_make_274 : decode cX5_make 274 = .ok (.iaload, 1) := dk_46 (dk_at dksX5_make_9 6 rfl rfl)
theorem dX5_make_275 : decode cX5_make 275 = .ok (.invokevirtual 47, 3) := dk_182 0 47 (dk_at dksX5_make_9 7 rfl rfl)
theorem dX5_make_278 : decode cX5_make 278 = .ok (.ireturn, 1) := dk_172 (dk_at dksX5_make_9 10 rfl rfl)
theorem dX5_make_279 : decode cX5_make 279 = .ok (.aload_n 1, 1) := dk_43 (dk_at dksX5_make_9 11 rfl rfl)
theorem dX5_make_280 : decode cX5_make 280 = .ok (.aload_n 0, 1) := dk_42 (dk_at dksX5_make_9 12 rfl rfl)
theorem dX5_make_281 : decode cX5_make 281 = .ok (.getfield 17, 3) := dk_180 0 17 (dk_at dksX5_make_9 13 rfl rfl)
theorem dX5_make_284 : decode cX5_make 284 = .ok (.iconst 0, 1) := dk_3 (dk_at dksX5_make_9 16 rfl rfl)
theorem dX5_make_285 : decode cX5_make 285 = .ok (.iaload, 1) := dk_46 (dk_at dksX5_make_9 17 rfl rfl)
theorem dX5_make_286 : decode cX5_make 286 = .ok (.aload_n 0, 1) := dk_42 (dk_at dksX5_make_9 18 rfl rfl)
theorem dX5_make_287 : decode cX5_make 287 = .ok (.getfield 17, 3) := dk_180 0 17 (dk_at dksX5_make_9 19 rfl rfl)
theorem dX5_make_290 : decode cX5_make 290 = .ok (.iconst 1, 1) := dk_4 (dk_at dksX5_make_9 22 rfl rfl)
theorem dX5_make_291 : decode cX5_make 291 = .ok (.iaload, 1) := dk_46 (dk_at dksX5_make_9 23 rfl rfl)
theorem dX5_make_292 : decode cX5_make 292 = .ok (.aload_n 0, 1) := dk_42 (dk_at dksX5_make_10 0 rfl rfl)
theorem dX5_make_293 : decode cX5_make 293 = .ok (.getfield 17, 3) := dk_180 0 17 (dk_at dksX5_make_10 1 rfl rfl)
theorem dX5_make_296 : decode cX5_make 296 = .ok (.iconst 2, 1) := dk_5 (dk_at dksX5_make_10 4 rfl rfl)
theorem dX5_make_297 : decode cX5_make 297 = .ok (.iaload, 1) := dk_46 (dk_at dksX5_make_10 5 rfl rfl)
theorem dX5_make_298 : decode cX5_make 298 = .ok (.aload_n 0, 1) := dk_42 (dk_at dksX5_make_10 6 rfl rfl)
theorem dX5_make_299 : decode cX5_make 299 = .ok (.getfield 17, 3) := dk_180 0 17 (dk_at dksX5_make_10 7 rfl rfl)
theorem dX5_make_302 : decode cX5_make 302 = .ok (.iconst 3, 1) := dk_6 (dk_at dksX5_make_10 10 rfl rfl)
theorem dX5_make_303 : decode cX5_make 303 = .ok (.iaload, 1) := dk_46 (dk_at dksX5_make_10 11 rfl rfl)
theorem dX5_make_304 : decode cX5_make 304 = .ok (.aload_n 0, 1) := dk_42 (dk_at dksX5_make_10 12 rfl rfl)
theorem dX5_make_305 : decode cX5_make 305 = .ok (.getfield 17, 3) := dk_180 0 17 (dk_at dksX5_make_10 13 rfl rfl)
theorem dX5_make_308 : decode cX5_make 308 = .ok (.iconst 4, 1) := dk_7 (dk_at dksX5_make_10 16 rfl rfl)
theorem dX5_make_309 : decode cX5_make 309 = .ok (.iaload, 1) := dk_46 (dk_at dksX5_make_10 17 rfl rfl)
theorem dX5_make_310 : decode cX5_make 310 = .ok (.invokevirtual 53, 3) := dk_182 0 53 (dk_at dksX5_make_10 18 rfl rfl)
theorem dX5_make_313 : decode cX5_make 313 = .ok (.ireturn, 1) := dk_172 (dk_at dksX5_make_10 21 rfl rfl)
theorem dX5_make_314 : decode cX5_make 314 = .ok (.aload_n 1, 1) := dk_43 (dk_at dksX5_make_10 22 rfl rfl)
theorem dX5_make_315 : decode cX5_make 315 = .ok (.aload_n 0, 1) := dk_42 (dk_at dksX5_make_10 23 rfl rfl)
theorem dX5_make_316 : decode cX5_make 316 = .ok (.getfield 17, 3) := dk_180 0 17 (dk_at dksX5_make_11 0 rfl rfl)
theorem dX5_make_319 : decode cX5_make 319 = .ok (.iconst 0, 1) := dk_3 (dk_at dksX5_make_11 3 rfl rfl)
theorem dX5_make_320 : decode cX5_make 320 = .ok (.iaload, 1) := dk_46 (dk_at dksX5_make_11 4 rfl rfl)
theorem dX5_make_321 : decode cX5_make 321 = .ok (.invokevirtual 56, 3) := dk_182 0 56 (dk_at dksX5_make_11 5 rfl rfl)
theorem dX5_make_324 : decode cX5_make 324 = .ok (.ireturn, 1) := dk_172 (dk_at dksX5_make_11 8 rfl rfl)
theorem dX5_make_325 : decode cX5_make 325 = .ok (.aload_n 1, 1) := dk_43 (dk_at dksX5_make_11 9 rfl rfl)
theorem dX5_make_326 : decode cX5_make 326 = .ok (.aload_n 0, 1) := dk_42 (dk_at dksX5_make_11 10 rfl rfl)
theorem dX5_make_327 : decode cX5_make 327 = .ok (.getfield 17, 3) := dk_180 0 17 (dk_at dksX5_make_11 11 rfl rfl)
theorem dX5_make_330 : decode cX5_make 330 = .ok (.iconst 0, 1) := dk_3 (dk_at dksX5_make_11 14 rfl rfl)
theorem dX5_make_331 : decode cX5_make 331 = .ok (.iaload, 1) := dk_46 (dk_at dksX5_make_11 15 rfl rfl)
theorem dX5_make_332 : decode cX5_make 332 = .ok (.aload_n 0, 1) := dk_42 (dk_at dksX5_make_11 16 rfl rfl)
theorem dX5_make_333 : decode cX5_make 333 = .ok (.getfield 17, 3) := dk_180 0 17 (dk_at dksX5_make_11 17 rfl rfl)
theorem dX5_make_336 : decode cX5_make 336 = .ok (.iconst 1, 1) := dk_4 (dk_at dksX5_make_11 20 rfl rfl)
theorem dX5_make_337 : decode cX5_make 337 = .ok (.iaload, 1) := dk_46 (dk_at dksX5_make_11 21 rfl rfl)
theorem dX5_make_338 : decode cX5_make 338 = .ok (.aload_n 0, 1) := dk_42 (dk_at dksX5_make_11 22 rfl rfl)
theorem dX5_make_339 : decode cX5_make 339 = .ok (.getfield 13, 3) := dk_180 0 13 (dk_at dksX5_make_12 0 rfl rfl)
theorem dX5_make_342 : decode cX5_make 342 = .ok (.invokevirtual 60, 3) := dk_182 0 60 (dk_at dksX5_make_12 3 rfl rfl)
theorem dX5_make_345 : decode cX5_make 345 = .ok (.ireturn, 1) := dk_172 (dk_at dksX5_make_12 6 rfl rfl)
theorem dX5_make_346 : decode cX5_make 346 = .ok (.aload_n 1, 1) := dk_43 (dk_at dksX5_make_12 7 rfl rfl)
theorem dX5_make_347 : decode cX5_make 347 = .ok (.aload_n 0, 1) := dk_42 (dk_at dksX5_make_12 8 rfl rfl)
theorem dX5_make_348 : decode cX5_make 348 = .ok (.getfield 17, 3) := dk_180 0 17 (dk_at dksX5_make_12 9 rfl rfl)
theorem dX5_make_351 : decode cX5_make 351 = .ok (.iconst 0, 1) := dk_3 (dk_at dksX5_make_12 12 rfl rfl)
theorem dX5_make_352 : decode cX5_make 352 = .ok (.iaload, 1) := dk_46 (dk_at dksX5_make_12 13 rfl rfl)
theorem dX5_make_353 : decode cX5_make 353 = .ok (.aload_n 0, 1) := dk_42 (dk_at dksX5_make_12 14 rfl rfl)
theorem dX5_make_354 : decode cX5_make 354 = .ok (.getfield 13, 3) := dk_180 0 13 (dk_at dksX5_make_12 15 rfl rfl)
theorem dX5_make_357 : decode cX5_make 357 = .ok (.invokevirtual 64, 3) := dk_182 0 64 (dk_at dksX5_make_12 18 rfl rfl)
theorem dX5_make_360 : decode cX5_make 360 = .ok (.ireturn, 1) := dk_172 (dk_at dksX5_make_12 21 rfl rfl)
theorem dX5_make_361 : decode cX5_make 361 = .ok (.aload_n 1, 1) := dk_43 (dk_at dksX5_make_12 22 rfl rfl)
theorem dX5_make_362 : decode cX5_make 362 = .ok (.aload_n 0, 1) := dk_42 (dk_at dksX5_make_12 23 rfl rfl)
theorem dX5_make_363 : decode cX5_make 363 = .ok (.getfield 17, 3) := dk_180 0 17 (dk_at dksX5_make_13 0 rfl rfl)
theorem dX5_make_366 : decode cX5_make 366 = .ok (.iconst 0, 1) := dk_3 (dk_at dksX5_make_13 3 rfl rfl)
theorem dX5_make_367 : decode cX5_make 367 = .ok (.iaload, 1) := dk_46 (dk_at dksX5_make_13 4 rfl rfl)
theorem dX5_make_368 : decode cX5_make 368 = .ok (.invokevirtual 68, 3) := dk_182 0 68 (dk_at dksX5_make_13 5 rfl rfl)
theorem dX5_make_371 : decode cX5_make 371 = .ok (.ireturn, 1) := dk_172 (dk_at dksX5_make_13 8 rfl rfl)
theorem dX5_make_372 : decode cX5_make 372 = .ok (.aload_n 1, 1) := dk_43 (dk_at dksX5_make_13 9 rfl rfl)
theorem dX5_make_373 : decode cX5_make 373 = .ok (.aload_n 0, 1) := dk_42 (dk_at dksX5_make_13 10 rfl rfl)
theorem dX5_make_374 : decode cX5_make 374 = .ok (.getfield 17, 3) := dk_180 0 17 (dk_at dksX5_make_13 11 rfl rfl)
theorem dX5_make_377 : decode cX5_make 377 = .ok (.iconst 0, 1) := dk_3 (dk_at dksX5_make_13 14 rfl rfl)
theorem dX5_make_378 : decode cX5_make 378 = .ok (.iaload, 1) := dk_46 (dk_at dksX5_make_13 15 rfl rfl)
theorem dX5_make_379 : decode cX5_make 379 = .ok (.invokevirtual 71, 3) := dk_182 0 71 (dk_at dksX5_make_13 16 rfl rfl)
theorem dX5_make_382 : decode cX5_make 382 = .ok (.ireturn, 1) := dk_172 (dk_at dksX5_make_13 19 rfl rfl)
theorem dX5_make_383 : decode cX5_make 383 = .ok (.aload_n 1, 1) := dk_43 (dk_at dksX5_make_13 20 rfl rfl)
theorem dX5_make_384 : decode cX5_make 384 = .ok (.aload_n 0, 1) := dk_42 (dk_at dksX5_make_13 21 rfl rfl)
theorem dX5_make_385 : decode cX5_make 385 = .ok (.getfield 17, 3) := dk_180 0 17 (dk_at dksX5_make_14 0 rfl rfl)
theorem dX5_make_388 : decode cX5_make 388 = .ok (.iconst 0, 1) := dk_3 (dk_at dksX5_make_14 3 rfl rfl)
theorem dX5_make_389 : decode cX5_make 389 = .ok (.iaload, 1) := dk_46 (dk_at dksX5_make_14 4 rfl rfl)
theorem dX5_make_390 : decode cX5_make 390 = .ok (.invokevirtual 74, 3) := dk_182 0 74 (dk_at dksX5_make_14 5 rfl rfl)
theorem dX5_make_393 : decode cX5_make 393 = .ok (.ireturn, 1) := dk_172 (dk_at dksX5_make_14 8 rfl rfl)
theorem dX5_make_394 : decode cX5_make 394 = .ok (.aload_n 1, 1) := dk_43 (dk_at dksX5_make_14 9 rfl rfl)
theorem dX5_make_395 : decode cX5_make 395 = .ok (.aload_n 0, 1) := dk_42 (dk_at dksX5_make_14 10 rfl rfl)
theorem dX5_make_396 : decode cX5_make 396 = .ok (.getfield 17, 3) := dk_180 0 17 (dk_at dksX5_make_14 11 rfl rfl)
theorem dX5_make_399 : decode cX5_make 399 = .ok (.iconst 0, 1) := dk_3 (dk_at dksX5_make_14 14 rfl rfl)
theorem dX5_make_400 : decode cX5_make 400 = .ok (.iaload, 1) := dk_46 (dk_at dksX5_make_14 15 rfl rfl)
theorem dX5_make_401 : decode cX5_make 401 = .ok (.invokevirtual 77, 3) := dk_182 0 77 (dk_at dksX5_make_14 16 rfl rfl)
theorem dX5_make_404 : decode cX5_make 404 = .ok (.ireturn, 1) := dk_172 (dk_at dksX5_make_14 19 rfl rfl)
theorem q121 : (Jvm.Cond.initialized "MissingMiddles$Order") ∈ lw_all := lw_g (lw_at lw_m1 19 rfl) rfl
theorem q261 : (Jvm.Cond.selects "MissingMiddles$Order" ({ cls := "java/lang/Object", name := "getClass", desc := "()Ljava/lang/Class;" } : Jvm.MethodName) ({ cls := "java/lang/Object", name := "getClass", desc := "()Ljava/lang/Class;" } : Jvm.MethodName)) ∈ lw_all := lw_g (lw_at lw_m1 159 rfl) rfl
theorem q1349 : (Jvm.Cond.instantiable "MissingMiddles$Order" (3 : Nat)) ∈ lw_all := lw_g (lw_at lw_m6 47 rfl) rfl
theorem q1352 : (Jvm.Cond.instanceMethod ({ cls := "MissingMiddles$Order", name := "<init>", desc := "(Ljava/lang/String;Z[I)V" } : Jvm.MethodName)) ∈ lw_all := lw_g (lw_at lw_m6 50 rfl) rfl
theorem q1353 : (Jvm.Cond.code ({ cls := "MissingMiddles$Order", name := "<init>", desc := "(Ljava/lang/String;Z[I)V" } : Jvm.MethodName) prog_7_method_1_code (4 : Nat) (Option.none : Option Jvm.ClassFile.FieldType)) ∈ lw_all := lw_g (lw_at lw_m6 51 rfl) rfl
theorem q1354 : (Jvm.Cond.methodLink "MissingMiddles$Order" (1 : Nat) ({ cls := "java/lang/Object", name := "<init>", desc := "()V" } : Jvm.MethodName)) ∈ lw_all := lw_g (lw_at lw_m6 52 rfl) rfl
theorem q1355 : (Jvm.Cond.fieldLink "MissingMiddles$Order" (7 : Nat) "MissingMiddles$Order" "word" "Ljava/lang/String;") ∈ lw_all := lw_g (lw_at lw_m6 53 rfl) rfl
theorem q1356 : (Jvm.Cond.fieldLink "MissingMiddles$Order" (13 : Nat) "MissingMiddles$Order" "isPlus" "Z") ∈ lw_all := lw_g (lw_at lw_m6 54 rfl) rfl
theorem q1357 : (Jvm.Cond.fieldLink "MissingMiddles$Order" (17 : Nat) "MissingMiddles$Order" "numbers" "[I") ∈ lw_all := lw_g (lw_at lw_m6 55 rfl) rfl
theorem q1358 : (Jvm.Cond.laysFinal "MissingMiddles$Order" "MissingMiddles$Order" "word" "Ljava/lang/String;") ∈ lw_all := lw_g (lw_at lw_m6 56 rfl) rfl
theorem q1359 : (Jvm.Cond.soleField "MissingMiddles$Order" "word") ∈ lw_all := lw_g (lw_at lw_m6 57 rfl) rfl
theorem q1360 : (Jvm.Cond.laysFinal "MissingMiddles$Order" "MissingMiddles$Order" "isPlus" "Z") ∈ lw_all := lw_g (lw_at lw_m6 58 rfl) rfl
theorem q1361 : (Jvm.Cond.soleField "MissingMiddles$Order" "isPlus") ∈ lw_all := lw_g (lw_at lw_m6 59 rfl) rfl
theorem q1362 : (Jvm.Cond.laysFinal "MissingMiddles$Order" "MissingMiddles$Order" "numbers" "[I") ∈ lw_all := lw_g (lw_at lw_m6 60 rfl) rfl
theorem q1363 : (Jvm.Cond.soleField "MissingMiddles$Order" "numbers") ∈ lw_all := lw_g (lw_at lw_m6 61 rfl) rfl
theorem q1364 : (Jvm.Cond.superclass "MissingMiddles$Order" "java/lang/Object") ∈ lw_all := lw_g (lw_at lw_m6 62 rfl) rfl
theorem q1481 : (Jvm.Cond.instanceMethod ({ cls := "MissingMiddles$Order", name := "make", desc := "(LMissingMiddles$Office;)I" } : Jvm.MethodName)) ∈ lw_all := lw_g (lw_at lw_m6 179 rfl) rfl
theorem q1482 : (Jvm.Cond.selects "MissingMiddles$Order" ({ cls := "MissingMiddles$Order", name := "make", desc := "(LMissingMiddles$Office;)I" } : Jvm.MethodName) ({ cls := "MissingMiddles$Order", name := "make", desc := "(LMissingMiddles$Office;)I" } : Jvm.MethodName)) ∈ lw_all := lw_g (lw_at lw_m6 180 rfl) rfl
theorem q1483 : (Jvm.Cond.code ({ cls := "MissingMiddles$Order", name := "make", desc := "(LMissingMiddles$Office;)I" } : Jvm.MethodName) prog_7_method_2_code (4 : Nat) (Option.some Jvm.ClassFile.FieldType.int)) ∈ lw_all := lw_g (lw_at lw_m6 181 rfl) rfl
theorem q1484 : (Jvm.Cond.methodLink "MissingMiddles$Order" (21 : Nat) ({ cls := "java/lang/String", name := "hashCode", desc := "()I" } : Jvm.MethodName)) ∈ lw_all := lw_g (lw_at lw_m6 182 rfl) rfl
theorem q1545 : (Jvm.Cond.stringRef "MissingMiddles$Order" (27 : Nat) "b") ∈ lw_tbl := lw_at lw_m7 3 rfl
theorem q1546 : (Jvm.Cond.methodLink "MissingMiddles$Order" (29 : Nat) ({ cls := "java/lang/String", name := "equals", desc := "(Ljava/lang/Object;)Z" } : Jvm.MethodName)) ∈ lw_all := lw_g (lw_at lw_m7 4 rfl) rfl
theorem q1554 : (Jvm.Cond.stringRef "MissingMiddles$Order" (33 : Nat) "h") ∈ lw_tbl := lw_at lw_m7 12 rfl
theorem q1555 : (Jvm.Cond.stringRef "MissingMiddles$Order" (35 : Nat) "f") ∈ lw_tbl := lw_at lw_m7 13 rfl
theorem q1556 : (Jvm.Cond.stringRef "MissingMiddles$Order" (37 : Nat) "o") ∈ lw_tbl := lw_at lw_m7 14 rfl
theorem q1557 : (Jvm.Cond.stringRef "MissingMiddles$Order" (39 : Nat) "p") ∈ lw_tbl := lw_at lw_m7 15 rfl
theorem q1558 : (Jvm.Cond.stringRef "MissingMiddles$Order" (41 : Nat) "m") ∈ lw_tbl := lw_at lw_m7 16 rfl
theorem q1559 : (Jvm.Cond.stringRef "MissingMiddles$Order" (43 : Nat) "d") ∈ lw_tbl := lw_at lw_m7 17 rfl
theorem q1560 : (Jvm.Cond.stringRef "MissingMiddles$Order" (45 : Nat) "c") ∈ lw_tbl := lw_at lw_m7 18 rfl
theorem q1561 : (Jvm.Cond.methodLink "MissingMiddles$Order" (47 : Nat) ({ cls := "MissingMiddles$Office", name := "come", desc := "(IIIII)I" } : Jvm.MethodName)) ∈ lw_all := lw_g (lw_at lw_m7 19 rfl) rfl
theorem q1650 : (Jvm.Cond.methodLink "MissingMiddles$Order" (53 : Nat) ({ cls := "MissingMiddles$Office", name := "hide", desc := "(IIIII)I" } : Jvm.MethodName)) ∈ lw_all := lw_g (lw_at lw_m7 108 rfl) rfl
theorem q1663 : (Jvm.Cond.methodLink "MissingMiddles$Order" (56 : Nat) ({ cls := "MissingMiddles$Office", name := "find", desc := "(I)I" } : Jvm.MethodName)) ∈ lw_all := lw_g (lw_at lw_m7 121 rfl) rfl
theorem q1689 : (Jvm.Cond.methodLink "MissingMiddles$Order" (60 : Nat) ({ cls := "MissingMiddles$Office", name := "swear", desc := "(IIZ)I" } : Jvm.MethodName)) ∈ lw_all := lw_g (lw_at lw_m7 147 rfl) rfl
theorem q1697 : (Jvm.Cond.methodLink "MissingMiddles$Order" (64 : Nat) ({ cls := "MissingMiddles$Office", name := "prove", desc := "(IZ)I" } : Jvm.MethodName)) ∈ lw_all := lw_g (lw_at lw_m7 155 rfl) rfl
theorem q1711 : (Jvm.Cond.methodLink "MissingMiddles$Order" (68 : Nat) ({ cls := "MissingMiddles$Office", name := "mend", desc := "(I)I" } : Jvm.MethodName)) ∈ lw_all := lw_g (lw_at lw_m7 169 rfl) rfl
theorem q1780 : (Jvm.Cond.selects "MissingMiddles$Order" ({ cls := "java/lang/Object", name := "equals", desc := "(Ljava/lang/Object;)Z" } : Jvm.MethodName) ({ cls := "java/lang/Object", name := "equals", desc := "(Ljava/lang/Object;)Z" } : Jvm.MethodName)) ∈ lw_all := lw_g (lw_at lw_m7 238 rfl) rfl
theorem q1922 : (Jvm.Cond.methodLink "MissingMiddles$Order" (71 : Nat) ({ cls := "MissingMiddles$Office", name := "drop", desc := "(I)I" } : Jvm.MethodName)) ∈ lw_all := lw_g (lw_at lw_m8 140 rfl) rfl
theorem q1934 : (Jvm.Cond.methodLink "MissingMiddles$Order" (74 : Nat) ({ cls := "MissingMiddles$Office", name := "earn", desc := "(I)I" } : Jvm.MethodName)) ∈ lw_all := lw_g (lw_at lw_m8 152 rfl) rfl
theorem q1939 : (Jvm.Cond.methodLink "MissingMiddles$Order" (77 : Nat) ({ cls := "MissingMiddles$Office", name := "tellPrice", desc := "(I)I" } : Jvm.MethodName)) ∈ lw_all := lw_g (lw_at lw_m8 157 rfl) rfl
theorem q3177 : (Jvm.Cond.castable "MissingMiddles$Order" "java/lang/Object") ∈ lw_tbl := lw_at lw_m13 195 rfl
theorem in_X5 : ∀ w ∈ wsX50, w ∈ lw_all := lw_in wsX50 [1358, 1360, 1362] (by decide +kernel) (by decide +kernel)
/-! MissingMiddles$Scrap -/
set_option maxRecDepth 100000
def RX6 : String := "MissingMiddles$Scrap"
def TX6 : u_T := fun k => match k with
  | 0 => ("MissingMiddles$Scrap", "attic", "I", true)
  | 1 => ("MissingMiddles$Scrap", "first", "I", true)
  | 2 => ("MissingMiddles$Scrap", "last", "I", true)
  | 3 => ("MissingMiddles$Scrap", "begin", "I", true)
  | 4 => ("MissingMiddles$Scrap", "end", "I", true)
  | 5 => ("MissingMiddles$Scrap", "oaths", "[I", true)
  | _ => ("MissingMiddles$Scrap", "proof", "I", false)
def tyX6 : Nat → FieldType := fun k => match k with
  | 0 => .int
  | 1 => .int
  | 2 => .int
  | 3 => .int
  | 4 => .int
  | 5 => .array .int
  | _ => .int
abbrev wsX60 : List Cond := u_ws RX6 TX6 7
theorem nmX6 : ∀ a, a < 7 → ∀ b, b < 7 → a ≠ b → (TX6 a).2.1 ≠ (TX6 b).2.1 := by decide +kernel
theorem tyX6_ok : ∀ k, k < 7 → parseFieldDescriptor (TX6 k).2.2.1 = some (tyX6 k) := by decide +kernel
abbrev cX6_isProven : ByteArray := prog_11_method_7_code
def yX6_isProven : MethodName := ⟨RX6, "isProven", "()Z"⟩
def dkwX6_isProven_0 : List UInt8 := [42, 180, 0, 15, 2, 159, 0, 7, 4, 167, 0, 4, 3, 172]
abbrev dktX6_isProven_0 : List UInt8 := dkwX6_isProven_0 ++ []
theorem dksX6_isProven_0 : cX6_isProven.data.toList.drop 0 = dktX6_isProven_0 := by decide +kernel
theorem dX6_isProven_0 : decode cX6_isProven 0 = .ok (.aload_n 0, 1) := dk_42 (dk_at dksX6_isProven_0 0 rfl rfl)
theorem dX6_isProven_1 : decode cX6_isProven 1 = .ok (.getfield 15, 3) := dk_180 0 15 (dk_at dksX6_isProven_0 1 rfl rfl)
theorem dX6_isProven_4 : decode cX6_isProven 4 = .ok (.iconst (-1), 1) := dk_2 (dk_at dksX6_isProven_0 4 rfl rfl)
theorem dX6_isProven_5 : decode cX6_isProven 5 = .ok (.if_icmp .eq 7, 3) := dk_159 0 7 (dk_at dksX6_isProven_0 5 rfl rfl)
theorem dX6_isProven_8 : decode cX6_isProven 8 = .ok (.iconst 1, 1) := dk_4 (dk_at dksX6_isProven_0 8 rfl rfl)
theorem dX6_isProven_9 : decode cX6_isProven 9 = .ok (.goto 4, 3) := dk_167 0 4 (dk_at dksX6_isProven_0 9 rfl rfl)
theorem dX6_isProven_12 : decode cX6_isProven 12 = .ok (.iconst 0, 1) := dk_3 (dk_at dksX6_isProven_0 12 rfl rfl)
theorem dX6_isProven_13 : decode cX6_isProven 13 = .ok (.ireturn, 1) := dk_172 (dk_at dksX6_isProven_0 13 rfl rfl)
abbrev cX6_goesOn : ByteArray := prog_11_method_8_code
def yX6_goesOn : MethodName := ⟨RX6, "goesOn", "(IILMissingMiddles$Book;)Z"⟩
def dkwX6_goesOn_1 : List UInt8 := [163, 0, 7, 4, 167, 0, 4, 3, 172]
abbrev dktX6_goesOn_1 : List UInt8 := dkwX6_goesOn_1 ++ []
def dkwX6_goesOn_0 : List UInt8 := [42, 180, 0, 22, 27, 160, 0, 26, 42, 180, 0, 28, 28, 160, 0, 18, 42, 180, 0, 25, 45, 180, 0, 43]
abbrev dktX6_goesOn_0 : List UInt8 := dkwX6_goesOn_0 ++ dktX6_goesOn_1
theorem dksX6_goesOn_0 : cX6_goesOn.data.toList.drop 0 = dktX6_goesOn_0 := by decide +kernel
theorem dksX6_goesOn_1 : cX6_goesOn.data.toList.drop 24 = dktX6_goesOn_1 := dk_seg dksX6_goesOn_0 24 rfl rfl
theorem dX6_goesOn_0 : decode cX6_goesOn 0 = .ok (.aload_n 0, 1) := dk_42 (dk_at dksX6_goesOn_0 0 rfl rfl)
theorem dX6_goesOn_1 : decode cX6_goesOn 1 = .ok (.getfield 22, 3) := dk_180 0 22 (dk_at dksX6_goesOn_0 1 rfl rfl)
theorem dX6_goesOn_4 : decode cX6_goesOn 4 = .ok (.iload_n 1, 1) := dk_27 (dk_at dksX6_goesOn_0 4 rfl rfl)
theorem dX6_goesOn_5 : decode cX6_goesOn 5 = .ok (.if_icmp .ne 26, 3) := dk_160 0 26 (dk_at dksX6_goesOn_0 5 rfl rfl)
theorem dX6_goesOn_8 : decode cX6_goesOn 8 = .ok (.aload_n 0, 1) := dk_42 (dk_at dksX6_goesOn_0 8 rfl rfl)
theorem dX6_goesOn_9 : decode cX6_goesOn 9 = .ok (.getfield 28, 3) := dk_180 0 28 (dk_at dksX6_goesOn_0 9 rfl rfl)
theorem dX6_goesOn_12 : decode cX6_goesOn 12 = .ok (.iload_n 2, 1) := dk_28 (dk_at dksX6_goesOn_0 12 rfl rfl)
theorem dX6_goesOn_13 : decode cX6_goesOn 13 = .ok (.if_icmp .ne 18, 3) := dk_160 0 18 (dk_at dksX6_goesOn_0 13 rfl rfl)
theorem dX6_goesOn_16 : decode cX6_goesOn 16 = .ok (.aload_n 0, 1) := dk_42 (dk_at dksX6_goesOn_0 16 rfl rfl)
theorem dX6_goesOn_17 : decode cX6_goesOn 17 = .ok (.getfield 25, 3) := dk_180 0 25 (dk_at dksX6_goesOn_0 17 rfl rfl)
theorem dX6_goesOn_20 : decode cX6_goesOn 20 = .ok (.aload_n 3, 1) := dk_45 (dk_at dksX6_goesOn_0 20 rfl rfl)
theorem dX6_goesOn_21 : decode cX6_goesOn 21 = .ok (.getfield 43, 3) := dk_180 0 43 (dk_at dksX6_goesOn_0 21 rfl rfl)
theorem dX6_goesOn_24 : decode cX6_goesOn 24 = .ok (.if_icmp .gt 7, 3) := dk_163 0 7 (dk_at dksX6_goesOn_1 0 rfl rfl)
theorem dX6_goesOn_27 : decode cX6_goesOn 27 = .ok (.iconst 1, 1) := dk_4 (dk_at dksX6_goesOn_1 3 rfl rfl)
theorem dX6_goesOn_28 : decode cX6_goesOn 28 = .ok (.goto 4, 3) := dk_167 0 4 (dk_at dksX6_goesOn_1 4 rfl rfl)
theorem dX6_goesOn_31 : decode cX6_goesOn 31 = .ok (.iconst 0, 1) := dk_3 (dk_at dksX6_goesOn_1 7 rfl rfl)
theorem dX6_goesOn_32 : decode cX6_goesOn 32 = .ok (.ireturn, 1) := dk_172 (dk_at dksX6_goesOn_1 8 rfl rfl)
abbrev cX6_goesBack : ByteArray := prog_11_method_9_code
def yX6_goesBack : MethodName := ⟨RX6, "goesBack", "(IILMissingMiddles$Book;)Z"⟩
def dkwX6_goesBack_1 : List UInt8 := [161, 0, 7, 4, 167, 0, 4, 3, 172]
abbrev dktX6_goesBack_1 : List UInt8 := dkwX6_goesBack_1 ++ []
def dkwX6_goesBack_0 : List UInt8 := [42, 180, 0, 25, 27, 160, 0, 26, 42, 180, 0, 31, 28, 160, 0, 18, 42, 180, 0, 22, 45, 180, 0, 46]
abbrev dktX6_goesBack_0 : List UInt8 := dkwX6_goesBack_0 ++ dktX6_goesBack_1
theorem dksX6_goesBack_0 : cX6_goesBack.data.toList.drop 0 = dktX6_goesBack_0 := by decide +kernel
theorem dksX6_goesBack_1 : cX6_goesBack.data.toList.drop 24 = dktX6_goesBack_1 := dk_seg dksX6_goesBack_0 24 rfl rfl
theorem dX6_goesBack_0 : decode cX6_goesBack 0 = .ok (.aload_n 0, 1) := dk_42 (dk_at dksX6_goesBack_0 0 rfl rfl)
theorem dX6_goesBack_1 : decode cX6_goesBack 1 = .ok (.getfield 25, 3) := dk_180 0 25 (dk_at dksX6_goesBack_0 1 rfl rfl)
theorem dX6_goesBack_4 : decode cX6_goesBack 4 = .ok (.iload_n 1, 1) := dk_27 (dk_at dksX6_goesBack_0 4 rfl rfl)
theorem dX6_goesBack_5 : decode cX6_goesBack 5 = .ok (.if_icmp .ne 26, 3) := dk_160 0 26 (dk_at dksX6_goesBack_0 5 rfl rfl)
theorem dX6_goesBack_8 : decode cX6_goesBack 8 = .ok (.aload_n 0, 1) := dk_42 (dk_at dksX6_goesBack_0 8 rfl rfl)
theorem dX6_goesBack_9 : decode cX6_goesBack 9 = .ok (.getfield 31, 3) := dk_180 0 31 (dk_at dksX6_goesBack_0 9 rfl rfl)
theorem dX6_goesBack_12 : decode cX6_goesBack 12 = .ok (.iload_n 2, 1) := dk_28 (dk_at dksX6_goesBack_0 12 rfl rfl)
theorem dX6_goesBack_13 : decode cX6_goesBack 13 = .ok (.if_icmp .ne 18, 3) := dk_160 0 18 (dk_at dksX6_goesBack_0 13 rfl rfl)
theorem dX6_goesBack_16 : decode cX6_goesBack 16 = .ok (.aload_n 0, 1) := dk_42 (dk_at dksX6_goesBack_0 16 rfl rfl)
theorem dX6_goesBack_17 : decode cX6_goesBack 17 = .ok (.getfield 22, 3) := dk_180 0 22 (dk_at dksX6_goesBack_0 17 rfl rfl)
theorem dX6_goesBack_20 : decode cX6_goesBack 20 = .ok (.aload_n 3, 1) := dk_45 (dk_at dksX6_goesBack_0 20 rfl rfl)
theorem dX6_goesBack_21 : decode cX6_goesBack 21 = .ok (.getfield 46, 3) := dk_180 0 46 (dk_at dksX6_goesBack_0 21 rfl rfl)
theorem dX6_goesBack_24 : decode cX6_goesBack 24 = .ok (.if_icmp .lt 7, 3) := dk_161 0 7 (dk_at dksX6_goesBack_1 0 rfl rfl)
theorem dX6_goesBack_27 : decode cX6_goesBack 27 = .ok (.iconst 1, 1) := dk_4 (dk_at dksX6_goesBack_1 3 rfl rfl)
theorem dX6_goesBack_28 : decode cX6_goesBack 28 = .ok (.goto 4, 3) := dk_167 0 4 (dk_at dksX6_goesBack_1 4 rfl rfl)
theorem dX6_goesBack_31 : decode cX6_goesBack 31 = .ok (.iconst 0, 1) := dk_3 (dk_at dksX6_goesBack_1 7 rfl rfl)
theorem dX6_goesBack_32 : decode cX6_goesBack 32 = .ok (.ireturn, 1) := dk_172 (dk_at dksX6_goesBack_1 8 rfl rfl)
abbrev cX6_copy : ByteArray := prog_11_method_2_code
def yX6_copy : MethodName := ⟨RX6, "copy", "()LMissingMiddles$Scrap;"⟩
def dkwX6_copy_2 : List UInt8 := [181, 0, 15, 43, 176]
abbrev dktX6_copy_2 : List UInt8 := dkwX6_copy_2 ++ []
def dkwX6_copy_1 : List UInt8 := [183, 0, 34, 76, 42, 180, 0, 9, 3, 43, 180, 0, 9, 3, 8, 184, 0, 37, 43, 42, 180, 0, 15]
abbrev dktX6_copy_1 : List UInt8 := dkwX6_copy_1 ++ dktX6_copy_2
def dkwX6_copy_0 : List UInt8 := [187, 0, 10, 89, 42, 180, 0, 19, 42, 180, 0, 22, 42, 180, 0, 25, 42, 180, 0, 28, 42, 180, 0, 31]
abbrev dktX6_copy_0 : List UInt8 := dkwX6_copy_0 ++ dktX6_copy_1
theorem dksX6_copy_0 : cX6_copy.data.toList.drop 0 = dktX6_copy_0 := by decide +kernel
theorem dksX6_copy_1 : cX6_copy.data.toList.drop 24 = dktX6_copy_1 := dk_seg dksX6_copy_0 24 rfl rfl
theorem dksX6_copy_2 : cX6_copy.data.toList.drop 47 = dktX6_copy_2 := dk_seg dksX6_copy_1 23 rfl rfl
theorem dX6_copy_0 : decode cX6_copy 0 = .ok (.new 10, 3) := dk_187 0 10 (dk_at dksX6_copy_0 0 rfl rfl)
theorem dX6_copy_3 : decode cX6_copy 3 = .ok (.dup, 1) := dk_89 (dk_at dksX6_copy_0 3 rfl rfl)
theorem dX6_copy_4 : decode cX6_copy 4 = .ok (.aload_n 0, 1) := dk_42 (dk_at dksX6_copy_0 4 rfl rfl)
theorem dX6_copy_5 : decode cX6_copy 5 = .ok (.getfield 19, 3) := dk_180 0 19 (dk_at dksX6_copy_0 5 rfl rfl)
theorem dX6_copy_8 : decode cX6_copy 8 = .ok (.aload_n 0, 1) := dk_42 (dk_at dksX6_copy_0 8 rfl rfl)
theorem dX6_copy_9 : decode cX6_copy 9 = .ok (.getfield 22, 3) := dk_180 0 22 (dk_at dksX6_copy_0 9 rfl rfl)
theorem dX6_copy_12 : decode cX6_copy 12 = .ok (.aload_n 0, 1) := dk_42 (dk_at dksX6_copy_0 12 rfl rfl)
theorem dX6_copy_13 : decode cX6_copy 13 = .ok (.getfield 25, 3) := dk_180 0 25 (dk_at dksX6_copy_0 13 rfl rfl)
theorem dX6_copy_16 : decode cX6_copy 16 = .ok (.aload_n 0, 1) := dk_42 (dk_at dksX6_copy_0 16 rfl rfl)
theorem dX6_copy_17 : decode cX6_copy 17 = .ok (.getfield 28, 3) := dk_180 0 28 (dk_at dksX6_copy_0 17 rfl rfl)
theorem dX6_copy_20 : decode cX6_copy 20 = .ok (.aload_n 0, 1) := dk_42 (dk_at dksX6_copy_0 20 rfl rfl)
theorem dX6_copy_21 : decode cX6_copy 21 = .ok (.getfield 31, 3) := dk_180 0 31 (dk_at dksX6_copy_0 21 rfl rfl)
theorem dX6_copy_24 : decode cX6_copy 24 = .ok (.invokespecial 34, 3) := dk_183 0 34 (dk_at dksX6_copy_1 0 rfl rfl)
theorem dX6_copy_27 : decode cX6_copy 27 = .ok (.astore_n 1, 1) := dk_76 (dk_at dksX6_copy_1 3 rfl rfl)
theorem dX6_copy_28 : decode cX6_copy 28 = .ok (.aload_n 0, 1) := dk_42 (dk_at dksX6_copy_1 4 rfl rfl)
theorem dX6_copy_29 : decode cX6_copy 29 = .ok (.getfield 9, 3) := dk_180 0 9 (dk_at dksX6_copy_1 5 rfl rfl)
theorem dX6_copy_32 : decode cX6_copy 32 = .ok (.iconst 0, 1) := dk_3 (dk_at dksX6_copy_1 8 rfl rfl)
theorem dX6_copy_33 : decode cX6_copy 33 = .ok (.aload_n 1, 1) := dk_43 (dk_at dksX6_copy_1 9 rfl rfl)
theorem dX6_copy_34 : decode cX6_copy 34 = .ok (.getfield 9, 3) := dk_180 0 9 (dk_at dksX6_copy_1 10 rfl rfl)
theorem dX6_copy_37 : decode cX6_copy 37 = .ok (.iconst 0, 1) := dk_3 (dk_at dksX6_copy_1 13 rfl rfl)
theorem dX6_copy_38 : decode cX6_copy 38 = .ok (.iconst 5, 1) := dk_8 (dk_at dksX6_copy_1 14 rfl rfl)
theorem dX6_copy_39 : decode cX6_copy 39 = .ok (.invokestatic 37, 3) := dk_184 0 37 (dk_at dksX6_copy_1 15 rfl rfl)
theorem dX6_copy_42 : decode cX6_copy 42 = .ok (.aload_n 1, 1) := dk_43 (dk_at dksX6_copy_1 18 rfl rfl)
theorem dX6_copy_43 : decode cX6_copy 43 = .ok (.aload_n 0, 1) := dk_42 (dk_at dksX6_copy_1 19 rfl rfl)
theorem dX6_copy_44 : decode cX6_copy 44 = .ok (.getfield 15, 3) := dk_180 0 15 (dk_at dksX6_copy_1 20 rfl rfl)
theorem dX6_copy_47 : decode cX6_copy 47 = .ok (.putfield 15, 3) := dk_181 0 15 (dk_at dksX6_copy_2 0 rfl rfl)
theorem dX6_copy_50 : decode cX6_copy 50 = .ok (.aload_n 1, 1) := dk_43 (dk_at dksX6_copy_2 3 rfl rfl)
theorem dX6_copy_51 : decode cX6_copy 51 = .ok (.areturn, 1) := dk_176 (dk_at dksX6_copy_2 4 rfl rfl)
abbrev cX6_init : ByteArray := prog_11_method_1_code
def yX6_init : MethodName := ⟨RX6, "<init>", "(IIIII)V"⟩
def dkwX6_init_2 : List UInt8 := [21, 6, 8, 162, 0, 17, 42, 180, 0, 9, 21, 6, 2, 79, 132, 6, 1, 167, 255, 239, 177]
abbrev dktX6_init_2 : List UInt8 := dkwX6_init_2 ++ []
def dkwX6_init_1 : List UInt8 := [181, 0, 22, 42, 29, 181, 0, 25, 42, 21, 4, 181, 0, 28, 42, 21, 5, 181, 0, 31, 3, 54, 6]
abbrev dktX6_init_1 : List UInt8 := dkwX6_init_1 ++ dktX6_init_2
def dkwX6_init_0 : List UInt8 := [42, 183, 0, 3, 42, 8, 188, 10, 181, 0, 9, 42, 2, 181, 0, 15, 42, 27, 181, 0, 19, 42, 28]
abbrev dktX6_init_0 : List UInt8 := dkwX6_init_0 ++ dktX6_init_1
theorem dksX6_init_0 : cX6_init.data.toList.drop 0 = dktX6_init_0 := by decide +kernel
theorem dksX6_init_1 : cX6_init.data.toList.drop 23 = dktX6_init_1 := dk_seg dksX6_init_0 23 rfl rfl
theorem dksX6_init_2 : cX6_init.data.toList.drop 46 = dktX6_init_2 := dk_seg dksX6_init_1 23 rfl rfl
theorem dX6_init_0 : decode cX6_init 0 = .ok (.aload_n 0, 1) := dk_42 (dk_at dksX6_init_0 0 rfl rfl)
theorem dX6_init_1 : decode cX6_init 1 = .ok (.invokespecial 3, 3) := dk_183 0 3 (dk_at dksX6_init_0 1 rfl rfl)
theorem dX6_init_4 : decode cX6_init 4 = .ok (.aload_n 0, 1) := dk_42 (dk_at dksX6_init_0 4 rfl rfl)
theorem dX6_init_5 : decode cX6_init 5 = .ok (.iconst 5, 1) := dk_8 (dk_at dksX6_init_0 5 rfl rfl)
theorem dX6_init_6 : decode cX6_init 6 = .ok (.newarray .int, 2) := dk_188_10 (dk_at dksX6_init_0 6 rfl rfl)
theorem dX6_init_8 : decode cX6_init 8 = .ok (.putfield 9, 3) := dk_181 0 9 (dk_at dksX6_init_0 8 rfl rfl)
theorem dX6_init_11 : decode cX6_init 11 = .ok (.aload_n 0, 1) := dk_42 (dk_at dksX6_init_0 11 rfl rfl)
theorem dX6_init_12 : decode cX6_init 12 = .ok (.iconst (-1), 1) := dk_2 (dk_at dksX6_init_0 12 rfl rfl)
theorem dX6_init_13 : decode cX6_init 13 = .ok (.putfield 15, 3) := dk_181 0 15 (dk_at dksX6_init_0 13 rfl rfl)
theorem dX6_init_16 : decode cX6_init 16 = .ok (.aload_n 0, 1) := dk_42 (dk_at dksX6_init_0 16 rfl rfl)
theorem dX6_init_17 : decode cX6_init 17 = .ok (.iload_n 1, 1) := dk_27 (dk_at dksX6_init_0 17 rfl rfl)
theorem dX6_init_18 : decode cX6_init 18 = .ok (.putfield 19, 3) := dk_181 0 19 (dk_at dksX6_init_0 18 rfl rfl)
theorem dX6_init_21 : decode cX6_init 21 = .ok (.aload_n 0, 1) := dk_42 (dk_at dksX6_init_0 21 rfl rfl)
theorem dX6_init_22 : decode cX6_init 22 = .ok (.iload_n 2, 1) := dk_28 (dk_at dksX6_init_0 22 rfl rfl)
theorem dX6_init_23 : decode cX6_init 23 = .ok (.putfield 22, 3) := dk_181 0 22 (dk_at dksX6_init_1 0 rfl rfl)
theorem dX6_init_26 : decode cX6_init 26 = .ok (.aload_n 0, 1) := dk_42 (dk_at dksX6_init_1 3 rfl rfl)
theorem dX6_init_27 : decode cX6_init 27 = .ok (.iload_n 3, 1) := dk_29 (dk_at dksX6_init_1 4 rfl rfl)
theorem dX6_init_28 : decode cX6_init 28 = .ok (.putfield 25, 3) := dk_181 0 25 (dk_at dksX6_init_1 5 rfl rfl)
theorem dX6_init_31 : decode cX6_init 31 = .ok (.aload_n 0, 1) := dk_42 (dk_at dksX6_init_1 8 rfl rfl)
theorem dX6_init_32 : decode cX6_init 32 = .ok (.iload 4, 2) := dk_21 4 (dk_at dksX6_init_1 9 rfl rfl)
theorem dX6_init_34 : decode cX6_init 34 = .ok (.putfield 28, 3) := dk_181 0 28 (dk_at dksX6_init_1 11 rfl rfl)
theorem dX6_init_37 : decode cX6_init 37 = .ok (.aload_n 0, 1) := dk_42 (dk_at dksX6_init_1 14 rfl rfl)
theorem dX6_init_38 : decode cX6_init 38 = .ok (.iload 5, 2) := dk_21 5 (dk_at dksX6_init_1 15 rfl rfl)
theorem dX6_init_40 : decode cX6_init 40 = .ok (.putfield 31, 3) := dk_181 0 31 (dk_at dksX6_init_1 17 rfl rfl)
theorem dX6_init_43 : decode cX6_init 43 = .ok (.iconst 0, 1) := dk_3 (dk_at dksX6_init_1 20 rfl rfl)
theorem dX6_init_44 : decode cX6_init 44 = .ok (.istore 6, 2) := dk_54 6 (dk_at dksX6_init_1 21 rfl rfl)
theorem dX6_init_46 : decode cX6_init 46 = .ok (.iload 6, 2) := dk_21 6 (dk_at dksX6_init_2 0 rfl rfl)
theorem dX6_init_48 : decode cX6_init 48 = .ok (.iconst 5, 1) := dk_8 (dk_at dksX6_init_2 2 rfl rfl)
theorem dX6_init_49 : decode cX6_init 49 = .ok (.if_icmp .ge 17, 3) := dk_162 0 17 (dk_at dksX6_init_2 3 rfl rfl)
theorem dX6_init_52 : decode cX6_init 52 = .ok (.aload_n 0, 1) := dk_42 (dk_at dksX6_init_2 6 rfl rfl)
theorem dX6_init_53 : decode cX6_init 53 = .ok (.getfield 9, 3) := dk_180 0 9 (dk_at dksX6_init_2 7 rfl rfl)
theorem dX6_init_56 : decode cX6_init 56 = .ok (.iload 6, 2) := dk_21 6 (dk_at dksX6_init_2 10 rfl rfl)
theorem dX6_init_58 : decode cX6_init 58 = .ok (.iconst (-1), 1) := dk_2 (dk_at dksX6_init_2 12 rfl rfl)
theorem dX6_init_59 : decode cX6_init 59 = .ok (.iastore, 1) := dk_79 (dk_at dksX6_init_2 13 rfl rfl)
theorem dX6_init_60 : decode cX6_init 60 = .ok (.iinc 6 1, 3) := dk_132 6 1 (dk_at dksX6_init_2 14 rfl rfl)
theorem dX6_init_63 : decode cX6_init 63 = .ok (.goto (-17), 3) := dk_167 255 239 (dk_at dksX6_init_2 17 rfl rfl)
theorem dX6_init_66 : decode cX6_init 66 = .ok (.return_, 1) := dk_177 (dk_at dksX6_init_2 20 rfl rfl)
abbrev cX6_swore : ByteArray := prog_11_method_10_code
def yX6_swore : MethodName := ⟨RX6, "swore", "(I)I"⟩
def dkwX6_swore_2 : List UInt8 := [172]
abbrev dktX6_swore_2 : List UInt8 := dkwX6_swore_2 ++ []
def dkwX6_swore_1 : List UInt8 := [46, 54, 6, 28, 21, 6, 27, 160, 0, 7, 4, 167, 0, 4, 3, 96, 61, 132, 5, 1, 167, 255, 226, 28]
abbrev dktX6_swore_1 : List UInt8 := dkwX6_swore_1 ++ dktX6_swore_2
def dkwX6_swore_0 : List UInt8 := [3, 61, 42, 180, 0, 9, 78, 45, 190, 54, 4, 3, 54, 5, 21, 5, 21, 4, 162, 0, 29, 45, 21, 5]
abbrev dktX6_swore_0 : List UInt8 := dkwX6_swore_0 ++ dktX6_swore_1
theorem dksX6_swore_0 : cX6_swore.data.toList.drop 0 = dktX6_swore_0 := by decide +kernel
theorem dksX6_swore_1 : cX6_swore.data.toList.drop 24 = dktX6_swore_1 := dk_seg dksX6_swore_0 24 rfl rfl
theorem dksX6_swore_2 : cX6_swore.data.toList.drop 48 = dktX6_swore_2 := dk_seg dksX6_swore_1 24 rfl rfl
theorem dX6_swore_0 : decode cX6_swore 0 = .ok (.iconst 0, 1) := dk_3 (dk_at dksX6_swore_0 0 rfl rfl)
theorem dX6_swore_1 : decode cX6_swore 1 = .ok (.istore_n 2, 1) := dk_61 (dk_at dksX6_swore_0 1 rfl rfl)
theorem dX6_swore_2 : decode cX6_swore 2 = .ok (.aload_n 0, 1) := dk_42 (dk_at dksX6_swore_0 2 rfl rfl)
theorem dX6_swore_3 : decode cX6_swore 3 = .ok (.getfield 9, 3) := dk_180 0 9 (dk_at dksX6_swore_0 3 rfl rfl)
theorem dX6_swore_6 : decode cX6_swore 6 = .ok (.astore_n 3, 1) := dk_78 (dk_at dksX6_swore_0 6 rfl rfl)
theorem dX6_swore_7 : decode cX6_swore 7 = .ok (.aload_n 3, 1) := dk_45 (dk_at dksX6_swore_0 7 rfl rfl)
theorem dX6_swore_8 : decode cX6_swore 8 = .ok (.arraylength, 1) := dk_190 (dk_at dksX6_swore_0 8 rfl rfl)
theorem dX6_swore_9 : decode cX6_swore 9 = .ok (.istore 4, 2) := dk_54 4 (dk_at dksX6_swore_0 9 rfl rfl)
theorem dX6_swore_11 : decode cX6_swore 11 = .ok (.iconst 0, 1) := dk_3 (dk_at dksX6_swore_0 11 rfl rfl)
theorem dX6_swore_12 : decode cX6_swore 12 = .ok (.istore 5, 2) := dk_54 5 (dk_at dksX6_swore_0 12 rfl rfl)
theorem dX6_swore_14 : decode cX6_swore 14 = .ok (.iload 5, 2) := dk_21 5 (dk_at dksX6_swore_0 14 rfl rfl)
theorem dX6_swore_16 : decode cX6_swore 16 = .ok (.iload 4, 2) := dk_21 4 (dk_at dksX6_swore_0 16 rfl rfl)
theorem dX6_swore_18 : decode cX6_swore 18 = .ok (.if_icmp .ge 29, 3) := dk_162 0 29 (dk_at dksX6_swore_0 18 rfl rfl)
theorem dX6_swore_21 : decode cX6_swore 21 = .ok (.aload_n 3, 1) := dk_45 (dk_at dksX6_swore_0 21 rfl rfl)
theorem dX6_swore_22 : decode cX6_swore 22 = .ok (.iload 5, 2) := dk_21 5 (dk_at dksX6_swore_0 22 rfl rfl)
theorem dX6_swore_24 : decode cX6_swore 24 = .ok (.iaload, 1) := dk_46 (dk_at dksX6_swore_1 0 rfl rfl)
theorem dX6_swore_25 : decode cX6_swore 25 = .ok (.istore 6, 2) := dk_54 6 (dk_at dksX6_swore_1 1 rfl rfl)
theorem dX6_swore_27 : decode cX6_swore 27 = .ok (.iload_n 2, 1) := dk_28 (dk_at dksX6_swore_1 3 rfl rfl)
theorem dX6_swore_28 : decode cX6_swore 28 = .ok (.iload 6, 2) := dk_21 6 (dk_at dksX6_swore_1 4 rfl rfl)
theorem dX6_swore_30 : decode cX6_swore 30 = .ok (.iload_n 1, 1) := dk_27 (dk_at dksX6_swore_1 6 rfl rfl)
theorem dX6_swore_31 : decode cX6_swore 31 = .ok (.if_icmp .ne 7, 3) := dk_160 0 7 (dk_at dksX6_swore_1 7 rfl rfl)
theorem dX6_swore_34 : decode cX6_swore 34 = .ok (.iconst 1, 1) := dk_4 (dk_at dksX6_swore_1 10 rfl rfl)
theorem dX6_swore_35 : decode cX6_swore 35 = .ok (.goto 4, 3) := dk_167 0 4 (dk_at dksX6_swore_1 11 rfl rfl)
theorem dX6_swore_38 : decode cX6_swore 38 = .ok (.iconst 0, 1) := dk_3 (dk_at dksX6_swore_1 14 rfl rfl)
theorem dX6_swore_39 : decode cX6_swore 39 = .ok (.iadd, 1) := dk_96 (dk_at dksX6_swore_1 15 rfl rfl)
theorem dX6_swore_40 : decode cX6_swore 40 = .ok (.istore_n 2, 1) := dk_61 (dk_at dksX6_swore_1 16 rfl rfl)
theorem dX6_swore_41 : decode cX6_swore 41 = .ok (.iinc 5 1, 3) := dk_132 5 1 (dk_at dksX6_swore_1 17 rfl rfl)
theorem dX6_swore_44 : decode cX6_swore 44 = .ok (.goto (-30), 3) := dk_167 255 226 (dk_at dksX6_swore_1 20 rfl rfl)
theorem dX6_swore_47 : decode cX6_swore 47 = .ok (.iload_n 2, 1) := dk_28 (dk_at dksX6_swore_1 23 rfl rfl)
theorem dX6_swore_48 : decode cX6_swore 48 = .ok (.ireturn, 1) := dk_172 (dk_at dksX6_swore_2 0 rfl rfl)
abbrev cX6_last : ByteArray := prog_11_method_4_code
def yX6_last : MethodName := ⟨RX6, "last", "()I"⟩
theorem dX6_last_0 : decode cX6_last 0 = .ok (.aload_n 0, 1) := by decide +kernel
theorem dX6_last_1 : decode cX6_last 1 = .ok (.getfield 25, 3) := by decide +kernel
theorem dX6_last_4 : decode cX6_last 4 = .ok (.ireturn, 1) := by decide +kernel
abbrev cX6_first : ByteArray := prog_11_method_3_code
def yX6_first : MethodName := ⟨RX6, "first", "()I"⟩
theorem dX6_first_0 : decode cX6_first 0 = .ok (.aload_n 0, 1) := by decide +kernel
theorem dX6_first_1 : decode cX6_first 1 = .ok (.getfield 22, 3) := by decide +kernel
theorem dX6_first_4 : decode cX6_first 4 = .ok (.ireturn, 1) := by decide +kernel
abbrev cX6_begin : ByteArray := prog_11_method_5_code
def yX6_begin : MethodName := ⟨RX6, "begin", "()I"⟩
theorem dX6_begin_0 : decode cX6_begin 0 = .ok (.aload_n 0, 1) := by decide +kernel
theorem dX6_begin_1 : decode cX6_begin 1 = .ok (.getfield 28, 3) := by decide +kernel
theorem dX6_begin_4 : decode cX6_begin 4 = .ok (.ireturn, 1) := by decide +kernel
abbrev cX6_end : ByteArray := prog_11_method_6_code
def yX6_end : MethodName := ⟨RX6, "end", "()I"⟩
theorem dX6_end_0 : decode cX6_end 0 = .ok (.aload_n 0, 1) := by decide +kernel
theorem dX6_end_1 : decode cX6_end 1 = .ok (.getfield 31, 3) := by decide +kernel
theorem dX6_end_4 : decode cX6_end 4 = .ok (.ireturn, 1) := by decide +kernel
theorem q134 : (Jvm.Cond.initialized "MissingMiddles$Scrap") ∈ lw_all := lw_g (lw_at lw_m1 32 rfl) rfl
theorem q265 : (Jvm.Cond.selects "MissingMiddles$Scrap" ({ cls := "java/lang/Object", name := "getClass", desc := "()Ljava/lang/Class;" } : Jvm.MethodName) ({ cls := "java/lang/Object", name := "getClass", desc := "()Ljava/lang/Class;" } : Jvm.MethodName)) ∈ lw_all := lw_g (lw_at lw_m1 163 rfl) rfl
theorem q491 : (Jvm.Cond.instanceMethod ({ cls := "MissingMiddles$Scrap", name := "isProven", desc := "()Z" } : Jvm.MethodName)) ∈ lw_all := lw_g (lw_at lw_m2 149 rfl) rfl
theorem q492 : (Jvm.Cond.selects "MissingMiddles$Scrap" ({ cls := "MissingMiddles$Scrap", name := "isProven", desc := "()Z" } : Jvm.MethodName) ({ cls := "MissingMiddles$Scrap", name := "isProven", desc := "()Z" } : Jvm.MethodName)) ∈ lw_all := lw_g (lw_at lw_m2 150 rfl) rfl
theorem q493 : (Jvm.Cond.code ({ cls := "MissingMiddles$Scrap", name := "isProven", desc := "()Z" } : Jvm.MethodName) prog_11_method_7_code (1 : Nat) (Option.some Jvm.ClassFile.FieldType.boolean)) ∈ lw_all := lw_g (lw_at lw_m2 151 rfl) rfl
theorem q1017 : (Jvm.Cond.instanceMethod ({ cls := "MissingMiddles$Scrap", name := "goesOn", desc := "(IILMissingMiddles$Book;)Z" } : Jvm.MethodName)) ∈ lw_all := lw_g (lw_at lw_m4 195 rfl) rfl
theorem q1018 : (Jvm.Cond.selects "MissingMiddles$Scrap" ({ cls := "MissingMiddles$Scrap", name := "goesOn", desc := "(IILMissingMiddles$Book;)Z" } : Jvm.MethodName) ({ cls := "MissingMiddles$Scrap", name := "goesOn", desc := "(IILMissingMiddles$Book;)Z" } : Jvm.MethodName)) ∈ lw_all := lw_g (lw_at lw_m4 196 rfl) rfl
theorem q1019 : (Jvm.Cond.code ({ cls := "MissingMiddles$Scrap", name := "goesOn", desc := "(IILMissingMiddles$Book;)Z" } : Jvm.MethodName) prog_11_method_8_code (4 : Nat) (Option.some Jvm.ClassFile.FieldType.boolean)) ∈ lw_all := lw_g (lw_at lw_m4 197 rfl) rfl
theorem q1099 : (Jvm.Cond.instanceMethod ({ cls := "MissingMiddles$Scrap", name := "goesBack", desc := "(IILMissingMiddles$Book;)Z" } : Jvm.MethodName)) ∈ lw_all := lw_g (lw_at lw_m5 37 rfl) rfl
theorem q1100 : (Jvm.Cond.selects "MissingMiddles$Scrap" ({ cls := "MissingMiddles$Scrap", name := "goesBack", desc := "(IILMissingMiddles$Book;)Z" } : Jvm.MethodName) ({ cls := "MissingMiddles$Scrap", name := "goesBack", desc := "(IILMissingMiddles$Book;)Z" } : Jvm.MethodName)) ∈ lw_all := lw_g (lw_at lw_m5 38 rfl) rfl
theorem q1101 : (Jvm.Cond.code ({ cls := "MissingMiddles$Scrap", name := "goesBack", desc := "(IILMissingMiddles$Book;)Z" } : Jvm.MethodName) prog_11_method_9_code (4 : Nat) (Option.some Jvm.ClassFile.FieldType.boolean)) ∈ lw_all := lw_g (lw_at lw_m5 39 rfl) rfl
theorem q1419 : (Jvm.Cond.instanceMethod ({ cls := "MissingMiddles$Scrap", name := "copy", desc := "()LMissingMiddles$Scrap;" } : Jvm.MethodName)) ∈ lw_all := lw_g (lw_at lw_m6 117 rfl) rfl
theorem q1420 : (Jvm.Cond.selects "MissingMiddles$Scrap" ({ cls := "MissingMiddles$Scrap", name := "copy", desc := "()LMissingMiddles$Scrap;" } : Jvm.MethodName) ({ cls := "MissingMiddles$Scrap", name := "copy", desc := "()LMissingMiddles$Scrap;" } : Jvm.MethodName)) ∈ lw_all := lw_g (lw_at lw_m6 118 rfl) rfl
theorem q1421 : (Jvm.Cond.code ({ cls := "MissingMiddles$Scrap", name := "copy", desc := "()LMissingMiddles$Scrap;" } : Jvm.MethodName) prog_11_method_2_code (2 : Nat) (Option.some (Jvm.ClassFile.FieldType.object "MissingMiddles$Scrap"))) ∈ lw_all := lw_g (lw_at lw_m6 119 rfl) rfl
theorem q1422 : (Jvm.Cond.classLink "MissingMiddles$Scrap" (10 : Nat) "MissingMiddles$Scrap") ∈ lw_all := lw_g (lw_at lw_m6 120 rfl) rfl
theorem q1423 : (Jvm.Cond.instantiable "MissingMiddles$Scrap" (7 : Nat)) ∈ lw_all := lw_g (lw_at lw_m6 121 rfl) rfl
theorem q1424 : (Jvm.Cond.methodLink "MissingMiddles$Scrap" (34 : Nat) ({ cls := "MissingMiddles$Scrap", name := "<init>", desc := "(IIIII)V" } : Jvm.MethodName)) ∈ lw_all := lw_g (lw_at lw_m6 122 rfl) rfl
theorem q1425 : (Jvm.Cond.instanceMethod ({ cls := "MissingMiddles$Scrap", name := "<init>", desc := "(IIIII)V" } : Jvm.MethodName)) ∈ lw_all := lw_g (lw_at lw_m6 123 rfl) rfl
theorem q1426 : (Jvm.Cond.code ({ cls := "MissingMiddles$Scrap", name := "<init>", desc := "(IIIII)V" } : Jvm.MethodName) prog_11_method_1_code (7 : Nat) (Option.none : Option Jvm.ClassFile.FieldType)) ∈ lw_all := lw_g (lw_at lw_m6 124 rfl) rfl
theorem q1427 : (Jvm.Cond.methodLink "MissingMiddles$Scrap" (3 : Nat) ({ cls := "java/lang/Object", name := "<init>", desc := "()V" } : Jvm.MethodName)) ∈ lw_all := lw_g (lw_at lw_m6 125 rfl) rfl
theorem q1428 : (Jvm.Cond.fieldLink "MissingMiddles$Scrap" (19 : Nat) "MissingMiddles$Scrap" "attic" "I") ∈ lw_all := lw_g (lw_at lw_m6 126 rfl) rfl
theorem q1430 : (Jvm.Cond.fieldLink "MissingMiddles$Scrap" (22 : Nat) "MissingMiddles$Scrap" "first" "I") ∈ lw_all := lw_g (lw_at lw_m6 128 rfl) rfl
theorem q1433 : (Jvm.Cond.fieldLink "MissingMiddles$Scrap" (25 : Nat) "MissingMiddles$Scrap" "last" "I") ∈ lw_all := lw_g (lw_at lw_m6 131 rfl) rfl
theorem q1436 : (Jvm.Cond.fieldLink "MissingMiddles$Scrap" (28 : Nat) "MissingMiddles$Scrap" "begin" "I") ∈ lw_all := lw_g (lw_at lw_m6 134 rfl) rfl
theorem q1439 : (Jvm.Cond.fieldLink "MissingMiddles$Scrap" (31 : Nat) "MissingMiddles$Scrap" "end" "I") ∈ lw_all := lw_g (lw_at lw_m6 137 rfl) rfl
theorem q1442 : (Jvm.Cond.fieldLink "MissingMiddles$Scrap" (9 : Nat) "MissingMiddles$Scrap" "oaths" "[I") ∈ lw_all := lw_g (lw_at lw_m6 140 rfl) rfl
theorem q1445 : (Jvm.Cond.fieldLink "MissingMiddles$Scrap" (15 : Nat) "MissingMiddles$Scrap" "proof" "I") ∈ lw_all := lw_g (lw_at lw_m6 143 rfl) rfl
theorem q1447 : (Jvm.Cond.laysFinal "MissingMiddles$Scrap" "MissingMiddles$Scrap" "attic" "I") ∈ lw_all := lw_g (lw_at lw_m6 145 rfl) rfl
theorem q1448 : (Jvm.Cond.soleField "MissingMiddles$Scrap" "attic") ∈ lw_all := lw_g (lw_at lw_m6 146 rfl) rfl
theorem q1449 : (Jvm.Cond.laysFinal "MissingMiddles$Scrap" "MissingMiddles$Scrap" "first" "I") ∈ lw_all := lw_g (lw_at lw_m6 147 rfl) rfl
theorem q1450 : (Jvm.Cond.soleField "MissingMiddles$Scrap" "first") ∈ lw_all := lw_g (lw_at lw_m6 148 rfl) rfl
theorem q1451 : (Jvm.Cond.laysFinal "MissingMiddles$Scrap" "MissingMiddles$Scrap" "last" "I") ∈ lw_all := lw_g (lw_at lw_m6 149 rfl) rfl
theorem q1452 : (Jvm.Cond.soleField "MissingMiddles$Scrap" "last") ∈ lw_all := lw_g (lw_at lw_m6 150 rfl) rfl
theorem q1453 : (Jvm.Cond.laysFinal "MissingMiddles$Scrap" "MissingMiddles$Scrap" "begin" "I") ∈ lw_all := lw_g (lw_at lw_m6 151 rfl) rfl
theorem q1454 : (Jvm.Cond.soleField "MissingMiddles$Scrap" "begin") ∈ lw_all := lw_g (lw_at lw_m6 152 rfl) rfl
theorem q1455 : (Jvm.Cond.laysFinal "MissingMiddles$Scrap" "MissingMiddles$Scrap" "end" "I") ∈ lw_all := lw_g (lw_at lw_m6 153 rfl) rfl
theorem q1456 : (Jvm.Cond.soleField "MissingMiddles$Scrap" "end") ∈ lw_all := lw_g (lw_at lw_m6 154 rfl) rfl
theorem q1457 : (Jvm.Cond.laysFinal "MissingMiddles$Scrap" "MissingMiddles$Scrap" "oaths" "[I") ∈ lw_all := lw_g (lw_at lw_m6 155 rfl) rfl
theorem q1458 : (Jvm.Cond.soleField "MissingMiddles$Scrap" "oaths") ∈ lw_all := lw_g (lw_at lw_m6 156 rfl) rfl
theorem q1459 : (Jvm.Cond.lays "MissingMiddles$Scrap" "MissingMiddles$Scrap" "proof" "I") ∈ lw_all := lw_g (lw_at lw_m6 157 rfl) rfl
theorem q1460 : (Jvm.Cond.soleField "MissingMiddles$Scrap" "proof") ∈ lw_all := lw_g (lw_at lw_m6 158 rfl) rfl
theorem q1461 : (Jvm.Cond.superclass "MissingMiddles$Scrap" "java/lang/Object") ∈ lw_all := lw_g (lw_at lw_m6 159 rfl) rfl
theorem q1462 : (Jvm.Cond.methodLink "MissingMiddles$Scrap" (37 : Nat) ({ cls := "java/lang/System", name := "arraycopy", desc := "(Ljava/lang/Object;ILjava/lang/Object;II)V" } : Jvm.MethodName)) ∈ lw_all := lw_g (lw_at lw_m6 160 rfl) rfl
theorem q1623 : (Jvm.Cond.fieldLinkNest "MissingMiddles$Scrap" (46 : Nat) "MissingMiddles$Book" "first" "I" "MissingMiddles") ∈ lw_tbl := lw_at lw_m7 81 rfl
theorem q1627 : (Jvm.Cond.fieldLinkNest "MissingMiddles$Scrap" (43 : Nat) "MissingMiddles$Book" "last" "I" "MissingMiddles") ∈ lw_tbl := lw_at lw_m7 85 rfl
theorem q1708 : (Jvm.Cond.instanceMethod ({ cls := "MissingMiddles$Scrap", name := "swore", desc := "(I)I" } : Jvm.MethodName)) ∈ lw_all := lw_g (lw_at lw_m7 166 rfl) rfl
theorem q1709 : (Jvm.Cond.selects "MissingMiddles$Scrap" ({ cls := "MissingMiddles$Scrap", name := "swore", desc := "(I)I" } : Jvm.MethodName) ({ cls := "MissingMiddles$Scrap", name := "swore", desc := "(I)I" } : Jvm.MethodName)) ∈ lw_all := lw_g (lw_at lw_m7 167 rfl) rfl
theorem q1710 : (Jvm.Cond.code ({ cls := "MissingMiddles$Scrap", name := "swore", desc := "(I)I" } : Jvm.MethodName) prog_11_method_10_code (7 : Nat) (Option.some Jvm.ClassFile.FieldType.int)) ∈ lw_all := lw_g (lw_at lw_m7 168 rfl) rfl
theorem q1731 : (Jvm.Cond.castable "MissingMiddles$Scrap" "MissingMiddles$Middle") ∈ lw_tbl := lw_at lw_m7 189 rfl
theorem q1732 : (Jvm.Cond.selects "MissingMiddles$Scrap" ({ cls := "MissingMiddles$Middle", name := "last", desc := "()I" } : Jvm.MethodName) ({ cls := "MissingMiddles$Scrap", name := "last", desc := "()I" } : Jvm.MethodName)) ∈ lw_all := lw_g (lw_at lw_m7 190 rfl) rfl
theorem q1733 : (Jvm.Cond.unhidden "MissingMiddles$Scrap" "last" "()I") ∈ lw_tbl := lw_at lw_m7 191 rfl
theorem q1734 : (Jvm.Cond.instanceMethod ({ cls := "MissingMiddles$Scrap", name := "last", desc := "()I" } : Jvm.MethodName)) ∈ lw_all := lw_g (lw_at lw_m7 192 rfl) rfl
theorem q1735 : (Jvm.Cond.publicMethod ({ cls := "MissingMiddles$Scrap", name := "last", desc := "()I" } : Jvm.MethodName)) ∈ lw_tbl := lw_at lw_m7 193 rfl
theorem q1736 : (Jvm.Cond.code ({ cls := "MissingMiddles$Scrap", name := "last", desc := "()I" } : Jvm.MethodName) prog_11_method_4_code (1 : Nat) (Option.some Jvm.ClassFile.FieldType.int)) ∈ lw_all := lw_g (lw_at lw_m7 194 rfl) rfl
theorem q1746 : (Jvm.Cond.selects "MissingMiddles$Scrap" ({ cls := "MissingMiddles$Middle", name := "first", desc := "()I" } : Jvm.MethodName) ({ cls := "MissingMiddles$Scrap", name := "first", desc := "()I" } : Jvm.MethodName)) ∈ lw_all := lw_g (lw_at lw_m7 204 rfl) rfl
theorem q1747 : (Jvm.Cond.unhidden "MissingMiddles$Scrap" "first" "()I") ∈ lw_tbl := lw_at lw_m7 205 rfl
theorem q1748 : (Jvm.Cond.instanceMethod ({ cls := "MissingMiddles$Scrap", name := "first", desc := "()I" } : Jvm.MethodName)) ∈ lw_all := lw_g (lw_at lw_m7 206 rfl) rfl
theorem q1749 : (Jvm.Cond.publicMethod ({ cls := "MissingMiddles$Scrap", name := "first", desc := "()I" } : Jvm.MethodName)) ∈ lw_tbl := lw_at lw_m7 207 rfl
theorem q1750 : (Jvm.Cond.code ({ cls := "MissingMiddles$Scrap", name := "first", desc := "()I" } : Jvm.MethodName) prog_11_method_3_code (1 : Nat) (Option.some Jvm.ClassFile.FieldType.int)) ∈ lw_all := lw_g (lw_at lw_m7 208 rfl) rfl
theorem q1784 : (Jvm.Cond.selects "MissingMiddles$Scrap" ({ cls := "java/lang/Object", name := "equals", desc := "(Ljava/lang/Object;)Z" } : Jvm.MethodName) ({ cls := "java/lang/Object", name := "equals", desc := "(Ljava/lang/Object;)Z" } : Jvm.MethodName)) ∈ lw_all := lw_g (lw_at lw_m8 2 rfl) rfl
theorem q1865 : (Jvm.Cond.unhidden "MissingMiddles$Scrap" "pages" "()I") ∈ lw_tbl := lw_at lw_m8 83 rfl
theorem q2264 : (Jvm.Cond.selects "MissingMiddles$Scrap" ({ cls := "MissingMiddles$Middle", name := "begin", desc := "()I" } : Jvm.MethodName) ({ cls := "MissingMiddles$Scrap", name := "begin", desc := "()I" } : Jvm.MethodName)) ∈ lw_all := lw_g (lw_at lw_m10 2 rfl) rfl
theorem q2265 : (Jvm.Cond.unhidden "MissingMiddles$Scrap" "begin" "()I") ∈ lw_tbl := lw_at lw_m10 3 rfl
theorem q2266 : (Jvm.Cond.instanceMethod ({ cls := "MissingMiddles$Scrap", name := "begin", desc := "()I" } : Jvm.MethodName)) ∈ lw_all := lw_g (lw_at lw_m10 4 rfl) rfl
theorem q2267 : (Jvm.Cond.publicMethod ({ cls := "MissingMiddles$Scrap", name := "begin", desc := "()I" } : Jvm.MethodName)) ∈ lw_tbl := lw_at lw_m10 5 rfl
theorem q2268 : (Jvm.Cond.code ({ cls := "MissingMiddles$Scrap", name := "begin", desc := "()I" } : Jvm.MethodName) prog_11_method_5_code (1 : Nat) (Option.some Jvm.ClassFile.FieldType.int)) ∈ lw_all := lw_g (lw_at lw_m10 6 rfl) rfl
theorem q2301 : (Jvm.Cond.selects "MissingMiddles$Scrap" ({ cls := "MissingMiddles$Middle", name := "end", desc := "()I" } : Jvm.MethodName) ({ cls := "MissingMiddles$Scrap", name := "end", desc := "()I" } : Jvm.MethodName)) ∈ lw_all := lw_g (lw_at lw_m10 39 rfl) rfl
theorem q2302 : (Jvm.Cond.unhidden "MissingMiddles$Scrap" "end" "()I") ∈ lw_tbl := lw_at lw_m10 40 rfl
theorem q2303 : (Jvm.Cond.instanceMethod ({ cls := "MissingMiddles$Scrap", name := "end", desc := "()I" } : Jvm.MethodName)) ∈ lw_all := lw_g (lw_at lw_m10 41 rfl) rfl
theorem q2304 : (Jvm.Cond.publicMethod ({ cls := "MissingMiddles$Scrap", name := "end", desc := "()I" } : Jvm.MethodName)) ∈ lw_tbl := lw_at lw_m10 42 rfl
theorem q2305 : (Jvm.Cond.code ({ cls := "MissingMiddles$Scrap", name := "end", desc := "()I" } : Jvm.MethodName) prog_11_method_6_code (1 : Nat) (Option.some Jvm.ClassFile.FieldType.int)) ∈ lw_all := lw_g (lw_at lw_m10 43 rfl) rfl
theorem q2331 : (Jvm.Cond.unhidden "MissingMiddles$Scrap" "middle" "()Ljava/lang/String;") ∈ lw_tbl := lw_at lw_m10 69 rfl
theorem q3182 : (Jvm.Cond.castable "MissingMiddles$Scrap" "java/lang/Object") ∈ lw_tbl := lw_at lw_m13 200 rfl
theorem in_X6 : ∀ w ∈ wsX60, w ∈ lw_all := lw_in wsX60 [1447, 1449, 1451, 1453, 1455, 1457, 1459] (by decide +kernel) (by decide +kernel)
/-! MissingMiddles$Middle -/
set_option maxRecDepth 100000
def RX7 : String := "MissingMiddles$Middle"
abbrev cX7_check : ByteArray := prog_5_method_8_code
def yX7_check : MethodName := ⟨RX7, "check", "(IIII)V"⟩
def dkwX7_check_2 : List UInt8 := [133, 9, 20, 0, 54, 184, 0, 46, 153, 0, 7, 4, 167, 0, 4, 3, 184, 0, 50, 177]
abbrev dktX7_check_2 : List UInt8 := dkwX7_check_2 ++ []
def dkwX7_check_1 : List UInt8 := [153, 0, 7, 4, 167, 0, 4, 3, 184, 0, 50, 28, 133, 9, 20, 0, 54, 184, 0, 46, 153, 0, 19, 29]
abbrev dktX7_check_1 : List UInt8 := dkwX7_check_1 ++ dktX7_check_2
def dkwX7_check_0 : List UInt8 := [26, 133, 10, 20, 0, 44, 184, 0, 46, 153, 0, 20, 27, 133, 26, 133, 20, 0, 44, 184, 0, 46]
abbrev dktX7_check_0 : List UInt8 := dkwX7_check_0 ++ dktX7_check_1
theorem dksX7_check_0 : cX7_check.data.toList.drop 0 = dktX7_check_0 := by decide +kernel
theorem dksX7_check_1 : cX7_check.data.toList.drop 22 = dktX7_check_1 := dk_seg dksX7_check_0 22 rfl rfl
theorem dksX7_check_2 : cX7_check.data.toList.drop 46 = dktX7_check_2 := dk_seg dksX7_check_1 24 rfl rfl
theorem dX7_check_0 : decode cX7_check 0 = .ok (.iload_n 0, 1) := dk_26 (dk_at dksX7_check_0 0 rfl rfl)
theorem dX7_check_1 : decode cX7_check 1 = .ok (.i2l, 1) := dk_133 (dk_at dksX7_check_0 1 rfl rfl)
theorem dX7_check_2 : decode cX7_check 2 = .ok (.lconst 1, 1) := dk_10 (dk_at dksX7_check_0 2 rfl rfl)
theorem dX7_check_3 : decode cX7_check 3 = .ok (.ldc2_w 44, 3) := dk_20 0 44 (dk_at dksX7_check_0 3 rfl rfl)
theorem dX7_check_6 : decode cX7_check 6 = .ok (.invokestatic 46, 3) := dk_184 0 46 (dk_at dksX7_check_0 6 rfl rfl)
theorem dX7_check_9 : decode cX7_check 9 = .ok (.ifCond .eq 20, 3) := dk_153 0 20 (dk_at dksX7_check_0 9 rfl rfl)
theorem dX7_check_12 : decode cX7_check 12 = .ok (.iload_n 1, 1) := dk_27 (dk_at dksX7_check_0 12 rfl rfl)
theorem dX7_check_13 : decode cX7_check 13 = .ok (.i2l, 1) := dk_133 (dk_at dksX7_check_0 13 rfl rfl)
theorem dX7_check_14 : decode cX7_check 14 = .ok (.iload_n 0, 1) := dk_26 (dk_at dksX7_check_0 14 rfl rfl)
theorem dX7_check_15 : decode cX7_check 15 = .ok (.i2l, 1) := dk_133 (dk_at dksX7_check_0 15 rfl rfl)
theorem dX7_check_16 : decode cX7_check 16 = .ok (.ldc2_w 44, 3) := dk_20 0 44 (dk_at dksX7_check_0 16 rfl rfl)
theorem dX7_check_19 : decode cX7_check 19 = .ok (.invokestatic 46, 3) := dk_184 0 46 (dk_at dksX7_check_0 19 rfl rfl)
theorem dX7_check_22 : decode cX7_check 22 = .ok (.ifCond .eq 7, 3) := dk_153 0 7 (dk_at dksX7_check_1 0 rfl rfl)
theorem dX7_check_25 : decode cX7_check 25 = .ok (.iconst 1, 1) := dk_4 (dk_at dksX7_check_1 3 rfl rfl)
theorem dX7_check_26 : decode cX7_check 26 = .ok (.goto 4, 3) := dk_167 0 4 (dk_at dksX7_check_1 4 rfl rfl)
theorem dX7_check_29 : decode cX7_check 29 = .ok (.iconst 0, 1) := dk_3 (dk_at dksX7_check_1 7 rfl rfl)
theorem dX7_check_30 : decode cX7_check 30 = .ok (.invokestatic 50, 3) := dk_184 0 50 (dk_at dksX7_check_1 8 rfl rfl)
theorem dX7_check_33 : decode cX7_check 33 = .ok (.iload_n 2, 1) := dk_28 (dk_at dksX7_check_1 11 rfl rfl)
theorem dX7_check_34 : decode cX7_check 34 = .ok (.i2l, 1) := dk_133 (dk_at dksX7_check_1 12 rfl rfl)
theorem dX7_check_35 : decode cX7_check 35 = .ok (.lconst 0, 1) := dk_9 (dk_at dksX7_check_1 13 rfl rfl)
theorem dX7_check_36 : decode cX7_check 36 = .ok (.ldc2_w 54, 3) := dk_20 0 54 (dk_at dksX7_check_1 14 rfl rfl)
theorem dX7_check_39 : decode cX7_check 39 = .ok (.invokestatic 46, 3) := dk_184 0 46 (dk_at dksX7_check_1 17 rfl rfl)
theorem dX7_check_42 : decode cX7_check 42 = .ok (.ifCond .eq 19, 3) := dk_153 0 19 (dk_at dksX7_check_1 20 rfl rfl)
theorem dX7_check_45 : decode cX7_check 45 = .ok (.iload_n 3, 1) := dk_29 (dk_at dksX7_check_1 23 rfl rfl)
theorem dX7_check_46 : decode cX7_check 46 = .ok (.i2l, 1) := dk_133 (dk_at dksX7_check_2 0 rfl rfl)
theorem dX7_check_47 : decode cX7_check 47 = .ok (.lconst 0, 1) := dk_9 (dk_at dksX7_check_2 1 rfl rfl)
theorem dX7_check_48 : decode cX7_check 48 = .ok (.ldc2_w 54, 3) := dk_20 0 54 (dk_at dksX7_check_2 2 rfl rfl)
theorem dX7_check_51 : decode cX7_check 51 = .ok (.invokestatic 46, 3) := dk_184 0 46 (dk_at dksX7_check_2 5 rfl rfl)
theorem dX7_check_54 : decode cX7_check 54 = .ok (.ifCond .eq 7, 3) := dk_153 0 7 (dk_at dksX7_check_2 8 rfl rfl)
theorem dX7_check_57 : decode cX7_check 57 = .ok (.iconst 1, 1) := dk_4 (dk_at dksX7_check_2 11 rfl rfl)
theorem dX7_check_58 : decode cX7_check 58 = .ok (.goto 4, 3) := dk_167 0 4 (dk_at dksX7_check_2 12 rfl rfl)
theorem dX7_check_61 : decode cX7_check 61 = .ok (.iconst 0, 1) := dk_3 (dk_at dksX7_check_2 15 rfl rfl)
theorem dX7_check_62 : decode cX7_check 62 = .ok (.invokestatic 50, 3) := dk_184 0 50 (dk_at dksX7_check_2 16 rfl rfl)
theorem dX7_check_65 : decode cX7_check 65 = .ok (.return_, 1) := dk_177 (dk_at dksX7_check_2 19 rfl rfl)
abbrev cX7_pages : ByteArray := prog_5_method_5_code
def yX7_pages : MethodName := ⟨RX7, "pages", "()I"⟩
def dkwX7_pages_0 : List UInt8 := [42, 185, 0, 3, 1, 0, 42, 185, 0, 9, 1, 0, 100, 4, 96, 172]
abbrev dktX7_pages_0 : List UInt8 := dkwX7_pages_0 ++ []
theorem dksX7_pages_0 : cX7_pages.data.toList.drop 0 = dktX7_pages_0 := by decide +kernel
theorem dX7_pages_0 : decode cX7_pages 0 = .ok (.aload_n 0, 1) := dk_42 (dk_at dksX7_pages_0 0 rfl rfl)
theorem dX7_pages_1 : decode cX7_pages 1 = .ok (.invokeinterface 3 1, 5) := by decide +kernel
theorem dX7_pages_6 : decode cX7_pages 6 = .ok (.aload_n 0, 1) := dk_42 (dk_at dksX7_pages_0 6 rfl rfl)
theorem dX7_pages_7 : decode cX7_pages 7 = .ok (.invokeinterface 9 1, 5) := by decide +kernel
theorem dX7_pages_12 : decode cX7_pages 12 = .ok (.isub, 1) := dk_100 (dk_at dksX7_pages_0 12 rfl rfl)
theorem dX7_pages_13 : decode cX7_pages 13 = .ok (.iconst 1, 1) := dk_4 (dk_at dksX7_pages_0 13 rfl rfl)
theorem dX7_pages_14 : decode cX7_pages 14 = .ok (.iadd, 1) := dk_96 (dk_at dksX7_pages_0 14 rfl rfl)
theorem dX7_pages_15 : decode cX7_pages 15 = .ok (.ireturn, 1) := dk_172 (dk_at dksX7_pages_0 15 rfl rfl)
abbrev cX7_middle : ByteArray := prog_5_method_6_code
def yX7_middle : MethodName := ⟨RX7, "middle", "()Ljava/lang/String;"⟩
def dkwX7_middle_2 : List UInt8 := [185, 0, 37, 1, 0, 184, 0, 30, 182, 0, 34, 182, 0, 40, 176]
abbrev dktX7_middle_2 : List UInt8 := dkwX7_middle_2 ++ []
def dkwX7_middle_1 : List UInt8 := [185, 0, 3, 1, 0, 182, 0, 18, 42, 185, 0, 27, 1, 0, 184, 0, 30, 182, 0, 34, 42]
abbrev dktX7_middle_1 : List UInt8 := dkwX7_middle_1 ++ dktX7_middle_2
def dkwX7_middle_0 : List UInt8 := [187, 0, 12, 89, 183, 0, 14, 42, 185, 0, 9, 1, 0, 182, 0, 18, 18, 22, 182, 0, 24, 42]
abbrev dktX7_middle_0 : List UInt8 := dkwX7_middle_0 ++ dktX7_middle_1
theorem dksX7_middle_0 : cX7_middle.data.toList.drop 0 = dktX7_middle_0 := by decide +kernel
theorem dksX7_middle_1 : cX7_middle.data.toList.drop 22 = dktX7_middle_1 := dk_seg dksX7_middle_0 22 rfl rfl
theorem dksX7_middle_2 : cX7_middle.data.toList.drop 43 = dktX7_middle_2 := dk_seg dksX7_middle_1 21 rfl rfl
theorem dX7_middle_0 : decode cX7_middle 0 = .ok (.new 12, 3) := dk_187 0 12 (dk_at dksX7_middle_0 0 rfl rfl)
theorem dX7_middle_3 : decode cX7_middle 3 = .ok (.dup, 1) := dk_89 (dk_at dksX7_middle_0 3 rfl rfl)
theorem dX7_middle_4 : decode cX7_middle 4 = .ok (.invokespecial 14, 3) := dk_183 0 14 (dk_at dksX7_middle_0 4 rfl rfl)
theorem dX7_middle_7 : decode cX7_middle 7 = .ok (.aload_n 0, 1) := dk_42 (dk_at dksX7_middle_0 7 rfl rfl)
theorem dX7_middle_8 : decode cX7_middle 8 = .ok (.invokeinterface 9 1, 5) := by decide +kernel
theorem dX7_middle_13 : decode cX7_middle 13 = .ok (.invokevirtual 18, 3) := dk_182 0 18 (dk_at dksX7_middle_0 13 rfl rfl)
theorem dX7_middle_16 : decode cX7_middle 16 = .ok (.ldc 22, 2) := dk_18 22 (dk_at dksX7_middle_0 16 rfl rfl)
theorem dX7_middle_18 : decode cX7_middle 18 = .ok (.invokevirtual 24, 3) := dk_182 0 24 (dk_at dksX7_middle_0 18 rfl rfl)
theorem dX7_middle_21 : decode cX7_middle 21 = .ok (.aload_n 0, 1) := dk_42 (dk_at dksX7_middle_0 21 rfl rfl)
theorem dX7_middle_22 : decode cX7_middle 22 = .ok (.invokeinterface 3 1, 5) := by decide +kernel
theorem dX7_middle_27 : decode cX7_middle 27 = .ok (.invokevirtual 18, 3) := dk_182 0 18 (dk_at dksX7_middle_1 5 rfl rfl)
theorem dX7_middle_30 : decode cX7_middle 30 = .ok (.aload_n 0, 1) := dk_42 (dk_at dksX7_middle_1 8 rfl rfl)
theorem dX7_middle_31 : decode cX7_middle 31 = .ok (.invokeinterface 27 1, 5) := by decide +kernel
theorem dX7_middle_36 : decode cX7_middle 36 = .ok (.invokestatic 30, 3) := dk_184 0 30 (dk_at dksX7_middle_1 14 rfl rfl)
theorem dX7_middle_39 : decode cX7_middle 39 = .ok (.invokevirtual 34, 3) := dk_182 0 34 (dk_at dksX7_middle_1 17 rfl rfl)
theorem dX7_middle_42 : decode cX7_middle 42 = .ok (.aload_n 0, 1) := dk_42 (dk_at dksX7_middle_1 20 rfl rfl)
theorem dX7_middle_43 : decode cX7_middle 43 = .ok (.invokeinterface 37 1, 5) := by decide +kernel
theorem dX7_middle_48 : decode cX7_middle 48 = .ok (.invokestatic 30, 3) := dk_184 0 30 (dk_at dksX7_middle_2 5 rfl rfl)
theorem dX7_middle_51 : decode cX7_middle 51 = .ok (.invokevirtual 34, 3) := dk_182 0 34 (dk_at dksX7_middle_2 8 rfl rfl)
theorem dX7_middle_54 : decode cX7_middle 54 = .ok (.invokevirtual 40, 3) := dk_182 0 40 (dk_at dksX7_middle_2 11 rfl rfl)
theorem dX7_middle_57 : decode cX7_middle 57 = .ok (.areturn, 1) := dk_176 (dk_at dksX7_middle_2 14 rfl rfl)
abbrev cX7_letter : ByteArray := prog_5_method_7_code
def yX7_letter : MethodName := ⟨RX7, "letter", "(I)C"⟩
def dkwX7_letter_0 : List UInt8 := [16, 97, 26, 96, 146, 172]
abbrev dktX7_letter_0 : List UInt8 := dkwX7_letter_0 ++ []
theorem dksX7_letter_0 : cX7_letter.data.toList.drop 0 = dktX7_letter_0 := by decide +kernel
theorem dX7_letter_0 : decode cX7_letter 0 = .ok (.bipush 97, 2) := dk_16 97 (dk_at dksX7_letter_0 0 rfl rfl)
theorem dX7_letter_2 : decode cX7_letter 2 = .ok (.iload_n 0, 1) := dk_26 (dk_at dksX7_letter_0 2 rfl rfl)
theorem dX7_letter_3 : decode cX7_letter 3 = .ok (.iadd, 1) := dk_96 (dk_at dksX7_letter_0 3 rfl rfl)
theorem dX7_letter_4 : decode cX7_letter 4 = .ok (.i2c, 1) := dk_146 (dk_at dksX7_letter_0 4 rfl rfl)
theorem dX7_letter_5 : decode cX7_letter 5 = .ok (.ireturn, 1) := dk_172 (dk_at dksX7_letter_0 5 rfl rfl)
theorem q136 : (Jvm.Cond.initialized "MissingMiddles$Middle") ∈ lw_all := lw_g (lw_at lw_m1 34 rfl) rfl
theorem q1576 : (Jvm.Cond.static ({ cls := "MissingMiddles$Middle", name := "check", desc := "(IIII)V" } : Jvm.MethodName)) ∈ lw_all := lw_g (lw_at lw_m7 34 rfl) rfl
theorem q1577 : (Jvm.Cond.code ({ cls := "MissingMiddles$Middle", name := "check", desc := "(IIII)V" } : Jvm.MethodName) prog_5_method_8_code (4 : Nat) (Option.none : Option Jvm.ClassFile.FieldType)) ∈ lw_all := lw_g (lw_at lw_m7 35 rfl) rfl
theorem q1578 : (Jvm.Cond.constantLong "MissingMiddles$Middle" (44 : Nat) (60 : Int64)) ∈ lw_all := lw_g (lw_at lw_m7 36 rfl) rfl
theorem q1579 : (Jvm.Cond.methodLinkNest "MissingMiddles$Middle" (46 : Nat) ({ cls := "MissingMiddles", name := "inRange", desc := "(JJJ)Z" } : Jvm.MethodName) "MissingMiddles") ∈ lw_tbl := lw_at lw_m7 37 rfl
theorem q1580 : (Jvm.Cond.methodLinkNest "MissingMiddles$Middle" (50 : Nat) ({ cls := "MissingMiddles", name := "checkArgument", desc := "(Z)V" } : Jvm.MethodName) "MissingMiddles") ∈ lw_tbl := lw_at lw_m7 38 rfl
theorem q1581 : (Jvm.Cond.constantLong "MissingMiddles$Middle" (54 : Nat) (7 : Int64)) ∈ lw_all := lw_g (lw_at lw_m7 39 rfl) rfl
theorem q1716 : (Jvm.Cond.declares ({ cls := "MissingMiddles$Middle", name := "pages", desc := "()I" } : Jvm.MethodName)) ∈ lw_tbl := lw_at lw_m7 174 rfl
theorem q1718 : (Jvm.Cond.instanceMethod ({ cls := "MissingMiddles$Middle", name := "pages", desc := "()I" } : Jvm.MethodName)) ∈ lw_all := lw_g (lw_at lw_m7 176 rfl) rfl
theorem q1719 : (Jvm.Cond.publicMethod ({ cls := "MissingMiddles$Middle", name := "pages", desc := "()I" } : Jvm.MethodName)) ∈ lw_tbl := lw_at lw_m7 177 rfl
theorem q1720 : (Jvm.Cond.code ({ cls := "MissingMiddles$Middle", name := "pages", desc := "()I" } : Jvm.MethodName) prog_5_method_5_code (1 : Nat) (Option.some Jvm.ClassFile.FieldType.int)) ∈ lw_all := lw_g (lw_at lw_m7 178 rfl) rfl
theorem q1721 : (Jvm.Cond.interfaceEntry "MissingMiddles$Middle" (3 : Nat)) ∈ lw_tbl := lw_at lw_m7 179 rfl
theorem q1722 : (Jvm.Cond.methodLink "MissingMiddles$Middle" (3 : Nat) ({ cls := "MissingMiddles$Middle", name := "last", desc := "()I" } : Jvm.MethodName)) ∈ lw_all := lw_g (lw_at lw_m7 180 rfl) rfl
theorem q1723 : (Jvm.Cond.interfaceMethod "MissingMiddles$Middle" "MissingMiddles$Middle" "last" "()I") ∈ lw_tbl := lw_at lw_m7 181 rfl
theorem q1724 : (Jvm.Cond.declares ({ cls := "MissingMiddles$Middle", name := "last", desc := "()I" } : Jvm.MethodName)) ∈ lw_tbl := lw_at lw_m7 182 rfl
theorem q1737 : (Jvm.Cond.interfaceEntry "MissingMiddles$Middle" (9 : Nat)) ∈ lw_tbl := lw_at lw_m7 195 rfl
theorem q1738 : (Jvm.Cond.methodLink "MissingMiddles$Middle" (9 : Nat) ({ cls := "MissingMiddles$Middle", name := "first", desc := "()I" } : Jvm.MethodName)) ∈ lw_all := lw_g (lw_at lw_m7 196 rfl) rfl
theorem q1739 : (Jvm.Cond.interfaceMethod "MissingMiddles$Middle" "MissingMiddles$Middle" "first" "()I") ∈ lw_tbl := lw_at lw_m7 197 rfl
theorem q1740 : (Jvm.Cond.declares ({ cls := "MissingMiddles$Middle", name := "first", desc := "()I" } : Jvm.MethodName)) ∈ lw_tbl := lw_at lw_m7 198 rfl
theorem q2245 : (Jvm.Cond.declares ({ cls := "MissingMiddles$Middle", name := "middle", desc := "()Ljava/lang/String;" } : Jvm.MethodName)) ∈ lw_tbl := lw_at lw_m9 223 rfl
theorem q2247 : (Jvm.Cond.instanceMethod ({ cls := "MissingMiddles$Middle", name := "middle", desc := "()Ljava/lang/String;" } : Jvm.MethodName)) ∈ lw_all := lw_g (lw_at lw_m9 225 rfl) rfl
theorem q2248 : (Jvm.Cond.publicMethod ({ cls := "MissingMiddles$Middle", name := "middle", desc := "()Ljava/lang/String;" } : Jvm.MethodName)) ∈ lw_tbl := lw_at lw_m9 226 rfl
theorem q2249 : (Jvm.Cond.code ({ cls := "MissingMiddles$Middle", name := "middle", desc := "()Ljava/lang/String;" } : Jvm.MethodName) prog_5_method_6_code (1 : Nat) (Option.some (Jvm.ClassFile.FieldType.object "java/lang/String"))) ∈ lw_all := lw_g (lw_at lw_m9 227 rfl) rfl
theorem q2250 : (Jvm.Cond.classLink "MissingMiddles$Middle" (12 : Nat) "java/lang/StringBuilder") ∈ lw_all := lw_g (lw_at lw_m9 228 rfl) rfl
theorem q2251 : (Jvm.Cond.methodLink "MissingMiddles$Middle" (14 : Nat) ({ cls := "java/lang/StringBuilder", name := "<init>", desc := "()V" } : Jvm.MethodName)) ∈ lw_all := lw_g (lw_at lw_m9 229 rfl) rfl
theorem q2252 : (Jvm.Cond.methodLink "MissingMiddles$Middle" (18 : Nat) ({ cls := "java/lang/StringBuilder", name := "append", desc := "(I)Ljava/lang/StringBuilder;" } : Jvm.MethodName)) ∈ lw_all := lw_g (lw_at lw_m9 230 rfl) rfl
theorem q2253 : (Jvm.Cond.stringRef "MissingMiddles$Middle" (22 : Nat) "-") ∈ lw_tbl := lw_at lw_m9 231 rfl
theorem q2254 : (Jvm.Cond.methodLink "MissingMiddles$Middle" (24 : Nat) ({ cls := "java/lang/StringBuilder", name := "append", desc := "(Ljava/lang/String;)Ljava/lang/StringBuilder;" } : Jvm.MethodName)) ∈ lw_all := lw_g (lw_at lw_m9 232 rfl) rfl
theorem q2255 : (Jvm.Cond.interfaceEntry "MissingMiddles$Middle" (27 : Nat)) ∈ lw_tbl := lw_at lw_m9 233 rfl
theorem q2256 : (Jvm.Cond.methodLink "MissingMiddles$Middle" (27 : Nat) ({ cls := "MissingMiddles$Middle", name := "begin", desc := "()I" } : Jvm.MethodName)) ∈ lw_all := lw_g (lw_at lw_m9 234 rfl) rfl
theorem q2257 : (Jvm.Cond.interfaceMethod "MissingMiddles$Middle" "MissingMiddles$Middle" "begin" "()I") ∈ lw_tbl := lw_at lw_m9 235 rfl
theorem q2258 : (Jvm.Cond.declares ({ cls := "MissingMiddles$Middle", name := "begin", desc := "()I" } : Jvm.MethodName)) ∈ lw_tbl := lw_at lw_m9 236 rfl
theorem q2269 : (Jvm.Cond.methodLink "MissingMiddles$Middle" (30 : Nat) ({ cls := "MissingMiddles$Middle", name := "letter", desc := "(I)C" } : Jvm.MethodName)) ∈ lw_all := lw_g (lw_at lw_m10 7 rfl) rfl
theorem q2270 : (Jvm.Cond.static ({ cls := "MissingMiddles$Middle", name := "letter", desc := "(I)C" } : Jvm.MethodName)) ∈ lw_all := lw_g (lw_at lw_m10 8 rfl) rfl
theorem q2271 : (Jvm.Cond.code ({ cls := "MissingMiddles$Middle", name := "letter", desc := "(I)C" } : Jvm.MethodName) prog_5_method_7_code (1 : Nat) (Option.some Jvm.ClassFile.FieldType.char)) ∈ lw_all := lw_g (lw_at lw_m10 9 rfl) rfl
theorem q2272 : (Jvm.Cond.methodLink "MissingMiddles$Middle" (34 : Nat) ({ cls := "java/lang/StringBuilder", name := "append", desc := "(C)Ljava/lang/StringBuilder;" } : Jvm.MethodName)) ∈ lw_all := lw_g (lw_at lw_m10 10 rfl) rfl
theorem q2292 : (Jvm.Cond.interfaceEntry "MissingMiddles$Middle" (37 : Nat)) ∈ lw_tbl := lw_at lw_m10 30 rfl
theorem q2293 : (Jvm.Cond.methodLink "MissingMiddles$Middle" (37 : Nat) ({ cls := "MissingMiddles$Middle", name := "end", desc := "()I" } : Jvm.MethodName)) ∈ lw_all := lw_g (lw_at lw_m10 31 rfl) rfl
theorem q2294 : (Jvm.Cond.interfaceMethod "MissingMiddles$Middle" "MissingMiddles$Middle" "end" "()I") ∈ lw_tbl := lw_at lw_m10 32 rfl
theorem q2295 : (Jvm.Cond.declares ({ cls := "MissingMiddles$Middle", name := "end", desc := "()I" } : Jvm.MethodName)) ∈ lw_tbl := lw_at lw_m10 33 rfl
theorem q2306 : (Jvm.Cond.methodLink "MissingMiddles$Middle" (40 : Nat) ({ cls := "java/lang/StringBuilder", name := "toString", desc := "()Ljava/lang/String;" } : Jvm.MethodName)) ∈ lw_all := lw_g (lw_at lw_m10 44 rfl) rfl
/-! MissingMiddles$Refused -/
set_option maxRecDepth 100000
def RX8 : String := "MissingMiddles$Refused"
def TX8 : u_T := fun k => match k with
  | 0 => ("java/lang/Throwable", "cause", "Ljava/lang/Throwable;", false)
  | 1 => ("java/lang/Throwable", "stackTrace", "[Ljava/lang/StackTraceElement;", false)
  | 2 => ("java/lang/Throwable", "suppressedExceptions", "Ljava/util/List;", false)
  | 3 => ("java/lang/Throwable", "detailMessage", "Ljava/lang/String;", false)
  | 4 => ("java/lang/Throwable", "backtrace", "Ljava/lang/Object;", false)
  | 5 => ("java/lang/Throwable", "depth", "I", false)
  | 6 => ("MissingMiddles$Refused", "reason", "I", true)
  | _ => ("MissingMiddles$Refused", "detail", "I", true)
def tyX8 : Nat → FieldType := fun k => match k with
  | 0 => .object "java/lang/Throwable"
  | 1 => .array (.object "java/lang/StackTraceElement")
  | 2 => .object "java/util/List"
  | 3 => .object "java/lang/String"
  | 4 => .object "java/lang/Object"
  | 5 => .int
  | 6 => .int
  | _ => .int
abbrev wsX80 : List Cond := u_ws RX8 TX8 8
theorem nmX8 : ∀ a, a < 8 → ∀ b, b < 8 → a ≠ b → (TX8 a).2.1 ≠ (TX8 b).2.1 := by decide +kernel
theorem tyX8_ok : ∀ k, k < 8 → parseFieldDescriptor (TX8 k).2.2.1 = some (tyX8 k) := by decide +kernel
abbrev cX8_check : ByteArray := prog_10_method_3_code
def yX8_check : MethodName := ⟨RX8, "check", "(ZII)V"⟩
def dkwX8_check_0 : List UInt8 := [26, 154, 0, 13, 187, 0, 8, 89, 27, 28, 183, 0, 19, 191, 177]
abbrev dktX8_check_0 : List UInt8 := dkwX8_check_0 ++ []
theorem dksX8_check_0 : cX8_check.data.toList.drop 0 = dktX8_check_0 := by decide +kernel
theorem dX8_check_0 : decode cX8_check 0 = .ok (.iload_n 0, 1) := dk_26 (dk_at dksX8_check_0 0 rfl rfl)
theorem dX8_check_1 : decode cX8_check 1 = .ok (.ifCond .ne 13, 3) := dk_154 0 13 (dk_at dksX8_check_0 1 rfl rfl)
theorem dX8_check_4 : decode cX8_check 4 = .ok (.new 8, 3) := dk_187 0 8 (dk_at dksX8_check_0 4 rfl rfl)
theorem dX8_check_7 : decode cX8_check 7 = .ok (.dup, 1) := dk_89 (dk_at dksX8_check_0 7 rfl rfl)
theorem dX8_check_8 : decode cX8_check 8 = .ok (.iload_n 1, 1) := dk_27 (dk_at dksX8_check_0 8 rfl rfl)
theorem dX8_check_9 : decode cX8_check 9 = .ok (.iload_n 2, 1) := dk_28 (dk_at dksX8_check_0 9 rfl rfl)
theorem dX8_check_10 : decode cX8_check 10 = .ok (.invokespecial 19, 3) := dk_183 0 19 (dk_at dksX8_check_0 10 rfl rfl)
theorem dX8_check_13 : decode cX8_check 13 = .ok (.athrow, 1) := dk_191 (dk_at dksX8_check_0 13 rfl rfl)
theorem dX8_check_14 : decode cX8_check 14 = .ok (.return_, 1) := dk_177 (dk_at dksX8_check_0 14 rfl rfl)
abbrev cX8_init : ByteArray := prog_10_method_2_code
def yX8_init : MethodName := ⟨RX8, "<init>", "(II)V"⟩
def dkwX8_init_0 : List UInt8 := [42, 27, 28, 1, 183, 0, 16, 177]
abbrev dktX8_init_0 : List UInt8 := dkwX8_init_0 ++ []
theorem dksX8_init_0 : cX8_init.data.toList.drop 0 = dktX8_init_0 := by decide +kernel
theorem dX8_init_0 : decode cX8_init 0 = .ok (.aload_n 0, 1) := dk_42 (dk_at dksX8_init_0 0 rfl rfl)
theorem dX8_init_1 : decode cX8_init 1 = .ok (.iload_n 1, 1) := dk_27 (dk_at dksX8_init_0 1 rfl rfl)
theorem dX8_init_2 : decode cX8_init 2 = .ok (.iload_n 2, 1) := dk_28 (dk_at dksX8_init_0 2 rfl rfl)
theorem dX8_init_3 : decode cX8_init 3 = .ok (.aconst_null, 1) := dk_1 (dk_at dksX8_init_0 3 rfl rfl)
theorem dX8_init_4 : decode cX8_init 4 = .ok (.invokespecial 16, 3) := dk_183 0 16 (dk_at dksX8_init_0 4 rfl rfl)
theorem dX8_init_7 : decode cX8_init 7 = .ok (.return_, 1) := dk_177 (dk_at dksX8_init_0 7 rfl rfl)
abbrev cX8_init_2 : ByteArray := prog_10_method_1_code
def yX8_init_2 : MethodName := ⟨RX8, "<init>", "(IILMissingMiddles$Refused;)V"⟩
def dkwX8_init_2_0 : List UInt8 := [42, 1, 45, 3, 3, 183, 0, 1, 42, 27, 181, 0, 7, 42, 28, 181, 0, 13, 177]
abbrev dktX8_init_2_0 : List UInt8 := dkwX8_init_2_0 ++ []
theorem dksX8_init_2_0 : cX8_init_2.data.toList.drop 0 = dktX8_init_2_0 := by decide +kernel
theorem dX8_init_2_0 : decode cX8_init_2 0 = .ok (.aload_n 0, 1) := dk_42 (dk_at dksX8_init_2_0 0 rfl rfl)
theorem dX8_init_2_1 : decode cX8_init_2 1 = .ok (.aconst_null, 1) := dk_1 (dk_at dksX8_init_2_0 1 rfl rfl)
theorem dX8_init_2_2 : decode cX8_init_2 2 = .ok (.aload_n 3, 1) := dk_45 (dk_at dksX8_init_2_0 2 rfl rfl)
theorem dX8_init_2_3 : decode cX8_init_2 3 = .ok (.iconst 0, 1) := dk_3 (dk_at dksX8_init_2_0 3 rfl rfl)
theorem dX8_init_2_4 : decode cX8_init_2 4 = .ok (.iconst 0, 1) := dk_3 (dk_at dksX8_init_2_0 4 rfl rfl)
theorem dX8_init_2_5 : decode cX8_init_2 5 = .ok (.invokespecial 1, 3) := dk_183 0 1 (dk_at dksX8_init_2_0 5 rfl rfl)
theorem dX8_init_2_8 : decode cX8_init_2 8 = .ok (.aload_n 0, 1) := dk_42 (dk_at dksX8_init_2_0 8 rfl rfl)
theorem dX8_init_2_9 : decode cX8_init_2 9 = .ok (.iload_n 1, 1) := dk_27 (dk_at dksX8_init_2_0 9 rfl rfl)
theorem dX8_init_2_10 : decode cX8_init_2 10 = .ok (.putfield 7, 3) := dk_181 0 7 (dk_at dksX8_init_2_0 10 rfl rfl)
theorem dX8_init_2_13 : decode cX8_init_2 13 = .ok (.aload_n 0, 1) := dk_42 (dk_at dksX8_init_2_0 13 rfl rfl)
theorem dX8_init_2_14 : decode cX8_init_2 14 = .ok (.iload_n 2, 1) := dk_28 (dk_at dksX8_init_2_0 14 rfl rfl)
theorem dX8_init_2_15 : decode cX8_init_2 15 = .ok (.putfield 13, 3) := dk_181 0 13 (dk_at dksX8_init_2_0 15 rfl rfl)
theorem dX8_init_2_18 : decode cX8_init_2 18 = .ok (.return_, 1) := dk_177 (dk_at dksX8_init_2_0 18 rfl rfl)
abbrev cX8_number : ByteArray := prog_10_method_4_code
def yX8_number : MethodName := ⟨RX8, "number", "(Z)I"⟩
def dkwX8_number_0 : List UInt8 := [27, 153, 0, 10, 42, 180, 0, 13, 167, 0, 7, 42, 180, 0, 7, 172]
abbrev dktX8_number_0 : List UInt8 := dkwX8_number_0 ++ []
theorem dksX8_number_0 : cX8_number.data.toList.drop 0 = dktX8_number_0 := by decide +kernel
theorem dX8_number_0 : decode cX8_number 0 = .ok (.iload_n 1, 1) := dk_27 (dk_at dksX8_number_0 0 rfl rfl)
theorem dX8_number_1 : decode cX8_number 1 = .ok (.ifCond .eq 10, 3) := dk_153 0 10 (dk_at dksX8_number_0 1 rfl rfl)
theorem dX8_number_4 : decode cX8_number 4 = .ok (.aload_n 0, 1) := dk_42 (dk_at dksX8_number_0 4 rfl rfl)
theorem dX8_number_5 : decode cX8_number 5 = .ok (.getfield 13, 3) := dk_180 0 13 (dk_at dksX8_number_0 5 rfl rfl)
theorem dX8_number_8 : decode cX8_number 8 = .ok (.goto 7, 3) := dk_167 0 7 (dk_at dksX8_number_0 8 rfl rfl)
theorem dX8_number_11 : decode cX8_number 11 = .ok (.aload_n 0, 1) := dk_42 (dk_at dksX8_number_0 11 rfl rfl)
theorem dX8_number_12 : decode cX8_number 12 = .ok (.getfield 7, 3) := dk_180 0 7 (dk_at dksX8_number_0 12 rfl rfl)
theorem dX8_number_15 : decode cX8_number 15 = .ok (.ireturn, 1) := dk_172 (dk_at dksX8_number_0 15 rfl rfl)
theorem q137 : (Jvm.Cond.initialized "MissingMiddles$Refused") ∈ lw_all := lw_g (lw_at lw_m1 35 rfl) rfl
theorem q264 : (Jvm.Cond.selects "MissingMiddles$Refused" ({ cls := "java/lang/Object", name := "getClass", desc := "()Ljava/lang/Class;" } : Jvm.MethodName) ({ cls := "java/lang/Object", name := "getClass", desc := "()Ljava/lang/Class;" } : Jvm.MethodName)) ∈ lw_all := lw_g (lw_at lw_m1 162 rfl) rfl
theorem q643 : (Jvm.Cond.selects "MissingMiddles$Refused" ({ cls := "java/lang/Throwable", name := "fillInStackTrace", desc := "()Ljava/lang/Throwable;" } : Jvm.MethodName) ({ cls := "java/lang/Throwable", name := "fillInStackTrace", desc := "()Ljava/lang/Throwable;" } : Jvm.MethodName)) ∈ lw_all := lw_g (lw_at lw_m3 61 rfl) rfl
theorem q931 : (Jvm.Cond.selects "MissingMiddles$Refused" ({ cls := "java/lang/Throwable", name := "toString", desc := "()Ljava/lang/String;" } : Jvm.MethodName) ({ cls := "java/lang/Throwable", name := "toString", desc := "()Ljava/lang/String;" } : Jvm.MethodName)) ∈ lw_all := lw_g (lw_at lw_m4 109 rfl) rfl
theorem q945 : (Jvm.Cond.selects "MissingMiddles$Refused" ({ cls := "java/lang/Throwable", name := "getLocalizedMessage", desc := "()Ljava/lang/String;" } : Jvm.MethodName) ({ cls := "java/lang/Throwable", name := "getLocalizedMessage", desc := "()Ljava/lang/String;" } : Jvm.MethodName)) ∈ lw_all := lw_g (lw_at lw_m4 123 rfl) rfl
theorem q958 : (Jvm.Cond.selects "MissingMiddles$Refused" ({ cls := "java/lang/Throwable", name := "getMessage", desc := "()Ljava/lang/String;" } : Jvm.MethodName) ({ cls := "java/lang/Throwable", name := "getMessage", desc := "()Ljava/lang/String;" } : Jvm.MethodName)) ∈ lw_all := lw_g (lw_at lw_m4 136 rfl) rfl
theorem q1583 : (Jvm.Cond.static ({ cls := "MissingMiddles$Refused", name := "check", desc := "(ZII)V" } : Jvm.MethodName)) ∈ lw_all := lw_g (lw_at lw_m7 41 rfl) rfl
theorem q1584 : (Jvm.Cond.code ({ cls := "MissingMiddles$Refused", name := "check", desc := "(ZII)V" } : Jvm.MethodName) prog_10_method_3_code (3 : Nat) (Option.none : Option Jvm.ClassFile.FieldType)) ∈ lw_all := lw_g (lw_at lw_m7 42 rfl) rfl
theorem q1585 : (Jvm.Cond.classLink "MissingMiddles$Refused" (8 : Nat) "MissingMiddles$Refused") ∈ lw_all := lw_g (lw_at lw_m7 43 rfl) rfl
theorem q1586 : (Jvm.Cond.instantiable "MissingMiddles$Refused" (8 : Nat)) ∈ lw_all := lw_g (lw_at lw_m7 44 rfl) rfl
theorem q1587 : (Jvm.Cond.castable "MissingMiddles$Refused" "MissingMiddles$Refused") ∈ lw_tbl := lw_at lw_m7 45 rfl
theorem q1588 : (Jvm.Cond.selects "MissingMiddles$Refused" ({ cls := "java/lang/Throwable", name := "fillInStackTrace", desc := "(I)Ljava/lang/Throwable;" } : Jvm.MethodName) ({ cls := "java/lang/Throwable", name := "fillInStackTrace", desc := "(I)Ljava/lang/Throwable;" } : Jvm.MethodName)) ∈ lw_all := lw_g (lw_at lw_m7 46 rfl) rfl
theorem q1589 : (Jvm.Cond.lays "MissingMiddles$Refused" "java/lang/Throwable" "cause" "Ljava/lang/Throwable;") ∈ lw_all := lw_g (lw_at lw_m7 47 rfl) rfl
theorem q1590 : (Jvm.Cond.lays "MissingMiddles$Refused" "java/lang/Throwable" "stackTrace" "[Ljava/lang/StackTraceElement;") ∈ lw_all := lw_g (lw_at lw_m7 48 rfl) rfl
theorem q1591 : (Jvm.Cond.lays "MissingMiddles$Refused" "java/lang/Throwable" "suppressedExceptions" "Ljava/util/List;") ∈ lw_all := lw_g (lw_at lw_m7 49 rfl) rfl
theorem q1592 : (Jvm.Cond.lays "MissingMiddles$Refused" "java/lang/Throwable" "detailMessage" "Ljava/lang/String;") ∈ lw_all := lw_g (lw_at lw_m7 50 rfl) rfl
theorem q1593 : (Jvm.Cond.lays "MissingMiddles$Refused" "java/lang/Throwable" "backtrace" "Ljava/lang/Object;") ∈ lw_all := lw_g (lw_at lw_m7 51 rfl) rfl
theorem q1594 : (Jvm.Cond.methodLink "MissingMiddles$Refused" (19 : Nat) ({ cls := "MissingMiddles$Refused", name := "<init>", desc := "(II)V" } : Jvm.MethodName)) ∈ lw_all := lw_g (lw_at lw_m7 52 rfl) rfl
theorem q1595 : (Jvm.Cond.instanceMethod ({ cls := "MissingMiddles$Refused", name := "<init>", desc := "(II)V" } : Jvm.MethodName)) ∈ lw_all := lw_g (lw_at lw_m7 53 rfl) rfl
theorem q1596 : (Jvm.Cond.code ({ cls := "MissingMiddles$Refused", name := "<init>", desc := "(II)V" } : Jvm.MethodName) prog_10_method_2_code (3 : Nat) (Option.none : Option Jvm.ClassFile.FieldType)) ∈ lw_all := lw_g (lw_at lw_m7 54 rfl) rfl
theorem q1597 : (Jvm.Cond.methodLink "MissingMiddles$Refused" (16 : Nat) ({ cls := "MissingMiddles$Refused", name := "<init>", desc := "(IILMissingMiddles$Refused;)V" } : Jvm.MethodName)) ∈ lw_all := lw_g (lw_at lw_m7 55 rfl) rfl
theorem q1598 : (Jvm.Cond.instanceMethod ({ cls := "MissingMiddles$Refused", name := "<init>", desc := "(IILMissingMiddles$Refused;)V" } : Jvm.MethodName)) ∈ lw_all := lw_g (lw_at lw_m7 56 rfl) rfl
theorem q1599 : (Jvm.Cond.code ({ cls := "MissingMiddles$Refused", name := "<init>", desc := "(IILMissingMiddles$Refused;)V" } : Jvm.MethodName) prog_10_method_1_code (4 : Nat) (Option.none : Option Jvm.ClassFile.FieldType)) ∈ lw_all := lw_g (lw_at lw_m7 57 rfl) rfl
theorem q1600 : (Jvm.Cond.methodLink "MissingMiddles$Refused" (1 : Nat) ({ cls := "java/lang/Exception", name := "<init>", desc := "(Ljava/lang/String;Ljava/lang/Throwable;ZZ)V" } : Jvm.MethodName)) ∈ lw_all := lw_g (lw_at lw_m7 58 rfl) rfl
theorem q1606 : (Jvm.Cond.fieldLink "MissingMiddles$Refused" (7 : Nat) "MissingMiddles$Refused" "reason" "I") ∈ lw_all := lw_g (lw_at lw_m7 64 rfl) rfl
theorem q1607 : (Jvm.Cond.fieldLink "MissingMiddles$Refused" (13 : Nat) "MissingMiddles$Refused" "detail" "I") ∈ lw_all := lw_g (lw_at lw_m7 65 rfl) rfl
theorem q1608 : (Jvm.Cond.laysFinal "MissingMiddles$Refused" "MissingMiddles$Refused" "reason" "I") ∈ lw_all := lw_g (lw_at lw_m7 66 rfl) rfl
theorem q1609 : (Jvm.Cond.soleField "MissingMiddles$Refused" "reason") ∈ lw_all := lw_g (lw_at lw_m7 67 rfl) rfl
theorem q1610 : (Jvm.Cond.laysFinal "MissingMiddles$Refused" "MissingMiddles$Refused" "detail" "I") ∈ lw_all := lw_g (lw_at lw_m7 68 rfl) rfl
theorem q1611 : (Jvm.Cond.soleField "MissingMiddles$Refused" "detail") ∈ lw_all := lw_g (lw_at lw_m7 69 rfl) rfl
theorem q1612 : (Jvm.Cond.lays "MissingMiddles$Refused" "java/lang/Throwable" "depth" "I") ∈ lw_all := lw_g (lw_at lw_m7 70 rfl) rfl
theorem q1613 : (Jvm.Cond.superclass "MissingMiddles$Refused" "java/lang/Exception") ∈ lw_all := lw_g (lw_at lw_m7 71 rfl) rfl
theorem q1783 : (Jvm.Cond.selects "MissingMiddles$Refused" ({ cls := "java/lang/Object", name := "equals", desc := "(Ljava/lang/Object;)Z" } : Jvm.MethodName) ({ cls := "java/lang/Object", name := "equals", desc := "(Ljava/lang/Object;)Z" } : Jvm.MethodName)) ∈ lw_all := lw_g (lw_at lw_m8 1 rfl) rfl
theorem q2391 : (Jvm.Cond.sameMethod "MissingMiddles$Refused" "java/lang/Throwable" "getCause" "()Ljava/lang/Throwable;") ∈ lw_all := lw_g (lw_at lw_m10 129 rfl) rfl
theorem q2393 : (Jvm.Cond.selects "MissingMiddles$Refused" ({ cls := "MissingMiddles$Refused", name := "getCause", desc := "()Ljava/lang/Throwable;" } : Jvm.MethodName) ({ cls := "java/lang/Throwable", name := "getCause", desc := "()Ljava/lang/Throwable;" } : Jvm.MethodName)) ∈ lw_all := lw_g (lw_at lw_m10 131 rfl) rfl
theorem q2397 : (Jvm.Cond.instanceMethod ({ cls := "MissingMiddles$Refused", name := "number", desc := "(Z)I" } : Jvm.MethodName)) ∈ lw_all := lw_g (lw_at lw_m10 135 rfl) rfl
theorem q2398 : (Jvm.Cond.selects "MissingMiddles$Refused" ({ cls := "MissingMiddles$Refused", name := "number", desc := "(Z)I" } : Jvm.MethodName) ({ cls := "MissingMiddles$Refused", name := "number", desc := "(Z)I" } : Jvm.MethodName)) ∈ lw_all := lw_g (lw_at lw_m10 136 rfl) rfl
theorem q2399 : (Jvm.Cond.code ({ cls := "MissingMiddles$Refused", name := "number", desc := "(Z)I" } : Jvm.MethodName) prog_10_method_4_code (2 : Nat) (Option.some Jvm.ClassFile.FieldType.int)) ∈ lw_all := lw_g (lw_at lw_m10 137 rfl) rfl
theorem q3186 : (Jvm.Cond.castable "MissingMiddles$Refused" "java/lang/Object") ∈ lw_tbl := lw_at lw_m13 204 rfl
theorem in_X8 : ∀ w ∈ wsX80, w ∈ lw_all := lw_in wsX80 [1589, 1590, 1591, 1592, 1593, 1612, 1608, 1610] (by decide +kernel) (by decide +kernel)
/-! MissingMiddles$Book -/
set_option maxRecDepth 100000
def RX9 : String := "MissingMiddles$Book"
def TX9 : u_T := fun k => match k with
  | 0 => ("MissingMiddles$Book", "pages", "I", true)
  | 1 => ("MissingMiddles$Book", "first", "I", true)
  | 2 => ("MissingMiddles$Book", "last", "I", true)
  | 3 => ("MissingMiddles$Book", "left", "I", true)
  | 4 => ("MissingMiddles$Book", "right", "I", true)
  | _ => ("MissingMiddles$Book", "isWhole", "Z", true)
def tyX9 : Nat → FieldType := fun k => match k with
  | 0 => .int
  | 1 => .int
  | 2 => .int
  | 3 => .int
  | 4 => .int
  | _ => .boolean
abbrev wsX90 : List Cond := u_ws RX9 TX9 6
theorem nmX9 : ∀ a, a < 6 → ∀ b, b < 6 → a ≠ b → (TX9 a).2.1 ≠ (TX9 b).2.1 := by decide +kernel
theorem tyX9_ok : ∀ k, k < 6 → parseFieldDescriptor (TX9 k).2.2.1 = some (tyX9 k) := by decide +kernel
abbrev cX9_init : ByteArray := prog_2_method_1_code
def yX9_init : MethodName := ⟨RX9, "<init>", "(IIIIIZ)V"⟩
def dkwX9_init_1 : List UInt8 := [181, 0, 19, 42, 21, 5, 181, 0, 22, 42, 21, 6, 181, 0, 25, 177]
abbrev dktX9_init_1 : List UInt8 := dkwX9_init_1 ++ []
def dkwX9_init_0 : List UInt8 := [42, 183, 0, 1, 42, 27, 181, 0, 7, 42, 28, 181, 0, 13, 42, 29, 181, 0, 16, 42, 21, 4]
abbrev dktX9_init_0 : List UInt8 := dkwX9_init_0 ++ dktX9_init_1
theorem dksX9_init_0 : cX9_init.data.toList.drop 0 = dktX9_init_0 := by decide +kernel
theorem dksX9_init_1 : cX9_init.data.toList.drop 22 = dktX9_init_1 := dk_seg dksX9_init_0 22 rfl rfl
theorem dX9_init_0 : decode cX9_init 0 = .ok (.aload_n 0, 1) := dk_42 (dk_at dksX9_init_0 0 rfl rfl)
theorem dX9_init_1 : decode cX9_init 1 = .ok (.invokespecial 1, 3) := dk_183 0 1 (dk_at dksX9_init_0 1 rfl rfl)
theorem dX9_init_4 : decode cX9_init 4 = .ok (.aload_n 0, 1) := dk_42 (dk_at dksX9_init_0 4 rfl rfl)
theorem dX9_init_5 : decode cX9_init 5 = .ok (.iload_n 1, 1) := dk_27 (dk_at dksX9_init_0 5 rfl rfl)
theorem dX9_init_6 : decode cX9_init 6 = .ok (.putfield 7, 3) := dk_181 0 7 (dk_at dksX9_init_0 6 rfl rfl)
theorem dX9_init_9 : decode cX9_init 9 = .ok (.aload_n 0, 1) := dk_42 (dk_at dksX9_init_0 9 rfl rfl)
theorem dX9_init_10 : decode cX9_init 10 = .ok (.iload_n 2, 1) := dk_28 (dk_at dksX9_init_0 10 rfl rfl)
theorem dX9_init_11 : decode cX9_init 11 = .ok (.putfield 13, 3) := dk_181 0 13 (dk_at dksX9_init_0 11 rfl rfl)
theorem dX9_init_14 : decode cX9_init 14 = .ok (.aload_n 0, 1) := dk_42 (dk_at dksX9_init_0 14 rfl rfl)
theorem dX9_init_15 : decode cX9_init 15 = .ok (.iload_n 3, 1) := dk_29 (dk_at dksX9_init_0 15 rfl rfl)
theorem dX9_init_16 : decode cX9_init 16 = .ok (.putfield 16, 3) := dk_181 0 16 (dk_at dksX9_init_0 16 rfl rfl)
theorem dX9_init_19 : decode cX9_init 19 = .ok (.aload_n 0, 1) := dk_42 (dk_at dksX9_init_0 19 rfl rfl)
theorem dX9_init_20 : decode cX9_init 20 = .ok (.iload 4, 2) := dk_21 4 (dk_at dksX9_init_0 20 rfl rfl)
theorem dX9_init_22 : decode cX9_init 22 = .ok (.putfield 19, 3) := dk_181 0 19 (dk_at dksX9_init_1 0 rfl rfl)
theorem dX9_init_25 : decode cX9_init 25 = .ok (.aload_n 0, 1) := dk_42 (dk_at dksX9_init_1 3 rfl rfl)
theorem dX9_init_26 : decode cX9_init 26 = .ok (.iload 5, 2) := dk_21 5 (dk_at dksX9_init_1 4 rfl rfl)
theorem dX9_init_28 : decode cX9_init 28 = .ok (.putfield 22, 3) := dk_181 0 22 (dk_at dksX9_init_1 6 rfl rfl)
theorem dX9_init_31 : decode cX9_init 31 = .ok (.aload_n 0, 1) := dk_42 (dk_at dksX9_init_1 9 rfl rfl)
theorem dX9_init_32 : decode cX9_init 32 = .ok (.iload 6, 2) := dk_21 6 (dk_at dksX9_init_1 10 rfl rfl)
theorem dX9_init_34 : decode cX9_init 34 = .ok (.putfield 25, 3) := dk_181 0 25 (dk_at dksX9_init_1 12 rfl rfl)
theorem dX9_init_37 : decode cX9_init 37 = .ok (.return_, 1) := dk_177 (dk_at dksX9_init_1 15 rfl rfl)
abbrev cX9_last : ByteArray := prog_2_method_4_code
def yX9_last : MethodName := ⟨RX9, "last", "()I"⟩
theorem dX9_last_0 : decode cX9_last 0 = .ok (.aload_n 0, 1) := by decide +kernel
theorem dX9_last_1 : decode cX9_last 1 = .ok (.getfield 16, 3) := by decide +kernel
theorem dX9_last_4 : decode cX9_last 4 = .ok (.ireturn, 1) := by decide +kernel
abbrev cX9_first : ByteArray := prog_2_method_3_code
def yX9_first : MethodName := ⟨RX9, "first", "()I"⟩
theorem dX9_first_0 : decode cX9_first 0 = .ok (.aload_n 0, 1) := by decide +kernel
theorem dX9_first_1 : decode cX9_first 1 = .ok (.getfield 13, 3) := by decide +kernel
theorem dX9_first_4 : decode cX9_first 4 = .ok (.ireturn, 1) := by decide +kernel
abbrev cX9_mended : ByteArray := prog_2_method_2_code
def yX9_mended : MethodName := ⟨RX9, "mended", "()LMissingMiddles$Book;"⟩
def dkwX9_mended_1 : List UInt8 := [4, 183, 0, 29, 176]
abbrev dktX9_mended_1 : List UInt8 := dkwX9_mended_1 ++ []
def dkwX9_mended_0 : List UInt8 := [187, 0, 8, 89, 42, 180, 0, 7, 42, 180, 0, 13, 42, 180, 0, 16, 42, 180, 0, 19, 42, 180, 0, 22]
abbrev dktX9_mended_0 : List UInt8 := dkwX9_mended_0 ++ dktX9_mended_1
theorem dksX9_mended_0 : cX9_mended.data.toList.drop 0 = dktX9_mended_0 := by decide +kernel
theorem dksX9_mended_1 : cX9_mended.data.toList.drop 24 = dktX9_mended_1 := dk_seg dksX9_mended_0 24 rfl rfl
theorem dX9_mended_0 : decode cX9_mended 0 = .ok (.new 8, 3) := dk_187 0 8 (dk_at dksX9_mended_0 0 rfl rfl)
theorem dX9_mended_3 : decode cX9_mended 3 = .ok (.dup, 1) := dk_89 (dk_at dksX9_mended_0 3 rfl rfl)
theorem dX9_mended_4 : decode cX9_mended 4 = .ok (.aload_n 0, 1) := dk_42 (dk_at dksX9_mended_0 4 rfl rfl)
theorem dX9_mended_5 : decode cX9_mended 5 = .ok (.getfield 7, 3) := dk_180 0 7 (dk_at dksX9_mended_0 5 rfl rfl)
theorem dX9_mended_8 : decode cX9_mended 8 = .ok (.aload_n 0, 1) := dk_42 (dk_at dksX9_mended_0 8 rfl rfl)
theorem dX9_mended_9 : decode cX9_mended 9 = .ok (.getfield 13, 3) := dk_180 0 13 (dk_at dksX9_mended_0 9 rfl rfl)
theorem dX9_mended_12 : decode cX9_mended 12 = .ok (.aload_n 0, 1) := dk_42 (dk_at dksX9_mended_0 12 rfl rfl)
theorem dX9_mended_13 : decode cX9_mended 13 = .ok (.getfield 16, 3) := dk_180 0 16 (dk_at dksX9_mended_0 13 rfl rfl)
theorem dX9_mended_16 : decode cX9_mended 16 = .ok (.aload_n 0, 1) := dk_42 (dk_at dksX9_mended_0 16 rfl rfl)
theorem dX9_mended_17 : decode cX9_mended 17 = .ok (.getfield 19, 3) := dk_180 0 19 (dk_at dksX9_mended_0 17 rfl rfl)
theorem dX9_mended_20 : decode cX9_mended 20 = .ok (.aload_n 0, 1) := dk_42 (dk_at dksX9_mended_0 20 rfl rfl)
theorem dX9_mended_21 : decode cX9_mended 21 = .ok (.getfield 22, 3) := dk_180 0 22 (dk_at dksX9_mended_0 21 rfl rfl)
theorem dX9_mended_24 : decode cX9_mended 24 = .ok (.iconst 1, 1) := dk_4 (dk_at dksX9_mended_1 0 rfl rfl)
theorem dX9_mended_25 : decode cX9_mended 25 = .ok (.invokespecial 29, 3) := dk_183 0 29 (dk_at dksX9_mended_1 1 rfl rfl)
theorem dX9_mended_28 : decode cX9_mended 28 = .ok (.areturn, 1) := dk_176 (dk_at dksX9_mended_1 4 rfl rfl)
abbrev cX9_told : ByteArray := prog_2_method_7_code
def yX9_told : MethodName := ⟨RX9, "told", "()Ljava/lang/String;"⟩
def dkwX9_told_1 : List UInt8 := [182, 0, 41, 42, 180, 0, 25, 153, 0, 8, 18, 48, 167, 0, 5, 18, 50, 182, 0, 41, 182, 0, 52, 176]
abbrev dktX9_told_1 : List UInt8 := dkwX9_told_1 ++ []
def dkwX9_told_0 : List UInt8 := [187, 0, 32, 89, 183, 0, 34, 42, 180, 0, 7, 182, 0, 35, 18, 39, 182, 0, 41, 42, 182, 0, 44]
abbrev dktX9_told_0 : List UInt8 := dkwX9_told_0 ++ dktX9_told_1
theorem dksX9_told_0 : cX9_told.data.toList.drop 0 = dktX9_told_0 := by decide +kernel
theorem dksX9_told_1 : cX9_told.data.toList.drop 23 = dktX9_told_1 := dk_seg dksX9_told_0 23 rfl rfl
theorem dX9_told_0 : decode cX9_told 0 = .ok (.new 32, 3) := dk_187 0 32 (dk_at dksX9_told_0 0 rfl rfl)
theorem dX9_told_3 : decode cX9_told 3 = .ok (.dup, 1) := dk_89 (dk_at dksX9_told_0 3 rfl rfl)
theorem dX9_told_4 : decode cX9_told 4 = .ok (.invokespecial 34, 3) := dk_183 0 34 (dk_at dksX9_told_0 4 rfl rfl)
theorem dX9_told_7 : decode cX9_told 7 = .ok (.aload_n 0, 1) := dk_42 (dk_at dksX9_told_0 7 rfl rfl)
theorem dX9_told_8 : decode cX9_told 8 = .ok (.getfield 7, 3) := dk_180 0 7 (dk_at dksX9_told_0 8 rfl rfl)
theorem dX9_told_11 : decode cX9_told 11 = .ok (.invokevirtual 35, 3) := dk_182 0 35 (dk_at dksX9_told_0 11 rfl rfl)
theorem dX9_told_14 : decode cX9_told 14 = .ok (.ldc 39, 2) := dk_18 39 (dk_at dksX9_told_0 14 rfl rfl)
theorem dX9_told_16 : decode cX9_told 16 = .ok (.invokevirtual 41, 3) := dk_182 0 41 (dk_at dksX9_told_0 16 rfl rfl)
theorem dX9_told_19 : decode cX9_told 19 = .ok (.aload_n 0, 1) := dk_42 (dk_at dksX9_told_0 19 rfl rfl)
theorem dX9_told_20 : decode cX9_told 20 = .ok (.invokevirtual 44, 3) := dk_182 0 44 (dk_at dksX9_told_0 20 rfl rfl)
theorem dX9_told_23 : decode cX9_told 23 = .ok (.invokevirtual 41, 3) := dk_182 0 41 (dk_at dksX9_told_1 0 rfl rfl)
theorem dX9_told_26 : decode cX9_told 26 = .ok (.aload_n 0, 1) := dk_42 (dk_at dksX9_told_1 3 rfl rfl)
theorem dX9_told_27 : decode cX9_told 27 = .ok (.getfield 25, 3) := dk_180 0 25 (dk_at dksX9_told_1 4 rfl rfl)
theorem dX9_told_30 : decode cX9_told 30 = .ok (.ifCond .eq 8, 3) := dk_153 0 8 (dk_at dksX9_told_1 7 rfl rfl)
theorem dX9_told_33 : decode cX9_told 33 = .ok (.ldc 48, 2) := dk_18 48 (dk_at dksX9_told_1 10 rfl rfl)
theorem dX9_told_35 : decode cX9_told 35 = .ok (.goto 5, 3) := dk_167 0 5 (dk_at dksX9_told_1 12 rfl rfl)
theorem dX9_told_38 : decode cX9_told 38 = .ok (.ldc 50, 2) := dk_18 50 (dk_at dksX9_told_1 15 rfl rfl)
theorem dX9_told_40 : decode cX9_told 40 = .ok (.invokevirtual 41, 3) := dk_182 0 41 (dk_at dksX9_told_1 17 rfl rfl)
theorem dX9_told_43 : decode cX9_told 43 = .ok (.invokevirtual 52, 3) := dk_182 0 52 (dk_at dksX9_told_1 20 rfl rfl)
theorem dX9_told_46 : decode cX9_told 46 = .ok (.areturn, 1) := dk_176 (dk_at dksX9_told_1 23 rfl rfl)
abbrev cX9_begin : ByteArray := prog_2_method_5_code
def yX9_begin : MethodName := ⟨RX9, "begin", "()I"⟩
theorem dX9_begin_0 : decode cX9_begin 0 = .ok (.aload_n 0, 1) := by decide +kernel
theorem dX9_begin_1 : decode cX9_begin 1 = .ok (.getfield 19, 3) := by decide +kernel
theorem dX9_begin_4 : decode cX9_begin 4 = .ok (.ireturn, 1) := by decide +kernel
abbrev cX9_end : ByteArray := prog_2_method_6_code
def yX9_end : MethodName := ⟨RX9, "end", "()I"⟩
theorem dX9_end_0 : decode cX9_end 0 = .ok (.aload_n 0, 1) := by decide +kernel
theorem dX9_end_1 : decode cX9_end 1 = .ok (.getfield 22, 3) := by decide +kernel
theorem dX9_end_4 : decode cX9_end 4 = .ok (.ireturn, 1) := by decide +kernel
theorem q138 : (Jvm.Cond.initialized "MissingMiddles$Book") ∈ lw_all := lw_g (lw_at lw_m1 36 rfl) rfl
theorem q258 : (Jvm.Cond.selects "MissingMiddles$Book" ({ cls := "java/lang/Object", name := "getClass", desc := "()Ljava/lang/Class;" } : Jvm.MethodName) ({ cls := "java/lang/Object", name := "getClass", desc := "()Ljava/lang/Class;" } : Jvm.MethodName)) ∈ lw_all := lw_g (lw_at lw_m1 156 rfl) rfl
theorem q1614 : (Jvm.Cond.instantiable "MissingMiddles$Book" (6 : Nat)) ∈ lw_all := lw_g (lw_at lw_m7 72 rfl) rfl
theorem q1616 : (Jvm.Cond.instanceMethod ({ cls := "MissingMiddles$Book", name := "<init>", desc := "(IIIIIZ)V" } : Jvm.MethodName)) ∈ lw_all := lw_g (lw_at lw_m7 74 rfl) rfl
theorem q1617 : (Jvm.Cond.code ({ cls := "MissingMiddles$Book", name := "<init>", desc := "(IIIIIZ)V" } : Jvm.MethodName) prog_2_method_1_code (7 : Nat) (Option.none : Option Jvm.ClassFile.FieldType)) ∈ lw_all := lw_g (lw_at lw_m7 75 rfl) rfl
theorem q1618 : (Jvm.Cond.methodLink "MissingMiddles$Book" (1 : Nat) ({ cls := "java/lang/Object", name := "<init>", desc := "()V" } : Jvm.MethodName)) ∈ lw_all := lw_g (lw_at lw_m7 76 rfl) rfl
theorem q1619 : (Jvm.Cond.fieldLink "MissingMiddles$Book" (7 : Nat) "MissingMiddles$Book" "pages" "I") ∈ lw_all := lw_g (lw_at lw_m7 77 rfl) rfl
theorem q1621 : (Jvm.Cond.fieldLink "MissingMiddles$Book" (13 : Nat) "MissingMiddles$Book" "first" "I") ∈ lw_all := lw_g (lw_at lw_m7 79 rfl) rfl
theorem q1625 : (Jvm.Cond.fieldLink "MissingMiddles$Book" (16 : Nat) "MissingMiddles$Book" "last" "I") ∈ lw_all := lw_g (lw_at lw_m7 83 rfl) rfl
theorem q1629 : (Jvm.Cond.fieldLink "MissingMiddles$Book" (19 : Nat) "MissingMiddles$Book" "left" "I") ∈ lw_all := lw_g (lw_at lw_m7 87 rfl) rfl
theorem q1632 : (Jvm.Cond.fieldLink "MissingMiddles$Book" (22 : Nat) "MissingMiddles$Book" "right" "I") ∈ lw_all := lw_g (lw_at lw_m7 90 rfl) rfl
theorem q1635 : (Jvm.Cond.fieldLink "MissingMiddles$Book" (25 : Nat) "MissingMiddles$Book" "isWhole" "Z") ∈ lw_all := lw_g (lw_at lw_m7 93 rfl) rfl
theorem q1637 : (Jvm.Cond.laysFinal "MissingMiddles$Book" "MissingMiddles$Book" "pages" "I") ∈ lw_all := lw_g (lw_at lw_m7 95 rfl) rfl
theorem q1638 : (Jvm.Cond.soleField "MissingMiddles$Book" "pages") ∈ lw_all := lw_g (lw_at lw_m7 96 rfl) rfl
theorem q1639 : (Jvm.Cond.laysFinal "MissingMiddles$Book" "MissingMiddles$Book" "first" "I") ∈ lw_all := lw_g (lw_at lw_m7 97 rfl) rfl
theorem q1640 : (Jvm.Cond.soleField "MissingMiddles$Book" "first") ∈ lw_all := lw_g (lw_at lw_m7 98 rfl) rfl
theorem q1641 : (Jvm.Cond.laysFinal "MissingMiddles$Book" "MissingMiddles$Book" "last" "I") ∈ lw_all := lw_g (lw_at lw_m7 99 rfl) rfl
theorem q1642 : (Jvm.Cond.soleField "MissingMiddles$Book" "last") ∈ lw_all := lw_g (lw_at lw_m7 100 rfl) rfl
theorem q1643 : (Jvm.Cond.laysFinal "MissingMiddles$Book" "MissingMiddles$Book" "left" "I") ∈ lw_all := lw_g (lw_at lw_m7 101 rfl) rfl
theorem q1644 : (Jvm.Cond.soleField "MissingMiddles$Book" "left") ∈ lw_all := lw_g (lw_at lw_m7 102 rfl) rfl
theorem q1645 : (Jvm.Cond.laysFinal "MissingMiddles$Book" "MissingMiddles$Book" "right" "I") ∈ lw_all := lw_g (lw_at lw_m7 103 rfl) rfl
theorem q1646 : (Jvm.Cond.soleField "MissingMiddles$Book" "right") ∈ lw_all := lw_g (lw_at lw_m7 104 rfl) rfl
theorem q1647 : (Jvm.Cond.laysFinal "MissingMiddles$Book" "MissingMiddles$Book" "isWhole" "Z") ∈ lw_all := lw_g (lw_at lw_m7 105 rfl) rfl
theorem q1648 : (Jvm.Cond.soleField "MissingMiddles$Book" "isWhole") ∈ lw_all := lw_g (lw_at lw_m7 106 rfl) rfl
theorem q1649 : (Jvm.Cond.superclass "MissingMiddles$Book" "java/lang/Object") ∈ lw_all := lw_g (lw_at lw_m7 107 rfl) rfl
theorem q1717 : (Jvm.Cond.unhidden "MissingMiddles$Book" "pages" "()I") ∈ lw_tbl := lw_at lw_m7 175 rfl
theorem q1725 : (Jvm.Cond.castable "MissingMiddles$Book" "MissingMiddles$Middle") ∈ lw_tbl := lw_at lw_m7 183 rfl
theorem q1726 : (Jvm.Cond.selects "MissingMiddles$Book" ({ cls := "MissingMiddles$Middle", name := "last", desc := "()I" } : Jvm.MethodName) ({ cls := "MissingMiddles$Book", name := "last", desc := "()I" } : Jvm.MethodName)) ∈ lw_all := lw_g (lw_at lw_m7 184 rfl) rfl
theorem q1727 : (Jvm.Cond.unhidden "MissingMiddles$Book" "last" "()I") ∈ lw_tbl := lw_at lw_m7 185 rfl
theorem q1728 : (Jvm.Cond.instanceMethod ({ cls := "MissingMiddles$Book", name := "last", desc := "()I" } : Jvm.MethodName)) ∈ lw_all := lw_g (lw_at lw_m7 186 rfl) rfl
theorem q1729 : (Jvm.Cond.publicMethod ({ cls := "MissingMiddles$Book", name := "last", desc := "()I" } : Jvm.MethodName)) ∈ lw_tbl := lw_at lw_m7 187 rfl
theorem q1730 : (Jvm.Cond.code ({ cls := "MissingMiddles$Book", name := "last", desc := "()I" } : Jvm.MethodName) prog_2_method_4_code (1 : Nat) (Option.some Jvm.ClassFile.FieldType.int)) ∈ lw_all := lw_g (lw_at lw_m7 188 rfl) rfl
theorem q1741 : (Jvm.Cond.selects "MissingMiddles$Book" ({ cls := "MissingMiddles$Middle", name := "first", desc := "()I" } : Jvm.MethodName) ({ cls := "MissingMiddles$Book", name := "first", desc := "()I" } : Jvm.MethodName)) ∈ lw_all := lw_g (lw_at lw_m7 199 rfl) rfl
theorem q1742 : (Jvm.Cond.unhidden "MissingMiddles$Book" "first" "()I") ∈ lw_tbl := lw_at lw_m7 200 rfl
theorem q1743 : (Jvm.Cond.instanceMethod ({ cls := "MissingMiddles$Book", name := "first", desc := "()I" } : Jvm.MethodName)) ∈ lw_all := lw_g (lw_at lw_m7 201 rfl) rfl
theorem q1744 : (Jvm.Cond.publicMethod ({ cls := "MissingMiddles$Book", name := "first", desc := "()I" } : Jvm.MethodName)) ∈ lw_tbl := lw_at lw_m7 202 rfl
theorem q1745 : (Jvm.Cond.code ({ cls := "MissingMiddles$Book", name := "first", desc := "()I" } : Jvm.MethodName) prog_2_method_3_code (1 : Nat) (Option.some Jvm.ClassFile.FieldType.int)) ∈ lw_all := lw_g (lw_at lw_m7 203 rfl) rfl
theorem q1777 : (Jvm.Cond.selects "MissingMiddles$Book" ({ cls := "java/lang/Object", name := "equals", desc := "(Ljava/lang/Object;)Z" } : Jvm.MethodName) ({ cls := "java/lang/Object", name := "equals", desc := "(Ljava/lang/Object;)Z" } : Jvm.MethodName)) ∈ lw_all := lw_g (lw_at lw_m7 235 rfl) rfl
theorem q1913 : (Jvm.Cond.instanceMethod ({ cls := "MissingMiddles$Book", name := "mended", desc := "()LMissingMiddles$Book;" } : Jvm.MethodName)) ∈ lw_all := lw_g (lw_at lw_m8 131 rfl) rfl
theorem q1914 : (Jvm.Cond.selects "MissingMiddles$Book" ({ cls := "MissingMiddles$Book", name := "mended", desc := "()LMissingMiddles$Book;" } : Jvm.MethodName) ({ cls := "MissingMiddles$Book", name := "mended", desc := "()LMissingMiddles$Book;" } : Jvm.MethodName)) ∈ lw_all := lw_g (lw_at lw_m8 132 rfl) rfl
theorem q1915 : (Jvm.Cond.code ({ cls := "MissingMiddles$Book", name := "mended", desc := "()LMissingMiddles$Book;" } : Jvm.MethodName) prog_2_method_2_code (1 : Nat) (Option.some (Jvm.ClassFile.FieldType.object "MissingMiddles$Book"))) ∈ lw_all := lw_g (lw_at lw_m8 133 rfl) rfl
theorem q1916 : (Jvm.Cond.classLink "MissingMiddles$Book" (8 : Nat) "MissingMiddles$Book") ∈ lw_all := lw_g (lw_at lw_m8 134 rfl) rfl
theorem q1917 : (Jvm.Cond.methodLink "MissingMiddles$Book" (29 : Nat) ({ cls := "MissingMiddles$Book", name := "<init>", desc := "(IIIIIZ)V" } : Jvm.MethodName)) ∈ lw_all := lw_g (lw_at lw_m8 135 rfl) rfl
theorem q2237 : (Jvm.Cond.instanceMethod ({ cls := "MissingMiddles$Book", name := "told", desc := "()Ljava/lang/String;" } : Jvm.MethodName)) ∈ lw_all := lw_g (lw_at lw_m9 215 rfl) rfl
theorem q2238 : (Jvm.Cond.selects "MissingMiddles$Book" ({ cls := "MissingMiddles$Book", name := "told", desc := "()Ljava/lang/String;" } : Jvm.MethodName) ({ cls := "MissingMiddles$Book", name := "told", desc := "()Ljava/lang/String;" } : Jvm.MethodName)) ∈ lw_all := lw_g (lw_at lw_m9 216 rfl) rfl
theorem q2239 : (Jvm.Cond.code ({ cls := "MissingMiddles$Book", name := "told", desc := "()Ljava/lang/String;" } : Jvm.MethodName) prog_2_method_7_code (1 : Nat) (Option.some (Jvm.ClassFile.FieldType.object "java/lang/String"))) ∈ lw_all := lw_g (lw_at lw_m9 217 rfl) rfl
theorem q2240 : (Jvm.Cond.classLink "MissingMiddles$Book" (32 : Nat) "java/lang/StringBuilder") ∈ lw_all := lw_g (lw_at lw_m9 218 rfl) rfl
theorem q2241 : (Jvm.Cond.methodLink "MissingMiddles$Book" (34 : Nat) ({ cls := "java/lang/StringBuilder", name := "<init>", desc := "()V" } : Jvm.MethodName)) ∈ lw_all := lw_g (lw_at lw_m9 219 rfl) rfl
theorem q2242 : (Jvm.Cond.methodLink "MissingMiddles$Book" (35 : Nat) ({ cls := "java/lang/StringBuilder", name := "append", desc := "(I)Ljava/lang/StringBuilder;" } : Jvm.MethodName)) ∈ lw_all := lw_g (lw_at lw_m9 220 rfl) rfl
theorem q2243 : (Jvm.Cond.stringRef "MissingMiddles$Book" (39 : Nat) ":") ∈ lw_tbl := lw_at lw_m9 221 rfl
theorem q2244 : (Jvm.Cond.methodLink "MissingMiddles$Book" (41 : Nat) ({ cls := "java/lang/StringBuilder", name := "append", desc := "(Ljava/lang/String;)Ljava/lang/StringBuilder;" } : Jvm.MethodName)) ∈ lw_all := lw_g (lw_at lw_m9 222 rfl) rfl
theorem q2246 : (Jvm.Cond.unhidden "MissingMiddles$Book" "middle" "()Ljava/lang/String;") ∈ lw_tbl := lw_at lw_m9 224 rfl
theorem q2259 : (Jvm.Cond.selects "MissingMiddles$Book" ({ cls := "MissingMiddles$Middle", name := "begin", desc := "()I" } : Jvm.MethodName) ({ cls := "MissingMiddles$Book", name := "begin", desc := "()I" } : Jvm.MethodName)) ∈ lw_all := lw_g (lw_at lw_m9 237 rfl) rfl
theorem q2260 : (Jvm.Cond.unhidden "MissingMiddles$Book" "begin" "()I") ∈ lw_tbl := lw_at lw_m9 238 rfl
theorem q2261 : (Jvm.Cond.instanceMethod ({ cls := "MissingMiddles$Book", name := "begin", desc := "()I" } : Jvm.MethodName)) ∈ lw_all := lw_g (lw_at lw_m9 239 rfl) rfl
theorem q2262 : (Jvm.Cond.publicMethod ({ cls := "MissingMiddles$Book", name := "begin", desc := "()I" } : Jvm.MethodName)) ∈ lw_tbl := lw_at lw_m10 0 rfl
theorem q2263 : (Jvm.Cond.code ({ cls := "MissingMiddles$Book", name := "begin", desc := "()I" } : Jvm.MethodName) prog_2_method_5_code (1 : Nat) (Option.some Jvm.ClassFile.FieldType.int)) ∈ lw_all := lw_g (lw_at lw_m10 1 rfl) rfl
theorem q2296 : (Jvm.Cond.selects "MissingMiddles$Book" ({ cls := "MissingMiddles$Middle", name := "end", desc := "()I" } : Jvm.MethodName) ({ cls := "MissingMiddles$Book", name := "end", desc := "()I" } : Jvm.MethodName)) ∈ lw_all := lw_g (lw_at lw_m10 34 rfl) rfl
theorem q2297 : (Jvm.Cond.unhidden "MissingMiddles$Book" "end" "()I") ∈ lw_tbl := lw_at lw_m10 35 rfl
theorem q2298 : (Jvm.Cond.instanceMethod ({ cls := "MissingMiddles$Book", name := "end", desc := "()I" } : Jvm.MethodName)) ∈ lw_all := lw_g (lw_at lw_m10 36 rfl) rfl
theorem q2299 : (Jvm.Cond.publicMethod ({ cls := "MissingMiddles$Book", name := "end", desc := "()I" } : Jvm.MethodName)) ∈ lw_tbl := lw_at lw_m10 37 rfl
theorem q2300 : (Jvm.Cond.code ({ cls := "MissingMiddles$Book", name := "end", desc := "()I" } : Jvm.MethodName) prog_2_method_6_code (1 : Nat) (Option.some Jvm.ClassFile.FieldType.int)) ∈ lw_all := lw_g (lw_at lw_m10 38 rfl) rfl
theorem q2307 : (Jvm.Cond.stringRef "MissingMiddles$Book" (48 : Nat) "!") ∈ lw_tbl := lw_at lw_m10 45 rfl
theorem q2308 : (Jvm.Cond.stringRef "MissingMiddles$Book" (50 : Nat) "") ∈ lw_tbl := lw_at lw_m10 46 rfl
theorem q2309 : (Jvm.Cond.methodLink "MissingMiddles$Book" (52 : Nat) ({ cls := "java/lang/StringBuilder", name := "toString", desc := "()Ljava/lang/String;" } : Jvm.MethodName)) ∈ lw_all := lw_g (lw_at lw_m10 47 rfl) rfl
theorem q3187 : (Jvm.Cond.castable "MissingMiddles$Book" "java/lang/Object") ∈ lw_tbl := lw_at lw_m13 205 rfl
theorem in_X9 : ∀ w ∈ wsX90, w ∈ lw_all := lw_in wsX90 [1637, 1639, 1641, 1643, 1645, 1647] (by decide +kernel) (by decide +kernel)
