/-! java/util/AbstractCollection -/
set_option maxRecDepth 100000
def RJ0 : String := "java/util/AbstractCollection"
abbrev cJ0_init : ByteArray := prog_45_method_1_code
def yJ0_init : MethodName := ⟨RJ0, "<init>", "()V"⟩
theorem dJ0_init_0 : decode cJ0_init 0 = .ok (.aload_n 0, 1) := by decide +kernel
theorem dJ0_init_1 : decode cJ0_init 1 = .ok (.invokespecial 1, 3) := by decide +kernel
theorem dJ0_init_4 : decode cJ0_init 4 = .ok (.return_, 1) := by decide +kernel
abbrev cJ0_isEmpty : ByteArray := prog_45_method_4_code
def yJ0_isEmpty : MethodName := ⟨RJ0, "isEmpty", "()Z"⟩
def dkwJ0_isEmpty_0 : List UInt8 := [42, 182, 0, 7, 154, 0, 7, 4, 167, 0, 4, 3, 172]
abbrev dktJ0_isEmpty_0 : List UInt8 := dkwJ0_isEmpty_0 ++ []
theorem dksJ0_isEmpty_0 : cJ0_isEmpty.data.toList.drop 0 = dktJ0_isEmpty_0 := by decide +kernel
theorem dJ0_isEmpty_0 : decode cJ0_isEmpty 0 = .ok (.aload_n 0, 1) := dk_42 (dk_at dksJ0_isEmpty_0 0 rfl rfl)
theorem dJ0_isEmpty_1 : decode cJ0_isEmpty 1 = .ok (.invokevirtual 7, 3) := dk_182 0 7 (dk_at dksJ0_isEmpty_0 1 rfl rfl)
theorem dJ0_isEmpty_4 : decode cJ0_isEmpty 4 = .ok (.ifCond .ne 7, 3) := dk_154 0 7 (dk_at dksJ0_isEmpty_0 4 rfl rfl)
theorem dJ0_isEmpty_7 : decode cJ0_isEmpty 7 = .ok (.iconst 1, 1) := dk_4 (dk_at dksJ0_isEmpty_0 7 rfl rfl)
theorem dJ0_isEmpty_8 : decode cJ0_isEmpty 8 = .ok (.goto 4, 3) := dk_167 0 4 (dk_at dksJ0_isEmpty_0 8 rfl rfl)
theorem dJ0_isEmpty_11 : decode cJ0_isEmpty 11 = .ok (.iconst 0, 1) := dk_3 (dk_at dksJ0_isEmpty_0 11 rfl rfl)
theorem dJ0_isEmpty_12 : decode cJ0_isEmpty 12 = .ok (.ireturn, 1) := dk_172 (dk_at dksJ0_isEmpty_0 12 rfl rfl)
theorem q105 : (Jvm.Cond.initialized "java/util/AbstractCollection") ∈ lw_all := lw_g (lw_at lw_m1 3 rfl) rfl
theorem q177 : (Jvm.Cond.instanceMethod ({ cls := "java/util/AbstractCollection", name := "<init>", desc := "()V" } : Jvm.MethodName)) ∈ lw_all := lw_g (lw_at lw_m1 75 rfl) rfl
theorem q178 : (Jvm.Cond.code ({ cls := "java/util/AbstractCollection", name := "<init>", desc := "()V" } : Jvm.MethodName) prog_45_method_1_code (1 : Nat) (Option.none : Option Jvm.ClassFile.FieldType)) ∈ lw_all := lw_g (lw_at lw_m1 76 rfl) rfl
theorem q179 : (Jvm.Cond.methodLink "java/util/AbstractCollection" (1 : Nat) ({ cls := "java/lang/Object", name := "<init>", desc := "()V" } : Jvm.MethodName)) ∈ lw_all := lw_g (lw_at lw_m1 77 rfl) rfl
theorem q561 : (Jvm.Cond.declares ({ cls := "java/util/AbstractCollection", name := "size", desc := "()I" } : Jvm.MethodName)) ∈ lw_tbl := lw_at lw_m2 219 rfl
theorem q1669 : (Jvm.Cond.declares ({ cls := "java/util/AbstractCollection", name := "isEmpty", desc := "()Z" } : Jvm.MethodName)) ∈ lw_tbl := lw_at lw_m7 127 rfl
theorem q1671 : (Jvm.Cond.instanceMethod ({ cls := "java/util/AbstractCollection", name := "isEmpty", desc := "()Z" } : Jvm.MethodName)) ∈ lw_all := lw_g (lw_at lw_m7 129 rfl) rfl
theorem q1672 : (Jvm.Cond.code ({ cls := "java/util/AbstractCollection", name := "isEmpty", desc := "()Z" } : Jvm.MethodName) prog_45_method_4_code (1 : Nat) (Option.some Jvm.ClassFile.FieldType.boolean)) ∈ lw_all := lw_g (lw_at lw_m7 130 rfl) rfl
theorem q1673 : (Jvm.Cond.methodLink "java/util/AbstractCollection" (7 : Nat) ({ cls := "java/util/AbstractCollection", name := "size", desc := "()I" } : Jvm.MethodName)) ∈ lw_all := lw_g (lw_at lw_m7 131 rfl) rfl
theorem q3158 : (Jvm.Cond.sameMethod "java/util/AbstractCollection" "java/util/AbstractCollection" "size" "()I") ∈ lw_all := lw_g (lw_at lw_m13 176 rfl) rfl
/-! java/util/AbstractList -/
set_option maxRecDepth 100000
def RJ1 : String := "java/util/AbstractList"
abbrev cJ1_init : ByteArray := prog_46_method_1_code
def yJ1_init : MethodName := ⟨RJ1, "<init>", "()V"⟩
def dkwJ1_init_0 : List UInt8 := [42, 183, 0, 1, 42, 3, 181, 0, 7, 177]
abbrev dktJ1_init_0 : List UInt8 := dkwJ1_init_0 ++ []
theorem dksJ1_init_0 : cJ1_init.data.toList.drop 0 = dktJ1_init_0 := by decide +kernel
theorem dJ1_init_0 : decode cJ1_init 0 = .ok (.aload_n 0, 1) := dk_42 (dk_at dksJ1_init_0 0 rfl rfl)
theorem dJ1_init_1 : decode cJ1_init 1 = .ok (.invokespecial 1, 3) := dk_183 0 1 (dk_at dksJ1_init_0 1 rfl rfl)
theorem dJ1_init_4 : decode cJ1_init 4 = .ok (.aload_n 0, 1) := dk_42 (dk_at dksJ1_init_0 4 rfl rfl)
theorem dJ1_init_5 : decode cJ1_init 5 = .ok (.iconst 0, 1) := dk_3 (dk_at dksJ1_init_0 5 rfl rfl)
theorem dJ1_init_6 : decode cJ1_init 6 = .ok (.putfield 7, 3) := dk_181 0 7 (dk_at dksJ1_init_0 6 rfl rfl)
theorem dJ1_init_9 : decode cJ1_init 9 = .ok (.return_, 1) := dk_177 (dk_at dksJ1_init_0 9 rfl rfl)
abbrev cJ1_listIterator : ByteArray := prog_46_method_12_code
def yJ1_listIterator : MethodName := ⟨RJ1, "listIterator", "()Ljava/util/ListIterator;"⟩
def dkwJ1_listIterator_0 : List UInt8 := [42, 3, 182, 0, 47, 176]
abbrev dktJ1_listIterator_0 : List UInt8 := dkwJ1_listIterator_0 ++ []
theorem dksJ1_listIterator_0 : cJ1_listIterator.data.toList.drop 0 = dktJ1_listIterator_0 := by decide +kernel
theorem dJ1_listIterator_0 : decode cJ1_listIterator 0 = .ok (.aload_n 0, 1) := dk_42 (dk_at dksJ1_listIterator_0 0 rfl rfl)
theorem dJ1_listIterator_1 : decode cJ1_listIterator 1 = .ok (.iconst 0, 1) := dk_3 (dk_at dksJ1_listIterator_0 1 rfl rfl)
theorem dJ1_listIterator_2 : decode cJ1_listIterator 2 = .ok (.invokevirtual 47, 3) := dk_182 0 47 (dk_at dksJ1_listIterator_0 2 rfl rfl)
theorem dJ1_listIterator_5 : decode cJ1_listIterator 5 = .ok (.areturn, 1) := dk_176 (dk_at dksJ1_listIterator_0 5 rfl rfl)
theorem q106 : (Jvm.Cond.initialized "java/util/AbstractList") ∈ lw_all := lw_g (lw_at lw_m1 4 rfl) rfl
theorem q174 : (Jvm.Cond.instanceMethod ({ cls := "java/util/AbstractList", name := "<init>", desc := "()V" } : Jvm.MethodName)) ∈ lw_all := lw_g (lw_at lw_m1 72 rfl) rfl
theorem q175 : (Jvm.Cond.code ({ cls := "java/util/AbstractList", name := "<init>", desc := "()V" } : Jvm.MethodName) prog_46_method_1_code (1 : Nat) (Option.none : Option Jvm.ClassFile.FieldType)) ∈ lw_all := lw_g (lw_at lw_m1 73 rfl) rfl
theorem q176 : (Jvm.Cond.methodLink "java/util/AbstractList" (1 : Nat) ({ cls := "java/util/AbstractCollection", name := "<init>", desc := "()V" } : Jvm.MethodName)) ∈ lw_all := lw_g (lw_at lw_m1 74 rfl) rfl
theorem q186 : (Jvm.Cond.fieldLink "java/util/AbstractList" (7 : Nat) "java/util/AbstractList" "modCount" "I") ∈ lw_all := lw_g (lw_at lw_m1 84 rfl) rfl
theorem q199 : (Jvm.Cond.soleField "java/util/AbstractList" "modCount") ∈ lw_all := lw_g (lw_at lw_m1 97 rfl) rfl
theorem q560 : (Jvm.Cond.sameMethod "java/util/AbstractList" "java/util/AbstractCollection" "size" "()I") ∈ lw_all := lw_g (lw_at lw_m2 218 rfl) rfl
theorem q596 : (Jvm.Cond.declares ({ cls := "java/util/AbstractList", name := "get", desc := "(I)Ljava/lang/Object;" } : Jvm.MethodName)) ∈ lw_tbl := lw_at lw_m3 14 rfl
theorem q597 : (Jvm.Cond.sameMethod "java/util/AbstractList" "java/util/AbstractList" "get" "(I)Ljava/lang/Object;") ∈ lw_all := lw_g (lw_at lw_m3 15 rfl) rfl
theorem q1114 : (Jvm.Cond.declares ({ cls := "java/util/AbstractList", name := "listIterator", desc := "()Ljava/util/ListIterator;" } : Jvm.MethodName)) ∈ lw_tbl := lw_at lw_m5 52 rfl
theorem q1116 : (Jvm.Cond.instanceMethod ({ cls := "java/util/AbstractList", name := "listIterator", desc := "()Ljava/util/ListIterator;" } : Jvm.MethodName)) ∈ lw_all := lw_g (lw_at lw_m5 54 rfl) rfl
theorem q1117 : (Jvm.Cond.code ({ cls := "java/util/AbstractList", name := "listIterator", desc := "()Ljava/util/ListIterator;" } : Jvm.MethodName) prog_46_method_12_code (1 : Nat) (Option.some (Jvm.ClassFile.FieldType.object "java/util/ListIterator"))) ∈ lw_all := lw_g (lw_at lw_m5 55 rfl) rfl
theorem q1118 : (Jvm.Cond.methodLink "java/util/AbstractList" (47 : Nat) ({ cls := "java/util/AbstractList", name := "listIterator", desc := "(I)Ljava/util/ListIterator;" } : Jvm.MethodName)) ∈ lw_all := lw_g (lw_at lw_m5 56 rfl) rfl
theorem q1119 : (Jvm.Cond.instanceMethod ({ cls := "java/util/AbstractList", name := "listIterator", desc := "(I)Ljava/util/ListIterator;" } : Jvm.MethodName)) ∈ lw_all := lw_g (lw_at lw_m5 57 rfl) rfl
theorem q1120 : (Jvm.Cond.sameMethod "java/util/AbstractList" "java/util/AbstractList" "listIterator" "(I)Ljava/util/ListIterator;") ∈ lw_all := lw_g (lw_at lw_m5 58 rfl) rfl
theorem q1189 : (Jvm.Cond.declares ({ cls := "java/util/AbstractList", name := "listIterator", desc := "(I)Ljava/util/ListIterator;" } : Jvm.MethodName)) ∈ lw_tbl := lw_at lw_m5 127 rfl
/-! java/util/ArrayList -/
set_option maxRecDepth 100000
def RJ2 : String := "java/util/ArrayList"
def TJ2 : u_T := fun k => match k with
  | 0 => ("java/util/AbstractList", "modCount", "I", false)
  | 1 => ("java/util/ArrayList", "elementData", "[Ljava/lang/Object;", false)
  | _ => ("java/util/ArrayList", "size", "I", false)
def tyJ2 : Nat → FieldType := fun k => match k with
  | 0 => .int
  | 1 => .array (.object "java/lang/Object")
  | _ => .int
abbrev wsJ20 : List Cond := u_ws RJ2 TJ2 3
theorem nmJ2 : ∀ a, a < 3 → ∀ b, b < 3 → a ≠ b → (TJ2 a).2.1 ≠ (TJ2 b).2.1 := by decide +kernel
theorem tyJ2_ok : ∀ k, k < 3 → parseFieldDescriptor (TJ2 k).2.2.1 = some (tyJ2 k) := by decide +kernel
abbrev cJ2_init : ByteArray := prog_51_method_2_code
def yJ2_init : MethodName := ⟨RJ2, "<init>", "()V"⟩
def dkwJ2_init_0 : List UInt8 := [42, 183, 0, 1, 42, 178, 0, 39, 181, 0, 9, 177]
abbrev dktJ2_init_0 : List UInt8 := dkwJ2_init_0 ++ []
theorem dksJ2_init_0 : cJ2_init.data.toList.drop 0 = dktJ2_init_0 := by decide +kernel
theorem dJ2_init_0 : decode cJ2_init 0 = .ok (.aload_n 0, 1) := dk_42 (dk_at dksJ2_init_0 0 rfl rfl)
theorem dJ2_init_1 : decode cJ2_init 1 = .ok (.invokespecial 1, 3) := dk_183 0 1 (dk_at dksJ2_init_0 1 rfl rfl)
theorem dJ2_init_4 : decode cJ2_init 4 = .ok (.aload_n 0, 1) := dk_42 (dk_at dksJ2_init_0 4 rfl rfl)
theorem dJ2_init_5 : decode cJ2_init 5 = .ok (.getstatic 39, 3) := dk_178 0 39 (dk_at dksJ2_init_0 5 rfl rfl)
theorem dJ2_init_8 : decode cJ2_init 8 = .ok (.putfield 9, 3) := dk_181 0 9 (dk_at dksJ2_init_0 8 rfl rfl)
theorem dJ2_init_11 : decode cJ2_init 11 = .ok (.return_, 1) := dk_177 (dk_at dksJ2_init_0 11 rfl rfl)
abbrev cJ2_add : ByteArray := prog_51_method_25_code
def yJ2_add : MethodName := ⟨RJ2, "add", "(Ljava/lang/Object;)Z"⟩
def dkwJ2_add_1 : List UInt8 := [172]
abbrev dktJ2_add_1 : List UInt8 := dkwJ2_add_1 ++ []
def dkwJ2_add_0 : List UInt8 := [42, 89, 180, 0, 63, 4, 96, 181, 0, 63, 42, 43, 42, 180, 0, 9, 42, 180, 0, 48, 182, 0, 131, 4]
abbrev dktJ2_add_0 : List UInt8 := dkwJ2_add_0 ++ dktJ2_add_1
theorem dksJ2_add_0 : cJ2_add.data.toList.drop 0 = dktJ2_add_0 := by decide +kernel
theorem dksJ2_add_1 : cJ2_add.data.toList.drop 24 = dktJ2_add_1 := dk_seg dksJ2_add_0 24 rfl rfl
theorem dJ2_add_0 : decode cJ2_add 0 = .ok (.aload_n 0, 1) := dk_42 (dk_at dksJ2_add_0 0 rfl rfl)
theorem dJ2_add_1 : decode cJ2_add 1 = .ok (.dup, 1) := dk_89 (dk_at dksJ2_add_0 1 rfl rfl)
theorem dJ2_add_2 : decode cJ2_add 2 = .ok (.getfield 63, 3) := dk_180 0 63 (dk_at dksJ2_add_0 2 rfl rfl)
theorem dJ2_add_5 : decode cJ2_add 5 = .ok (.iconst 1, 1) := dk_4 (dk_at dksJ2_add_0 5 rfl rfl)
theorem dJ2_add_6 : decode cJ2_add 6 = .ok (.iadd, 1) := dk_96 (dk_at dksJ2_add_0 6 rfl rfl)
theorem dJ2_add_7 : decode cJ2_add 7 = .ok (.putfield 63, 3) := dk_181 0 63 (dk_at dksJ2_add_0 7 rfl rfl)
theorem dJ2_add_10 : decode cJ2_add 10 = .ok (.aload_n 0, 1) := dk_42 (dk_at dksJ2_add_0 10 rfl rfl)
theorem dJ2_add_11 : decode cJ2_add 11 = .ok (.aload_n 1, 1) := dk_43 (dk_at dksJ2_add_0 11 rfl rfl)
theorem dJ2_add_12 : decode cJ2_add 12 = .ok (.aload_n 0, 1) := dk_42 (dk_at dksJ2_add_0 12 rfl rfl)
theorem dJ2_add_13 : decode cJ2_add 13 = .ok (.getfield 9, 3) := dk_180 0 9 (dk_at dksJ2_add_0 13 rfl rfl)
theorem dJ2_add_16 : decode cJ2_add 16 = .ok (.aload_n 0, 1) := dk_42 (dk_at dksJ2_add_0 16 rfl rfl)
theorem dJ2_add_17 : decode cJ2_add 17 = .ok (.getfield 48, 3) := dk_180 0 48 (dk_at dksJ2_add_0 17 rfl rfl)
theorem dJ2_add_20 : decode cJ2_add 20 = .ok (.invokevirtual 131, 3) := dk_182 0 131 (dk_at dksJ2_add_0 20 rfl rfl)
theorem dJ2_add_23 : decode cJ2_add 23 = .ok (.iconst 1, 1) := dk_4 (dk_at dksJ2_add_0 23 rfl rfl)
theorem dJ2_add_24 : decode cJ2_add 24 = .ok (.ireturn, 1) := dk_172 (dk_at dksJ2_add_1 0 rfl rfl)
abbrev cJ2_add_2 : ByteArray := prog_51_method_24_code
def yJ2_add_2 : MethodName := ⟨RJ2, "add", "(Ljava/lang/Object;[Ljava/lang/Object;I)V"⟩
def dkwJ2_add_2_0 : List UInt8 := [29, 44, 190, 160, 0, 8, 42, 182, 0, 129, 77, 44, 29, 43, 83, 42, 29, 4, 96, 181, 0, 48, 177]
abbrev dktJ2_add_2_0 : List UInt8 := dkwJ2_add_2_0 ++ []
theorem dksJ2_add_2_0 : cJ2_add_2.data.toList.drop 0 = dktJ2_add_2_0 := by decide +kernel
theorem dJ2_add_2_0 : decode cJ2_add_2 0 = .ok (.iload_n 3, 1) := dk_29 (dk_at dksJ2_add_2_0 0 rfl rfl)
theorem dJ2_add_2_1 : decode cJ2_add_2 1 = .ok (.aload_n 2, 1) := dk_44 (dk_at dksJ2_add_2_0 1 rfl rfl)
theorem dJ2_add_2_2 : decode cJ2_add_2 2 = .ok (.arraylength, 1) := dk_190 (dk_at dksJ2_add_2_0 2 rfl rfl)
theorem dJ2_add_2_3 : decode cJ2_add_2 3 = .ok (.if_icmp .ne 8, 3) := dk_160 0 8 (dk_at dksJ2_add_2_0 3 rfl rfl)
theorem dJ2_add_2_6 : decode cJ2_add_2 6 = .ok (.aload_n 0, 1) := dk_42 (dk_at dksJ2_add_2_0 6 rfl rfl)
theorem dJ2_add_2_7 : decode cJ2_add_2 7 = .ok (.invokevirtual 129, 3) := dk_182 0 129 (dk_at dksJ2_add_2_0 7 rfl rfl)
theorem dJ2_add_2_10 : decode cJ2_add_2 10 = .ok (.astore_n 2, 1) := dk_77 (dk_at dksJ2_add_2_0 10 rfl rfl)
theorem dJ2_add_2_11 : decode cJ2_add_2 11 = .ok (.aload_n 2, 1) := dk_44 (dk_at dksJ2_add_2_0 11 rfl rfl)
theorem dJ2_add_2_12 : decode cJ2_add_2 12 = .ok (.iload_n 3, 1) := dk_29 (dk_at dksJ2_add_2_0 12 rfl rfl)
theorem dJ2_add_2_13 : decode cJ2_add_2 13 = .ok (.aload_n 1, 1) := dk_43 (dk_at dksJ2_add_2_0 13 rfl rfl)
theorem dJ2_add_2_14 : decode cJ2_add_2 14 = .ok (.aastore, 1) := dk_83 (dk_at dksJ2_add_2_0 14 rfl rfl)
theorem dJ2_add_2_15 : decode cJ2_add_2 15 = .ok (.aload_n 0, 1) := dk_42 (dk_at dksJ2_add_2_0 15 rfl rfl)
theorem dJ2_add_2_16 : decode cJ2_add_2 16 = .ok (.iload_n 3, 1) := dk_29 (dk_at dksJ2_add_2_0 16 rfl rfl)
theorem dJ2_add_2_17 : decode cJ2_add_2 17 = .ok (.iconst 1, 1) := dk_4 (dk_at dksJ2_add_2_0 17 rfl rfl)
theorem dJ2_add_2_18 : decode cJ2_add_2 18 = .ok (.iadd, 1) := dk_96 (dk_at dksJ2_add_2_0 18 rfl rfl)
theorem dJ2_add_2_19 : decode cJ2_add_2 19 = .ok (.putfield 48, 3) := dk_181 0 48 (dk_at dksJ2_add_2_0 19 rfl rfl)
theorem dJ2_add_2_22 : decode cJ2_add_2 22 = .ok (.return_, 1) := dk_177 (dk_at dksJ2_add_2_0 22 rfl rfl)
abbrev cJ2_grow : ByteArray := prog_51_method_7_code
def yJ2_grow : MethodName := ⟨RJ2, "grow", "()[Ljava/lang/Object;"⟩
def dkwJ2_grow_0 : List UInt8 := [42, 42, 180, 0, 48, 4, 96, 182, 0, 69, 176]
abbrev dktJ2_grow_0 : List UInt8 := dkwJ2_grow_0 ++ []
theorem dksJ2_grow_0 : cJ2_grow.data.toList.drop 0 = dktJ2_grow_0 := by decide +kernel
theorem dJ2_grow_0 : decode cJ2_grow 0 = .ok (.aload_n 0, 1) := dk_42 (dk_at dksJ2_grow_0 0 rfl rfl)
theorem dJ2_grow_1 : decode cJ2_grow 1 = .ok (.aload_n 0, 1) := dk_42 (dk_at dksJ2_grow_0 1 rfl rfl)
theorem dJ2_grow_2 : decode cJ2_grow 2 = .ok (.getfield 48, 3) := dk_180 0 48 (dk_at dksJ2_grow_0 2 rfl rfl)
theorem dJ2_grow_5 : decode cJ2_grow 5 = .ok (.iconst 1, 1) := dk_4 (dk_at dksJ2_grow_0 5 rfl rfl)
theorem dJ2_grow_6 : decode cJ2_grow 6 = .ok (.iadd, 1) := dk_96 (dk_at dksJ2_grow_0 6 rfl rfl)
theorem dJ2_grow_7 : decode cJ2_grow 7 = .ok (.invokevirtual 69, 3) := dk_182 0 69 (dk_at dksJ2_grow_0 7 rfl rfl)
theorem dJ2_grow_10 : decode cJ2_grow 10 = .ok (.areturn, 1) := dk_176 (dk_at dksJ2_grow_0 10 rfl rfl)
abbrev cJ2_grow_2 : ByteArray := prog_51_method_6_code
def yJ2_grow_2 : MethodName := ⟨RJ2, "grow", "(I)[Ljava/lang/Object;"⟩
def dkwJ2_grow_2_2 : List UInt8 := [27, 184, 0, 79, 189, 0, 7, 90, 181, 0, 9, 176]
abbrev dktJ2_grow_2_2 : List UInt8 := dkwJ2_grow_2_2 ++ []
def dkwJ2_grow_2_1 : List UInt8 := [28, 4, 122, 184, 0, 73, 62, 42, 42, 180, 0, 9, 29, 184, 0, 66, 90, 181, 0, 9, 176, 42, 16, 10]
abbrev dktJ2_grow_2_1 : List UInt8 := dkwJ2_grow_2_1 ++ dktJ2_grow_2_2
def dkwJ2_grow_2_0 : List UInt8 := [42, 180, 0, 9, 190, 61, 28, 157, 0, 13, 42, 180, 0, 9, 178, 0, 39, 165, 0, 28, 28, 27, 28, 100]
abbrev dktJ2_grow_2_0 : List UInt8 := dkwJ2_grow_2_0 ++ dktJ2_grow_2_1
theorem dksJ2_grow_2_0 : cJ2_grow_2.data.toList.drop 0 = dktJ2_grow_2_0 := by decide +kernel
theorem dksJ2_grow_2_1 : cJ2_grow_2.data.toList.drop 24 = dktJ2_grow_2_1 := dk_seg dksJ2_grow_2_0 24 rfl rfl
theorem dksJ2_grow_2_2 : cJ2_grow_2.data.toList.drop 48 = dktJ2_grow_2_2 := dk_seg dksJ2_grow_2_1 24 rfl rfl
theorem dJ2_grow_2_0 : decode cJ2_grow_2 0 = .ok (.aload_n 0, 1) := dk_42 (dk_at dksJ2_grow_2_0 0 rfl rfl)
theorem dJ2_grow_2_1 : decode cJ2_grow_2 1 = .ok (.getfield 9, 3) := dk_180 0 9 (dk_at dksJ2_grow_2_0 1 rfl rfl)
theorem dJ2_grow_2_4 : decode cJ2_grow_2 4 = .ok (.arraylength, 1) := dk_190 (dk_at dksJ2_grow_2_0 4 rfl rfl)
theorem dJ2_grow_2_5 : decode cJ2_grow_2 5 = .ok (.istore_n 2, 1) := dk_61 (dk_at dksJ2_grow_2_0 5 rfl rfl)
theorem dJ2_grow_2_6 : decode cJ2_grow_2 6 = .ok (.iload_n 2, 1) := dk_28 (dk_at dksJ2_grow_2_0 6 rfl rfl)
theorem dJ2_grow_2_7 : decode cJ2_grow_2 7 = .ok (.ifCond .gt 13, 3) := dk_157 0 13 (dk_at dksJ2_grow_2_0 7 rfl rfl)
theorem dJ2_grow_2_10 : decode cJ2_grow_2 10 = .ok (.aload_n 0, 1) := dk_42 (dk_at dksJ2_grow_2_0 10 rfl rfl)
theorem dJ2_grow_2_11 : decode cJ2_grow_2 11 = .ok (.getfield 9, 3) := dk_180 0 9 (dk_at dksJ2_grow_2_0 11 rfl rfl)
theorem dJ2_grow_2_14 : decode cJ2_grow_2 14 = .ok (.getstatic 39, 3) := dk_178 0 39 (dk_at dksJ2_grow_2_0 14 rfl rfl)
theorem dJ2_grow_2_17 : decode cJ2_grow_2 17 = .ok (.if_acmp .eq 28, 3) := dk_165 0 28 (dk_at dksJ2_grow_2_0 17 rfl rfl)
theorem dJ2_grow_2_20 : decode cJ2_grow_2 20 = .ok (.iload_n 2, 1) := dk_28 (dk_at dksJ2_grow_2_0 20 rfl rfl)
theorem dJ2_grow_2_21 : decode cJ2_grow_2 21 = .ok (.iload_n 1, 1) := dk_27 (dk_at dksJ2_grow_2_0 21 rfl rfl)
theorem dJ2_grow_2_22 : decode cJ2_grow_2 22 = .ok (.iload_n 2, 1) := dk_28 (dk_at dksJ2_grow_2_0 22 rfl rfl)
theorem dJ2_grow_2_23 : decode cJ2_grow_2 23 = .ok (.isub, 1) := dk_100 (dk_at dksJ2_grow_2_0 23 rfl rfl)
theorem dJ2_grow_2_24 : decode cJ2_grow_2 24 = .ok (.iload_n 2, 1) := dk_28 (dk_at dksJ2_grow_2_1 0 rfl rfl)
theorem dJ2_grow_2_25 : decode cJ2_grow_2 25 = .ok (.iconst 1, 1) := dk_4 (dk_at dksJ2_grow_2_1 1 rfl rfl)
theorem dJ2_grow_2_26 : decode cJ2_grow_2 26 = .ok (.ishr, 1) := dk_122 (dk_at dksJ2_grow_2_1 2 rfl rfl)
theorem dJ2_grow_2_27 : decode cJ2_grow_2 27 = .ok (.invokestatic 73, 3) := dk_184 0 73 (dk_at dksJ2_grow_2_1 3 rfl rfl)
theorem dJ2_grow_2_30 : decode cJ2_grow_2 30 = .ok (.istore_n 3, 1) := dk_62 (dk_at dksJ2_grow_2_1 6 rfl rfl)
theorem dJ2_grow_2_31 : decode cJ2_grow_2 31 = .ok (.aload_n 0, 1) := dk_42 (dk_at dksJ2_grow_2_1 7 rfl rfl)
theorem dJ2_grow_2_32 : decode cJ2_grow_2 32 = .ok (.aload_n 0, 1) := dk_42 (dk_at dksJ2_grow_2_1 8 rfl rfl)
theorem dJ2_grow_2_33 : decode cJ2_grow_2 33 = .ok (.getfield 9, 3) := dk_180 0 9 (dk_at dksJ2_grow_2_1 9 rfl rfl)
theorem dJ2_grow_2_36 : decode cJ2_grow_2 36 = .ok (.iload_n 3, 1) := dk_29 (dk_at dksJ2_grow_2_1 12 rfl rfl)
theorem dJ2_grow_2_37 : decode cJ2_grow_2 37 = .ok (.invokestatic 66, 3) := dk_184 0 66 (dk_at dksJ2_grow_2_1 13 rfl rfl)
theorem dJ2_grow_2_40 : decode cJ2_grow_2 40 = .ok (.dup_x1, 1) := dk_90 (dk_at dksJ2_grow_2_1 16 rfl rfl)
theorem dJ2_grow_2_41 : decode cJ2_grow_2 41 = .ok (.putfield 9, 3) := dk_181 0 9 (dk_at dksJ2_grow_2_1 17 rfl rfl)
theorem dJ2_grow_2_44 : decode cJ2_grow_2 44 = .ok (.areturn, 1) := dk_176 (dk_at dksJ2_grow_2_1 20 rfl rfl)
theorem dJ2_grow_2_45 : decode cJ2_grow_2 45 = .ok (.aload_n 0, 1) := dk_42 (dk_at dksJ2_grow_2_1 21 rfl rfl)
theorem dJ2_grow_2_46 : decode cJ2_grow_2 46 = .ok (.bipush 10, 2) := dk_16 10 (dk_at dksJ2_grow_2_1 22 rfl rfl)
theorem dJ2_grow_2_48 : decode cJ2_grow_2 48 = .ok (.iload_n 1, 1) := dk_27 (dk_at dksJ2_grow_2_2 0 rfl rfl)
theorem dJ2_grow_2_49 : decode cJ2_grow_2 49 = .ok (.invokestatic 79, 3) := dk_184 0 79 (dk_at dksJ2_grow_2_2 1 rfl rfl)
theorem dJ2_grow_2_52 : decode cJ2_grow_2 52 = .ok (.anewarray 7, 3) := dk_189 0 7 (dk_at dksJ2_grow_2_2 4 rfl rfl)
theorem dJ2_grow_2_55 : decode cJ2_grow_2 55 = .ok (.dup_x1, 1) := dk_90 (dk_at dksJ2_grow_2_2 7 rfl rfl)
theorem dJ2_grow_2_56 : decode cJ2_grow_2 56 = .ok (.putfield 9, 3) := dk_181 0 9 (dk_at dksJ2_grow_2_2 8 rfl rfl)
theorem dJ2_grow_2_59 : decode cJ2_grow_2 59 = .ok (.areturn, 1) := dk_176 (dk_at dksJ2_grow_2_2 11 rfl rfl)
abbrev cJ2_size : ByteArray := prog_51_method_8_code
def yJ2_size : MethodName := ⟨RJ2, "size", "()I"⟩
theorem dJ2_size_0 : decode cJ2_size 0 = .ok (.aload_n 0, 1) := by decide +kernel
theorem dJ2_size_1 : decode cJ2_size 1 = .ok (.getfield 48, 3) := by decide +kernel
theorem dJ2_size_4 : decode cJ2_size 4 = .ok (.ireturn, 1) := by decide +kernel
abbrev cJ2_get : ByteArray := prog_51_method_20_code
def yJ2_get : MethodName := ⟨RJ2, "get", "(I)Ljava/lang/Object;"⟩
def dkwJ2_get_0 : List UInt8 := [27, 42, 180, 0, 48, 184, 0, 118, 87, 42, 27, 182, 0, 123, 176]
abbrev dktJ2_get_0 : List UInt8 := dkwJ2_get_0 ++ []
theorem dksJ2_get_0 : cJ2_get.data.toList.drop 0 = dktJ2_get_0 := by decide +kernel
theorem dJ2_get_0 : decode cJ2_get 0 = .ok (.iload_n 1, 1) := dk_27 (dk_at dksJ2_get_0 0 rfl rfl)
theorem dJ2_get_1 : decode cJ2_get 1 = .ok (.aload_n 0, 1) := dk_42 (dk_at dksJ2_get_0 1 rfl rfl)
theorem dJ2_get_2 : decode cJ2_get 2 = .ok (.getfield 48, 3) := dk_180 0 48 (dk_at dksJ2_get_0 2 rfl rfl)
theorem dJ2_get_5 : decode cJ2_get 5 = .ok (.invokestatic 118, 3) := dk_184 0 118 (dk_at dksJ2_get_0 5 rfl rfl)
theorem dJ2_get_8 : decode cJ2_get 8 = .ok (.pop, 1) := dk_87 (dk_at dksJ2_get_0 8 rfl rfl)
theorem dJ2_get_9 : decode cJ2_get 9 = .ok (.aload_n 0, 1) := dk_42 (dk_at dksJ2_get_0 9 rfl rfl)
theorem dJ2_get_10 : decode cJ2_get 10 = .ok (.iload_n 1, 1) := dk_27 (dk_at dksJ2_get_0 10 rfl rfl)
theorem dJ2_get_11 : decode cJ2_get 11 = .ok (.invokevirtual 123, 3) := dk_182 0 123 (dk_at dksJ2_get_0 11 rfl rfl)
theorem dJ2_get_14 : decode cJ2_get 14 = .ok (.areturn, 1) := dk_176 (dk_at dksJ2_get_0 14 rfl rfl)
abbrev cJ2_elementData : ByteArray := prog_51_method_18_code
def yJ2_elementData : MethodName := ⟨RJ2, "elementData", "(I)Ljava/lang/Object;"⟩
def dkwJ2_elementData_0 : List UInt8 := [42, 180, 0, 9, 27, 50, 176]
abbrev dktJ2_elementData_0 : List UInt8 := dkwJ2_elementData_0 ++ []
theorem dksJ2_elementData_0 : cJ2_elementData.data.toList.drop 0 = dktJ2_elementData_0 := by decide +kernel
theorem dJ2_elementData_0 : decode cJ2_elementData 0 = .ok (.aload_n 0, 1) := dk_42 (dk_at dksJ2_elementData_0 0 rfl rfl)
theorem dJ2_elementData_1 : decode cJ2_elementData 1 = .ok (.getfield 9, 3) := dk_180 0 9 (dk_at dksJ2_elementData_0 1 rfl rfl)
theorem dJ2_elementData_4 : decode cJ2_elementData 4 = .ok (.iload_n 1, 1) := dk_27 (dk_at dksJ2_elementData_0 4 rfl rfl)
theorem dJ2_elementData_5 : decode cJ2_elementData 5 = .ok (.aaload, 1) := dk_50 (dk_at dksJ2_elementData_0 5 rfl rfl)
theorem dJ2_elementData_6 : decode cJ2_elementData 6 = .ok (.areturn, 1) := dk_176 (dk_at dksJ2_elementData_0 6 rfl rfl)
abbrev cJ2_iterator : ByteArray := prog_51_method_55_code
def yJ2_iterator : MethodName := ⟨RJ2, "iterator", "()Ljava/util/Iterator;"⟩
def dkwJ2_iterator_0 : List UInt8 := [187, 1, 11, 89, 42, 183, 1, 13, 176]
abbrev dktJ2_iterator_0 : List UInt8 := dkwJ2_iterator_0 ++ []
theorem dksJ2_iterator_0 : cJ2_iterator.data.toList.drop 0 = dktJ2_iterator_0 := by decide +kernel
theorem dJ2_iterator_0 : decode cJ2_iterator 0 = .ok (.new 267, 3) := dk_187 1 11 (dk_at dksJ2_iterator_0 0 rfl rfl)
theorem dJ2_iterator_3 : decode cJ2_iterator 3 = .ok (.dup, 1) := dk_89 (dk_at dksJ2_iterator_0 3 rfl rfl)
theorem dJ2_iterator_4 : decode cJ2_iterator 4 = .ok (.aload_n 0, 1) := dk_42 (dk_at dksJ2_iterator_0 4 rfl rfl)
theorem dJ2_iterator_5 : decode cJ2_iterator 5 = .ok (.invokespecial 269, 3) := dk_183 1 13 (dk_at dksJ2_iterator_0 5 rfl rfl)
theorem dJ2_iterator_8 : decode cJ2_iterator 8 = .ok (.areturn, 1) := dk_176 (dk_at dksJ2_iterator_0 8 rfl rfl)
abbrev cJ2_listIterator : ByteArray := prog_51_method_53_code
def yJ2_listIterator : MethodName := ⟨RJ2, "listIterator", "(I)Ljava/util/ListIterator;"⟩
def dkwJ2_listIterator_0 : List UInt8 := [42, 27, 182, 0, 135, 187, 1, 6, 89, 42, 27, 183, 1, 8, 176]
abbrev dktJ2_listIterator_0 : List UInt8 := dkwJ2_listIterator_0 ++ []
theorem dksJ2_listIterator_0 : cJ2_listIterator.data.toList.drop 0 = dktJ2_listIterator_0 := by decide +kernel
theorem dJ2_listIterator_0 : decode cJ2_listIterator 0 = .ok (.aload_n 0, 1) := dk_42 (dk_at dksJ2_listIterator_0 0 rfl rfl)
theorem dJ2_listIterator_1 : decode cJ2_listIterator 1 = .ok (.iload_n 1, 1) := dk_27 (dk_at dksJ2_listIterator_0 1 rfl rfl)
theorem dJ2_listIterator_2 : decode cJ2_listIterator 2 = .ok (.invokevirtual 135, 3) := dk_182 0 135 (dk_at dksJ2_listIterator_0 2 rfl rfl)
theorem dJ2_listIterator_5 : decode cJ2_listIterator 5 = .ok (.new 262, 3) := dk_187 1 6 (dk_at dksJ2_listIterator_0 5 rfl rfl)
theorem dJ2_listIterator_8 : decode cJ2_listIterator 8 = .ok (.dup, 1) := dk_89 (dk_at dksJ2_listIterator_0 8 rfl rfl)
theorem dJ2_listIterator_9 : decode cJ2_listIterator 9 = .ok (.aload_n 0, 1) := dk_42 (dk_at dksJ2_listIterator_0 9 rfl rfl)
theorem dJ2_listIterator_10 : decode cJ2_listIterator 10 = .ok (.iload_n 1, 1) := dk_27 (dk_at dksJ2_listIterator_0 10 rfl rfl)
theorem dJ2_listIterator_11 : decode cJ2_listIterator 11 = .ok (.invokespecial 264, 3) := dk_183 1 8 (dk_at dksJ2_listIterator_0 11 rfl rfl)
theorem dJ2_listIterator_14 : decode cJ2_listIterator 14 = .ok (.areturn, 1) := dk_176 (dk_at dksJ2_listIterator_0 14 rfl rfl)
abbrev cJ2_rangeCheckForAdd : ByteArray := prog_51_method_45_code
def yJ2_rangeCheckForAdd : MethodName := ⟨RJ2, "rangeCheckForAdd", "(I)V"⟩
def dkwJ2_rangeCheckForAdd_1 : List UInt8 := [191, 177]
abbrev dktJ2_rangeCheckForAdd_1 : List UInt8 := dkwJ2_rangeCheckForAdd_1 ++ []
def dkwJ2_rangeCheckForAdd_0 : List UInt8 := [27, 42, 180, 0, 48, 163, 0, 7, 27, 156, 0, 16, 187, 0, 187, 89, 42, 27, 182, 0, 198, 183, 0, 193]
abbrev dktJ2_rangeCheckForAdd_0 : List UInt8 := dkwJ2_rangeCheckForAdd_0 ++ dktJ2_rangeCheckForAdd_1
theorem dksJ2_rangeCheckForAdd_0 : cJ2_rangeCheckForAdd.data.toList.drop 0 = dktJ2_rangeCheckForAdd_0 := by decide +kernel
theorem dksJ2_rangeCheckForAdd_1 : cJ2_rangeCheckForAdd.data.toList.drop 24 = dktJ2_rangeCheckForAdd_1 := dk_seg dksJ2_rangeCheckForAdd_0 24 rfl rfl
theorem dJ2_rangeCheckForAdd_0 : decode cJ2_rangeCheckForAdd 0 = .ok (.iload_n 1, 1) := dk_27 (dk_at dksJ2_rangeCheckForAdd_0 0 rfl rfl)
theorem dJ2_rangeCheckForAdd_1 : decode cJ2_rangeCheckForAdd 1 = .ok (.aload_n 0, 1) := dk_42 (dk_at dksJ2_rangeCheckForAdd_0 1 rfl rfl)
theorem dJ2_rangeCheckForAdd_2 : decode cJ2_rangeCheckForAdd 2 = .ok (.getfield 48, 3) := dk_180 0 48 (dk_at dksJ2_rangeCheckForAdd_0 2 rfl rfl)
theorem dJ2_rangeCheckForAdd_5 : decode cJ2_rangeCheckForAdd 5 = .ok (.if_icmp .gt 7, 3) := dk_163 0 7 (dk_at dksJ2_rangeCheckForAdd_0 5 rfl rfl)
theorem dJ2_rangeCheckForAdd_8 : decode cJ2_rangeCheckForAdd 8 = .ok (.iload_n 1, 1) := dk_27 (dk_at dksJ2_rangeCheckForAdd_0 8 rfl rfl)
theorem dJ2_rangeCheckForAdd_9 : decode cJ2_rangeCheckForAdd 9 = .ok (.ifCond .ge 16, 3) := dk_156 0 16 (dk_at dksJ2_rangeCheckForAdd_0 9 rfl rfl)
theorem dJ2_rangeCheckForAdd_12 : decode cJ2_rangeCheckForAdd 12 = .ok (.new 187, 3) := dk_187 0 187 (dk_at dksJ2_rangeCheckForAdd_0 12 rfl rfl)
theorem dJ2_rangeCheckForAdd_15 : decode cJ2_rangeCheckForAdd 15 = .ok (.dup, 1) := dk_89 (dk_at dksJ2_rangeCheckForAdd_0 15 rfl rfl)
theorem dJ2_rangeCheckForAdd_16 : decode cJ2_rangeCheckForAdd 16 = .ok (.aload_n 0, 1) := dk_42 (dk_at dksJ2_rangeCheckForAdd_0 16 rfl rfl)
theorem dJ2_rangeCheckForAdd_17 : decode cJ2_rangeCheckForAdd 17 = .ok (.iload_n 1, 1) := dk_27 (dk_at dksJ2_rangeCheckForAdd_0 17 rfl rfl)
theorem dJ2_rangeCheckForAdd_18 : decode cJ2_rangeCheckForAdd 18 = .ok (.invokevirtual 198, 3) := dk_182 0 198 (dk_at dksJ2_rangeCheckForAdd_0 18 rfl rfl)
theorem dJ2_rangeCheckForAdd_21 : decode cJ2_rangeCheckForAdd 21 = .ok (.invokespecial 193, 3) := dk_183 0 193 (dk_at dksJ2_rangeCheckForAdd_0 21 rfl rfl)
theorem dJ2_rangeCheckForAdd_24 : decode cJ2_rangeCheckForAdd 24 = .ok (.athrow, 1) := dk_191 (dk_at dksJ2_rangeCheckForAdd_1 0 rfl rfl)
theorem dJ2_rangeCheckForAdd_25 : decode cJ2_rangeCheckForAdd 25 = .ok (.return_, 1) := dk_177 (dk_at dksJ2_rangeCheckForAdd_1 1 rfl rfl)
abbrev cJ2_outOfBoundsMsg : ByteArray := prog_51_method_46_code
def yJ2_outOfBoundsMsg : MethodName := ⟨RJ2, "outOfBoundsMsg", "(I)Ljava/lang/String;"⟩
def dkwJ2_outOfBoundsMsg_1 : List UInt8 := [180, 0, 48, 182, 0, 29, 182, 0, 32, 176]
abbrev dktJ2_outOfBoundsMsg_1 : List UInt8 := dkwJ2_outOfBoundsMsg_1 ++ []
def dkwJ2_outOfBoundsMsg_0 : List UInt8 := [187, 0, 20, 89, 183, 0, 22, 18, 201, 182, 0, 25, 27, 182, 0, 29, 18, 203, 182, 0, 25, 42]
abbrev dktJ2_outOfBoundsMsg_0 : List UInt8 := dkwJ2_outOfBoundsMsg_0 ++ dktJ2_outOfBoundsMsg_1
theorem dksJ2_outOfBoundsMsg_0 : cJ2_outOfBoundsMsg.data.toList.drop 0 = dktJ2_outOfBoundsMsg_0 := by decide +kernel
theorem dksJ2_outOfBoundsMsg_1 : cJ2_outOfBoundsMsg.data.toList.drop 22 = dktJ2_outOfBoundsMsg_1 := dk_seg dksJ2_outOfBoundsMsg_0 22 rfl rfl
theorem dJ2_outOfBoundsMsg_0 : decode cJ2_outOfBoundsMsg 0 = .ok (.new 20, 3) := dk_187 0 20 (dk_at dksJ2_outOfBoundsMsg_0 0 rfl rfl)
theorem dJ2_outOfBoundsMsg_3 : decode cJ2_outOfBoundsMsg 3 = .ok (.dup, 1) := dk_89 (dk_at dksJ2_outOfBoundsMsg_0 3 rfl rfl)
theorem dJ2_outOfBoundsMsg_4 : decode cJ2_outOfBoundsMsg 4 = .ok (.invokespecial 22, 3) := dk_183 0 22 (dk_at dksJ2_outOfBoundsMsg_0 4 rfl rfl)
theorem dJ2_outOfBoundsMsg_7 : decode cJ2_outOfBoundsMsg 7 = .ok (.ldc 201, 2) := dk_18 201 (dk_at dksJ2_outOfBoundsMsg_0 7 rfl rfl)
theorem dJ2_outOfBoundsMsg_9 : decode cJ2_outOfBoundsMsg 9 = .ok (.invokevirtual 25, 3) := dk_182 0 25 (dk_at dksJ2_outOfBoundsMsg_0 9 rfl rfl)
theorem dJ2_outOfBoundsMsg_12 : decode cJ2_outOfBoundsMsg 12 = .ok (.iload_n 1, 1) := dk_27 (dk_at dksJ2_outOfBoundsMsg_0 12 rfl rfl)
theorem dJ2_outOfBoundsMsg_13 : decode cJ2_outOfBoundsMsg 13 = .ok (.invokevirtual 29, 3) := dk_182 0 29 (dk_at dksJ2_outOfBoundsMsg_0 13 rfl rfl)
theorem dJ2_outOfBoundsMsg_16 : decode cJ2_outOfBoundsMsg 16 = .ok (.ldc 203, 2) := dk_18 203 (dk_at dksJ2_outOfBoundsMsg_0 16 rfl rfl)
theorem dJ2_outOfBoundsMsg_18 : decode cJ2_outOfBoundsMsg 18 = .ok (.invokevirtual 25, 3) := dk_182 0 25 (dk_at dksJ2_outOfBoundsMsg_0 18 rfl rfl)
theorem dJ2_outOfBoundsMsg_21 : decode cJ2_outOfBoundsMsg 21 = .ok (.aload_n 0, 1) := dk_42 (dk_at dksJ2_outOfBoundsMsg_0 21 rfl rfl)
theorem dJ2_outOfBoundsMsg_22 : decode cJ2_outOfBoundsMsg 22 = .ok (.getfield 48, 3) := dk_180 0 48 (dk_at dksJ2_outOfBoundsMsg_1 0 rfl rfl)
theorem dJ2_outOfBoundsMsg_25 : decode cJ2_outOfBoundsMsg 25 = .ok (.invokevirtual 29, 3) := dk_182 0 29 (dk_at dksJ2_outOfBoundsMsg_1 3 rfl rfl)
theorem dJ2_outOfBoundsMsg_28 : decode cJ2_outOfBoundsMsg 28 = .ok (.invokevirtual 32, 3) := dk_182 0 32 (dk_at dksJ2_outOfBoundsMsg_1 6 rfl rfl)
theorem dJ2_outOfBoundsMsg_31 : decode cJ2_outOfBoundsMsg 31 = .ok (.areturn, 1) := dk_176 (dk_at dksJ2_outOfBoundsMsg_1 9 rfl rfl)
abbrev cJ2_addAll : ByteArray := prog_51_method_41_code
def yJ2_addAll : MethodName := ⟨RJ2, "addAll", "(Ljava/util/Collection;)Z"⟩
def dkwJ2_addAll_3 : List UInt8 := [181, 0, 48, 4, 172]
abbrev dktJ2_addAll_3 : List UInt8 := dkwJ2_addAll_3 ++ []
def dkwJ2_addAll_2 : List UInt8 := [21, 5, 29, 96, 182, 0, 69, 58, 4, 44, 3, 25, 4, 21, 5, 29, 184, 0, 112, 42, 21, 5, 29, 96]
abbrev dktJ2_addAll_2 : List UInt8 := dkwJ2_addAll_2 ++ dktJ2_addAll_3
def dkwJ2_addAll_1 : List UInt8 := [3, 172, 29, 42, 180, 0, 9, 89, 58, 4, 190, 42, 180, 0, 48, 89, 54, 5, 100, 164, 0, 13, 42]
abbrev dktJ2_addAll_1 : List UInt8 := dkwJ2_addAll_1 ++ dktJ2_addAll_2
def dkwJ2_addAll_0 : List UInt8 := [43, 185, 0, 42, 1, 0, 77, 42, 89, 180, 0, 63, 4, 96, 181, 0, 63, 44, 190, 62, 29, 154, 0, 5]
abbrev dktJ2_addAll_0 : List UInt8 := dkwJ2_addAll_0 ++ dktJ2_addAll_1
theorem dksJ2_addAll_0 : cJ2_addAll.data.toList.drop 0 = dktJ2_addAll_0 := by decide +kernel
theorem dksJ2_addAll_1 : cJ2_addAll.data.toList.drop 24 = dktJ2_addAll_1 := dk_seg dksJ2_addAll_0 24 rfl rfl
theorem dksJ2_addAll_2 : cJ2_addAll.data.toList.drop 47 = dktJ2_addAll_2 := dk_seg dksJ2_addAll_1 23 rfl rfl
theorem dksJ2_addAll_3 : cJ2_addAll.data.toList.drop 71 = dktJ2_addAll_3 := dk_seg dksJ2_addAll_2 24 rfl rfl
theorem dJ2_addAll_0 : decode cJ2_addAll 0 = .ok (.aload_n 1, 1) := dk_43 (dk_at dksJ2_addAll_0 0 rfl rfl)
theorem dJ2_addAll_1 : decode cJ2_addAll 1 = .ok (.invokeinterface 42 1, 5) := by decide +kernel
theorem dJ2_addAll_6 : decode cJ2_addAll 6 = .ok (.astore_n 2, 1) := dk_77 (dk_at dksJ2_addAll_0 6 rfl rfl)
theorem dJ2_addAll_7 : decode cJ2_addAll 7 = .ok (.aload_n 0, 1) := dk_42 (dk_at dksJ2_addAll_0 7 rfl rfl)
theorem dJ2_addAll_8 : decode cJ2_addAll 8 = .ok (.dup, 1) := dk_89 (dk_at dksJ2_addAll_0 8 rfl rfl)
theorem dJ2_addAll_9 : decode cJ2_addAll 9 = .ok (.getfield 63, 3) := dk_180 0 63 (dk_at dksJ2_addAll_0 9 rfl rfl)
theorem dJ2_addAll_12 : decode cJ2_addAll 12 = .ok (.iconst 1, 1) := dk_4 (dk_at dksJ2_addAll_0 12 rfl rfl)
theorem dJ2_addAll_13 : decode cJ2_addAll 13 = .ok (.iadd, 1) := dk_96 (dk_at dksJ2_addAll_0 13 rfl rfl)
theorem dJ2_addAll_14 : decode cJ2_addAll 14 = .ok (.putfield 63, 3) := dk_181 0 63 (dk_at dksJ2_addAll_0 14 rfl rfl)
theorem dJ2_addAll_17 : decode cJ2_addAll 17 = .ok (.aload_n 2, 1) := dk_44 (dk_at dksJ2_addAll_0 17 rfl rfl)
theorem dJ2_addAll_18 : decode cJ2_addAll 18 = .ok (.arraylength, 1) := dk_190 (dk_at dksJ2_addAll_0 18 rfl rfl)
theorem dJ2_addAll_19 : decode cJ2_addAll 19 = .ok (.istore_n 3, 1) := dk_62 (dk_at dksJ2_addAll_0 19 rfl rfl)
theorem dJ2_addAll_20 : decode cJ2_addAll 20 = .ok (.iload_n 3, 1) := dk_29 (dk_at dksJ2_addAll_0 20 rfl rfl)
theorem dJ2_addAll_21 : decode cJ2_addAll 21 = .ok (.ifCond .ne 5, 3) := dk_154 0 5 (dk_at dksJ2_addAll_0 21 rfl rfl)
theorem dJ2_addAll_24 : decode cJ2_addAll 24 = .ok (.iconst 0, 1) := dk_3 (dk_at dksJ2_addAll_1 0 rfl rfl)
theorem dJ2_addAll_25 : decode cJ2_addAll 25 = .ok (.ireturn, 1) := dk_172 (dk_at dksJ2_addAll_1 1 rfl rfl)
theorem dJ2_addAll_26 : decode cJ2_addAll 26 = .ok (.iload_n 3, 1) := dk_29 (dk_at dksJ2_addAll_1 2 rfl rfl)
theorem dJ2_addAll_27 : decode cJ2_addAll 27 = .ok (.aload_n 0, 1) := dk_42 (dk_at dksJ2_addAll_1 3 rfl rfl)
theorem dJ2_addAll_28 : decode cJ2_addAll 28 = .ok (.getfield 9, 3) := dk_180 0 9 (dk_at dksJ2_addAll_1 4 rfl rfl)
theorem dJ2_addAll_31 : decode cJ2_addAll 31 = .ok (.dup, 1) := dk_89 (dk_at dksJ2_addAll_1 7 rfl rfl)
theorem dJ2_addAll_32 : decode cJ2_addAll 32 = .ok (.astore 4, 2) := dk_58 4 (dk_at dksJ2_addAll_1 8 rfl rfl)
theorem dJ2_addAll_34 : decode cJ2_addAll 34 = .ok (.arraylength, 1) := dk_190 (dk_at dksJ2_addAll_1 10 rfl rfl)
theorem dJ2_addAll_35 : decode cJ2_addAll 35 = .ok (.aload_n 0, 1) := dk_42 (dk_at dksJ2_addAll_1 11 rfl rfl)
theorem dJ2_addAll_36 : decode cJ2_addAll 36 = .ok (.getfield 48, 3) := dk_180 0 48 (dk_at dksJ2_addAll_1 12 rfl rfl)
theorem dJ2_addAll_39 : decode cJ2_addAll 39 = .ok (.dup, 1) := dk_89 (dk_at dksJ2_addAll_1 15 rfl rfl)
theorem dJ2_addAll_40 : decode cJ2_addAll 40 = .ok (.istore 5, 2) := dk_54 5 (dk_at dksJ2_addAll_1 16 rfl rfl)
theorem dJ2_addAll_42 : decode cJ2_addAll 42 = .ok (.isub, 1) := dk_100 (dk_at dksJ2_addAll_1 18 rfl rfl)
theorem dJ2_addAll_43 : decode cJ2_addAll 43 = .ok (.if_icmp .le 13, 3) := dk_164 0 13 (dk_at dksJ2_addAll_1 19 rfl rfl)
theorem dJ2_addAll_46 : decode cJ2_addAll 46 = .ok (.aload_n 0, 1) := dk_42 (dk_at dksJ2_addAll_1 22 rfl rfl)
theorem dJ2_addAll_47 : decode cJ2_addAll 47 = .ok (.iload 5, 2) := dk_21 5 (dk_at dksJ2_addAll_2 0 rfl rfl)
theorem dJ2_addAll_49 : decode cJ2_addAll 49 = .ok (.iload_n 3, 1) := dk_29 (dk_at dksJ2_addAll_2 2 rfl rfl)
theorem dJ2_addAll_50 : decode cJ2_addAll 50 = .ok (.iadd, 1) := dk_96 (dk_at dksJ2_addAll_2 3 rfl rfl)
theorem dJ2_addAll_51 : decode cJ2_addAll 51 = .ok (.invokevirtual 69, 3) := dk_182 0 69 (dk_at dksJ2_addAll_2 4 rfl rfl)
theorem dJ2_addAll_54 : decode cJ2_addAll 54 = .ok (.astore 4, 2) := dk_58 4 (dk_at dksJ2_addAll_2 7 rfl rfl)
theorem dJ2_addAll_56 : decode cJ2_addAll 56 = .ok (.aload_n 2, 1) := dk_44 (dk_at dksJ2_addAll_2 9 rfl rfl)
theorem dJ2_addAll_57 : decode cJ2_addAll 57 = .ok (.iconst 0, 1) := dk_3 (dk_at dksJ2_addAll_2 10 rfl rfl)
theorem dJ2_addAll_58 : decode cJ2_addAll 58 = .ok (.aload 4, 2) := dk_25 4 (dk_at dksJ2_addAll_2 11 rfl rfl)
theorem dJ2_addAll_60 : decode cJ2_addAll 60 = .ok (.iload 5, 2) := dk_21 5 (dk_at dksJ2_addAll_2 13 rfl rfl)
theorem dJ2_addAll_62 : decode cJ2_addAll 62 = .ok (.iload_n 3, 1) := dk_29 (dk_at dksJ2_addAll_2 15 rfl rfl)
theorem dJ2_addAll_63 : decode cJ2_addAll 63 = .ok (.invokestatic 112, 3) := dk_184 0 112 (dk_at dksJ2_addAll_2 16 rfl rfl)
theorem dJ2_addAll_66 : decode cJ2_addAll 66 = .ok (.aload_n 0, 1) := dk_42 (dk_at dksJ2_addAll_2 19 rfl rfl)
theorem dJ2_addAll_67 : decode cJ2_addAll 67 = .ok (.iload 5, 2) := dk_21 5 (dk_at dksJ2_addAll_2 20 rfl rfl)
theorem dJ2_addAll_69 : decode cJ2_addAll 69 = .ok (.iload_n 3, 1) := dk_29 (dk_at dksJ2_addAll_2 22 rfl rfl)
theorem dJ2_addAll_70 : decode cJ2_addAll 70 = .ok (.iadd, 1) := dk_96 (dk_at dksJ2_addAll_2 23 rfl rfl)
theorem dJ2_addAll_71 : decode cJ2_addAll 71 = .ok (.putfield 48, 3) := dk_181 0 48 (dk_at dksJ2_addAll_3 0 rfl rfl)
theorem dJ2_addAll_74 : decode cJ2_addAll 74 = .ok (.iconst 1, 1) := dk_4 (dk_at dksJ2_addAll_3 3 rfl rfl)
theorem dJ2_addAll_75 : decode cJ2_addAll 75 = .ok (.ireturn, 1) := dk_172 (dk_at dksJ2_addAll_3 4 rfl rfl)
abbrev cJ2_toArray : ByteArray := prog_51_method_16_code
def yJ2_toArray : MethodName := ⟨RJ2, "toArray", "()[Ljava/lang/Object;"⟩
def dkwJ2_toArray_0 : List UInt8 := [42, 180, 0, 9, 42, 180, 0, 48, 184, 0, 66, 176]
abbrev dktJ2_toArray_0 : List UInt8 := dkwJ2_toArray_0 ++ []
theorem dksJ2_toArray_0 : cJ2_toArray.data.toList.drop 0 = dktJ2_toArray_0 := by decide +kernel
theorem dJ2_toArray_0 : decode cJ2_toArray 0 = .ok (.aload_n 0, 1) := dk_42 (dk_at dksJ2_toArray_0 0 rfl rfl)
theorem dJ2_toArray_1 : decode cJ2_toArray 1 = .ok (.getfield 9, 3) := dk_180 0 9 (dk_at dksJ2_toArray_0 1 rfl rfl)
theorem dJ2_toArray_4 : decode cJ2_toArray 4 = .ok (.aload_n 0, 1) := dk_42 (dk_at dksJ2_toArray_0 4 rfl rfl)
theorem dJ2_toArray_5 : decode cJ2_toArray 5 = .ok (.getfield 48, 3) := dk_180 0 48 (dk_at dksJ2_toArray_0 5 rfl rfl)
theorem dJ2_toArray_8 : decode cJ2_toArray 8 = .ok (.invokestatic 66, 3) := dk_184 0 66 (dk_at dksJ2_toArray_0 8 rfl rfl)
theorem dJ2_toArray_11 : decode cJ2_toArray 11 = .ok (.areturn, 1) := dk_176 (dk_at dksJ2_toArray_0 11 rfl rfl)
abbrev cJ2_removeAll : ByteArray := prog_51_method_48_code
def yJ2_removeAll : MethodName := ⟨RJ2, "removeAll", "(Ljava/util/Collection;)Z"⟩
def dkwJ2_removeAll_0 : List UInt8 := [42, 43, 3, 3, 42, 180, 0, 48, 182, 0, 209, 172]
abbrev dktJ2_removeAll_0 : List UInt8 := dkwJ2_removeAll_0 ++ []
theorem dksJ2_removeAll_0 : cJ2_removeAll.data.toList.drop 0 = dktJ2_removeAll_0 := by decide +kernel
theorem dJ2_removeAll_0 : decode cJ2_removeAll 0 = .ok (.aload_n 0, 1) := dk_42 (dk_at dksJ2_removeAll_0 0 rfl rfl)
theorem dJ2_removeAll_1 : decode cJ2_removeAll 1 = .ok (.aload_n 1, 1) := dk_43 (dk_at dksJ2_removeAll_0 1 rfl rfl)
theorem dJ2_removeAll_2 : decode cJ2_removeAll 2 = .ok (.iconst 0, 1) := dk_3 (dk_at dksJ2_removeAll_0 2 rfl rfl)
theorem dJ2_removeAll_3 : decode cJ2_removeAll 3 = .ok (.iconst 0, 1) := dk_3 (dk_at dksJ2_removeAll_0 3 rfl rfl)
theorem dJ2_removeAll_4 : decode cJ2_removeAll 4 = .ok (.aload_n 0, 1) := dk_42 (dk_at dksJ2_removeAll_0 4 rfl rfl)
theorem dJ2_removeAll_5 : decode cJ2_removeAll 5 = .ok (.getfield 48, 3) := dk_180 0 48 (dk_at dksJ2_removeAll_0 5 rfl rfl)
theorem dJ2_removeAll_8 : decode cJ2_removeAll 8 = .ok (.invokevirtual 209, 3) := dk_182 0 209 (dk_at dksJ2_removeAll_0 8 rfl rfl)
theorem dJ2_removeAll_11 : decode cJ2_removeAll 11 = .ok (.ireturn, 1) := dk_172 (dk_at dksJ2_removeAll_0 11 rfl rfl)
abbrev cJ2_batchRemove : ByteArray := prog_51_method_50_code
def yJ2_batchRemove : MethodName := ⟨RJ2, "batchRemove", "(Ljava/util/Collection;ZII)Z"⟩
def dkwJ2_batchRemove_7 : List UInt8 := [100, 96, 181, 0, 63, 42, 25, 5, 21, 7, 21, 4, 182, 0, 194, 25, 9, 191, 4, 172]
abbrev dktJ2_batchRemove_7 : List UInt8 := dkwJ2_batchRemove_7 ++ []
def dkwJ2_batchRemove_6 : List UInt8 := [21, 7, 21, 4, 21, 6, 100, 96, 54, 7, 25, 8, 191, 58, 9, 42, 89, 180, 0, 63, 21, 4, 21, 7]
abbrev dktJ2_batchRemove_6 : List UInt8 := dkwJ2_batchRemove_6 ++ dktJ2_batchRemove_7
def dkwJ2_batchRemove_5 : List UInt8 := [182, 0, 194, 167, 0, 63, 58, 8, 25, 5, 21, 6, 25, 5, 21, 7, 21, 4, 21, 6, 100, 184, 0, 112]
abbrev dktJ2_batchRemove_5 : List UInt8 := dkwJ2_batchRemove_5 ++ dktJ2_batchRemove_6
def dkwJ2_batchRemove_4 : List UInt8 := [167, 255, 218, 42, 89, 180, 0, 63, 21, 4, 21, 7, 100, 96, 181, 0, 63, 42, 25, 5, 21, 7, 21, 4]
abbrev dktJ2_batchRemove_4 : List UInt8 := dkwJ2_batchRemove_4 ++ dktJ2_batchRemove_5
def dkwJ2_batchRemove_3 : List UInt8 := [185, 0, 217, 2, 0, 28, 160, 0, 13, 25, 5, 21, 7, 132, 7, 1, 25, 8, 83, 132, 6, 1]
abbrev dktJ2_batchRemove_3 : List UInt8 := dkwJ2_batchRemove_3 ++ dktJ2_batchRemove_4
def dkwJ2_batchRemove_2 : List UInt8 := [21, 6, 132, 6, 1, 54, 7, 21, 6, 21, 4, 162, 0, 37, 43, 25, 5, 21, 6, 50, 89, 58, 8]
abbrev dktJ2_batchRemove_2 : List UInt8 := dkwJ2_batchRemove_2 ++ dktJ2_batchRemove_3
def dkwJ2_batchRemove_1 : List UInt8 := [25, 5, 21, 6, 50, 185, 0, 217, 2, 0, 28, 159, 0, 6, 167, 0, 9, 132, 6, 1, 167, 255, 226]
abbrev dktJ2_batchRemove_1 : List UInt8 := dkwJ2_batchRemove_1 ++ dktJ2_batchRemove_2
def dkwJ2_batchRemove_0 : List UInt8 := [43, 184, 0, 213, 87, 42, 180, 0, 9, 58, 5, 29, 54, 6, 21, 6, 21, 4, 160, 0, 5, 3, 172, 43]
abbrev dktJ2_batchRemove_0 : List UInt8 := dkwJ2_batchRemove_0 ++ dktJ2_batchRemove_1
theorem dksJ2_batchRemove_0 : cJ2_batchRemove.data.toList.drop 0 = dktJ2_batchRemove_0 := by decide +kernel
theorem dksJ2_batchRemove_1 : cJ2_batchRemove.data.toList.drop 24 = dktJ2_batchRemove_1 := dk_seg dksJ2_batchRemove_0 24 rfl rfl
theorem dksJ2_batchRemove_2 : cJ2_batchRemove.data.toList.drop 47 = dktJ2_batchRemove_2 := dk_seg dksJ2_batchRemove_1 23 rfl rfl
theorem dksJ2_batchRemove_3 : cJ2_batchRemove.data.toList.drop 70 = dktJ2_batchRemove_3 := dk_seg dksJ2_batchRemove_2 23 rfl rfl
theorem dksJ2_batchRemove_4 : cJ2_batchRemove.data.toList.drop 92 = dktJ2_batchRemove_4 := dk_seg dksJ2_batchRemove_3 22 rfl rfl
theorem dksJ2_batchRemove_5 : cJ2_batchRemove.data.toList.drop 116 = dktJ2_batchRemove_5 := dk_seg dksJ2_batchRemove_4 24 rfl rfl
theorem dksJ2_batchRemove_6 : cJ2_batchRemove.data.toList.drop 140 = dktJ2_batchRemove_6 := dk_seg dksJ2_batchRemove_5 24 rfl rfl
theorem dksJ2_batchRemove_7 : cJ2_batchRemove.data.toList.drop 164 = dktJ2_batchRemove_7 := dk_seg dksJ2_batchRemove_6 24 rfl rfl
theorem dJ2_batchRemove_0 : decode cJ2_batchRemove 0 = .ok (.aload_n 1, 1) := dk_43 (dk_at dksJ2_batchRemove_0 0 rfl rfl)
theorem dJ2_batchRemove_1 : decode cJ2_batchRemove 1 = .ok (.invokestatic 213, 3) := dk_184 0 213 (dk_at dksJ2_batchRemove_0 1 rfl rfl)
theorem dJ2_batchRemove_4 : decode cJ2_batchRemove 4 = .ok (.pop, 1) := dk_87 (dk_at dksJ2_batchRemove_0 4 rfl rfl)
theorem dJ2_batchRemove_5 : decode cJ2_batchRemove 5 = .ok (.aload_n 0, 1) := dk_42 (dk_at dksJ2_batchRemove_0 5 rfl rfl)
theorem dJ2_batchRemove_6 : decode cJ2_batchRemove 6 = .ok (.getfield 9, 3) := dk_180 0 9 (dk_at dksJ2_batchRemove_0 6 rfl rfl)
theorem dJ2_batchRemove_9 : decode cJ2_batchRemove 9 = .ok (.astore 5, 2) := dk_58 5 (dk_at dksJ2_batchRemove_0 9 rfl rfl)
theorem dJ2_batchRemove_11 : decode cJ2_batchRemove 11 = .ok (.iload_n 3, 1) := dk_29 (dk_at dksJ2_batchRemove_0 11 rfl rfl)
theorem dJ2_batchRemove_12 : decode cJ2_batchRemove 12 = .ok (.istore 6, 2) := dk_54 6 (dk_at dksJ2_batchRemove_0 12 rfl rfl)
theorem dJ2_batchRemove_14 : decode cJ2_batchRemove 14 = .ok (.iload 6, 2) := dk_21 6 (dk_at dksJ2_batchRemove_0 14 rfl rfl)
theorem dJ2_batchRemove_16 : decode cJ2_batchRemove 16 = .ok (.iload 4, 2) := dk_21 4 (dk_at dksJ2_batchRemove_0 16 rfl rfl)
theorem dJ2_batchRemove_18 : decode cJ2_batchRemove 18 = .ok (.if_icmp .ne 5, 3) := dk_160 0 5 (dk_at dksJ2_batchRemove_0 18 rfl rfl)
theorem dJ2_batchRemove_21 : decode cJ2_batchRemove 21 = .ok (.iconst 0, 1) := dk_3 (dk_at dksJ2_batchRemove_0 21 rfl rfl)
theorem dJ2_batchRemove_22 : decode cJ2_batchRemove 22 = .ok (.ireturn, 1) := dk_172 (dk_at dksJ2_batchRemove_0 22 rfl rfl)
theorem dJ2_batchRemove_23 : decode cJ2_batchRemove 23 = .ok (.aload_n 1, 1) := dk_43 (dk_at dksJ2_batchRemove_0 23 rfl rfl)
theorem dJ2_batchRemove_24 : decode cJ2_batchRemove 24 = .ok (.aload 5, 2) := dk_25 5 (dk_at dksJ2_batchRemove_1 0 rfl rfl)
theorem dJ2_batchRemove_26 : decode cJ2_batchRemove 26 = .ok (.iload 6, 2) := dk_21 6 (dk_at dksJ2_batchRemove_1 2 rfl rfl)
theorem dJ2_batchRemove_28 : decode cJ2_batchRemove 28 = .ok (.aaload, 1) := dk_50 (dk_at dksJ2_batchRemove_1 4 rfl rfl)
theorem dJ2_batchRemove_29 : decode cJ2_batchRemove 29 = .ok (.invokeinterface 217 2, 5) := by decide +kernel
theorem dJ2_batchRemove_34 : decode cJ2_batchRemove 34 = .ok (.iload_n 2, 1) := dk_28 (dk_at dksJ2_batchRemove_1 10 rfl rfl)
theorem dJ2_batchRemove_35 : decode cJ2_batchRemove 35 = .ok (.if_icmp .eq 6, 3) := dk_159 0 6 (dk_at dksJ2_batchRemove_1 11 rfl rfl)
theorem dJ2_batchRemove_38 : decode cJ2_batchRemove 38 = .ok (.goto 9, 3) := dk_167 0 9 (dk_at dksJ2_batchRemove_1 14 rfl rfl)
theorem dJ2_batchRemove_41 : decode cJ2_batchRemove 41 = .ok (.iinc 6 1, 3) := dk_132 6 1 (dk_at dksJ2_batchRemove_1 17 rfl rfl)
theorem dJ2_batchRemove_44 : decode cJ2_batchRemove 44 = .ok (.goto (-30), 3) := dk_167 255 226 (dk_at dksJ2_batchRemove_1 20 rfl rfl)
theorem dJ2_batchRemove_47 : decode cJ2_batchRemove 47 = .ok (.iload 6, 2) := dk_21 6 (dk_at dksJ2_batchRemove_2 0 rfl rfl)
theorem dJ2_batchRemove_49 : decode cJ2_batchRemove 49 = .ok (.iinc 6 1, 3) := dk_132 6 1 (dk_at dksJ2_batchRemove_2 2 rfl rfl)
theorem dJ2_batchRemove_52 : decode cJ2_batchRemove 52 = .ok (.istore 7, 2) := dk_54 7 (dk_at dksJ2_batchRemove_2 5 rfl rfl)
theorem dJ2_batchRemove_54 : decode cJ2_batchRemove 54 = .ok (.iload 6, 2) := dk_21 6 (dk_at dksJ2_batchRemove_2 7 rfl rfl)
theorem dJ2_batchRemove_56 : decode cJ2_batchRemove 56 = .ok (.iload 4, 2) := dk_21 4 (dk_at dksJ2_batchRemove_2 9 rfl rfl)
theorem dJ2_batchRemove_58 : decode cJ2_batchRemove 58 = .ok (.if_icmp .ge 37, 3) := dk_162 0 37 (dk_at dksJ2_batchRemove_2 11 rfl rfl)
theorem dJ2_batchRemove_61 : decode cJ2_batchRemove 61 = .ok (.aload_n 1, 1) := dk_43 (dk_at dksJ2_batchRemove_2 14 rfl rfl)
theorem dJ2_batchRemove_62 : decode cJ2_batchRemove 62 = .ok (.aload 5, 2) := dk_25 5 (dk_at dksJ2_batchRemove_2 15 rfl rfl)
theorem dJ2_batchRemove_64 : decode cJ2_batchRemove 64 = .ok (.iload 6, 2) := dk_21 6 (dk_at dksJ2_batchRemove_2 17 rfl rfl)
theorem dJ2_batchRemove_66 : decode cJ2_batchRemove 66 = .ok (.aaload, 1) := dk_50 (dk_at dksJ2_batchRemove_2 19 rfl rfl)
theorem dJ2_batchRemove_67 : decode cJ2_batchRemove 67 = .ok (.dup, 1) := dk_89 (dk_at dksJ2_batchRemove_2 20 rfl rfl)
theorem dJ2_batchRemove_68 : decode cJ2_batchRemove 68 = .ok (.astore 8, 2) := dk_58 8 (dk_at dksJ2_batchRemove_2 21 rfl rfl)
theorem dJ2_batchRemove_70 : decode cJ2_batchRemove 70 = .ok (.invokeinterface 217 2, 5) := by decide +kernel
theorem dJ2_batchRemove_75 : decode cJ2_batchRemove 75 = .ok (.iload_n 2, 1) := dk_28 (dk_at dksJ2_batchRemove_3 5 rfl rfl)
theorem dJ2_batchRemove_76 : decode cJ2_batchRemove 76 = .ok (.if_icmp .ne 13, 3) := dk_160 0 13 (dk_at dksJ2_batchRemove_3 6 rfl rfl)
theorem dJ2_batchRemove_79 : decode cJ2_batchRemove 79 = .ok (.aload 5, 2) := dk_25 5 (dk_at dksJ2_batchRemove_3 9 rfl rfl)
theorem dJ2_batchRemove_81 : decode cJ2_batchRemove 81 = .ok (.iload 7, 2) := dk_21 7 (dk_at dksJ2_batchRemove_3 11 rfl rfl)
theorem dJ2_batchRemove_83 : decode cJ2_batchRemove 83 = .ok (.iinc 7 1, 3) := dk_132 7 1 (dk_at dksJ2_batchRemove_3 13 rfl rfl)
theorem dJ2_batchRemove_86 : decode cJ2_batchRemove 86 = .ok (.aload 8, 2) := dk_25 8 (dk_at dksJ2_batchRemove_3 16 rfl rfl)
theorem dJ2_batchRemove_88 : decode cJ2_batchRemove 88 = .ok (.aastore, 1) := dk_83 (dk_at dksJ2_batchRemove_3 18 rfl rfl)
theorem dJ2_batchRemove_89 : decode cJ2_batchRemove 89 = .ok (.iinc 6 1, 3) := dk_132 6 1 (dk_at dksJ2_batchRemove_3 19 rfl rfl)
theorem dJ2_batchRemove_92 : decode cJ2_batchRemove 92 = .ok (.goto (-38), 3) := dk_167 255 218 (dk_at dksJ2_batchRemove_4 0 rfl rfl)
theorem dJ2_batchRemove_95 : decode cJ2_batchRemove 95 = .ok (.aload_n 0, 1) := dk_42 (dk_at dksJ2_batchRemove_4 3 rfl rfl)
theorem dJ2_batchRemove_96 : decode cJ2_batchRemove 96 = .ok (.dup, 1) := dk_89 (dk_at dksJ2_batchRemove_4 4 rfl rfl)
theorem dJ2_batchRemove_97 : decode cJ2_batchRemove 97 = .ok (.getfield 63, 3) := dk_180 0 63 (dk_at dksJ2_batchRemove_4 5 rfl rfl)
theorem dJ2_batchRemove_100 : decode cJ2_batchRemove 100 = .ok (.iload 4, 2) := dk_21 4 (dk_at dksJ2_batchRemove_4 8 rfl rfl)
theorem dJ2_batchRemove_102 : decode cJ2_batchRemove 102 = .ok (.iload 7, 2) := dk_21 7 (dk_at dksJ2_batchRemove_4 10 rfl rfl)
theorem dJ2_batchRemove_104 : decode cJ2_batchRemove 104 = .ok (.isub, 1) := dk_100 (dk_at dksJ2_batchRemove_4 12 rfl rfl)
theorem dJ2_batchRemove_105 : decode cJ2_batchRemove 105 = .ok (.iadd, 1) := dk_96 (dk_at dksJ2_batchRemove_4 13 rfl rfl)
theorem dJ2_batchRemove_106 : decode cJ2_batchRemove 106 = .ok (.putfield 63, 3) := dk_181 0 63 (dk_at dksJ2_batchRemove_4 14 rfl rfl)
theorem dJ2_batchRemove_109 : decode cJ2_batchRemove 109 = .ok (.aload_n 0, 1) := dk_42 (dk_at dksJ2_batchRemove_4 17 rfl rfl)
theorem dJ2_batchRemove_110 : decode cJ2_batchRemove 110 = .ok (.aload 5, 2) := dk_25 5 (dk_at dksJ2_batchRemove_4 18 rfl rfl)
theorem dJ2_batchRemove_112 : decode cJ2_batchRemove 112 = .ok (.iload 7, 2) := dk_21 7 (dk_at dksJ2_batchRemove_4 20 rfl rfl)
theorem dJ2_batchRemove_114 : decode cJ2_batchRemove 114 = .ok (.iload 4, 2) := dk_21 4 (dk_at dksJ2_batchRemove_4 22 rfl rfl)
theorem dJ2_batchRemove_116 : decode cJ2_batchRemove 116 = .ok (.invokevirtual 194, 3) := dk_182 0 194 (dk_at dksJ2_batchRemove_5 0 rfl rfl)
theorem dJ2_batchRemove_119 : decode cJ2_batchRemove 119 = .ok (.goto 63, 3) := dk_167 0 63 (dk_at dksJ2_batchRemove_5 3 rfl rfl)
theorem dJ2_batchRemove_122 : decode cJ2_batchRemove 122 = .ok (.astore 8, 2) := dk_58 8 (dk_at dksJ2_batchRemove_5 6 rfl rfl)
theorem dJ2_batchRemove_124 : decode cJ2_batchRemove 124 = .ok (.aload 5, 2) := dk_25 5 (dk_at dksJ2_batchRemove_5 8 rfl rfl)
theorem dJ2_batchRemove_126 : decode cJ2_batchRemove 126 = .ok (.iload 6, 2) := dk_21 6 (dk_at dksJ2_batchRemove_5 10 rfl rfl)
theorem dJ2_batchRemove_128 : decode cJ2_batchRemove 128 = .ok (.aload 5, 2) := dk_25 5 (dk_at dksJ2_batchRemove_5 12 rfl rfl)
theorem dJ2_batchRemove_130 : decode cJ2_batchRemove 130 = .ok (.iload 7, 2) := dk_21 7 (dk_at dksJ2_batchRemove_5 14 rfl rfl)
theorem dJ2_batchRemove_132 : decode cJ2_batchRemove 132 = .ok (.iload 4, 2) := dk_21 4 (dk_at dksJ2_batchRemove_5 16 rfl rfl)
theorem dJ2_batchRemove_134 : decode cJ2_batchRemove 134 = .ok (.iload 6, 2) := dk_21 6 (dk_at dksJ2_batchRemove_5 18 rfl rfl)
theorem dJ2_batchRemove_136 : decode cJ2_batchRemove 136 = .ok (.isub, 1) := dk_100 (dk_at dksJ2_batchRemove_5 20 rfl rfl)
theorem dJ2_batchRemove_137 : decode cJ2_batchRemove 137 = .ok (.invokestatic 112, 3) := dk_184 0 112 (dk_at dksJ2_batchRemove_5 21 rfl rfl)
theorem dJ2_batchRemove_140 : decode cJ2_batchRemove 140 = .ok (.iload 7, 2) := dk_21 7 (dk_at dksJ2_batchRemove_6 0 rfl rfl)
theorem dJ2_batchRemove_142 : decode cJ2_batchRemove 142 = .ok (.iload 4, 2) := dk_21 4 (dk_at dksJ2_batchRemove_6 2 rfl rfl)
theorem dJ2_batchRemove_144 : decode cJ2_batchRemove 144 = .ok (.iload 6, 2) := dk_21 6 (dk_at dksJ2_batchRemove_6 4 rfl rfl)
theorem dJ2_batchRemove_146 : decode cJ2_batchRemove 146 = .ok (.isub, 1) := dk_100 (dk_at dksJ2_batchRemove_6 6 rfl rfl)
theorem dJ2_batchRemove_147 : decode cJ2_batchRemove 147 = .ok (.iadd, 1) := dk_96 (dk_at dksJ2_batchRemove_6 7 rfl rfl)
theorem dJ2_batchRemove_148 : decode cJ2_batchRemove 148 = .ok (.istore 7, 2) := dk_54 7 (dk_at dksJ2_batchRemove_6 8 rfl rfl)
theorem dJ2_batchRemove_150 : decode cJ2_batchRemove 150 = .ok (.aload 8, 2) := dk_25 8 (dk_at dksJ2_batchRemove_6 10 rfl rfl)
theorem dJ2_batchRemove_152 : decode cJ2_batchRemove 152 = .ok (.athrow, 1) := dk_191 (dk_at dksJ2_batchRemove_6 12 rfl rfl)
theorem dJ2_batchRemove_153 : decode cJ2_batchRemove 153 = .ok (.astore 9, 2) := dk_58 9 (dk_at dksJ2_batchRemove_6 13 rfl rfl)
theorem dJ2_batchRemove_155 : decode cJ2_batchRemove 155 = .ok (.aload_n 0, 1) := dk_42 (dk_at dksJ2_batchRemove_6 15 rfl rfl)
theorem dJ2_batchRemove_156 : decode cJ2_batchRemove 156 = .ok (.dup, 1) := dk_89 (dk_at dksJ2_batchRemove_6 16 rfl rfl)
theorem dJ2_batchRemove_157 : decode cJ2_batchRemove 157 = .ok (.getfield 63, 3) := dk_180 0 63 (dk_at dksJ2_batchRemove_6 17 rfl rfl)
theorem dJ2_batchRemove_160 : decode cJ2_batchRemove 160 = .ok (.iload 4, 2) := dk_21 4 (dk_at dksJ2_batchRemove_6 20 rfl rfl)
theorem dJ2_batchRemove_162 : decode cJ2_batchRemove 162 = .ok (.iload 7, 2) := dk_21 7 (dk_at dksJ2_batchRemove_6 22 rfl rfl)
theorem dJ2_batchRemove_164 : decode cJ2_batchRemove 164 = .ok (.isub, 1) := dk_100 (dk_at dksJ2_batchRemove_7 0 rfl rfl)
theorem dJ2_batchRemove_165 : decode cJ2_batchRemove 165 = .ok (.iadd, 1) := dk_96 (dk_at dksJ2_batchRemove_7 1 rfl rfl)
theorem dJ2_batchRemove_166 : decode cJ2_batchRemove 166 = .ok (.putfield 63, 3) := dk_181 0 63 (dk_at dksJ2_batchRemove_7 2 rfl rfl)
theorem dJ2_batchRemove_169 : decode cJ2_batchRemove 169 = .ok (.aload_n 0, 1) := dk_42 (dk_at dksJ2_batchRemove_7 5 rfl rfl)
theorem dJ2_batchRemove_170 : decode cJ2_batchRemove 170 = .ok (.aload 5, 2) := dk_25 5 (dk_at dksJ2_batchRemove_7 6 rfl rfl)
theorem dJ2_batchRemove_172 : decode cJ2_batchRemove 172 = .ok (.iload 7, 2) := dk_21 7 (dk_at dksJ2_batchRemove_7 8 rfl rfl)
theorem dJ2_batchRemove_174 : decode cJ2_batchRemove 174 = .ok (.iload 4, 2) := dk_21 4 (dk_at dksJ2_batchRemove_7 10 rfl rfl)
theorem dJ2_batchRemove_176 : decode cJ2_batchRemove 176 = .ok (.invokevirtual 194, 3) := dk_182 0 194 (dk_at dksJ2_batchRemove_7 12 rfl rfl)
theorem dJ2_batchRemove_179 : decode cJ2_batchRemove 179 = .ok (.aload 9, 2) := dk_25 9 (dk_at dksJ2_batchRemove_7 15 rfl rfl)
theorem dJ2_batchRemove_181 : decode cJ2_batchRemove 181 = .ok (.athrow, 1) := dk_191 (dk_at dksJ2_batchRemove_7 17 rfl rfl)
theorem dJ2_batchRemove_182 : decode cJ2_batchRemove 182 = .ok (.iconst 1, 1) := dk_4 (dk_at dksJ2_batchRemove_7 18 rfl rfl)
theorem dJ2_batchRemove_183 : decode cJ2_batchRemove 183 = .ok (.ireturn, 1) := dk_172 (dk_at dksJ2_batchRemove_7 19 rfl rfl)
abbrev cJ2_contains : ByteArray := prog_51_method_10_code
def yJ2_contains : MethodName := ⟨RJ2, "contains", "(Ljava/lang/Object;)Z"⟩
def dkwJ2_contains_0 : List UInt8 := [42, 43, 182, 0, 85, 155, 0, 7, 4, 167, 0, 4, 3, 172]
abbrev dktJ2_contains_0 : List UInt8 := dkwJ2_contains_0 ++ []
theorem dksJ2_contains_0 : cJ2_contains.data.toList.drop 0 = dktJ2_contains_0 := by decide +kernel
theorem dJ2_contains_0 : decode cJ2_contains 0 = .ok (.aload_n 0, 1) := dk_42 (dk_at dksJ2_contains_0 0 rfl rfl)
theorem dJ2_contains_1 : decode cJ2_contains 1 = .ok (.aload_n 1, 1) := dk_43 (dk_at dksJ2_contains_0 1 rfl rfl)
theorem dJ2_contains_2 : decode cJ2_contains 2 = .ok (.invokevirtual 85, 3) := dk_182 0 85 (dk_at dksJ2_contains_0 2 rfl rfl)
theorem dJ2_contains_5 : decode cJ2_contains 5 = .ok (.ifCond .lt 7, 3) := dk_155 0 7 (dk_at dksJ2_contains_0 5 rfl rfl)
theorem dJ2_contains_8 : decode cJ2_contains 8 = .ok (.iconst 1, 1) := dk_4 (dk_at dksJ2_contains_0 8 rfl rfl)
theorem dJ2_contains_9 : decode cJ2_contains 9 = .ok (.goto 4, 3) := dk_167 0 4 (dk_at dksJ2_contains_0 9 rfl rfl)
theorem dJ2_contains_12 : decode cJ2_contains 12 = .ok (.iconst 0, 1) := dk_3 (dk_at dksJ2_contains_0 12 rfl rfl)
theorem dJ2_contains_13 : decode cJ2_contains 13 = .ok (.ireturn, 1) := dk_172 (dk_at dksJ2_contains_0 13 rfl rfl)
abbrev cJ2_indexOf : ByteArray := prog_51_method_11_code
def yJ2_indexOf : MethodName := ⟨RJ2, "indexOf", "(Ljava/lang/Object;)I"⟩
def dkwJ2_indexOf_0 : List UInt8 := [42, 43, 3, 42, 180, 0, 48, 182, 0, 89, 172]
abbrev dktJ2_indexOf_0 : List UInt8 := dkwJ2_indexOf_0 ++ []
theorem dksJ2_indexOf_0 : cJ2_indexOf.data.toList.drop 0 = dktJ2_indexOf_0 := by decide +kernel
theorem dJ2_indexOf_0 : decode cJ2_indexOf 0 = .ok (.aload_n 0, 1) := dk_42 (dk_at dksJ2_indexOf_0 0 rfl rfl)
theorem dJ2_indexOf_1 : decode cJ2_indexOf 1 = .ok (.aload_n 1, 1) := dk_43 (dk_at dksJ2_indexOf_0 1 rfl rfl)
theorem dJ2_indexOf_2 : decode cJ2_indexOf 2 = .ok (.iconst 0, 1) := dk_3 (dk_at dksJ2_indexOf_0 2 rfl rfl)
theorem dJ2_indexOf_3 : decode cJ2_indexOf 3 = .ok (.aload_n 0, 1) := dk_42 (dk_at dksJ2_indexOf_0 3 rfl rfl)
theorem dJ2_indexOf_4 : decode cJ2_indexOf 4 = .ok (.getfield 48, 3) := dk_180 0 48 (dk_at dksJ2_indexOf_0 4 rfl rfl)
theorem dJ2_indexOf_7 : decode cJ2_indexOf 7 = .ok (.invokevirtual 89, 3) := dk_182 0 89 (dk_at dksJ2_indexOf_0 7 rfl rfl)
theorem dJ2_indexOf_10 : decode cJ2_indexOf 10 = .ok (.ireturn, 1) := dk_172 (dk_at dksJ2_indexOf_0 10 rfl rfl)
abbrev cJ2_indexOfRange : ByteArray := prog_51_method_12_code
def yJ2_indexOfRange : MethodName := ⟨RJ2, "indexOfRange", "(Ljava/lang/Object;II)I"⟩
def dkwJ2_indexOfRange_2 : List UInt8 := [43, 25, 4, 21, 5, 50, 182, 0, 93, 153, 0, 6, 21, 5, 172, 132, 5, 1, 167, 255, 232, 2, 172]
abbrev dktJ2_indexOfRange_2 : List UInt8 := dkwJ2_indexOfRange_2 ++ []
def dkwJ2_indexOfRange_1 : List UInt8 := [199, 0, 6, 21, 5, 172, 132, 5, 1, 167, 255, 236, 167, 0, 33, 28, 54, 5, 21, 5, 29, 162, 0, 24]
abbrev dktJ2_indexOfRange_1 : List UInt8 := dkwJ2_indexOfRange_1 ++ dktJ2_indexOfRange_2
def dkwJ2_indexOfRange_0 : List UInt8 := [42, 180, 0, 9, 58, 4, 43, 199, 0, 32, 28, 54, 5, 21, 5, 29, 162, 0, 20, 25, 4, 21, 5, 50]
abbrev dktJ2_indexOfRange_0 : List UInt8 := dkwJ2_indexOfRange_0 ++ dktJ2_indexOfRange_1
theorem dksJ2_indexOfRange_0 : cJ2_indexOfRange.data.toList.drop 0 = dktJ2_indexOfRange_0 := by decide +kernel
theorem dksJ2_indexOfRange_1 : cJ2_indexOfRange.data.toList.drop 24 = dktJ2_indexOfRange_1 := dk_seg dksJ2_indexOfRange_0 24 rfl rfl
theorem dksJ2_indexOfRange_2 : cJ2_indexOfRange.data.toList.drop 48 = dktJ2_indexOfRange_2 := dk_seg dksJ2_indexOfRange_1 24 rfl rfl
theorem dJ2_indexOfRange_0 : decode cJ2_indexOfRange 0 = .ok (.aload_n 0, 1) := dk_42 (dk_at dksJ2_indexOfRange_0 0 rfl rfl)
theorem dJ2_indexOfRange_1 : decode cJ2_indexOfRange 1 = .ok (.getfield 9, 3) := dk_180 0 9 (dk_at dksJ2_indexOfRange_0 1 rfl rfl)
theorem dJ2_indexOfRange_4 : decode cJ2_indexOfRange 4 = .ok (.astore 4, 2) := dk_58 4 (dk_at dksJ2_indexOfRange_0 4 rfl rfl)
theorem dJ2_indexOfRange_6 : decode cJ2_indexOfRange 6 = .ok (.aload_n 1, 1) := dk_43 (dk_at dksJ2_indexOfRange_0 6 rfl rfl)
theorem dJ2_indexOfRange_7 : decode cJ2_indexOfRange 7 = .ok (.ifnonnull 32, 3) := dk_199 0 32 (dk_at dksJ2_indexOfRange_0 7 rfl rfl)
theorem dJ2_indexOfRange_10 : decode cJ2_indexOfRange 10 = .ok (.iload_n 2, 1) := dk_28 (dk_at dksJ2_indexOfRange_0 10 rfl rfl)
theorem dJ2_indexOfRange_11 : decode cJ2_indexOfRange 11 = .ok (.istore 5, 2) := dk_54 5 (dk_at dksJ2_indexOfRange_0 11 rfl rfl)
theorem dJ2_indexOfRange_13 : decode cJ2_indexOfRange 13 = .ok (.iload 5, 2) := dk_21 5 (dk_at dksJ2_indexOfRange_0 13 rfl rfl)
theorem dJ2_indexOfRange_15 : decode cJ2_indexOfRange 15 = .ok (.iload_n 3, 1) := dk_29 (dk_at dksJ2_indexOfRange_0 15 rfl rfl)
theorem dJ2_indexOfRange_16 : decode cJ2_indexOfRange 16 = .ok (.if_icmp .ge 20, 3) := dk_162 0 20 (dk_at dksJ2_indexOfRange_0 16 rfl rfl)
theorem dJ2_indexOfRange_19 : decode cJ2_indexOfRange 19 = .ok (.aload 4, 2) := dk_25 4 (dk_at dksJ2_indexOfRange_0 19 rfl rfl)
theorem dJ2_indexOfRange_21 : decode cJ2_indexOfRange 21 = .ok (.iload 5, 2) := dk_21 5 (dk_at dksJ2_indexOfRange_0 21 rfl rfl)
theorem dJ2_indexOfRange_23 : decode cJ2_indexOfRange 23 = .ok (.aaload, 1) := dk_50 (dk_at dksJ2_indexOfRange_0 23 rfl rfl)
theorem dJ2_indexOfRange_24 : decode cJ2_indexOfRange 24 = .ok (.ifnonnull 6, 3) := dk_199 0 6 (dk_at dksJ2_indexOfRange_1 0 rfl rfl)
theorem dJ2_indexOfRange_27 : decode cJ2_indexOfRange 27 = .ok (.iload 5, 2) := dk_21 5 (dk_at dksJ2_indexOfRange_1 3 rfl rfl)
theorem dJ2_indexOfRange_29 : decode cJ2_indexOfRange 29 = .ok (.ireturn, 1) := dk_172 (dk_at dksJ2_indexOfRange_1 5 rfl rfl)
theorem dJ2_indexOfRange_30 : decode cJ2_indexOfRange 30 = .ok (.iinc 5 1, 3) := dk_132 5 1 (dk_at dksJ2_indexOfRange_1 6 rfl rfl)
theorem dJ2_indexOfRange_33 : decode cJ2_indexOfRange 33 = .ok (.goto (-20), 3) := dk_167 255 236 (dk_at dksJ2_indexOfRange_1 9 rfl rfl)
theorem dJ2_indexOfRange_36 : decode cJ2_indexOfRange 36 = .ok (.goto 33, 3) := dk_167 0 33 (dk_at dksJ2_indexOfRange_1 12 rfl rfl)
theorem dJ2_indexOfRange_39 : decode cJ2_indexOfRange 39 = .ok (.iload_n 2, 1) := dk_28 (dk_at dksJ2_indexOfRange_1 15 rfl rfl)
theorem dJ2_indexOfRange_40 : decode cJ2_indexOfRange 40 = .ok (.istore 5, 2) := dk_54 5 (dk_at dksJ2_indexOfRange_1 16 rfl rfl)
theorem dJ2_indexOfRange_42 : decode cJ2_indexOfRange 42 = .ok (.iload 5, 2) := dk_21 5 (dk_at dksJ2_indexOfRange_1 18 rfl rfl)
theorem dJ2_indexOfRange_44 : decode cJ2_indexOfRange 44 = .ok (.iload_n 3, 1) := dk_29 (dk_at dksJ2_indexOfRange_1 20 rfl rfl)
theorem dJ2_indexOfRange_45 : decode cJ2_indexOfRange 45 = .ok (.if_icmp .ge 24, 3) := dk_162 0 24 (dk_at dksJ2_indexOfRange_1 21 rfl rfl)
theorem dJ2_indexOfRange_48 : decode cJ2_indexOfRange 48 = .ok (.aload_n 1, 1) := dk_43 (dk_at dksJ2_indexOfRange_2 0 rfl rfl)
theorem dJ2_indexOfRange_49 : decode cJ2_indexOfRange 49 = .ok (.aload 4, 2) := dk_25 4 (dk_at dksJ2_indexOfRange_2 1 rfl rfl)
theorem dJ2_indexOfRange_51 : decode cJ2_indexOfRange 51 = .ok (.iload 5, 2) := dk_21 5 (dk_at dksJ2_indexOfRange_2 3 rfl rfl)
theorem dJ2_indexOfRange_53 : decode cJ2_indexOfRange 53 = .ok (.aaload, 1) := dk_50 (dk_at dksJ2_indexOfRange_2 5 rfl rfl)
theorem dJ2_indexOfRange_54 : decode cJ2_indexOfRange 54 = .ok (.invokevirtual 93, 3) := dk_182 0 93 (dk_at dksJ2_indexOfRange_2 6 rfl rfl)
theorem dJ2_indexOfRange_57 : decode cJ2_indexOfRange 57 = .ok (.ifCond .eq 6, 3) := dk_153 0 6 (dk_at dksJ2_indexOfRange_2 9 rfl rfl)
theorem dJ2_indexOfRange_60 : decode cJ2_indexOfRange 60 = .ok (.iload 5, 2) := dk_21 5 (dk_at dksJ2_indexOfRange_2 12 rfl rfl)
theorem dJ2_indexOfRange_62 : decode cJ2_indexOfRange 62 = .ok (.ireturn, 1) := dk_172 (dk_at dksJ2_indexOfRange_2 14 rfl rfl)
theorem dJ2_indexOfRange_63 : decode cJ2_indexOfRange 63 = .ok (.iinc 5 1, 3) := dk_132 5 1 (dk_at dksJ2_indexOfRange_2 15 rfl rfl)
theorem dJ2_indexOfRange_66 : decode cJ2_indexOfRange 66 = .ok (.goto (-24), 3) := dk_167 255 232 (dk_at dksJ2_indexOfRange_2 18 rfl rfl)
theorem dJ2_indexOfRange_69 : decode cJ2_indexOfRange 69 = .ok (.iconst (-1), 1) := dk_2 (dk_at dksJ2_indexOfRange_2 21 rfl rfl)
theorem dJ2_indexOfRange_70 : decode cJ2_indexOfRange 70 = .ok (.ireturn, 1) := dk_172 (dk_at dksJ2_indexOfRange_2 22 rfl rfl)
abbrev cJ2_shiftTailOverGap : ByteArray := prog_51_method_44_code
def yJ2_shiftTailOverGap : MethodName := ⟨RJ2, "shiftTailOverGap", "([Ljava/lang/Object;II)V"⟩
def dkwJ2_shiftTailOverGap_2 : List UInt8 := [132, 5, 1, 167, 255, 241, 177]
abbrev dktJ2_shiftTailOverGap_2 : List UInt8 := dkwJ2_shiftTailOverGap_2 ++ []
def dkwJ2_shiftTailOverGap_1 : List UInt8 := [29, 28, 100, 100, 90, 181, 0, 48, 54, 5, 21, 5, 21, 4, 162, 0, 14, 43, 21, 5, 1, 83]
abbrev dktJ2_shiftTailOverGap_1 : List UInt8 := dkwJ2_shiftTailOverGap_1 ++ dktJ2_shiftTailOverGap_2
def dkwJ2_shiftTailOverGap_0 : List UInt8 := [43, 29, 43, 28, 42, 180, 0, 48, 29, 100, 184, 0, 112, 42, 180, 0, 48, 54, 4, 42, 89, 180, 0, 48]
abbrev dktJ2_shiftTailOverGap_0 : List UInt8 := dkwJ2_shiftTailOverGap_0 ++ dktJ2_shiftTailOverGap_1
theorem dksJ2_shiftTailOverGap_0 : cJ2_shiftTailOverGap.data.toList.drop 0 = dktJ2_shiftTailOverGap_0 := by decide +kernel
theorem dksJ2_shiftTailOverGap_1 : cJ2_shiftTailOverGap.data.toList.drop 24 = dktJ2_shiftTailOverGap_1 := dk_seg dksJ2_shiftTailOverGap_0 24 rfl rfl
theorem dksJ2_shiftTailOverGap_2 : cJ2_shiftTailOverGap.data.toList.drop 46 = dktJ2_shiftTailOverGap_2 := dk_seg dksJ2_shiftTailOverGap_1 22 rfl rfl
theorem dJ2_shiftTailOverGap_0 : decode cJ2_shiftTailOverGap 0 = .ok (.aload_n 1, 1) := dk_43 (dk_at dksJ2_shiftTailOverGap_0 0 rfl rfl)
theorem dJ2_shiftTailOverGap_1 : decode cJ2_shiftTailOverGap 1 = .ok (.iload_n 3, 1) := dk_29 (dk_at dksJ2_shiftTailOverGap_0 1 rfl rfl)
theorem dJ2_shiftTailOverGap_2 : decode cJ2_shiftTailOverGap 2 = .ok (.aload_n 1, 1) := dk_43 (dk_at dksJ2_shiftTailOverGap_0 2 rfl rfl)
theorem dJ2_shiftTailOverGap_3 : decode cJ2_shiftTailOverGap 3 = .ok (.iload_n 2, 1) := dk_28 (dk_at dksJ2_shiftTailOverGap_0 3 rfl rfl)
theorem dJ2_shiftTailOverGap_4 : decode cJ2_shiftTailOverGap 4 = .ok (.aload_n 0, 1) := dk_42 (dk_at dksJ2_shiftTailOverGap_0 4 rfl rfl)
theorem dJ2_shiftTailOverGap_5 : decode cJ2_shiftTailOverGap 5 = .ok (.getfield 48, 3) := dk_180 0 48 (dk_at dksJ2_shiftTailOverGap_0 5 rfl rfl)
theorem dJ2_shiftTailOverGap_8 : decode cJ2_shiftTailOverGap 8 = .ok (.iload_n 3, 1) := dk_29 (dk_at dksJ2_shiftTailOverGap_0 8 rfl rfl)
theorem dJ2_shiftTailOverGap_9 : decode cJ2_shiftTailOverGap 9 = .ok (.isub, 1) := dk_100 (dk_at dksJ2_shiftTailOverGap_0 9 rfl rfl)
theorem dJ2_shiftTailOverGap_10 : decode cJ2_shiftTailOverGap 10 = .ok (.invokestatic 112, 3) := dk_184 0 112 (dk_at dksJ2_shiftTailOverGap_0 10 rfl rfl)
theorem dJ2_shiftTailOverGap_13 : decode cJ2_shiftTailOverGap 13 = .ok (.aload_n 0, 1) := dk_42 (dk_at dksJ2_shiftTailOverGap_0 13 rfl rfl)
theorem dJ2_shiftTailOverGap_14 : decode cJ2_shiftTailOverGap 14 = .ok (.getfield 48, 3) := dk_180 0 48 (dk_at dksJ2_shiftTailOverGap_0 14 rfl rfl)
theorem dJ2_shiftTailOverGap_17 : decode cJ2_shiftTailOverGap 17 = .ok (.istore 4, 2) := dk_54 4 (dk_at dksJ2_shiftTailOverGap_0 17 rfl rfl)
theorem dJ2_shiftTailOverGap_19 : decode cJ2_shiftTailOverGap 19 = .ok (.aload_n 0, 1) := dk_42 (dk_at dksJ2_shiftTailOverGap_0 19 rfl rfl)
theorem dJ2_shiftTailOverGap_20 : decode cJ2_shiftTailOverGap 20 = .ok (.dup, 1) := dk_89 (dk_at dksJ2_shiftTailOverGap_0 20 rfl rfl)
theorem dJ2_shiftTailOverGap_21 : decode cJ2_shiftTailOverGap 21 = .ok (.getfield 48, 3) := dk_180 0 48 (dk_at dksJ2_shiftTailOverGap_0 21 rfl rfl)
theorem dJ2_shiftTailOverGap_24 : decode cJ2_shiftTailOverGap 24 = .ok (.iload_n 3, 1) := dk_29 (dk_at dksJ2_shiftTailOverGap_1 0 rfl rfl)
theorem dJ2_shiftTailOverGap_25 : decode cJ2_shiftTailOverGap 25 = .ok (.iload_n 2, 1) := dk_28 (dk_at dksJ2_shiftTailOverGap_1 1 rfl rfl)
theorem dJ2_shiftTailOverGap_26 : decode cJ2_shiftTailOverGap 26 = .ok (.isub, 1) := dk_100 (dk_at dksJ2_shiftTailOverGap_1 2 rfl rfl)
theorem dJ2_shiftTailOverGap_27 : decode cJ2_shiftTailOverGap 27 = .ok (.isub, 1) := dk_100 (dk_at dksJ2_shiftTailOverGap_1 3 rfl rfl)
theorem dJ2_shiftTailOverGap_28 : decode cJ2_shiftTailOverGap 28 = .ok (.dup_x1, 1) := dk_90 (dk_at dksJ2_shiftTailOverGap_1 4 rfl rfl)
theorem dJ2_shiftTailOverGap_29 : decode cJ2_shiftTailOverGap 29 = .ok (.putfield 48, 3) := dk_181 0 48 (dk_at dksJ2_shiftTailOverGap_1 5 rfl rfl)
theorem dJ2_shiftTailOverGap_32 : decode cJ2_shiftTailOverGap 32 = .ok (.istore 5, 2) := dk_54 5 (dk_at dksJ2_shiftTailOverGap_1 8 rfl rfl)
theorem dJ2_shiftTailOverGap_34 : decode cJ2_shiftTailOverGap 34 = .ok (.iload 5, 2) := dk_21 5 (dk_at dksJ2_shiftTailOverGap_1 10 rfl rfl)
theorem dJ2_shiftTailOverGap_36 : decode cJ2_shiftTailOverGap 36 = .ok (.iload 4, 2) := dk_21 4 (dk_at dksJ2_shiftTailOverGap_1 12 rfl rfl)
theorem dJ2_shiftTailOverGap_38 : decode cJ2_shiftTailOverGap 38 = .ok (.if_icmp .ge 14, 3) := dk_162 0 14 (dk_at dksJ2_shiftTailOverGap_1 14 rfl rfl)
theorem dJ2_shiftTailOverGap_41 : decode cJ2_shiftTailOverGap 41 = .ok (.aload_n 1, 1) := dk_43 (dk_at dksJ2_shiftTailOverGap_1 17 rfl rfl)
theorem dJ2_shiftTailOverGap_42 : decode cJ2_shiftTailOverGap 42 = .ok (.iload 5, 2) := dk_21 5 (dk_at dksJ2_shiftTailOverGap_1 18 rfl rfl)
theorem dJ2_shiftTailOverGap_44 : decode cJ2_shiftTailOverGap 44 = .ok (.aconst_null, 1) := dk_1 (dk_at dksJ2_shiftTailOverGap_1 20 rfl rfl)
theorem dJ2_shiftTailOverGap_45 : decode cJ2_shiftTailOverGap 45 = .ok (.aastore, 1) := dk_83 (dk_at dksJ2_shiftTailOverGap_1 21 rfl rfl)
theorem dJ2_shiftTailOverGap_46 : decode cJ2_shiftTailOverGap 46 = .ok (.iinc 5 1, 3) := dk_132 5 1 (dk_at dksJ2_shiftTailOverGap_2 0 rfl rfl)
theorem dJ2_shiftTailOverGap_49 : decode cJ2_shiftTailOverGap 49 = .ok (.goto (-15), 3) := dk_167 255 241 (dk_at dksJ2_shiftTailOverGap_2 3 rfl rfl)
theorem dJ2_shiftTailOverGap_52 : decode cJ2_shiftTailOverGap 52 = .ok (.return_, 1) := dk_177 (dk_at dksJ2_shiftTailOverGap_2 6 rfl rfl)
abbrev cJ2_set : ByteArray := prog_51_method_23_code
def yJ2_set : MethodName := ⟨RJ2, "set", "(ILjava/lang/Object;)Ljava/lang/Object;"⟩
def dkwJ2_set_0 : List UInt8 := [27, 42, 180, 0, 48, 184, 0, 118, 87, 42, 27, 182, 0, 123, 78, 42, 180, 0, 9, 27, 44, 83, 45, 176]
abbrev dktJ2_set_0 : List UInt8 := dkwJ2_set_0 ++ []
theorem dksJ2_set_0 : cJ2_set.data.toList.drop 0 = dktJ2_set_0 := by decide +kernel
theorem dJ2_set_0 : decode cJ2_set 0 = .ok (.iload_n 1, 1) := dk_27 (dk_at dksJ2_set_0 0 rfl rfl)
theorem dJ2_set_1 : decode cJ2_set 1 = .ok (.aload_n 0, 1) := dk_42 (dk_at dksJ2_set_0 1 rfl rfl)
theorem dJ2_set_2 : decode cJ2_set 2 = .ok (.getfield 48, 3) := dk_180 0 48 (dk_at dksJ2_set_0 2 rfl rfl)
theorem dJ2_set_5 : decode cJ2_set 5 = .ok (.invokestatic 118, 3) := dk_184 0 118 (dk_at dksJ2_set_0 5 rfl rfl)
theorem dJ2_set_8 : decode cJ2_set 8 = .ok (.pop, 1) := dk_87 (dk_at dksJ2_set_0 8 rfl rfl)
theorem dJ2_set_9 : decode cJ2_set 9 = .ok (.aload_n 0, 1) := dk_42 (dk_at dksJ2_set_0 9 rfl rfl)
theorem dJ2_set_10 : decode cJ2_set 10 = .ok (.iload_n 1, 1) := dk_27 (dk_at dksJ2_set_0 10 rfl rfl)
theorem dJ2_set_11 : decode cJ2_set 11 = .ok (.invokevirtual 123, 3) := dk_182 0 123 (dk_at dksJ2_set_0 11 rfl rfl)
theorem dJ2_set_14 : decode cJ2_set 14 = .ok (.astore_n 3, 1) := dk_78 (dk_at dksJ2_set_0 14 rfl rfl)
theorem dJ2_set_15 : decode cJ2_set 15 = .ok (.aload_n 0, 1) := dk_42 (dk_at dksJ2_set_0 15 rfl rfl)
theorem dJ2_set_16 : decode cJ2_set 16 = .ok (.getfield 9, 3) := dk_180 0 9 (dk_at dksJ2_set_0 16 rfl rfl)
theorem dJ2_set_19 : decode cJ2_set 19 = .ok (.iload_n 1, 1) := dk_27 (dk_at dksJ2_set_0 19 rfl rfl)
theorem dJ2_set_20 : decode cJ2_set 20 = .ok (.aload_n 2, 1) := dk_44 (dk_at dksJ2_set_0 20 rfl rfl)
theorem dJ2_set_21 : decode cJ2_set 21 = .ok (.aastore, 1) := dk_83 (dk_at dksJ2_set_0 21 rfl rfl)
theorem dJ2_set_22 : decode cJ2_set 22 = .ok (.aload_n 3, 1) := dk_45 (dk_at dksJ2_set_0 22 rfl rfl)
theorem dJ2_set_23 : decode cJ2_set 23 = .ok (.areturn, 1) := dk_176 (dk_at dksJ2_set_0 23 rfl rfl)
abbrev cJ2_remove : ByteArray := prog_51_method_29_code
def yJ2_remove : MethodName := ⟨RJ2, "remove", "(I)Ljava/lang/Object;"⟩
def dkwJ2_remove_1 : List UInt8 := [45, 176]
abbrev dktJ2_remove_1 : List UInt8 := dkwJ2_remove_1 ++ []
def dkwJ2_remove_0 : List UInt8 := [27, 42, 180, 0, 48, 184, 0, 118, 87, 42, 180, 0, 9, 77, 44, 27, 50, 78, 42, 44, 27, 182, 0, 144]
abbrev dktJ2_remove_0 : List UInt8 := dkwJ2_remove_0 ++ dktJ2_remove_1
theorem dksJ2_remove_0 : cJ2_remove.data.toList.drop 0 = dktJ2_remove_0 := by decide +kernel
theorem dksJ2_remove_1 : cJ2_remove.data.toList.drop 24 = dktJ2_remove_1 := dk_seg dksJ2_remove_0 24 rfl rfl
theorem dJ2_remove_0 : decode cJ2_remove 0 = .ok (.iload_n 1, 1) := dk_27 (dk_at dksJ2_remove_0 0 rfl rfl)
theorem dJ2_remove_1 : decode cJ2_remove 1 = .ok (.aload_n 0, 1) := dk_42 (dk_at dksJ2_remove_0 1 rfl rfl)
theorem dJ2_remove_2 : decode cJ2_remove 2 = .ok (.getfield 48, 3) := dk_180 0 48 (dk_at dksJ2_remove_0 2 rfl rfl)
theorem dJ2_remove_5 : decode cJ2_remove 5 = .ok (.invokestatic 118, 3) := dk_184 0 118 (dk_at dksJ2_remove_0 5 rfl rfl)
theorem dJ2_remove_8 : decode cJ2_remove 8 = .ok (.pop, 1) := dk_87 (dk_at dksJ2_remove_0 8 rfl rfl)
theorem dJ2_remove_9 : decode cJ2_remove 9 = .ok (.aload_n 0, 1) := dk_42 (dk_at dksJ2_remove_0 9 rfl rfl)
theorem dJ2_remove_10 : decode cJ2_remove 10 = .ok (.getfield 9, 3) := dk_180 0 9 (dk_at dksJ2_remove_0 10 rfl rfl)
theorem dJ2_remove_13 : decode cJ2_remove 13 = .ok (.astore_n 2, 1) := dk_77 (dk_at dksJ2_remove_0 13 rfl rfl)
theorem dJ2_remove_14 : decode cJ2_remove 14 = .ok (.aload_n 2, 1) := dk_44 (dk_at dksJ2_remove_0 14 rfl rfl)
theorem dJ2_remove_15 : decode cJ2_remove 15 = .ok (.iload_n 1, 1) := dk_27 (dk_at dksJ2_remove_0 15 rfl rfl)
theorem dJ2_remove_16 : decode cJ2_remove 16 = .ok (.aaload, 1) := dk_50 (dk_at dksJ2_remove_0 16 rfl rfl)
theorem dJ2_remove_17 : decode cJ2_remove 17 = .ok (.astore_n 3, 1) := dk_78 (dk_at dksJ2_remove_0 17 rfl rfl)
theorem dJ2_remove_18 : decode cJ2_remove 18 = .ok (.aload_n 0, 1) := dk_42 (dk_at dksJ2_remove_0 18 rfl rfl)
theorem dJ2_remove_19 : decode cJ2_remove 19 = .ok (.aload_n 2, 1) := dk_44 (dk_at dksJ2_remove_0 19 rfl rfl)
theorem dJ2_remove_20 : decode cJ2_remove 20 = .ok (.iload_n 1, 1) := dk_27 (dk_at dksJ2_remove_0 20 rfl rfl)
theorem dJ2_remove_21 : decode cJ2_remove 21 = .ok (.invokevirtual 144, 3) := dk_182 0 144 (dk_at dksJ2_remove_0 21 rfl rfl)
theorem dJ2_remove_24 : decode cJ2_remove 24 = .ok (.aload_n 3, 1) := dk_45 (dk_at dksJ2_remove_1 0 rfl rfl)
theorem dJ2_remove_25 : decode cJ2_remove 25 = .ok (.areturn, 1) := dk_176 (dk_at dksJ2_remove_1 1 rfl rfl)
abbrev cJ2_fastRemove : ByteArray := prog_51_method_39_code
def yJ2_fastRemove : MethodName := ⟨RJ2, "fastRemove", "([Ljava/lang/Object;I)V"⟩
def dkwJ2_fastRemove_1 : List UInt8 := [4, 96, 43, 28, 29, 28, 100, 184, 0, 112, 43, 42, 29, 90, 181, 0, 48, 1, 83, 177]
abbrev dktJ2_fastRemove_1 : List UInt8 := dkwJ2_fastRemove_1 ++ []
def dkwJ2_fastRemove_0 : List UInt8 := [42, 89, 180, 0, 63, 4, 96, 181, 0, 63, 42, 180, 0, 48, 4, 100, 89, 62, 28, 164, 0, 15, 43, 28]
abbrev dktJ2_fastRemove_0 : List UInt8 := dkwJ2_fastRemove_0 ++ dktJ2_fastRemove_1
theorem dksJ2_fastRemove_0 : cJ2_fastRemove.data.toList.drop 0 = dktJ2_fastRemove_0 := by decide +kernel
theorem dksJ2_fastRemove_1 : cJ2_fastRemove.data.toList.drop 24 = dktJ2_fastRemove_1 := dk_seg dksJ2_fastRemove_0 24 rfl rfl
theorem dJ2_fastRemove_0 : decode cJ2_fastRemove 0 = .ok (.aload_n 0, 1) := dk_42 (dk_at dksJ2_fastRemove_0 0 rfl rfl)
theorem dJ2_fastRemove_1 : decode cJ2_fastRemove 1 = .ok (.dup, 1) := dk_89 (dk_at dksJ2_fastRemove_0 1 rfl rfl)
theorem dJ2_fastRemove_2 : decode cJ2_fastRemove 2 = .ok (.getfield 63, 3) := dk_180 0 63 (dk_at dksJ2_fastRemove_0 2 rfl rfl)
theorem dJ2_fastRemove_5 : decode cJ2_fastRemove 5 = .ok (.iconst 1, 1) := dk_4 (dk_at dksJ2_fastRemove_0 5 rfl rfl)
theorem dJ2_fastRemove_6 : decode cJ2_fastRemove 6 = .ok (.iadd, 1) := dk_96 (dk_at dksJ2_fastRemove_0 6 rfl rfl)
theorem dJ2_fastRemove_7 : decode cJ2_fastRemove 7 = .ok (.putfield 63, 3) := dk_181 0 63 (dk_at dksJ2_fastRemove_0 7 rfl rfl)
theorem dJ2_fastRemove_10 : decode cJ2_fastRemove 10 = .ok (.aload_n 0, 1) := dk_42 (dk_at dksJ2_fastRemove_0 10 rfl rfl)
theorem dJ2_fastRemove_11 : decode cJ2_fastRemove 11 = .ok (.getfield 48, 3) := dk_180 0 48 (dk_at dksJ2_fastRemove_0 11 rfl rfl)
theorem dJ2_fastRemove_14 : decode cJ2_fastRemove 14 = .ok (.iconst 1, 1) := dk_4 (dk_at dksJ2_fastRemove_0 14 rfl rfl)
theorem dJ2_fastRemove_15 : decode cJ2_fastRemove 15 = .ok (.isub, 1) := dk_100 (dk_at dksJ2_fastRemove_0 15 rfl rfl)
theorem dJ2_fastRemove_16 : decode cJ2_fastRemove 16 = .ok (.dup, 1) := dk_89 (dk_at dksJ2_fastRemove_0 16 rfl rfl)
theorem dJ2_fastRemove_17 : decode cJ2_fastRemove 17 = .ok (.istore_n 3, 1) := dk_62 (dk_at dksJ2_fastRemove_0 17 rfl rfl)
theorem dJ2_fastRemove_18 : decode cJ2_fastRemove 18 = .ok (.iload_n 2, 1) := dk_28 (dk_at dksJ2_fastRemove_0 18 rfl rfl)
theorem dJ2_fastRemove_19 : decode cJ2_fastRemove 19 = .ok (.if_icmp .le 15, 3) := dk_164 0 15 (dk_at dksJ2_fastRemove_0 19 rfl rfl)
theorem dJ2_fastRemove_22 : decode cJ2_fastRemove 22 = .ok (.aload_n 1, 1) := dk_43 (dk_at dksJ2_fastRemove_0 22 rfl rfl)
theorem dJ2_fastRemove_23 : decode cJ2_fastRemove 23 = .ok (.iload_n 2, 1) := dk_28 (dk_at dksJ2_fastRemove_0 23 rfl rfl)
theorem dJ2_fastRemove_24 : decode cJ2_fastRemove 24 = .ok (.iconst 1, 1) := dk_4 (dk_at dksJ2_fastRemove_1 0 rfl rfl)
theorem dJ2_fastRemove_25 : decode cJ2_fastRemove 25 = .ok (.iadd, 1) := dk_96 (dk_at dksJ2_fastRemove_1 1 rfl rfl)
theorem dJ2_fastRemove_26 : decode cJ2_fastRemove 26 = .ok (.aload_n 1, 1) := dk_43 (dk_at dksJ2_fastRemove_1 2 rfl rfl)
theorem dJ2_fastRemove_27 : decode cJ2_fastRemove 27 = .ok (.iload_n 2, 1) := dk_28 (dk_at dksJ2_fastRemove_1 3 rfl rfl)
theorem dJ2_fastRemove_28 : decode cJ2_fastRemove 28 = .ok (.iload_n 3, 1) := dk_29 (dk_at dksJ2_fastRemove_1 4 rfl rfl)
theorem dJ2_fastRemove_29 : decode cJ2_fastRemove 29 = .ok (.iload_n 2, 1) := dk_28 (dk_at dksJ2_fastRemove_1 5 rfl rfl)
theorem dJ2_fastRemove_30 : decode cJ2_fastRemove 30 = .ok (.isub, 1) := dk_100 (dk_at dksJ2_fastRemove_1 6 rfl rfl)
theorem dJ2_fastRemove_31 : decode cJ2_fastRemove 31 = .ok (.invokestatic 112, 3) := dk_184 0 112 (dk_at dksJ2_fastRemove_1 7 rfl rfl)
theorem dJ2_fastRemove_34 : decode cJ2_fastRemove 34 = .ok (.aload_n 1, 1) := dk_43 (dk_at dksJ2_fastRemove_1 10 rfl rfl)
theorem dJ2_fastRemove_35 : decode cJ2_fastRemove 35 = .ok (.aload_n 0, 1) := dk_42 (dk_at dksJ2_fastRemove_1 11 rfl rfl)
theorem dJ2_fastRemove_36 : decode cJ2_fastRemove 36 = .ok (.iload_n 3, 1) := dk_29 (dk_at dksJ2_fastRemove_1 12 rfl rfl)
theorem dJ2_fastRemove_37 : decode cJ2_fastRemove 37 = .ok (.dup_x1, 1) := dk_90 (dk_at dksJ2_fastRemove_1 13 rfl rfl)
theorem dJ2_fastRemove_38 : decode cJ2_fastRemove 38 = .ok (.putfield 48, 3) := dk_181 0 48 (dk_at dksJ2_fastRemove_1 14 rfl rfl)
theorem dJ2_fastRemove_41 : decode cJ2_fastRemove 41 = .ok (.aconst_null, 1) := dk_1 (dk_at dksJ2_fastRemove_1 17 rfl rfl)
theorem dJ2_fastRemove_42 : decode cJ2_fastRemove 42 = .ok (.aastore, 1) := dk_83 (dk_at dksJ2_fastRemove_1 18 rfl rfl)
theorem dJ2_fastRemove_43 : decode cJ2_fastRemove 43 = .ok (.return_, 1) := dk_177 (dk_at dksJ2_fastRemove_1 19 rfl rfl)
abbrev cJ2_init_2 : ByteArray := prog_51_method_3_code
def yJ2_init_2 : MethodName := ⟨RJ2, "<init>", "(Ljava/util/Collection;)V"⟩
def dkwJ2_init_2_2 : List UInt8 := [18, 56, 184, 0, 57, 181, 0, 9, 167, 0, 10, 42, 178, 0, 15, 181, 0, 9, 177]
abbrev dktJ2_init_2_2 : List UInt8 := dkwJ2_init_2_2 ++ []
def dkwJ2_init_2_1 : List UInt8 := [185, 0, 52, 1, 0, 18, 10, 166, 0, 11, 42, 44, 181, 0, 9, 167, 0, 27, 42, 44, 42, 180, 0, 48]
abbrev dktJ2_init_2_1 : List UInt8 := dkwJ2_init_2_1 ++ dktJ2_init_2_2
def dkwJ2_init_2_0 : List UInt8 := [42, 183, 0, 1, 43, 185, 0, 42, 1, 0, 77, 42, 44, 190, 90, 181, 0, 48, 153, 0, 39, 43]
abbrev dktJ2_init_2_0 : List UInt8 := dkwJ2_init_2_0 ++ dktJ2_init_2_1
theorem dksJ2_init_2_0 : cJ2_init_2.data.toList.drop 0 = dktJ2_init_2_0 := by decide +kernel
theorem dksJ2_init_2_1 : cJ2_init_2.data.toList.drop 22 = dktJ2_init_2_1 := dk_seg dksJ2_init_2_0 22 rfl rfl
theorem dksJ2_init_2_2 : cJ2_init_2.data.toList.drop 46 = dktJ2_init_2_2 := dk_seg dksJ2_init_2_1 24 rfl rfl
theorem dJ2_init_2_0 : decode cJ2_init_2 0 = .ok (.aload_n 0, 1) := dk_42 (dk_at dksJ2_init_2_0 0 rfl rfl)
theorem dJ2_init_2_1 : decode cJ2_init_2 1 = .ok (.invokespecial 1, 3) := dk_183 0 1 (dk_at dksJ2_init_2_0 1 rfl rfl)
theorem dJ2_init_2_4 : decode cJ2_init_2 4 = .ok (.aload_n 1, 1) := dk_43 (dk_at dksJ2_init_2_0 4 rfl rfl)
theorem dJ2_init_2_5 : decode cJ2_init_2 5 = .ok (.invokeinterface 42 1, 5) := by decide +kernel
theorem dJ2_init_2_10 : decode cJ2_init_2 10 = .ok (.astore_n 2, 1) := dk_77 (dk_at dksJ2_init_2_0 10 rfl rfl)
theorem dJ2_init_2_11 : decode cJ2_init_2 11 = .ok (.aload_n 0, 1) := dk_42 (dk_at dksJ2_init_2_0 11 rfl rfl)
theorem dJ2_init_2_12 : decode cJ2_init_2 12 = .ok (.aload_n 2, 1) := dk_44 (dk_at dksJ2_init_2_0 12 rfl rfl)
theorem dJ2_init_2_13 : decode cJ2_init_2 13 = .ok (.arraylength, 1) := dk_190 (dk_at dksJ2_init_2_0 13 rfl rfl)
theorem dJ2_init_2_14 : decode cJ2_init_2 14 = .ok (.dup_x1, 1) := dk_90 (dk_at dksJ2_init_2_0 14 rfl rfl)
theorem dJ2_init_2_15 : decode cJ2_init_2 15 = .ok (.putfield 48, 3) := dk_181 0 48 (dk_at dksJ2_init_2_0 15 rfl rfl)
theorem dJ2_init_2_18 : decode cJ2_init_2 18 = .ok (.ifCond .eq 39, 3) := dk_153 0 39 (dk_at dksJ2_init_2_0 18 rfl rfl)
theorem dJ2_init_2_21 : decode cJ2_init_2 21 = .ok (.aload_n 1, 1) := dk_43 (dk_at dksJ2_init_2_0 21 rfl rfl)
theorem dJ2_init_2_22 : decode cJ2_init_2 22 = .ok (.invokeinterface 52 1, 5) := by decide +kernel
theorem dJ2_init_2_27 : decode cJ2_init_2 27 = .ok (.ldc 10, 2) := dk_18 10 (dk_at dksJ2_init_2_1 5 rfl rfl)
theorem dJ2_init_2_29 : decode cJ2_init_2 29 = .ok (.if_acmp .ne 11, 3) := dk_166 0 11 (dk_at dksJ2_init_2_1 7 rfl rfl)
theorem dJ2_init_2_32 : decode cJ2_init_2 32 = .ok (.aload_n 0, 1) := dk_42 (dk_at dksJ2_init_2_1 10 rfl rfl)
theorem dJ2_init_2_33 : decode cJ2_init_2 33 = .ok (.aload_n 2, 1) := dk_44 (dk_at dksJ2_init_2_1 11 rfl rfl)
theorem dJ2_init_2_34 : decode cJ2_init_2 34 = .ok (.putfield 9, 3) := dk_181 0 9 (dk_at dksJ2_init_2_1 12 rfl rfl)
theorem dJ2_init_2_37 : decode cJ2_init_2 37 = .ok (.goto 27, 3) := dk_167 0 27 (dk_at dksJ2_init_2_1 15 rfl rfl)
theorem dJ2_init_2_40 : decode cJ2_init_2 40 = .ok (.aload_n 0, 1) := dk_42 (dk_at dksJ2_init_2_1 18 rfl rfl)
theorem dJ2_init_2_41 : decode cJ2_init_2 41 = .ok (.aload_n 2, 1) := dk_44 (dk_at dksJ2_init_2_1 19 rfl rfl)
theorem dJ2_init_2_42 : decode cJ2_init_2 42 = .ok (.aload_n 0, 1) := dk_42 (dk_at dksJ2_init_2_1 20 rfl rfl)
theorem dJ2_init_2_43 : decode cJ2_init_2 43 = .ok (.getfield 48, 3) := dk_180 0 48 (dk_at dksJ2_init_2_1 21 rfl rfl)
theorem dJ2_init_2_46 : decode cJ2_init_2 46 = .ok (.ldc 56, 2) := dk_18 56 (dk_at dksJ2_init_2_2 0 rfl rfl)
theorem dJ2_init_2_48 : decode cJ2_init_2 48 = .ok (.invokestatic 57, 3) := dk_184 0 57 (dk_at dksJ2_init_2_2 2 rfl rfl)
theorem dJ2_init_2_51 : decode cJ2_init_2 51 = .ok (.putfield 9, 3) := dk_181 0 9 (dk_at dksJ2_init_2_2 5 rfl rfl)
theorem dJ2_init_2_54 : decode cJ2_init_2 54 = .ok (.goto 10, 3) := dk_167 0 10 (dk_at dksJ2_init_2_2 8 rfl rfl)
theorem dJ2_init_2_57 : decode cJ2_init_2 57 = .ok (.aload_n 0, 1) := dk_42 (dk_at dksJ2_init_2_2 11 rfl rfl)
theorem dJ2_init_2_58 : decode cJ2_init_2 58 = .ok (.getstatic 15, 3) := dk_178 0 15 (dk_at dksJ2_init_2_2 12 rfl rfl)
theorem dJ2_init_2_61 : decode cJ2_init_2 61 = .ok (.putfield 9, 3) := dk_181 0 9 (dk_at dksJ2_init_2_2 15 rfl rfl)
theorem dJ2_init_2_64 : decode cJ2_init_2 64 = .ok (.return_, 1) := dk_177 (dk_at dksJ2_init_2_2 18 rfl rfl)
theorem q107 : (Jvm.Cond.initialized "java/util/ArrayList") ∈ lw_all := lw_g (lw_at lw_m1 5 rfl) rfl
theorem q169 : (Jvm.Cond.instantiable "java/util/ArrayList" (3 : Nat)) ∈ lw_all := lw_g (lw_at lw_m1 67 rfl) rfl
theorem q171 : (Jvm.Cond.instanceMethod ({ cls := "java/util/ArrayList", name := "<init>", desc := "()V" } : Jvm.MethodName)) ∈ lw_all := lw_g (lw_at lw_m1 69 rfl) rfl
theorem q172 : (Jvm.Cond.code ({ cls := "java/util/ArrayList", name := "<init>", desc := "()V" } : Jvm.MethodName) prog_51_method_2_code (1 : Nat) (Option.none : Option Jvm.ClassFile.FieldType)) ∈ lw_all := lw_g (lw_at lw_m1 70 rfl) rfl
theorem q173 : (Jvm.Cond.methodLink "java/util/ArrayList" (1 : Nat) ({ cls := "java/util/AbstractList", name := "<init>", desc := "()V" } : Jvm.MethodName)) ∈ lw_all := lw_g (lw_at lw_m1 71 rfl) rfl
theorem q180 : (Jvm.Cond.fieldLink "java/util/ArrayList" (39 : Nat) "java/util/ArrayList" "DEFAULTCAPACITY_EMPTY_ELEMENTDATA" "[Ljava/lang/Object;") ∈ lw_all := lw_g (lw_at lw_m1 78 rfl) rfl
theorem q181 : (Jvm.Cond.laysStatic "java/util/ArrayList" "DEFAULTCAPACITY_EMPTY_ELEMENTDATA" "[Ljava/lang/Object;") ∈ lw_tbl := lw_at lw_m1 79 rfl
theorem q182 : (Jvm.Cond.fieldLink "java/util/ArrayList" (9 : Nat) "java/util/ArrayList" "elementData" "[Ljava/lang/Object;") ∈ lw_all := lw_g (lw_at lw_m1 80 rfl) rfl
theorem q185 : (Jvm.Cond.fieldLink "java/util/ArrayList" (48 : Nat) "java/util/ArrayList" "size" "I") ∈ lw_all := lw_g (lw_at lw_m1 83 rfl) rfl
theorem q190 : (Jvm.Cond.sameField "java/util/ArrayList" "java/util/AbstractList" "modCount" "I") ∈ lw_all := lw_g (lw_at lw_m1 88 rfl) rfl
theorem q193 : (Jvm.Cond.fieldLink "java/util/ArrayList" (63 : Nat) "java/util/ArrayList" "modCount" "I") ∈ lw_all := lw_g (lw_at lw_m1 91 rfl) rfl
theorem q194 : (Jvm.Cond.lays "java/util/ArrayList" "java/util/ArrayList" "elementData" "[Ljava/lang/Object;") ∈ lw_all := lw_g (lw_at lw_m1 92 rfl) rfl
theorem q195 : (Jvm.Cond.soleField "java/util/ArrayList" "elementData") ∈ lw_all := lw_g (lw_at lw_m1 93 rfl) rfl
theorem q196 : (Jvm.Cond.lays "java/util/ArrayList" "java/util/ArrayList" "size" "I") ∈ lw_all := lw_g (lw_at lw_m1 94 rfl) rfl
theorem q197 : (Jvm.Cond.soleField "java/util/ArrayList" "size") ∈ lw_all := lw_g (lw_at lw_m1 95 rfl) rfl
theorem q198 : (Jvm.Cond.lays "java/util/ArrayList" "java/util/AbstractList" "modCount" "I") ∈ lw_all := lw_g (lw_at lw_m1 96 rfl) rfl
theorem q200 : (Jvm.Cond.superclass "java/util/ArrayList" "java/util/AbstractList") ∈ lw_all := lw_g (lw_at lw_m1 98 rfl) rfl
theorem q226 : (Jvm.Cond.instanceMethod ({ cls := "java/util/ArrayList", name := "add", desc := "(Ljava/lang/Object;)Z" } : Jvm.MethodName)) ∈ lw_all := lw_g (lw_at lw_m1 124 rfl) rfl
theorem q227 : (Jvm.Cond.selects "java/util/ArrayList" ({ cls := "java/util/ArrayList", name := "add", desc := "(Ljava/lang/Object;)Z" } : Jvm.MethodName) ({ cls := "java/util/ArrayList", name := "add", desc := "(Ljava/lang/Object;)Z" } : Jvm.MethodName)) ∈ lw_all := lw_g (lw_at lw_m1 125 rfl) rfl
theorem q228 : (Jvm.Cond.code ({ cls := "java/util/ArrayList", name := "add", desc := "(Ljava/lang/Object;)Z" } : Jvm.MethodName) prog_51_method_25_code (2 : Nat) (Option.some Jvm.ClassFile.FieldType.boolean)) ∈ lw_all := lw_g (lw_at lw_m1 126 rfl) rfl
theorem q229 : (Jvm.Cond.methodLink "java/util/ArrayList" (131 : Nat) ({ cls := "java/util/ArrayList", name := "add", desc := "(Ljava/lang/Object;[Ljava/lang/Object;I)V" } : Jvm.MethodName)) ∈ lw_all := lw_g (lw_at lw_m1 127 rfl) rfl
theorem q230 : (Jvm.Cond.privateMethod ({ cls := "java/util/ArrayList", name := "add", desc := "(Ljava/lang/Object;[Ljava/lang/Object;I)V" } : Jvm.MethodName)) ∈ lw_tbl := lw_at lw_m1 128 rfl
theorem q231 : (Jvm.Cond.instanceMethod ({ cls := "java/util/ArrayList", name := "add", desc := "(Ljava/lang/Object;[Ljava/lang/Object;I)V" } : Jvm.MethodName)) ∈ lw_all := lw_g (lw_at lw_m1 129 rfl) rfl
theorem q232 : (Jvm.Cond.code ({ cls := "java/util/ArrayList", name := "add", desc := "(Ljava/lang/Object;[Ljava/lang/Object;I)V" } : Jvm.MethodName) prog_51_method_24_code (4 : Nat) (Option.none : Option Jvm.ClassFile.FieldType)) ∈ lw_all := lw_g (lw_at lw_m1 130 rfl) rfl
theorem q233 : (Jvm.Cond.methodLink "java/util/ArrayList" (129 : Nat) ({ cls := "java/util/ArrayList", name := "grow", desc := "()[Ljava/lang/Object;" } : Jvm.MethodName)) ∈ lw_all := lw_g (lw_at lw_m1 131 rfl) rfl
theorem q234 : (Jvm.Cond.privateMethod ({ cls := "java/util/ArrayList", name := "grow", desc := "()[Ljava/lang/Object;" } : Jvm.MethodName)) ∈ lw_tbl := lw_at lw_m1 132 rfl
theorem q235 : (Jvm.Cond.instanceMethod ({ cls := "java/util/ArrayList", name := "grow", desc := "()[Ljava/lang/Object;" } : Jvm.MethodName)) ∈ lw_all := lw_g (lw_at lw_m1 133 rfl) rfl
theorem q236 : (Jvm.Cond.code ({ cls := "java/util/ArrayList", name := "grow", desc := "()[Ljava/lang/Object;" } : Jvm.MethodName) prog_51_method_7_code (1 : Nat) (Option.some (Jvm.ClassFile.FieldType.array (Jvm.ClassFile.FieldType.object "java/lang/Object")))) ∈ lw_all := lw_g (lw_at lw_m1 134 rfl) rfl
theorem q237 : (Jvm.Cond.methodLink "java/util/ArrayList" (69 : Nat) ({ cls := "java/util/ArrayList", name := "grow", desc := "(I)[Ljava/lang/Object;" } : Jvm.MethodName)) ∈ lw_all := lw_g (lw_at lw_m1 135 rfl) rfl
theorem q238 : (Jvm.Cond.privateMethod ({ cls := "java/util/ArrayList", name := "grow", desc := "(I)[Ljava/lang/Object;" } : Jvm.MethodName)) ∈ lw_tbl := lw_at lw_m1 136 rfl
theorem q239 : (Jvm.Cond.instanceMethod ({ cls := "java/util/ArrayList", name := "grow", desc := "(I)[Ljava/lang/Object;" } : Jvm.MethodName)) ∈ lw_all := lw_g (lw_at lw_m1 137 rfl) rfl
theorem q240 : (Jvm.Cond.code ({ cls := "java/util/ArrayList", name := "grow", desc := "(I)[Ljava/lang/Object;" } : Jvm.MethodName) prog_51_method_6_code (4 : Nat) (Option.some (Jvm.ClassFile.FieldType.array (Jvm.ClassFile.FieldType.object "java/lang/Object")))) ∈ lw_all := lw_g (lw_at lw_m1 138 rfl) rfl
theorem q241 : (Jvm.Cond.methodLink "java/util/ArrayList" (73 : Nat) ({ cls := "jdk/internal/util/ArraysSupport", name := "newLength", desc := "(III)I" } : Jvm.MethodName)) ∈ lw_all := lw_g (lw_at lw_m1 139 rfl) rfl
theorem q251 : (Jvm.Cond.methodLink "java/util/ArrayList" (66 : Nat) ({ cls := "java/util/Arrays", name := "copyOf", desc := "([Ljava/lang/Object;I)[Ljava/lang/Object;" } : Jvm.MethodName)) ∈ lw_all := lw_g (lw_at lw_m1 149 rfl) rfl
theorem q280 : (Jvm.Cond.selects "java/util/ArrayList" ({ cls := "java/lang/Object", name := "getClass", desc := "()Ljava/lang/Class;" } : Jvm.MethodName) ({ cls := "java/lang/Object", name := "getClass", desc := "()Ljava/lang/Class;" } : Jvm.MethodName)) ∈ lw_all := lw_g (lw_at lw_m1 178 rfl) rfl
theorem q301 : (Jvm.Cond.methodLink "java/util/ArrayList" (79 : Nat) ({ cls := "java/lang/Math", name := "max", desc := "(II)I" } : Jvm.MethodName)) ∈ lw_all := lw_g (lw_at lw_m1 199 rfl) rfl
theorem q302 : (Jvm.Cond.classLink "java/util/ArrayList" (7 : Nat) "java/lang/Object") ∈ lw_all := lw_g (lw_at lw_m1 200 rfl) rfl
theorem q443 : (Jvm.Cond.instanceMethod ({ cls := "java/util/ArrayList", name := "size", desc := "()I" } : Jvm.MethodName)) ∈ lw_all := lw_g (lw_at lw_m2 101 rfl) rfl
theorem q444 : (Jvm.Cond.selects "java/util/ArrayList" ({ cls := "java/util/ArrayList", name := "size", desc := "()I" } : Jvm.MethodName) ({ cls := "java/util/ArrayList", name := "size", desc := "()I" } : Jvm.MethodName)) ∈ lw_all := lw_g (lw_at lw_m2 102 rfl) rfl
theorem q445 : (Jvm.Cond.code ({ cls := "java/util/ArrayList", name := "size", desc := "()I" } : Jvm.MethodName) prog_51_method_8_code (1 : Nat) (Option.some Jvm.ClassFile.FieldType.int)) ∈ lw_all := lw_g (lw_at lw_m2 103 rfl) rfl
theorem q463 : (Jvm.Cond.instanceMethod ({ cls := "java/util/ArrayList", name := "get", desc := "(I)Ljava/lang/Object;" } : Jvm.MethodName)) ∈ lw_all := lw_g (lw_at lw_m2 121 rfl) rfl
theorem q464 : (Jvm.Cond.selects "java/util/ArrayList" ({ cls := "java/util/ArrayList", name := "get", desc := "(I)Ljava/lang/Object;" } : Jvm.MethodName) ({ cls := "java/util/ArrayList", name := "get", desc := "(I)Ljava/lang/Object;" } : Jvm.MethodName)) ∈ lw_all := lw_g (lw_at lw_m2 122 rfl) rfl
theorem q465 : (Jvm.Cond.code ({ cls := "java/util/ArrayList", name := "get", desc := "(I)Ljava/lang/Object;" } : Jvm.MethodName) prog_51_method_20_code (2 : Nat) (Option.some (Jvm.ClassFile.FieldType.object "java/lang/Object"))) ∈ lw_all := lw_g (lw_at lw_m2 123 rfl) rfl
theorem q466 : (Jvm.Cond.methodLink "java/util/ArrayList" (118 : Nat) ({ cls := "java/util/Objects", name := "checkIndex", desc := "(II)I" } : Jvm.MethodName)) ∈ lw_all := lw_g (lw_at lw_m2 124 rfl) rfl
theorem q472 : (Jvm.Cond.methodLink "java/util/ArrayList" (123 : Nat) ({ cls := "java/util/ArrayList", name := "elementData", desc := "(I)Ljava/lang/Object;" } : Jvm.MethodName)) ∈ lw_all := lw_g (lw_at lw_m2 130 rfl) rfl
theorem q473 : (Jvm.Cond.instanceMethod ({ cls := "java/util/ArrayList", name := "elementData", desc := "(I)Ljava/lang/Object;" } : Jvm.MethodName)) ∈ lw_all := lw_g (lw_at lw_m2 131 rfl) rfl
theorem q474 : (Jvm.Cond.selects "java/util/ArrayList" ({ cls := "java/util/ArrayList", name := "elementData", desc := "(I)Ljava/lang/Object;" } : Jvm.MethodName) ({ cls := "java/util/ArrayList", name := "elementData", desc := "(I)Ljava/lang/Object;" } : Jvm.MethodName)) ∈ lw_all := lw_g (lw_at lw_m2 132 rfl) rfl
theorem q475 : (Jvm.Cond.code ({ cls := "java/util/ArrayList", name := "elementData", desc := "(I)Ljava/lang/Object;" } : Jvm.MethodName) prog_51_method_18_code (2 : Nat) (Option.some (Jvm.ClassFile.FieldType.object "java/lang/Object"))) ∈ lw_all := lw_g (lw_at lw_m2 133 rfl) rfl
theorem q525 : (Jvm.Cond.instanceMethod ({ cls := "java/util/ArrayList", name := "iterator", desc := "()Ljava/util/Iterator;" } : Jvm.MethodName)) ∈ lw_all := lw_g (lw_at lw_m2 183 rfl) rfl
theorem q526 : (Jvm.Cond.selects "java/util/ArrayList" ({ cls := "java/util/ArrayList", name := "iterator", desc := "()Ljava/util/Iterator;" } : Jvm.MethodName) ({ cls := "java/util/ArrayList", name := "iterator", desc := "()Ljava/util/Iterator;" } : Jvm.MethodName)) ∈ lw_all := lw_g (lw_at lw_m2 184 rfl) rfl
theorem q527 : (Jvm.Cond.code ({ cls := "java/util/ArrayList", name := "iterator", desc := "()Ljava/util/Iterator;" } : Jvm.MethodName) prog_51_method_55_code (1 : Nat) (Option.some (Jvm.ClassFile.FieldType.object "java/util/Iterator"))) ∈ lw_all := lw_g (lw_at lw_m2 185 rfl) rfl
theorem q528 : (Jvm.Cond.classLink "java/util/ArrayList" (267 : Nat) "java/util/ArrayList$Itr") ∈ lw_all := lw_g (lw_at lw_m2 186 rfl) rfl
theorem q530 : (Jvm.Cond.methodLink "java/util/ArrayList" (269 : Nat) ({ cls := "java/util/ArrayList$Itr", name := "<init>", desc := "(Ljava/util/ArrayList;)V" } : Jvm.MethodName)) ∈ lw_all := lw_g (lw_at lw_m2 188 rfl) rfl
theorem q562 : (Jvm.Cond.selects "java/util/ArrayList" ({ cls := "java/util/AbstractList", name := "size", desc := "()I" } : Jvm.MethodName) ({ cls := "java/util/ArrayList", name := "size", desc := "()I" } : Jvm.MethodName)) ∈ lw_all := lw_g (lw_at lw_m2 220 rfl) rfl
theorem q598 : (Jvm.Cond.selects "java/util/ArrayList" ({ cls := "java/util/AbstractList", name := "get", desc := "(I)Ljava/lang/Object;" } : Jvm.MethodName) ({ cls := "java/util/ArrayList", name := "get", desc := "(I)Ljava/lang/Object;" } : Jvm.MethodName)) ∈ lw_all := lw_g (lw_at lw_m3 16 rfl) rfl
theorem q1121 : (Jvm.Cond.selects "java/util/ArrayList" ({ cls := "java/util/AbstractList", name := "listIterator", desc := "(I)Ljava/util/ListIterator;" } : Jvm.MethodName) ({ cls := "java/util/ArrayList", name := "listIterator", desc := "(I)Ljava/util/ListIterator;" } : Jvm.MethodName)) ∈ lw_all := lw_g (lw_at lw_m5 59 rfl) rfl
theorem q1122 : (Jvm.Cond.instanceMethod ({ cls := "java/util/ArrayList", name := "listIterator", desc := "(I)Ljava/util/ListIterator;" } : Jvm.MethodName)) ∈ lw_all := lw_g (lw_at lw_m5 60 rfl) rfl
theorem q1123 : (Jvm.Cond.code ({ cls := "java/util/ArrayList", name := "listIterator", desc := "(I)Ljava/util/ListIterator;" } : Jvm.MethodName) prog_51_method_53_code (2 : Nat) (Option.some (Jvm.ClassFile.FieldType.object "java/util/ListIterator"))) ∈ lw_all := lw_g (lw_at lw_m5 61 rfl) rfl
theorem q1124 : (Jvm.Cond.methodLink "java/util/ArrayList" (135 : Nat) ({ cls := "java/util/ArrayList", name := "rangeCheckForAdd", desc := "(I)V" } : Jvm.MethodName)) ∈ lw_all := lw_g (lw_at lw_m5 62 rfl) rfl
theorem q1125 : (Jvm.Cond.privateMethod ({ cls := "java/util/ArrayList", name := "rangeCheckForAdd", desc := "(I)V" } : Jvm.MethodName)) ∈ lw_tbl := lw_at lw_m5 63 rfl
theorem q1126 : (Jvm.Cond.instanceMethod ({ cls := "java/util/ArrayList", name := "rangeCheckForAdd", desc := "(I)V" } : Jvm.MethodName)) ∈ lw_all := lw_g (lw_at lw_m5 64 rfl) rfl
theorem q1127 : (Jvm.Cond.code ({ cls := "java/util/ArrayList", name := "rangeCheckForAdd", desc := "(I)V" } : Jvm.MethodName) prog_51_method_45_code (2 : Nat) (Option.none : Option Jvm.ClassFile.FieldType)) ∈ lw_all := lw_g (lw_at lw_m5 65 rfl) rfl
theorem q1128 : (Jvm.Cond.classLink "java/util/ArrayList" (187 : Nat) "java/lang/IndexOutOfBoundsException") ∈ lw_all := lw_g (lw_at lw_m5 66 rfl) rfl
theorem q1129 : (Jvm.Cond.methodLink "java/util/ArrayList" (198 : Nat) ({ cls := "java/util/ArrayList", name := "outOfBoundsMsg", desc := "(I)Ljava/lang/String;" } : Jvm.MethodName)) ∈ lw_all := lw_g (lw_at lw_m5 67 rfl) rfl
theorem q1130 : (Jvm.Cond.privateMethod ({ cls := "java/util/ArrayList", name := "outOfBoundsMsg", desc := "(I)Ljava/lang/String;" } : Jvm.MethodName)) ∈ lw_tbl := lw_at lw_m5 68 rfl
theorem q1131 : (Jvm.Cond.instanceMethod ({ cls := "java/util/ArrayList", name := "outOfBoundsMsg", desc := "(I)Ljava/lang/String;" } : Jvm.MethodName)) ∈ lw_all := lw_g (lw_at lw_m5 69 rfl) rfl
theorem q1132 : (Jvm.Cond.code ({ cls := "java/util/ArrayList", name := "outOfBoundsMsg", desc := "(I)Ljava/lang/String;" } : Jvm.MethodName) prog_51_method_46_code (2 : Nat) (Option.some (Jvm.ClassFile.FieldType.object "java/lang/String"))) ∈ lw_all := lw_g (lw_at lw_m5 70 rfl) rfl
theorem q1133 : (Jvm.Cond.classLink "java/util/ArrayList" (20 : Nat) "java/lang/StringBuilder") ∈ lw_all := lw_g (lw_at lw_m5 71 rfl) rfl
theorem q1134 : (Jvm.Cond.methodLink "java/util/ArrayList" (22 : Nat) ({ cls := "java/lang/StringBuilder", name := "<init>", desc := "()V" } : Jvm.MethodName)) ∈ lw_all := lw_g (lw_at lw_m5 72 rfl) rfl
theorem q1135 : (Jvm.Cond.stringRef "java/util/ArrayList" (201 : Nat) "Index: ") ∈ lw_tbl := lw_at lw_m5 73 rfl
theorem q1136 : (Jvm.Cond.methodLink "java/util/ArrayList" (25 : Nat) ({ cls := "java/lang/StringBuilder", name := "append", desc := "(Ljava/lang/String;)Ljava/lang/StringBuilder;" } : Jvm.MethodName)) ∈ lw_all := lw_g (lw_at lw_m5 74 rfl) rfl
theorem q1137 : (Jvm.Cond.methodLink "java/util/ArrayList" (29 : Nat) ({ cls := "java/lang/StringBuilder", name := "append", desc := "(I)Ljava/lang/StringBuilder;" } : Jvm.MethodName)) ∈ lw_all := lw_g (lw_at lw_m5 75 rfl) rfl
theorem q1138 : (Jvm.Cond.stringRef "java/util/ArrayList" (203 : Nat) ", Size: ") ∈ lw_tbl := lw_at lw_m5 76 rfl
theorem q1139 : (Jvm.Cond.methodLink "java/util/ArrayList" (32 : Nat) ({ cls := "java/lang/StringBuilder", name := "toString", desc := "()Ljava/lang/String;" } : Jvm.MethodName)) ∈ lw_all := lw_g (lw_at lw_m5 77 rfl) rfl
theorem q1140 : (Jvm.Cond.methodLink "java/util/ArrayList" (193 : Nat) ({ cls := "java/lang/IndexOutOfBoundsException", name := "<init>", desc := "(Ljava/lang/String;)V" } : Jvm.MethodName)) ∈ lw_all := lw_g (lw_at lw_m5 78 rfl) rfl
theorem q1141 : (Jvm.Cond.classLink "java/util/ArrayList" (262 : Nat) "java/util/ArrayList$ListItr") ∈ lw_all := lw_g (lw_at lw_m5 79 rfl) rfl
theorem q1143 : (Jvm.Cond.methodLink "java/util/ArrayList" (264 : Nat) ({ cls := "java/util/ArrayList$ListItr", name := "<init>", desc := "(Ljava/util/ArrayList;I)V" } : Jvm.MethodName)) ∈ lw_all := lw_g (lw_at lw_m5 81 rfl) rfl
theorem q1377 : (Jvm.Cond.instanceMethod ({ cls := "java/util/ArrayList", name := "addAll", desc := "(Ljava/util/Collection;)Z" } : Jvm.MethodName)) ∈ lw_all := lw_g (lw_at lw_m6 75 rfl) rfl
theorem q1378 : (Jvm.Cond.selects "java/util/ArrayList" ({ cls := "java/util/ArrayList", name := "addAll", desc := "(Ljava/util/Collection;)Z" } : Jvm.MethodName) ({ cls := "java/util/ArrayList", name := "addAll", desc := "(Ljava/util/Collection;)Z" } : Jvm.MethodName)) ∈ lw_all := lw_g (lw_at lw_m6 76 rfl) rfl
theorem q1379 : (Jvm.Cond.code ({ cls := "java/util/ArrayList", name := "addAll", desc := "(Ljava/util/Collection;)Z" } : Jvm.MethodName) prog_51_method_41_code (6 : Nat) (Option.some Jvm.ClassFile.FieldType.boolean)) ∈ lw_all := lw_g (lw_at lw_m6 77 rfl) rfl
theorem q1380 : (Jvm.Cond.interfaceEntry "java/util/ArrayList" (42 : Nat)) ∈ lw_tbl := lw_at lw_m6 78 rfl
theorem q1381 : (Jvm.Cond.methodLink "java/util/ArrayList" (42 : Nat) ({ cls := "java/util/Collection", name := "toArray", desc := "()[Ljava/lang/Object;" } : Jvm.MethodName)) ∈ lw_all := lw_g (lw_at lw_m6 79 rfl) rfl
theorem q1399 : (Jvm.Cond.castable "java/util/ArrayList" "java/util/Collection") ∈ lw_tbl := lw_at lw_m6 97 rfl
theorem q1400 : (Jvm.Cond.selects "java/util/ArrayList" ({ cls := "java/util/Collection", name := "toArray", desc := "()[Ljava/lang/Object;" } : Jvm.MethodName) ({ cls := "java/util/ArrayList", name := "toArray", desc := "()[Ljava/lang/Object;" } : Jvm.MethodName)) ∈ lw_all := lw_g (lw_at lw_m6 98 rfl) rfl
theorem q1401 : (Jvm.Cond.unhidden "java/util/ArrayList" "toArray" "()[Ljava/lang/Object;") ∈ lw_tbl := lw_at lw_m6 99 rfl
theorem q1402 : (Jvm.Cond.instanceMethod ({ cls := "java/util/ArrayList", name := "toArray", desc := "()[Ljava/lang/Object;" } : Jvm.MethodName)) ∈ lw_all := lw_g (lw_at lw_m6 100 rfl) rfl
theorem q1403 : (Jvm.Cond.publicMethod ({ cls := "java/util/ArrayList", name := "toArray", desc := "()[Ljava/lang/Object;" } : Jvm.MethodName)) ∈ lw_tbl := lw_at lw_m6 101 rfl
theorem q1404 : (Jvm.Cond.code ({ cls := "java/util/ArrayList", name := "toArray", desc := "()[Ljava/lang/Object;" } : Jvm.MethodName) prog_51_method_16_code (1 : Nat) (Option.some (Jvm.ClassFile.FieldType.array (Jvm.ClassFile.FieldType.object "java/lang/Object")))) ∈ lw_all := lw_g (lw_at lw_m6 102 rfl) rfl
theorem q1412 : (Jvm.Cond.methodLink "java/util/ArrayList" (112 : Nat) ({ cls := "java/lang/System", name := "arraycopy", desc := "(Ljava/lang/Object;ILjava/lang/Object;II)V" } : Jvm.MethodName)) ∈ lw_all := lw_g (lw_at lw_m6 110 rfl) rfl
theorem q1867 : (Jvm.Cond.instanceMethod ({ cls := "java/util/ArrayList", name := "removeAll", desc := "(Ljava/util/Collection;)Z" } : Jvm.MethodName)) ∈ lw_all := lw_g (lw_at lw_m8 85 rfl) rfl
theorem q1868 : (Jvm.Cond.selects "java/util/ArrayList" ({ cls := "java/util/ArrayList", name := "removeAll", desc := "(Ljava/util/Collection;)Z" } : Jvm.MethodName) ({ cls := "java/util/ArrayList", name := "removeAll", desc := "(Ljava/util/Collection;)Z" } : Jvm.MethodName)) ∈ lw_all := lw_g (lw_at lw_m8 86 rfl) rfl
theorem q1869 : (Jvm.Cond.code ({ cls := "java/util/ArrayList", name := "removeAll", desc := "(Ljava/util/Collection;)Z" } : Jvm.MethodName) prog_51_method_48_code (2 : Nat) (Option.some Jvm.ClassFile.FieldType.boolean)) ∈ lw_all := lw_g (lw_at lw_m8 87 rfl) rfl
theorem q1870 : (Jvm.Cond.methodLink "java/util/ArrayList" (209 : Nat) ({ cls := "java/util/ArrayList", name := "batchRemove", desc := "(Ljava/util/Collection;ZII)Z" } : Jvm.MethodName)) ∈ lw_all := lw_g (lw_at lw_m8 88 rfl) rfl
theorem q1871 : (Jvm.Cond.instanceMethod ({ cls := "java/util/ArrayList", name := "batchRemove", desc := "(Ljava/util/Collection;ZII)Z" } : Jvm.MethodName)) ∈ lw_all := lw_g (lw_at lw_m8 89 rfl) rfl
theorem q1872 : (Jvm.Cond.selects "java/util/ArrayList" ({ cls := "java/util/ArrayList", name := "batchRemove", desc := "(Ljava/util/Collection;ZII)Z" } : Jvm.MethodName) ({ cls := "java/util/ArrayList", name := "batchRemove", desc := "(Ljava/util/Collection;ZII)Z" } : Jvm.MethodName)) ∈ lw_all := lw_g (lw_at lw_m8 90 rfl) rfl
theorem q1873 : (Jvm.Cond.codeWith ({ cls := "java/util/ArrayList", name := "batchRemove", desc := "(Ljava/util/Collection;ZII)Z" } : Jvm.MethodName) prog_51_method_50_code (10 : Nat) (Option.some Jvm.ClassFile.FieldType.boolean) [((54 : Nat), (95 : Nat), (122 : Nat), (220 : Nat)), ((54 : Nat), (95 : Nat), (153 : Nat), (0 : Nat)), ((122 : Nat), (155 : Nat), (153 : Nat), (0 : Nat))]) ∈ lw_all := lw_g (lw_at lw_m8 91 rfl) rfl
theorem q1874 : (Jvm.Cond.methodLink "java/util/ArrayList" (213 : Nat) ({ cls := "java/util/Objects", name := "requireNonNull", desc := "(Ljava/lang/Object;)Ljava/lang/Object;" } : Jvm.MethodName)) ∈ lw_all := lw_g (lw_at lw_m8 92 rfl) rfl
theorem q1877 : (Jvm.Cond.interfaceEntry "java/util/ArrayList" (217 : Nat)) ∈ lw_tbl := lw_at lw_m8 95 rfl
theorem q1878 : (Jvm.Cond.methodLink "java/util/ArrayList" (217 : Nat) ({ cls := "java/util/Collection", name := "contains", desc := "(Ljava/lang/Object;)Z" } : Jvm.MethodName)) ∈ lw_all := lw_g (lw_at lw_m8 96 rfl) rfl
theorem q1884 : (Jvm.Cond.selects "java/util/ArrayList" ({ cls := "java/util/Collection", name := "contains", desc := "(Ljava/lang/Object;)Z" } : Jvm.MethodName) ({ cls := "java/util/ArrayList", name := "contains", desc := "(Ljava/lang/Object;)Z" } : Jvm.MethodName)) ∈ lw_all := lw_g (lw_at lw_m8 102 rfl) rfl
theorem q1885 : (Jvm.Cond.unhidden "java/util/ArrayList" "contains" "(Ljava/lang/Object;)Z") ∈ lw_tbl := lw_at lw_m8 103 rfl
theorem q1886 : (Jvm.Cond.instanceMethod ({ cls := "java/util/ArrayList", name := "contains", desc := "(Ljava/lang/Object;)Z" } : Jvm.MethodName)) ∈ lw_all := lw_g (lw_at lw_m8 104 rfl) rfl
theorem q1887 : (Jvm.Cond.publicMethod ({ cls := "java/util/ArrayList", name := "contains", desc := "(Ljava/lang/Object;)Z" } : Jvm.MethodName)) ∈ lw_tbl := lw_at lw_m8 105 rfl
theorem q1888 : (Jvm.Cond.code ({ cls := "java/util/ArrayList", name := "contains", desc := "(Ljava/lang/Object;)Z" } : Jvm.MethodName) prog_51_method_10_code (2 : Nat) (Option.some Jvm.ClassFile.FieldType.boolean)) ∈ lw_all := lw_g (lw_at lw_m8 106 rfl) rfl
theorem q1889 : (Jvm.Cond.methodLink "java/util/ArrayList" (85 : Nat) ({ cls := "java/util/ArrayList", name := "indexOf", desc := "(Ljava/lang/Object;)I" } : Jvm.MethodName)) ∈ lw_all := lw_g (lw_at lw_m8 107 rfl) rfl
theorem q1890 : (Jvm.Cond.instanceMethod ({ cls := "java/util/ArrayList", name := "indexOf", desc := "(Ljava/lang/Object;)I" } : Jvm.MethodName)) ∈ lw_all := lw_g (lw_at lw_m8 108 rfl) rfl
theorem q1891 : (Jvm.Cond.selects "java/util/ArrayList" ({ cls := "java/util/ArrayList", name := "indexOf", desc := "(Ljava/lang/Object;)I" } : Jvm.MethodName) ({ cls := "java/util/ArrayList", name := "indexOf", desc := "(Ljava/lang/Object;)I" } : Jvm.MethodName)) ∈ lw_all := lw_g (lw_at lw_m8 109 rfl) rfl
theorem q1892 : (Jvm.Cond.code ({ cls := "java/util/ArrayList", name := "indexOf", desc := "(Ljava/lang/Object;)I" } : Jvm.MethodName) prog_51_method_11_code (2 : Nat) (Option.some Jvm.ClassFile.FieldType.int)) ∈ lw_all := lw_g (lw_at lw_m8 110 rfl) rfl
theorem q1893 : (Jvm.Cond.methodLink "java/util/ArrayList" (89 : Nat) ({ cls := "java/util/ArrayList", name := "indexOfRange", desc := "(Ljava/lang/Object;II)I" } : Jvm.MethodName)) ∈ lw_all := lw_g (lw_at lw_m8 111 rfl) rfl
theorem q1894 : (Jvm.Cond.instanceMethod ({ cls := "java/util/ArrayList", name := "indexOfRange", desc := "(Ljava/lang/Object;II)I" } : Jvm.MethodName)) ∈ lw_all := lw_g (lw_at lw_m8 112 rfl) rfl
theorem q1895 : (Jvm.Cond.selects "java/util/ArrayList" ({ cls := "java/util/ArrayList", name := "indexOfRange", desc := "(Ljava/lang/Object;II)I" } : Jvm.MethodName) ({ cls := "java/util/ArrayList", name := "indexOfRange", desc := "(Ljava/lang/Object;II)I" } : Jvm.MethodName)) ∈ lw_all := lw_g (lw_at lw_m8 113 rfl) rfl
theorem q1896 : (Jvm.Cond.code ({ cls := "java/util/ArrayList", name := "indexOfRange", desc := "(Ljava/lang/Object;II)I" } : Jvm.MethodName) prog_51_method_12_code (6 : Nat) (Option.some Jvm.ClassFile.FieldType.int)) ∈ lw_all := lw_g (lw_at lw_m8 114 rfl) rfl
theorem q1897 : (Jvm.Cond.methodLink "java/util/ArrayList" (93 : Nat) ({ cls := "java/lang/Object", name := "equals", desc := "(Ljava/lang/Object;)Z" } : Jvm.MethodName)) ∈ lw_all := lw_g (lw_at lw_m8 115 rfl) rfl
theorem q1908 : (Jvm.Cond.methodLink "java/util/ArrayList" (194 : Nat) ({ cls := "java/util/ArrayList", name := "shiftTailOverGap", desc := "([Ljava/lang/Object;II)V" } : Jvm.MethodName)) ∈ lw_all := lw_g (lw_at lw_m8 126 rfl) rfl
theorem q1909 : (Jvm.Cond.privateMethod ({ cls := "java/util/ArrayList", name := "shiftTailOverGap", desc := "([Ljava/lang/Object;II)V" } : Jvm.MethodName)) ∈ lw_tbl := lw_at lw_m8 127 rfl
theorem q1910 : (Jvm.Cond.instanceMethod ({ cls := "java/util/ArrayList", name := "shiftTailOverGap", desc := "([Ljava/lang/Object;II)V" } : Jvm.MethodName)) ∈ lw_all := lw_g (lw_at lw_m8 128 rfl) rfl
theorem q1911 : (Jvm.Cond.code ({ cls := "java/util/ArrayList", name := "shiftTailOverGap", desc := "([Ljava/lang/Object;II)V" } : Jvm.MethodName) prog_51_method_44_code (6 : Nat) (Option.none : Option Jvm.ClassFile.FieldType)) ∈ lw_all := lw_g (lw_at lw_m8 129 rfl) rfl
theorem q1919 : (Jvm.Cond.instanceMethod ({ cls := "java/util/ArrayList", name := "set", desc := "(ILjava/lang/Object;)Ljava/lang/Object;" } : Jvm.MethodName)) ∈ lw_all := lw_g (lw_at lw_m8 137 rfl) rfl
theorem q1920 : (Jvm.Cond.selects "java/util/ArrayList" ({ cls := "java/util/ArrayList", name := "set", desc := "(ILjava/lang/Object;)Ljava/lang/Object;" } : Jvm.MethodName) ({ cls := "java/util/ArrayList", name := "set", desc := "(ILjava/lang/Object;)Ljava/lang/Object;" } : Jvm.MethodName)) ∈ lw_all := lw_g (lw_at lw_m8 138 rfl) rfl
theorem q1921 : (Jvm.Cond.code ({ cls := "java/util/ArrayList", name := "set", desc := "(ILjava/lang/Object;)Ljava/lang/Object;" } : Jvm.MethodName) prog_51_method_23_code (4 : Nat) (Option.some (Jvm.ClassFile.FieldType.object "java/lang/Object"))) ∈ lw_all := lw_g (lw_at lw_m8 139 rfl) rfl
theorem q1927 : (Jvm.Cond.instanceMethod ({ cls := "java/util/ArrayList", name := "remove", desc := "(I)Ljava/lang/Object;" } : Jvm.MethodName)) ∈ lw_all := lw_g (lw_at lw_m8 145 rfl) rfl
theorem q1928 : (Jvm.Cond.selects "java/util/ArrayList" ({ cls := "java/util/ArrayList", name := "remove", desc := "(I)Ljava/lang/Object;" } : Jvm.MethodName) ({ cls := "java/util/ArrayList", name := "remove", desc := "(I)Ljava/lang/Object;" } : Jvm.MethodName)) ∈ lw_all := lw_g (lw_at lw_m8 146 rfl) rfl
theorem q1929 : (Jvm.Cond.code ({ cls := "java/util/ArrayList", name := "remove", desc := "(I)Ljava/lang/Object;" } : Jvm.MethodName) prog_51_method_29_code (4 : Nat) (Option.some (Jvm.ClassFile.FieldType.object "java/lang/Object"))) ∈ lw_all := lw_g (lw_at lw_m8 147 rfl) rfl
theorem q1930 : (Jvm.Cond.methodLink "java/util/ArrayList" (144 : Nat) ({ cls := "java/util/ArrayList", name := "fastRemove", desc := "([Ljava/lang/Object;I)V" } : Jvm.MethodName)) ∈ lw_all := lw_g (lw_at lw_m8 148 rfl) rfl
theorem q1931 : (Jvm.Cond.privateMethod ({ cls := "java/util/ArrayList", name := "fastRemove", desc := "([Ljava/lang/Object;I)V" } : Jvm.MethodName)) ∈ lw_tbl := lw_at lw_m8 149 rfl
theorem q1932 : (Jvm.Cond.instanceMethod ({ cls := "java/util/ArrayList", name := "fastRemove", desc := "([Ljava/lang/Object;I)V" } : Jvm.MethodName)) ∈ lw_all := lw_g (lw_at lw_m8 150 rfl) rfl
theorem q1933 : (Jvm.Cond.code ({ cls := "java/util/ArrayList", name := "fastRemove", desc := "([Ljava/lang/Object;I)V" } : Jvm.MethodName) prog_51_method_39_code (4 : Nat) (Option.none : Option Jvm.ClassFile.FieldType)) ∈ lw_all := lw_g (lw_at lw_m8 151 rfl) rfl
theorem q2172 : (Jvm.Cond.instanceMethod ({ cls := "java/util/ArrayList", name := "<init>", desc := "(Ljava/util/Collection;)V" } : Jvm.MethodName)) ∈ lw_all := lw_g (lw_at lw_m9 150 rfl) rfl
theorem q2173 : (Jvm.Cond.code ({ cls := "java/util/ArrayList", name := "<init>", desc := "(Ljava/util/Collection;)V" } : Jvm.MethodName) prog_51_method_3_code (3 : Nat) (Option.none : Option Jvm.ClassFile.FieldType)) ∈ lw_all := lw_g (lw_at lw_m9 151 rfl) rfl
theorem q2174 : (Jvm.Cond.interfaceEntry "java/util/ArrayList" (52 : Nat)) ∈ lw_tbl := lw_at lw_m9 152 rfl
theorem q2175 : (Jvm.Cond.methodLink "java/util/ArrayList" (52 : Nat) ({ cls := "java/util/Collection", name := "getClass", desc := "()Ljava/lang/Class;" } : Jvm.MethodName)) ∈ lw_all := lw_g (lw_at lw_m9 153 rfl) rfl
theorem q2180 : (Jvm.Cond.unhidden "java/util/ArrayList" "getClass" "()Ljava/lang/Class;") ∈ lw_tbl := lw_at lw_m9 158 rfl
theorem q2182 : (Jvm.Cond.classLink "java/util/ArrayList" (10 : Nat) "java/util/ArrayList") ∈ lw_all := lw_g (lw_at lw_m9 160 rfl) rfl
theorem q2183 : (Jvm.Cond.classLink "java/util/ArrayList" (56 : Nat) "[Ljava/lang/Object;") ∈ lw_all := lw_g (lw_at lw_m9 161 rfl) rfl
theorem q2184 : (Jvm.Cond.methodLink "java/util/ArrayList" (57 : Nat) ({ cls := "java/util/Arrays", name := "copyOf", desc := "([Ljava/lang/Object;ILjava/lang/Class;)[Ljava/lang/Object;" } : Jvm.MethodName)) ∈ lw_all := lw_g (lw_at lw_m9 162 rfl) rfl
theorem q2185 : (Jvm.Cond.fieldLink "java/util/ArrayList" (15 : Nat) "java/util/ArrayList" "EMPTY_ELEMENTDATA" "[Ljava/lang/Object;") ∈ lw_all := lw_g (lw_at lw_m9 163 rfl) rfl
theorem q2186 : (Jvm.Cond.laysStatic "java/util/ArrayList" "EMPTY_ELEMENTDATA" "[Ljava/lang/Object;") ∈ lw_tbl := lw_at lw_m9 164 rfl
theorem q3160 : (Jvm.Cond.selects "java/util/ArrayList" ({ cls := "java/util/AbstractCollection", name := "size", desc := "()I" } : Jvm.MethodName) ({ cls := "java/util/ArrayList", name := "size", desc := "()I" } : Jvm.MethodName)) ∈ lw_all := lw_g (lw_at lw_m13 178 rfl) rfl
theorem q3172 : (Jvm.Cond.castable "java/util/ArrayList" "java/lang/Object") ∈ lw_tbl := lw_at lw_m13 190 rfl
theorem in_J2 : ∀ w ∈ wsJ20, w ∈ lw_all := lw_in wsJ20 [198, 194, 196] (by decide +kernel) (by decide +kernel)
/-! java/util/AbstractSequentialList -/
set_option maxRecDepth 100000
def RJ3 : String := "java/util/AbstractSequentialList"
abbrev cJ3_init : ByteArray := prog_49_method_1_code
def yJ3_init : MethodName := ⟨RJ3, "<init>", "()V"⟩
theorem dJ3_init_0 : decode cJ3_init 0 = .ok (.aload_n 0, 1) := by decide +kernel
theorem dJ3_init_1 : decode cJ3_init 1 = .ok (.invokespecial 1, 3) := by decide +kernel
theorem dJ3_init_4 : decode cJ3_init 4 = .ok (.return_, 1) := by decide +kernel
abbrev cJ3_iterator : ByteArray := prog_49_method_7_code
def yJ3_iterator : MethodName := ⟨RJ3, "iterator", "()Ljava/util/Iterator;"⟩
theorem dJ3_iterator_0 : decode cJ3_iterator 0 = .ok (.aload_n 0, 1) := by decide +kernel
theorem dJ3_iterator_1 : decode cJ3_iterator 1 = .ok (.invokevirtual 65, 3) := by decide +kernel
theorem dJ3_iterator_4 : decode cJ3_iterator 4 = .ok (.areturn, 1) := by decide +kernel
theorem q108 : (Jvm.Cond.initialized "java/util/AbstractSequentialList") ∈ lw_all := lw_g (lw_at lw_m1 6 rfl) rfl
theorem q209 : (Jvm.Cond.instanceMethod ({ cls := "java/util/AbstractSequentialList", name := "<init>", desc := "()V" } : Jvm.MethodName)) ∈ lw_all := lw_g (lw_at lw_m1 107 rfl) rfl
theorem q210 : (Jvm.Cond.code ({ cls := "java/util/AbstractSequentialList", name := "<init>", desc := "()V" } : Jvm.MethodName) prog_49_method_1_code (1 : Nat) (Option.none : Option Jvm.ClassFile.FieldType)) ∈ lw_all := lw_g (lw_at lw_m1 108 rfl) rfl
theorem q211 : (Jvm.Cond.methodLink "java/util/AbstractSequentialList" (1 : Nat) ({ cls := "java/util/AbstractList", name := "<init>", desc := "()V" } : Jvm.MethodName)) ∈ lw_all := lw_g (lw_at lw_m1 109 rfl) rfl
theorem q1108 : (Jvm.Cond.declares ({ cls := "java/util/AbstractSequentialList", name := "iterator", desc := "()Ljava/util/Iterator;" } : Jvm.MethodName)) ∈ lw_tbl := lw_at lw_m5 46 rfl
theorem q1110 : (Jvm.Cond.instanceMethod ({ cls := "java/util/AbstractSequentialList", name := "iterator", desc := "()Ljava/util/Iterator;" } : Jvm.MethodName)) ∈ lw_all := lw_g (lw_at lw_m5 48 rfl) rfl
theorem q1111 : (Jvm.Cond.code ({ cls := "java/util/AbstractSequentialList", name := "iterator", desc := "()Ljava/util/Iterator;" } : Jvm.MethodName) prog_49_method_7_code (1 : Nat) (Option.some (Jvm.ClassFile.FieldType.object "java/util/Iterator"))) ∈ lw_all := lw_g (lw_at lw_m5 49 rfl) rfl
theorem q1112 : (Jvm.Cond.methodLink "java/util/AbstractSequentialList" (65 : Nat) ({ cls := "java/util/AbstractSequentialList", name := "listIterator", desc := "()Ljava/util/ListIterator;" } : Jvm.MethodName)) ∈ lw_all := lw_g (lw_at lw_m5 50 rfl) rfl
theorem q1113 : (Jvm.Cond.sameMethod "java/util/AbstractSequentialList" "java/util/AbstractList" "listIterator" "()Ljava/util/ListIterator;") ∈ lw_all := lw_g (lw_at lw_m5 51 rfl) rfl
/-! java/util/LinkedList -/
set_option maxRecDepth 100000
def RJ4 : String := "java/util/LinkedList"
def TJ4 : u_T := fun k => match k with
  | 0 => ("java/util/AbstractList", "modCount", "I", false)
  | 1 => ("java/util/LinkedList", "size", "I", false)
  | 2 => ("java/util/LinkedList", "first", "Ljava/util/LinkedList$Node;", false)
  | _ => ("java/util/LinkedList", "last", "Ljava/util/LinkedList$Node;", false)
def tyJ4 : Nat → FieldType := fun k => match k with
  | 0 => .int
  | 1 => .int
  | 2 => .object "java/util/LinkedList$Node"
  | _ => .object "java/util/LinkedList$Node"
abbrev wsJ40 : List Cond := u_ws RJ4 TJ4 4
theorem nmJ4 : ∀ a, a < 4 → ∀ b, b < 4 → a ≠ b → (TJ4 a).2.1 ≠ (TJ4 b).2.1 := by decide +kernel
theorem tyJ4_ok : ∀ k, k < 4 → parseFieldDescriptor (TJ4 k).2.2.1 = some (tyJ4 k) := by decide +kernel
abbrev cJ4_init : ByteArray := prog_59_method_1_code
def yJ4_init : MethodName := ⟨RJ4, "<init>", "()V"⟩
def dkwJ4_init_0 : List UInt8 := [42, 183, 0, 1, 42, 3, 181, 0, 7, 177]
abbrev dktJ4_init_0 : List UInt8 := dkwJ4_init_0 ++ []
theorem dksJ4_init_0 : cJ4_init.data.toList.drop 0 = dktJ4_init_0 := by decide +kernel
theorem dJ4_init_0 : decode cJ4_init 0 = .ok (.aload_n 0, 1) := dk_42 (dk_at dksJ4_init_0 0 rfl rfl)
theorem dJ4_init_1 : decode cJ4_init 1 = .ok (.invokespecial 1, 3) := dk_183 0 1 (dk_at dksJ4_init_0 1 rfl rfl)
theorem dJ4_init_4 : decode cJ4_init 4 = .ok (.aload_n 0, 1) := dk_42 (dk_at dksJ4_init_0 4 rfl rfl)
theorem dJ4_init_5 : decode cJ4_init 5 = .ok (.iconst 0, 1) := dk_3 (dk_at dksJ4_init_0 5 rfl rfl)
theorem dJ4_init_6 : decode cJ4_init 6 = .ok (.putfield 7, 3) := dk_181 0 7 (dk_at dksJ4_init_0 6 rfl rfl)
theorem dJ4_init_9 : decode cJ4_init 9 = .ok (.return_, 1) := dk_177 (dk_at dksJ4_init_0 9 rfl rfl)
abbrev cJ4_size : ByteArray := prog_59_method_16_code
def yJ4_size : MethodName := ⟨RJ4, "size", "()I"⟩
theorem dJ4_size_0 : decode cJ4_size 0 = .ok (.aload_n 0, 1) := by decide +kernel
theorem dJ4_size_1 : decode cJ4_size 1 = .ok (.getfield 7, 3) := by decide +kernel
theorem dJ4_size_4 : decode cJ4_size 4 = .ok (.ireturn, 1) := by decide +kernel
abbrev cJ4_get : ByteArray := prog_59_method_22_code
def yJ4_get : MethodName := ⟨RJ4, "get", "(I)Ljava/lang/Object;"⟩
def dkwJ4_get_0 : List UInt8 := [42, 27, 182, 0, 90, 42, 27, 182, 0, 86, 180, 0, 39, 176]
abbrev dktJ4_get_0 : List UInt8 := dkwJ4_get_0 ++ []
theorem dksJ4_get_0 : cJ4_get.data.toList.drop 0 = dktJ4_get_0 := by decide +kernel
theorem dJ4_get_0 : decode cJ4_get 0 = .ok (.aload_n 0, 1) := dk_42 (dk_at dksJ4_get_0 0 rfl rfl)
theorem dJ4_get_1 : decode cJ4_get 1 = .ok (.iload_n 1, 1) := dk_27 (dk_at dksJ4_get_0 1 rfl rfl)
theorem dJ4_get_2 : decode cJ4_get 2 = .ok (.invokevirtual 90, 3) := dk_182 0 90 (dk_at dksJ4_get_0 2 rfl rfl)
theorem dJ4_get_5 : decode cJ4_get 5 = .ok (.aload_n 0, 1) := dk_42 (dk_at dksJ4_get_0 5 rfl rfl)
theorem dJ4_get_6 : decode cJ4_get 6 = .ok (.iload_n 1, 1) := dk_27 (dk_at dksJ4_get_0 6 rfl rfl)
theorem dJ4_get_7 : decode cJ4_get 7 = .ok (.invokevirtual 86, 3) := dk_182 0 86 (dk_at dksJ4_get_0 7 rfl rfl)
theorem dJ4_get_10 : decode cJ4_get 10 = .ok (.getfield 39, 3) := dk_180 0 39 (dk_at dksJ4_get_0 10 rfl rfl)
theorem dJ4_get_13 : decode cJ4_get 13 = .ok (.areturn, 1) := dk_176 (dk_at dksJ4_get_0 13 rfl rfl)
abbrev cJ4_checkElementIndex : ByteArray := prog_59_method_29_code
def yJ4_checkElementIndex : MethodName := ⟨RJ4, "checkElementIndex", "(I)V"⟩
def dkwJ4_checkElementIndex_0 : List UInt8 := [42, 27, 182, 0, 115, 154, 0, 16, 187, 0, 119, 89, 42, 27, 182, 0, 121, 183, 0, 125, 191, 177]
abbrev dktJ4_checkElementIndex_0 : List UInt8 := dkwJ4_checkElementIndex_0 ++ []
theorem dksJ4_checkElementIndex_0 : cJ4_checkElementIndex.data.toList.drop 0 = dktJ4_checkElementIndex_0 := by decide +kernel
theorem dJ4_checkElementIndex_0 : decode cJ4_checkElementIndex 0 = .ok (.aload_n 0, 1) := dk_42 (dk_at dksJ4_checkElementIndex_0 0 rfl rfl)
theorem dJ4_checkElementIndex_1 : decode cJ4_checkElementIndex 1 = .ok (.iload_n 1, 1) := dk_27 (dk_at dksJ4_checkElementIndex_0 1 rfl rfl)
theorem dJ4_checkElementIndex_2 : decode cJ4_checkElementIndex 2 = .ok (.invokevirtual 115, 3) := dk_182 0 115 (dk_at dksJ4_checkElementIndex_0 2 rfl rfl)
theorem dJ4_checkElementIndex_5 : decode cJ4_checkElementIndex 5 = .ok (.ifCond .ne 16, 3) := dk_154 0 16 (dk_at dksJ4_checkElementIndex_0 5 rfl rfl)
theorem dJ4_checkElementIndex_8 : decode cJ4_checkElementIndex 8 = .ok (.new 119, 3) := dk_187 0 119 (dk_at dksJ4_checkElementIndex_0 8 rfl rfl)
theorem dJ4_checkElementIndex_11 : decode cJ4_checkElementIndex 11 = .ok (.dup, 1) := dk_89 (dk_at dksJ4_checkElementIndex_0 11 rfl rfl)
theorem dJ4_checkElementIndex_12 : decode cJ4_checkElementIndex 12 = .ok (.aload_n 0, 1) := dk_42 (dk_at dksJ4_checkElementIndex_0 12 rfl rfl)
theorem dJ4_checkElementIndex_13 : decode cJ4_checkElementIndex 13 = .ok (.iload_n 1, 1) := dk_27 (dk_at dksJ4_checkElementIndex_0 13 rfl rfl)
theorem dJ4_checkElementIndex_14 : decode cJ4_checkElementIndex 14 = .ok (.invokevirtual 121, 3) := dk_182 0 121 (dk_at dksJ4_checkElementIndex_0 14 rfl rfl)
theorem dJ4_checkElementIndex_17 : decode cJ4_checkElementIndex 17 = .ok (.invokespecial 125, 3) := dk_183 0 125 (dk_at dksJ4_checkElementIndex_0 17 rfl rfl)
theorem dJ4_checkElementIndex_20 : decode cJ4_checkElementIndex 20 = .ok (.athrow, 1) := dk_191 (dk_at dksJ4_checkElementIndex_0 20 rfl rfl)
theorem dJ4_checkElementIndex_21 : decode cJ4_checkElementIndex 21 = .ok (.return_, 1) := dk_177 (dk_at dksJ4_checkElementIndex_0 21 rfl rfl)
abbrev cJ4_isElementIndex : ByteArray := prog_59_method_26_code
def yJ4_isElementIndex : MethodName := ⟨RJ4, "isElementIndex", "(I)Z"⟩
def dkwJ4_isElementIndex_0 : List UInt8 := [27, 155, 0, 15, 27, 42, 180, 0, 7, 162, 0, 7, 4, 167, 0, 4, 3, 172]
abbrev dktJ4_isElementIndex_0 : List UInt8 := dkwJ4_isElementIndex_0 ++ []
theorem dksJ4_isElementIndex_0 : cJ4_isElementIndex.data.toList.drop 0 = dktJ4_isElementIndex_0 := by decide +kernel
theorem dJ4_isElementIndex_0 : decode cJ4_isElementIndex 0 = .ok (.iload_n 1, 1) := dk_27 (dk_at dksJ4_isElementIndex_0 0 rfl rfl)
theorem dJ4_isElementIndex_1 : decode cJ4_isElementIndex 1 = .ok (.ifCond .lt 15, 3) := dk_155 0 15 (dk_at dksJ4_isElementIndex_0 1 rfl rfl)
theorem dJ4_isElementIndex_4 : decode cJ4_isElementIndex 4 = .ok (.iload_n 1, 1) := dk_27 (dk_at dksJ4_isElementIndex_0 4 rfl rfl)
theorem dJ4_isElementIndex_5 : decode cJ4_isElementIndex 5 = .ok (.aload_n 0, 1) := dk_42 (dk_at dksJ4_isElementIndex_0 5 rfl rfl)
theorem dJ4_isElementIndex_6 : decode cJ4_isElementIndex 6 = .ok (.getfield 7, 3) := dk_180 0 7 (dk_at dksJ4_isElementIndex_0 6 rfl rfl)
theorem dJ4_isElementIndex_9 : decode cJ4_isElementIndex 9 = .ok (.if_icmp .ge 7, 3) := dk_162 0 7 (dk_at dksJ4_isElementIndex_0 9 rfl rfl)
theorem dJ4_isElementIndex_12 : decode cJ4_isElementIndex 12 = .ok (.iconst 1, 1) := dk_4 (dk_at dksJ4_isElementIndex_0 12 rfl rfl)
theorem dJ4_isElementIndex_13 : decode cJ4_isElementIndex 13 = .ok (.goto 4, 3) := dk_167 0 4 (dk_at dksJ4_isElementIndex_0 13 rfl rfl)
theorem dJ4_isElementIndex_16 : decode cJ4_isElementIndex 16 = .ok (.iconst 0, 1) := dk_3 (dk_at dksJ4_isElementIndex_0 16 rfl rfl)
theorem dJ4_isElementIndex_17 : decode cJ4_isElementIndex 17 = .ok (.ireturn, 1) := dk_172 (dk_at dksJ4_isElementIndex_0 17 rfl rfl)
abbrev cJ4_outOfBoundsMsg : ByteArray := prog_59_method_28_code
def yJ4_outOfBoundsMsg : MethodName := ⟨RJ4, "outOfBoundsMsg", "(I)Ljava/lang/String;"⟩
def dkwJ4_outOfBoundsMsg_1 : List UInt8 := [180, 0, 7, 182, 0, 106, 182, 0, 111, 176]
abbrev dktJ4_outOfBoundsMsg_1 : List UInt8 := dkwJ4_outOfBoundsMsg_1 ++ []
def dkwJ4_outOfBoundsMsg_0 : List UInt8 := [187, 0, 97, 89, 183, 0, 99, 18, 100, 182, 0, 102, 27, 182, 0, 106, 18, 109, 182, 0, 102, 42]
abbrev dktJ4_outOfBoundsMsg_0 : List UInt8 := dkwJ4_outOfBoundsMsg_0 ++ dktJ4_outOfBoundsMsg_1
theorem dksJ4_outOfBoundsMsg_0 : cJ4_outOfBoundsMsg.data.toList.drop 0 = dktJ4_outOfBoundsMsg_0 := by decide +kernel
theorem dksJ4_outOfBoundsMsg_1 : cJ4_outOfBoundsMsg.data.toList.drop 22 = dktJ4_outOfBoundsMsg_1 := dk_seg dksJ4_outOfBoundsMsg_0 22 rfl rfl
theorem dJ4_outOfBoundsMsg_0 : decode cJ4_outOfBoundsMsg 0 = .ok (.new 97, 3) := dk_187 0 97 (dk_at dksJ4_outOfBoundsMsg_0 0 rfl rfl)
theorem dJ4_outOfBoundsMsg_3 : decode cJ4_outOfBoundsMsg 3 = .ok (.dup, 1) := dk_89 (dk_at dksJ4_outOfBoundsMsg_0 3 rfl rfl)
theorem dJ4_outOfBoundsMsg_4 : decode cJ4_outOfBoundsMsg 4 = .ok (.invokespecial 99, 3) := dk_183 0 99 (dk_at dksJ4_outOfBoundsMsg_0 4 rfl rfl)
theorem dJ4_outOfBoundsMsg_7 : decode cJ4_outOfBoundsMsg 7 = .ok (.ldc 100, 2) := dk_18 100 (dk_at dksJ4_outOfBoundsMsg_0 7 rfl rfl)
theorem dJ4_outOfBoundsMsg_9 : decode cJ4_outOfBoundsMsg 9 = .ok (.invokevirtual 102, 3) := dk_182 0 102 (dk_at dksJ4_outOfBoundsMsg_0 9 rfl rfl)
theorem dJ4_outOfBoundsMsg_12 : decode cJ4_outOfBoundsMsg 12 = .ok (.iload_n 1, 1) := dk_27 (dk_at dksJ4_outOfBoundsMsg_0 12 rfl rfl)
theorem dJ4_outOfBoundsMsg_13 : decode cJ4_outOfBoundsMsg 13 = .ok (.invokevirtual 106, 3) := dk_182 0 106 (dk_at dksJ4_outOfBoundsMsg_0 13 rfl rfl)
theorem dJ4_outOfBoundsMsg_16 : decode cJ4_outOfBoundsMsg 16 = .ok (.ldc 109, 2) := dk_18 109 (dk_at dksJ4_outOfBoundsMsg_0 16 rfl rfl)
theorem dJ4_outOfBoundsMsg_18 : decode cJ4_outOfBoundsMsg 18 = .ok (.invokevirtual 102, 3) := dk_182 0 102 (dk_at dksJ4_outOfBoundsMsg_0 18 rfl rfl)
theorem dJ4_outOfBoundsMsg_21 : decode cJ4_outOfBoundsMsg 21 = .ok (.aload_n 0, 1) := dk_42 (dk_at dksJ4_outOfBoundsMsg_0 21 rfl rfl)
theorem dJ4_outOfBoundsMsg_22 : decode cJ4_outOfBoundsMsg 22 = .ok (.getfield 7, 3) := dk_180 0 7 (dk_at dksJ4_outOfBoundsMsg_1 0 rfl rfl)
theorem dJ4_outOfBoundsMsg_25 : decode cJ4_outOfBoundsMsg 25 = .ok (.invokevirtual 106, 3) := dk_182 0 106 (dk_at dksJ4_outOfBoundsMsg_1 3 rfl rfl)
theorem dJ4_outOfBoundsMsg_28 : decode cJ4_outOfBoundsMsg 28 = .ok (.invokevirtual 111, 3) := dk_182 0 111 (dk_at dksJ4_outOfBoundsMsg_1 6 rfl rfl)
theorem dJ4_outOfBoundsMsg_31 : decode cJ4_outOfBoundsMsg 31 = .ok (.areturn, 1) := dk_176 (dk_at dksJ4_outOfBoundsMsg_1 9 rfl rfl)
abbrev cJ4_node : ByteArray := prog_59_method_31_code
def yJ4_node : MethodName := ⟨RJ4, "node", "(I)Ljava/util/LinkedList$Node;"⟩
def dkwJ4_node_2 : List UInt8 := [29, 27, 164, 0, 14, 44, 180, 0, 30, 77, 132, 3, 255, 167, 255, 243, 44, 176]
abbrev dktJ4_node_2 : List UInt8 := dkwJ4_node_2 ++ []
def dkwJ4_node_1 : List UInt8 := [180, 0, 36, 77, 132, 3, 1, 167, 255, 243, 44, 176, 42, 180, 0, 27, 77, 42, 180, 0, 7, 4, 100, 62]
abbrev dktJ4_node_1 : List UInt8 := dkwJ4_node_1 ++ dktJ4_node_2
def dkwJ4_node_0 : List UInt8 := [27, 42, 180, 0, 7, 4, 122, 162, 0, 28, 42, 180, 0, 18, 77, 3, 62, 29, 27, 162, 0, 14, 44]
abbrev dktJ4_node_0 : List UInt8 := dkwJ4_node_0 ++ dktJ4_node_1
theorem dksJ4_node_0 : cJ4_node.data.toList.drop 0 = dktJ4_node_0 := by decide +kernel
theorem dksJ4_node_1 : cJ4_node.data.toList.drop 23 = dktJ4_node_1 := dk_seg dksJ4_node_0 23 rfl rfl
theorem dksJ4_node_2 : cJ4_node.data.toList.drop 47 = dktJ4_node_2 := dk_seg dksJ4_node_1 24 rfl rfl
theorem dJ4_node_0 : decode cJ4_node 0 = .ok (.iload_n 1, 1) := dk_27 (dk_at dksJ4_node_0 0 rfl rfl)
theorem dJ4_node_1 : decode cJ4_node 1 = .ok (.aload_n 0, 1) := dk_42 (dk_at dksJ4_node_0 1 rfl rfl)
theorem dJ4_node_2 : decode cJ4_node 2 = .ok (.getfield 7, 3) := dk_180 0 7 (dk_at dksJ4_node_0 2 rfl rfl)
theorem dJ4_node_5 : decode cJ4_node 5 = .ok (.iconst 1, 1) := dk_4 (dk_at dksJ4_node_0 5 rfl rfl)
theorem dJ4_node_6 : decode cJ4_node 6 = .ok (.ishr, 1) := dk_122 (dk_at dksJ4_node_0 6 rfl rfl)
theorem dJ4_node_7 : decode cJ4_node 7 = .ok (.if_icmp .ge 28, 3) := dk_162 0 28 (dk_at dksJ4_node_0 7 rfl rfl)
theorem dJ4_node_10 : decode cJ4_node 10 = .ok (.aload_n 0, 1) := dk_42 (dk_at dksJ4_node_0 10 rfl rfl)
theorem dJ4_node_11 : decode cJ4_node 11 = .ok (.getfield 18, 3) := dk_180 0 18 (dk_at dksJ4_node_0 11 rfl rfl)
theorem dJ4_node_14 : decode cJ4_node 14 = .ok (.astore_n 2, 1) := dk_77 (dk_at dksJ4_node_0 14 rfl rfl)
theorem dJ4_node_15 : decode cJ4_node 15 = .ok (.iconst 0, 1) := dk_3 (dk_at dksJ4_node_0 15 rfl rfl)
theorem dJ4_node_16 : decode cJ4_node 16 = .ok (.istore_n 3, 1) := dk_62 (dk_at dksJ4_node_0 16 rfl rfl)
theorem dJ4_node_17 : decode cJ4_node 17 = .ok (.iload_n 3, 1) := dk_29 (dk_at dksJ4_node_0 17 rfl rfl)
theorem dJ4_node_18 : decode cJ4_node 18 = .ok (.iload_n 1, 1) := dk_27 (dk_at dksJ4_node_0 18 rfl rfl)
theorem dJ4_node_19 : decode cJ4_node 19 = .ok (.if_icmp .ge 14, 3) := dk_162 0 14 (dk_at dksJ4_node_0 19 rfl rfl)
theorem dJ4_node_22 : decode cJ4_node 22 = .ok (.aload_n 2, 1) := dk_44 (dk_at dksJ4_node_0 22 rfl rfl)
theorem dJ4_node_23 : decode cJ4_node 23 = .ok (.getfield 36, 3) := dk_180 0 36 (dk_at dksJ4_node_1 0 rfl rfl)
theorem dJ4_node_26 : decode cJ4_node 26 = .ok (.astore_n 2, 1) := dk_77 (dk_at dksJ4_node_1 3 rfl rfl)
theorem dJ4_node_27 : decode cJ4_node 27 = .ok (.iinc 3 1, 3) := dk_132 3 1 (dk_at dksJ4_node_1 4 rfl rfl)
theorem dJ4_node_30 : decode cJ4_node 30 = .ok (.goto (-13), 3) := dk_167 255 243 (dk_at dksJ4_node_1 7 rfl rfl)
theorem dJ4_node_33 : decode cJ4_node 33 = .ok (.aload_n 2, 1) := dk_44 (dk_at dksJ4_node_1 10 rfl rfl)
theorem dJ4_node_34 : decode cJ4_node 34 = .ok (.areturn, 1) := dk_176 (dk_at dksJ4_node_1 11 rfl rfl)
theorem dJ4_node_35 : decode cJ4_node 35 = .ok (.aload_n 0, 1) := dk_42 (dk_at dksJ4_node_1 12 rfl rfl)
theorem dJ4_node_36 : decode cJ4_node 36 = .ok (.getfield 27, 3) := dk_180 0 27 (dk_at dksJ4_node_1 13 rfl rfl)
theorem dJ4_node_39 : decode cJ4_node 39 = .ok (.astore_n 2, 1) := dk_77 (dk_at dksJ4_node_1 16 rfl rfl)
theorem dJ4_node_40 : decode cJ4_node 40 = .ok (.aload_n 0, 1) := dk_42 (dk_at dksJ4_node_1 17 rfl rfl)
theorem dJ4_node_41 : decode cJ4_node 41 = .ok (.getfield 7, 3) := dk_180 0 7 (dk_at dksJ4_node_1 18 rfl rfl)
theorem dJ4_node_44 : decode cJ4_node 44 = .ok (.iconst 1, 1) := dk_4 (dk_at dksJ4_node_1 21 rfl rfl)
theorem dJ4_node_45 : decode cJ4_node 45 = .ok (.isub, 1) := dk_100 (dk_at dksJ4_node_1 22 rfl rfl)
theorem dJ4_node_46 : decode cJ4_node 46 = .ok (.istore_n 3, 1) := dk_62 (dk_at dksJ4_node_1 23 rfl rfl)
theorem dJ4_node_47 : decode cJ4_node 47 = .ok (.iload_n 3, 1) := dk_29 (dk_at dksJ4_node_2 0 rfl rfl)
theorem dJ4_node_48 : decode cJ4_node 48 = .ok (.iload_n 1, 1) := dk_27 (dk_at dksJ4_node_2 1 rfl rfl)
theorem dJ4_node_49 : decode cJ4_node 49 = .ok (.if_icmp .le 14, 3) := dk_164 0 14 (dk_at dksJ4_node_2 2 rfl rfl)
theorem dJ4_node_52 : decode cJ4_node 52 = .ok (.aload_n 2, 1) := dk_44 (dk_at dksJ4_node_2 5 rfl rfl)
theorem dJ4_node_53 : decode cJ4_node 53 = .ok (.getfield 30, 3) := dk_180 0 30 (dk_at dksJ4_node_2 6 rfl rfl)
theorem dJ4_node_56 : decode cJ4_node 56 = .ok (.astore_n 2, 1) := dk_77 (dk_at dksJ4_node_2 9 rfl rfl)
theorem dJ4_node_57 : decode cJ4_node 57 = .ok (.iinc 3 (-1), 3) := dk_132 3 255 (dk_at dksJ4_node_2 10 rfl rfl)
theorem dJ4_node_60 : decode cJ4_node 60 = .ok (.goto (-13), 3) := dk_167 255 243 (dk_at dksJ4_node_2 13 rfl rfl)
theorem dJ4_node_63 : decode cJ4_node 63 = .ok (.aload_n 2, 1) := dk_44 (dk_at dksJ4_node_2 16 rfl rfl)
theorem dJ4_node_64 : decode cJ4_node 64 = .ok (.areturn, 1) := dk_176 (dk_at dksJ4_node_2 17 rfl rfl)
abbrev cJ4_addLast : ByteArray := prog_59_method_14_code
def yJ4_addLast : MethodName := ⟨RJ4, "addLast", "(Ljava/lang/Object;)V"⟩
def dkwJ4_addLast_0 : List UInt8 := [42, 43, 182, 0, 57, 177]
abbrev dktJ4_addLast_0 : List UInt8 := dkwJ4_addLast_0 ++ []
theorem dksJ4_addLast_0 : cJ4_addLast.data.toList.drop 0 = dktJ4_addLast_0 := by decide +kernel
theorem dJ4_addLast_0 : decode cJ4_addLast 0 = .ok (.aload_n 0, 1) := dk_42 (dk_at dksJ4_addLast_0 0 rfl rfl)
theorem dJ4_addLast_1 : decode cJ4_addLast 1 = .ok (.aload_n 1, 1) := dk_43 (dk_at dksJ4_addLast_0 1 rfl rfl)
theorem dJ4_addLast_2 : decode cJ4_addLast 2 = .ok (.invokevirtual 57, 3) := dk_182 0 57 (dk_at dksJ4_addLast_0 2 rfl rfl)
theorem dJ4_addLast_5 : decode cJ4_addLast 5 = .ok (.return_, 1) := dk_177 (dk_at dksJ4_addLast_0 5 rfl rfl)
abbrev cJ4_linkLast : ByteArray := prog_59_method_4_code
def yJ4_linkLast : MethodName := ⟨RJ4, "linkLast", "(Ljava/lang/Object;)V"⟩
def dkwJ4_linkLast_2 : List UInt8 := [181, 0, 7, 42, 89, 180, 0, 33, 4, 96, 181, 0, 33, 177]
abbrev dktJ4_linkLast_2 : List UInt8 := dkwJ4_linkLast_2 ++ []
def dkwJ4_linkLast_1 : List UInt8 := [199, 0, 11, 42, 45, 181, 0, 18, 167, 0, 8, 44, 45, 181, 0, 36, 42, 89, 180, 0, 7, 4, 96]
abbrev dktJ4_linkLast_1 : List UInt8 := dkwJ4_linkLast_1 ++ dktJ4_linkLast_2
def dkwJ4_linkLast_0 : List UInt8 := [42, 180, 0, 27, 77, 187, 0, 22, 89, 44, 43, 1, 183, 0, 24, 78, 42, 45, 181, 0, 27, 44]
abbrev dktJ4_linkLast_0 : List UInt8 := dkwJ4_linkLast_0 ++ dktJ4_linkLast_1
theorem dksJ4_linkLast_0 : cJ4_linkLast.data.toList.drop 0 = dktJ4_linkLast_0 := by decide +kernel
theorem dksJ4_linkLast_1 : cJ4_linkLast.data.toList.drop 22 = dktJ4_linkLast_1 := dk_seg dksJ4_linkLast_0 22 rfl rfl
theorem dksJ4_linkLast_2 : cJ4_linkLast.data.toList.drop 45 = dktJ4_linkLast_2 := dk_seg dksJ4_linkLast_1 23 rfl rfl
theorem dJ4_linkLast_0 : decode cJ4_linkLast 0 = .ok (.aload_n 0, 1) := dk_42 (dk_at dksJ4_linkLast_0 0 rfl rfl)
theorem dJ4_linkLast_1 : decode cJ4_linkLast 1 = .ok (.getfield 27, 3) := dk_180 0 27 (dk_at dksJ4_linkLast_0 1 rfl rfl)
theorem dJ4_linkLast_4 : decode cJ4_linkLast 4 = .ok (.astore_n 2, 1) := dk_77 (dk_at dksJ4_linkLast_0 4 rfl rfl)
theorem dJ4_linkLast_5 : decode cJ4_linkLast 5 = .ok (.new 22, 3) := dk_187 0 22 (dk_at dksJ4_linkLast_0 5 rfl rfl)
theorem dJ4_linkLast_8 : decode cJ4_linkLast 8 = .ok (.dup, 1) := dk_89 (dk_at dksJ4_linkLast_0 8 rfl rfl)
theorem dJ4_linkLast_9 : decode cJ4_linkLast 9 = .ok (.aload_n 2, 1) := dk_44 (dk_at dksJ4_linkLast_0 9 rfl rfl)
theorem dJ4_linkLast_10 : decode cJ4_linkLast 10 = .ok (.aload_n 1, 1) := dk_43 (dk_at dksJ4_linkLast_0 10 rfl rfl)
theorem dJ4_linkLast_11 : decode cJ4_linkLast 11 = .ok (.aconst_null, 1) := dk_1 (dk_at dksJ4_linkLast_0 11 rfl rfl)
theorem dJ4_linkLast_12 : decode cJ4_linkLast 12 = .ok (.invokespecial 24, 3) := dk_183 0 24 (dk_at dksJ4_linkLast_0 12 rfl rfl)
theorem dJ4_linkLast_15 : decode cJ4_linkLast 15 = .ok (.astore_n 3, 1) := dk_78 (dk_at dksJ4_linkLast_0 15 rfl rfl)
theorem dJ4_linkLast_16 : decode cJ4_linkLast 16 = .ok (.aload_n 0, 1) := dk_42 (dk_at dksJ4_linkLast_0 16 rfl rfl)
theorem dJ4_linkLast_17 : decode cJ4_linkLast 17 = .ok (.aload_n 3, 1) := dk_45 (dk_at dksJ4_linkLast_0 17 rfl rfl)
theorem dJ4_linkLast_18 : decode cJ4_linkLast 18 = .ok (.putfield 27, 3) := dk_181 0 27 (dk_at dksJ4_linkLast_0 18 rfl rfl)
theorem dJ4_linkLast_21 : decode cJ4_linkLast 21 = .ok (.aload_n 2, 1) := dk_44 (dk_at dksJ4_linkLast_0 21 rfl rfl)
theorem dJ4_linkLast_22 : decode cJ4_linkLast 22 = .ok (.ifnonnull 11, 3) := dk_199 0 11 (dk_at dksJ4_linkLast_1 0 rfl rfl)
theorem dJ4_linkLast_25 : decode cJ4_linkLast 25 = .ok (.aload_n 0, 1) := dk_42 (dk_at dksJ4_linkLast_1 3 rfl rfl)
theorem dJ4_linkLast_26 : decode cJ4_linkLast 26 = .ok (.aload_n 3, 1) := dk_45 (dk_at dksJ4_linkLast_1 4 rfl rfl)
theorem dJ4_linkLast_27 : decode cJ4_linkLast 27 = .ok (.putfield 18, 3) := dk_181 0 18 (dk_at dksJ4_linkLast_1 5 rfl rfl)
theorem dJ4_linkLast_30 : decode cJ4_linkLast 30 = .ok (.goto 8, 3) := dk_167 0 8 (dk_at dksJ4_linkLast_1 8 rfl rfl)
theorem dJ4_linkLast_33 : decode cJ4_linkLast 33 = .ok (.aload_n 2, 1) := dk_44 (dk_at dksJ4_linkLast_1 11 rfl rfl)
theorem dJ4_linkLast_34 : decode cJ4_linkLast 34 = .ok (.aload_n 3, 1) := dk_45 (dk_at dksJ4_linkLast_1 12 rfl rfl)
theorem dJ4_linkLast_35 : decode cJ4_linkLast 35 = .ok (.putfield 36, 3) := dk_181 0 36 (dk_at dksJ4_linkLast_1 13 rfl rfl)
theorem dJ4_linkLast_38 : decode cJ4_linkLast 38 = .ok (.aload_n 0, 1) := dk_42 (dk_at dksJ4_linkLast_1 16 rfl rfl)
theorem dJ4_linkLast_39 : decode cJ4_linkLast 39 = .ok (.dup, 1) := dk_89 (dk_at dksJ4_linkLast_1 17 rfl rfl)
theorem dJ4_linkLast_40 : decode cJ4_linkLast 40 = .ok (.getfield 7, 3) := dk_180 0 7 (dk_at dksJ4_linkLast_1 18 rfl rfl)
theorem dJ4_linkLast_43 : decode cJ4_linkLast 43 = .ok (.iconst 1, 1) := dk_4 (dk_at dksJ4_linkLast_1 21 rfl rfl)
theorem dJ4_linkLast_44 : decode cJ4_linkLast 44 = .ok (.iadd, 1) := dk_96 (dk_at dksJ4_linkLast_1 22 rfl rfl)
theorem dJ4_linkLast_45 : decode cJ4_linkLast 45 = .ok (.putfield 7, 3) := dk_181 0 7 (dk_at dksJ4_linkLast_2 0 rfl rfl)
theorem dJ4_linkLast_48 : decode cJ4_linkLast 48 = .ok (.aload_n 0, 1) := dk_42 (dk_at dksJ4_linkLast_2 3 rfl rfl)
theorem dJ4_linkLast_49 : decode cJ4_linkLast 49 = .ok (.dup, 1) := dk_89 (dk_at dksJ4_linkLast_2 4 rfl rfl)
theorem dJ4_linkLast_50 : decode cJ4_linkLast 50 = .ok (.getfield 33, 3) := dk_180 0 33 (dk_at dksJ4_linkLast_2 5 rfl rfl)
theorem dJ4_linkLast_53 : decode cJ4_linkLast 53 = .ok (.iconst 1, 1) := dk_4 (dk_at dksJ4_linkLast_2 8 rfl rfl)
theorem dJ4_linkLast_54 : decode cJ4_linkLast 54 = .ok (.iadd, 1) := dk_96 (dk_at dksJ4_linkLast_2 9 rfl rfl)
theorem dJ4_linkLast_55 : decode cJ4_linkLast 55 = .ok (.putfield 33, 3) := dk_181 0 33 (dk_at dksJ4_linkLast_2 10 rfl rfl)
theorem dJ4_linkLast_58 : decode cJ4_linkLast 58 = .ok (.return_, 1) := dk_177 (dk_at dksJ4_linkLast_2 13 rfl rfl)
abbrev cJ4_listIterator : ByteArray := prog_59_method_49_code
def yJ4_listIterator : MethodName := ⟨RJ4, "listIterator", "(I)Ljava/util/ListIterator;"⟩
def dkwJ4_listIterator_0 : List UInt8 := [42, 27, 182, 0, 76, 187, 0, 150, 89, 42, 27, 183, 0, 152, 176]
abbrev dktJ4_listIterator_0 : List UInt8 := dkwJ4_listIterator_0 ++ []
theorem dksJ4_listIterator_0 : cJ4_listIterator.data.toList.drop 0 = dktJ4_listIterator_0 := by decide +kernel
theorem dJ4_listIterator_0 : decode cJ4_listIterator 0 = .ok (.aload_n 0, 1) := dk_42 (dk_at dksJ4_listIterator_0 0 rfl rfl)
theorem dJ4_listIterator_1 : decode cJ4_listIterator 1 = .ok (.iload_n 1, 1) := dk_27 (dk_at dksJ4_listIterator_0 1 rfl rfl)
theorem dJ4_listIterator_2 : decode cJ4_listIterator 2 = .ok (.invokevirtual 76, 3) := dk_182 0 76 (dk_at dksJ4_listIterator_0 2 rfl rfl)
theorem dJ4_listIterator_5 : decode cJ4_listIterator 5 = .ok (.new 150, 3) := dk_187 0 150 (dk_at dksJ4_listIterator_0 5 rfl rfl)
theorem dJ4_listIterator_8 : decode cJ4_listIterator 8 = .ok (.dup, 1) := dk_89 (dk_at dksJ4_listIterator_0 8 rfl rfl)
theorem dJ4_listIterator_9 : decode cJ4_listIterator 9 = .ok (.aload_n 0, 1) := dk_42 (dk_at dksJ4_listIterator_0 9 rfl rfl)
theorem dJ4_listIterator_10 : decode cJ4_listIterator 10 = .ok (.iload_n 1, 1) := dk_27 (dk_at dksJ4_listIterator_0 10 rfl rfl)
theorem dJ4_listIterator_11 : decode cJ4_listIterator 11 = .ok (.invokespecial 152, 3) := dk_183 0 152 (dk_at dksJ4_listIterator_0 11 rfl rfl)
theorem dJ4_listIterator_14 : decode cJ4_listIterator 14 = .ok (.areturn, 1) := dk_176 (dk_at dksJ4_listIterator_0 14 rfl rfl)
abbrev cJ4_checkPositionIndex : ByteArray := prog_59_method_30_code
def yJ4_checkPositionIndex : MethodName := ⟨RJ4, "checkPositionIndex", "(I)V"⟩
def dkwJ4_checkPositionIndex_0 : List UInt8 := [42, 27, 182, 0, 128, 154, 0, 16, 187, 0, 119, 89, 42, 27, 182, 0, 121, 183, 0, 125, 191, 177]
abbrev dktJ4_checkPositionIndex_0 : List UInt8 := dkwJ4_checkPositionIndex_0 ++ []
theorem dksJ4_checkPositionIndex_0 : cJ4_checkPositionIndex.data.toList.drop 0 = dktJ4_checkPositionIndex_0 := by decide +kernel
theorem dJ4_checkPositionIndex_0 : decode cJ4_checkPositionIndex 0 = .ok (.aload_n 0, 1) := dk_42 (dk_at dksJ4_checkPositionIndex_0 0 rfl rfl)
theorem dJ4_checkPositionIndex_1 : decode cJ4_checkPositionIndex 1 = .ok (.iload_n 1, 1) := dk_27 (dk_at dksJ4_checkPositionIndex_0 1 rfl rfl)
theorem dJ4_checkPositionIndex_2 : decode cJ4_checkPositionIndex 2 = .ok (.invokevirtual 128, 3) := dk_182 0 128 (dk_at dksJ4_checkPositionIndex_0 2 rfl rfl)
theorem dJ4_checkPositionIndex_5 : decode cJ4_checkPositionIndex 5 = .ok (.ifCond .ne 16, 3) := dk_154 0 16 (dk_at dksJ4_checkPositionIndex_0 5 rfl rfl)
theorem dJ4_checkPositionIndex_8 : decode cJ4_checkPositionIndex 8 = .ok (.new 119, 3) := dk_187 0 119 (dk_at dksJ4_checkPositionIndex_0 8 rfl rfl)
theorem dJ4_checkPositionIndex_11 : decode cJ4_checkPositionIndex 11 = .ok (.dup, 1) := dk_89 (dk_at dksJ4_checkPositionIndex_0 11 rfl rfl)
theorem dJ4_checkPositionIndex_12 : decode cJ4_checkPositionIndex 12 = .ok (.aload_n 0, 1) := dk_42 (dk_at dksJ4_checkPositionIndex_0 12 rfl rfl)
theorem dJ4_checkPositionIndex_13 : decode cJ4_checkPositionIndex 13 = .ok (.iload_n 1, 1) := dk_27 (dk_at dksJ4_checkPositionIndex_0 13 rfl rfl)
theorem dJ4_checkPositionIndex_14 : decode cJ4_checkPositionIndex 14 = .ok (.invokevirtual 121, 3) := dk_182 0 121 (dk_at dksJ4_checkPositionIndex_0 14 rfl rfl)
theorem dJ4_checkPositionIndex_17 : decode cJ4_checkPositionIndex 17 = .ok (.invokespecial 125, 3) := dk_183 0 125 (dk_at dksJ4_checkPositionIndex_0 17 rfl rfl)
theorem dJ4_checkPositionIndex_20 : decode cJ4_checkPositionIndex 20 = .ok (.athrow, 1) := dk_191 (dk_at dksJ4_checkPositionIndex_0 20 rfl rfl)
theorem dJ4_checkPositionIndex_21 : decode cJ4_checkPositionIndex 21 = .ok (.return_, 1) := dk_177 (dk_at dksJ4_checkPositionIndex_0 21 rfl rfl)
abbrev cJ4_isPositionIndex : ByteArray := prog_59_method_27_code
def yJ4_isPositionIndex : MethodName := ⟨RJ4, "isPositionIndex", "(I)Z"⟩
def dkwJ4_isPositionIndex_0 : List UInt8 := [27, 155, 0, 15, 27, 42, 180, 0, 7, 163, 0, 7, 4, 167, 0, 4, 3, 172]
abbrev dktJ4_isPositionIndex_0 : List UInt8 := dkwJ4_isPositionIndex_0 ++ []
theorem dksJ4_isPositionIndex_0 : cJ4_isPositionIndex.data.toList.drop 0 = dktJ4_isPositionIndex_0 := by decide +kernel
theorem dJ4_isPositionIndex_0 : decode cJ4_isPositionIndex 0 = .ok (.iload_n 1, 1) := dk_27 (dk_at dksJ4_isPositionIndex_0 0 rfl rfl)
theorem dJ4_isPositionIndex_1 : decode cJ4_isPositionIndex 1 = .ok (.ifCond .lt 15, 3) := dk_155 0 15 (dk_at dksJ4_isPositionIndex_0 1 rfl rfl)
theorem dJ4_isPositionIndex_4 : decode cJ4_isPositionIndex 4 = .ok (.iload_n 1, 1) := dk_27 (dk_at dksJ4_isPositionIndex_0 4 rfl rfl)
theorem dJ4_isPositionIndex_5 : decode cJ4_isPositionIndex 5 = .ok (.aload_n 0, 1) := dk_42 (dk_at dksJ4_isPositionIndex_0 5 rfl rfl)
theorem dJ4_isPositionIndex_6 : decode cJ4_isPositionIndex 6 = .ok (.getfield 7, 3) := dk_180 0 7 (dk_at dksJ4_isPositionIndex_0 6 rfl rfl)
theorem dJ4_isPositionIndex_9 : decode cJ4_isPositionIndex 9 = .ok (.if_icmp .gt 7, 3) := dk_163 0 7 (dk_at dksJ4_isPositionIndex_0 9 rfl rfl)
theorem dJ4_isPositionIndex_12 : decode cJ4_isPositionIndex 12 = .ok (.iconst 1, 1) := dk_4 (dk_at dksJ4_isPositionIndex_0 12 rfl rfl)
theorem dJ4_isPositionIndex_13 : decode cJ4_isPositionIndex 13 = .ok (.goto 4, 3) := dk_167 0 4 (dk_at dksJ4_isPositionIndex_0 13 rfl rfl)
theorem dJ4_isPositionIndex_16 : decode cJ4_isPositionIndex 16 = .ok (.iconst 0, 1) := dk_3 (dk_at dksJ4_isPositionIndex_0 16 rfl rfl)
theorem dJ4_isPositionIndex_17 : decode cJ4_isPositionIndex 17 = .ok (.ireturn, 1) := dk_172 (dk_at dksJ4_isPositionIndex_0 17 rfl rfl)
abbrev cJ4_toArray : ByteArray := prog_59_method_53_code
def yJ4_toArray : MethodName := ⟨RJ4, "toArray", "()[Ljava/lang/Object;"⟩
def dkwJ4_toArray_1 : List UInt8 := [45, 180, 0, 39, 83, 45, 180, 0, 36, 78, 167, 255, 237, 43, 176]
abbrev dktJ4_toArray_1 : List UInt8 := dkwJ4_toArray_1 ++ []
def dkwJ4_toArray_0 : List UInt8 := [42, 180, 0, 7, 189, 0, 68, 76, 3, 61, 42, 180, 0, 18, 78, 45, 198, 0, 21, 43, 28, 132, 2, 1]
abbrev dktJ4_toArray_0 : List UInt8 := dkwJ4_toArray_0 ++ dktJ4_toArray_1
theorem dksJ4_toArray_0 : cJ4_toArray.data.toList.drop 0 = dktJ4_toArray_0 := by decide +kernel
theorem dksJ4_toArray_1 : cJ4_toArray.data.toList.drop 24 = dktJ4_toArray_1 := dk_seg dksJ4_toArray_0 24 rfl rfl
theorem dJ4_toArray_0 : decode cJ4_toArray 0 = .ok (.aload_n 0, 1) := dk_42 (dk_at dksJ4_toArray_0 0 rfl rfl)
theorem dJ4_toArray_1 : decode cJ4_toArray 1 = .ok (.getfield 7, 3) := dk_180 0 7 (dk_at dksJ4_toArray_0 1 rfl rfl)
theorem dJ4_toArray_4 : decode cJ4_toArray 4 = .ok (.anewarray 68, 3) := dk_189 0 68 (dk_at dksJ4_toArray_0 4 rfl rfl)
theorem dJ4_toArray_7 : decode cJ4_toArray 7 = .ok (.astore_n 1, 1) := dk_76 (dk_at dksJ4_toArray_0 7 rfl rfl)
theorem dJ4_toArray_8 : decode cJ4_toArray 8 = .ok (.iconst 0, 1) := dk_3 (dk_at dksJ4_toArray_0 8 rfl rfl)
theorem dJ4_toArray_9 : decode cJ4_toArray 9 = .ok (.istore_n 2, 1) := dk_61 (dk_at dksJ4_toArray_0 9 rfl rfl)
theorem dJ4_toArray_10 : decode cJ4_toArray 10 = .ok (.aload_n 0, 1) := dk_42 (dk_at dksJ4_toArray_0 10 rfl rfl)
theorem dJ4_toArray_11 : decode cJ4_toArray 11 = .ok (.getfield 18, 3) := dk_180 0 18 (dk_at dksJ4_toArray_0 11 rfl rfl)
theorem dJ4_toArray_14 : decode cJ4_toArray 14 = .ok (.astore_n 3, 1) := dk_78 (dk_at dksJ4_toArray_0 14 rfl rfl)
theorem dJ4_toArray_15 : decode cJ4_toArray 15 = .ok (.aload_n 3, 1) := dk_45 (dk_at dksJ4_toArray_0 15 rfl rfl)
theorem dJ4_toArray_16 : decode cJ4_toArray 16 = .ok (.ifnull 21, 3) := dk_198 0 21 (dk_at dksJ4_toArray_0 16 rfl rfl)
theorem dJ4_toArray_19 : decode cJ4_toArray 19 = .ok (.aload_n 1, 1) := dk_43 (dk_at dksJ4_toArray_0 19 rfl rfl)
theorem dJ4_toArray_20 : decode cJ4_toArray 20 = .ok (.iload_n 2, 1) := dk_28 (dk_at dksJ4_toArray_0 20 rfl rfl)
theorem dJ4_toArray_21 : decode cJ4_toArray 21 = .ok (.iinc 2 1, 3) := dk_132 2 1 (dk_at dksJ4_toArray_0 21 rfl rfl)
theorem dJ4_toArray_24 : decode cJ4_toArray 24 = .ok (.aload_n 3, 1) := dk_45 (dk_at dksJ4_toArray_1 0 rfl rfl)
theorem dJ4_toArray_25 : decode cJ4_toArray 25 = .ok (.getfield 39, 3) := dk_180 0 39 (dk_at dksJ4_toArray_1 1 rfl rfl)
theorem dJ4_toArray_28 : decode cJ4_toArray 28 = .ok (.aastore, 1) := dk_83 (dk_at dksJ4_toArray_1 4 rfl rfl)
theorem dJ4_toArray_29 : decode cJ4_toArray 29 = .ok (.aload_n 3, 1) := dk_45 (dk_at dksJ4_toArray_1 5 rfl rfl)
theorem dJ4_toArray_30 : decode cJ4_toArray 30 = .ok (.getfield 36, 3) := dk_180 0 36 (dk_at dksJ4_toArray_1 6 rfl rfl)
theorem dJ4_toArray_33 : decode cJ4_toArray 33 = .ok (.astore_n 3, 1) := dk_78 (dk_at dksJ4_toArray_1 9 rfl rfl)
theorem dJ4_toArray_34 : decode cJ4_toArray 34 = .ok (.goto (-19), 3) := dk_167 255 237 (dk_at dksJ4_toArray_1 10 rfl rfl)
theorem dJ4_toArray_37 : decode cJ4_toArray 37 = .ok (.aload_n 1, 1) := dk_43 (dk_at dksJ4_toArray_1 13 rfl rfl)
theorem dJ4_toArray_38 : decode cJ4_toArray 38 = .ok (.areturn, 1) := dk_176 (dk_at dksJ4_toArray_1 14 rfl rfl)
abbrev cJ4_addAll : ByteArray := prog_59_method_19_code
def yJ4_addAll : MethodName := ⟨RJ4, "addAll", "(Ljava/util/Collection;)Z"⟩
def dkwJ4_addAll_0 : List UInt8 := [42, 42, 180, 0, 7, 43, 182, 0, 73, 172]
abbrev dktJ4_addAll_0 : List UInt8 := dkwJ4_addAll_0 ++ []
theorem dksJ4_addAll_0 : cJ4_addAll.data.toList.drop 0 = dktJ4_addAll_0 := by decide +kernel
theorem dJ4_addAll_0 : decode cJ4_addAll 0 = .ok (.aload_n 0, 1) := dk_42 (dk_at dksJ4_addAll_0 0 rfl rfl)
theorem dJ4_addAll_1 : decode cJ4_addAll 1 = .ok (.aload_n 0, 1) := dk_42 (dk_at dksJ4_addAll_0 1 rfl rfl)
theorem dJ4_addAll_2 : decode cJ4_addAll 2 = .ok (.getfield 7, 3) := dk_180 0 7 (dk_at dksJ4_addAll_0 2 rfl rfl)
theorem dJ4_addAll_5 : decode cJ4_addAll 5 = .ok (.aload_n 1, 1) := dk_43 (dk_at dksJ4_addAll_0 5 rfl rfl)
theorem dJ4_addAll_6 : decode cJ4_addAll 6 = .ok (.invokevirtual 73, 3) := dk_182 0 73 (dk_at dksJ4_addAll_0 6 rfl rfl)
theorem dJ4_addAll_9 : decode cJ4_addAll 9 = .ok (.ireturn, 1) := dk_172 (dk_at dksJ4_addAll_0 9 rfl rfl)
abbrev cJ4_addAll_2 : ByteArray := prog_59_method_20_code
def yJ4_addAll_2 : MethodName := ⟨RJ4, "addAll", "(ILjava/util/Collection;)Z"⟩
def dkwJ4_addAll_2_7 : List UInt8 := [96, 181, 0, 7, 42, 89, 180, 0, 33, 4, 96, 181, 0, 33, 4, 172]
abbrev dktJ4_addAll_2_7 : List UInt8 := dkwJ4_addAll_2_7 ++ []
def dkwJ4_addAll_2_6 : List UInt8 := [167, 0, 17, 25, 5, 25, 6, 181, 0, 36, 25, 6, 25, 5, 181, 0, 30, 42, 89, 180, 0, 7, 21, 4]
abbrev dktJ4_addAll_2_6 : List UInt8 := dkwJ4_addAll_2_6 ++ dktJ4_addAll_2_7
def dkwJ4_addAll_2_5 : List UInt8 := [181, 0, 36, 25, 12, 58, 5, 132, 9, 1, 167, 255, 196, 25, 6, 199, 0, 12, 42, 25, 5, 181, 0, 27]
abbrev dktJ4_addAll_2_5 : List UInt8 := dkwJ4_addAll_2_5 ++ dktJ4_addAll_2_6
def dkwJ4_addAll_2_4 : List UInt8 := [183, 0, 24, 58, 12, 25, 5, 199, 0, 12, 42, 25, 12, 181, 0, 18, 167, 0, 10, 25, 5, 25, 12]
abbrev dktJ4_addAll_2_4 : List UInt8 := dkwJ4_addAll_2_4 ++ dktJ4_addAll_2_5
def dkwJ4_addAll_2_3 : List UInt8 := [162, 0, 59, 25, 7, 21, 9, 50, 58, 10, 25, 10, 58, 11, 187, 0, 22, 89, 25, 5, 25, 11, 1]
abbrev dktJ4_addAll_2_3 : List UInt8 := dkwJ4_addAll_2_3 ++ dktJ4_addAll_2_4
def dkwJ4_addAll_2_2 : List UInt8 := [58, 6, 25, 6, 180, 0, 30, 58, 5, 45, 58, 7, 25, 7, 190, 54, 8, 3, 54, 9, 21, 9, 21, 8]
abbrev dktJ4_addAll_2_2 : List UInt8 := dkwJ4_addAll_2_2 ++ dktJ4_addAll_2_3
def dkwJ4_addAll_2_1 : List UInt8 := [42, 180, 0, 7, 160, 0, 15, 1, 58, 6, 42, 180, 0, 27, 58, 5, 167, 0, 17, 42, 27, 182, 0, 86]
abbrev dktJ4_addAll_2_1 : List UInt8 := dkwJ4_addAll_2_1 ++ dktJ4_addAll_2_2
def dkwJ4_addAll_2_0 : List UInt8 := [42, 27, 182, 0, 76, 44, 185, 0, 80, 1, 0, 78, 45, 190, 54, 4, 21, 4, 154, 0, 5, 3, 172, 27]
abbrev dktJ4_addAll_2_0 : List UInt8 := dkwJ4_addAll_2_0 ++ dktJ4_addAll_2_1
theorem dksJ4_addAll_2_0 : cJ4_addAll_2.data.toList.drop 0 = dktJ4_addAll_2_0 := by decide +kernel
theorem dksJ4_addAll_2_1 : cJ4_addAll_2.data.toList.drop 24 = dktJ4_addAll_2_1 := dk_seg dksJ4_addAll_2_0 24 rfl rfl
theorem dksJ4_addAll_2_2 : cJ4_addAll_2.data.toList.drop 48 = dktJ4_addAll_2_2 := dk_seg dksJ4_addAll_2_1 24 rfl rfl
theorem dksJ4_addAll_2_3 : cJ4_addAll_2.data.toList.drop 72 = dktJ4_addAll_2_3 := dk_seg dksJ4_addAll_2_2 24 rfl rfl
theorem dksJ4_addAll_2_4 : cJ4_addAll_2.data.toList.drop 95 = dktJ4_addAll_2_4 := dk_seg dksJ4_addAll_2_3 23 rfl rfl
theorem dksJ4_addAll_2_5 : cJ4_addAll_2.data.toList.drop 118 = dktJ4_addAll_2_5 := dk_seg dksJ4_addAll_2_4 23 rfl rfl
theorem dksJ4_addAll_2_6 : cJ4_addAll_2.data.toList.drop 142 = dktJ4_addAll_2_6 := dk_seg dksJ4_addAll_2_5 24 rfl rfl
theorem dksJ4_addAll_2_7 : cJ4_addAll_2.data.toList.drop 166 = dktJ4_addAll_2_7 := dk_seg dksJ4_addAll_2_6 24 rfl rfl
theorem dJ4_addAll_2_0 : decode cJ4_addAll_2 0 = .ok (.aload_n 0, 1) := dk_42 (dk_at dksJ4_addAll_2_0 0 rfl rfl)
theorem dJ4_addAll_2_1 : decode cJ4_addAll_2 1 = .ok (.iload_n 1, 1) := dk_27 (dk_at dksJ4_addAll_2_0 1 rfl rfl)
theorem dJ4_addAll_2_2 : decode cJ4_addAll_2 2 = .ok (.invokevirtual 76, 3) := dk_182 0 76 (dk_at dksJ4_addAll_2_0 2 rfl rfl)
theorem dJ4_addAll_2_5 : decode cJ4_addAll_2 5 = .ok (.aload_n 2, 1) := dk_44 (dk_at dksJ4_addAll_2_0 5 rfl rfl)
theorem dJ4_addAll_2_6 : decode cJ4_addAll_2 6 = .ok (.invokeinterface 80 1, 5) := by decide +kernel
theorem dJ4_addAll_2_11 : decode cJ4_addAll_2 11 = .ok (.astore_n 3, 1) := dk_78 (dk_at dksJ4_addAll_2_0 11 rfl rfl)
theorem dJ4_addAll_2_12 : decode cJ4_addAll_2 12 = .ok (.aload_n 3, 1) := dk_45 (dk_at dksJ4_addAll_2_0 12 rfl rfl)
theorem dJ4_addAll_2_13 : decode cJ4_addAll_2 13 = .ok (.arraylength, 1) := dk_190 (dk_at dksJ4_addAll_2_0 13 rfl rfl)
theorem dJ4_addAll_2_14 : decode cJ4_addAll_2 14 = .ok (.istore 4, 2) := dk_54 4 (dk_at dksJ4_addAll_2_0 14 rfl rfl)
theorem dJ4_addAll_2_16 : decode cJ4_addAll_2 16 = .ok (.iload 4, 2) := dk_21 4 (dk_at dksJ4_addAll_2_0 16 rfl rfl)
theorem dJ4_addAll_2_18 : decode cJ4_addAll_2 18 = .ok (.ifCond .ne 5, 3) := dk_154 0 5 (dk_at dksJ4_addAll_2_0 18 rfl rfl)
theorem dJ4_addAll_2_21 : decode cJ4_addAll_2 21 = .ok (.iconst 0, 1) := dk_3 (dk_at dksJ4_addAll_2_0 21 rfl rfl)
theorem dJ4_addAll_2_22 : decode cJ4_addAll_2 22 = .ok (.ireturn, 1) := dk_172 (dk_at dksJ4_addAll_2_0 22 rfl rfl)
theorem dJ4_addAll_2_23 : decode cJ4_addAll_2 23 = .ok (.iload_n 1, 1) := dk_27 (dk_at dksJ4_addAll_2_0 23 rfl rfl)
theorem dJ4_addAll_2_24 : decode cJ4_addAll_2 24 = .ok (.aload_n 0, 1) := dk_42 (dk_at dksJ4_addAll_2_1 0 rfl rfl)
theorem dJ4_addAll_2_25 : decode cJ4_addAll_2 25 = .ok (.getfield 7, 3) := dk_180 0 7 (dk_at dksJ4_addAll_2_1 1 rfl rfl)
theorem dJ4_addAll_2_28 : decode cJ4_addAll_2 28 = .ok (.if_icmp .ne 15, 3) := dk_160 0 15 (dk_at dksJ4_addAll_2_1 4 rfl rfl)
theorem dJ4_addAll_2_31 : decode cJ4_addAll_2 31 = .ok (.aconst_null, 1) := dk_1 (dk_at dksJ4_addAll_2_1 7 rfl rfl)
theorem dJ4_addAll_2_32 : decode cJ4_addAll_2 32 = .ok (.astore 6, 2) := dk_58 6 (dk_at dksJ4_addAll_2_1 8 rfl rfl)
theorem dJ4_addAll_2_34 : decode cJ4_addAll_2 34 = .ok (.aload_n 0, 1) := dk_42 (dk_at dksJ4_addAll_2_1 10 rfl rfl)
theorem dJ4_addAll_2_35 : decode cJ4_addAll_2 35 = .ok (.getfield 27, 3) := dk_180 0 27 (dk_at dksJ4_addAll_2_1 11 rfl rfl)
theorem dJ4_addAll_2_38 : decode cJ4_addAll_2 38 = .ok (.astore 5, 2) := dk_58 5 (dk_at dksJ4_addAll_2_1 14 rfl rfl)
theorem dJ4_addAll_2_40 : decode cJ4_addAll_2 40 = .ok (.goto 17, 3) := dk_167 0 17 (dk_at dksJ4_addAll_2_1 16 rfl rfl)
theorem dJ4_addAll_2_43 : decode cJ4_addAll_2 43 = .ok (.aload_n 0, 1) := dk_42 (dk_at dksJ4_addAll_2_1 19 rfl rfl)
theorem dJ4_addAll_2_44 : decode cJ4_addAll_2 44 = .ok (.iload_n 1, 1) := dk_27 (dk_at dksJ4_addAll_2_1 20 rfl rfl)
theorem dJ4_addAll_2_45 : decode cJ4_addAll_2 45 = .ok (.invokevirtual 86, 3) := dk_182 0 86 (dk_at dksJ4_addAll_2_1 21 rfl rfl)
theorem dJ4_addAll_2_48 : decode cJ4_addAll_2 48 = .ok (.astore 6, 2) := dk_58 6 (dk_at dksJ4_addAll_2_2 0 rfl rfl)
theorem dJ4_addAll_2_50 : decode cJ4_addAll_2 50 = .ok (.aload 6, 2) := dk_25 6 (dk_at dksJ4_addAll_2_2 2 rfl rfl)
theorem dJ4_addAll_2_52 : decode cJ4_addAll_2 52 = .ok (.getfield 30, 3) := dk_180 0 30 (dk_at dksJ4_addAll_2_2 4 rfl rfl)
theorem dJ4_addAll_2_55 : decode cJ4_addAll_2 55 = .ok (.astore 5, 2) := dk_58 5 (dk_at dksJ4_addAll_2_2 7 rfl rfl)
theorem dJ4_addAll_2_57 : decode cJ4_addAll_2 57 = .ok (.aload_n 3, 1) := dk_45 (dk_at dksJ4_addAll_2_2 9 rfl rfl)
theorem dJ4_addAll_2_58 : decode cJ4_addAll_2 58 = .ok (.astore 7, 2) := dk_58 7 (dk_at dksJ4_addAll_2_2 10 rfl rfl)
theorem dJ4_addAll_2_60 : decode cJ4_addAll_2 60 = .ok (.aload 7, 2) := dk_25 7 (dk_at dksJ4_addAll_2_2 12 rfl rfl)
theorem dJ4_addAll_2_62 : decode cJ4_addAll_2 62 = .ok (.arraylength, 1) := dk_190 (dk_at dksJ4_addAll_2_2 14 rfl rfl)
theorem dJ4_addAll_2_63 : decode cJ4_addAll_2 63 = .ok (.istore 8, 2) := dk_54 8 (dk_at dksJ4_addAll_2_2 15 rfl rfl)
theorem dJ4_addAll_2_65 : decode cJ4_addAll_2 65 = .ok (.iconst 0, 1) := dk_3 (dk_at dksJ4_addAll_2_2 17 rfl rfl)
theorem dJ4_addAll_2_66 : decode cJ4_addAll_2 66 = .ok (.istore 9, 2) := dk_54 9 (dk_at dksJ4_addAll_2_2 18 rfl rfl)
theorem dJ4_addAll_2_68 : decode cJ4_addAll_2 68 = .ok (.iload 9, 2) := dk_21 9 (dk_at dksJ4_addAll_2_2 20 rfl rfl)
theorem dJ4_addAll_2_70 : decode cJ4_addAll_2 70 = .ok (.iload 8, 2) := dk_21 8 (dk_at dksJ4_addAll_2_2 22 rfl rfl)
theorem dJ4_addAll_2_72 : decode cJ4_addAll_2 72 = .ok (.if_icmp .ge 59, 3) := dk_162 0 59 (dk_at dksJ4_addAll_2_3 0 rfl rfl)
theorem dJ4_addAll_2_75 : decode cJ4_addAll_2 75 = .ok (.aload 7, 2) := dk_25 7 (dk_at dksJ4_addAll_2_3 3 rfl rfl)
theorem dJ4_addAll_2_77 : decode cJ4_addAll_2 77 = .ok (.iload 9, 2) := dk_21 9 (dk_at dksJ4_addAll_2_3 5 rfl rfl)
theorem dJ4_addAll_2_79 : decode cJ4_addAll_2 79 = .ok (.aaload, 1) := dk_50 (dk_at dksJ4_addAll_2_3 7 rfl rfl)
theorem dJ4_addAll_2_80 : decode cJ4_addAll_2 80 = .ok (.astore 10, 2) := dk_58 10 (dk_at dksJ4_addAll_2_3 8 rfl rfl)
theorem dJ4_addAll_2_82 : decode cJ4_addAll_2 82 = .ok (.aload 10, 2) := dk_25 10 (dk_at dksJ4_addAll_2_3 10 rfl rfl)
theorem dJ4_addAll_2_84 : decode cJ4_addAll_2 84 = .ok (.astore 11, 2) := dk_58 11 (dk_at dksJ4_addAll_2_3 12 rfl rfl)
theorem dJ4_addAll_2_86 : decode cJ4_addAll_2 86 = .ok (.new 22, 3) := dk_187 0 22 (dk_at dksJ4_addAll_2_3 14 rfl rfl)
theorem dJ4_addAll_2_89 : decode cJ4_addAll_2 89 = .ok (.dup, 1) := dk_89 (dk_at dksJ4_addAll_2_3 17 rfl rfl)
theorem dJ4_addAll_2_90 : decode cJ4_addAll_2 90 = .ok (.aload 5, 2) := dk_25 5 (dk_at dksJ4_addAll_2_3 18 rfl rfl)
theorem dJ4_addAll_2_92 : decode cJ4_addAll_2 92 = .ok (.aload 11, 2) := dk_25 11 (dk_at dksJ4_addAll_2_3 20 rfl rfl)
theorem dJ4_addAll_2_94 : decode cJ4_addAll_2 94 = .ok (.aconst_null, 1) := dk_1 (dk_at dksJ4_addAll_2_3 22 rfl rfl)
theorem dJ4_addAll_2_95 : decode cJ4_addAll_2 95 = .ok (.invokespecial 24, 3) := dk_183 0 24 (dk_at dksJ4_addAll_2_4 0 rfl rfl)
theorem dJ4_addAll_2_98 : decode cJ4_addAll_2 98 = .ok (.astore 12, 2) := dk_58 12 (dk_at dksJ4_addAll_2_4 3 rfl rfl)
theorem dJ4_addAll_2_100 : decode cJ4_addAll_2 100 = .ok (.aload 5, 2) := dk_25 5 (dk_at dksJ4_addAll_2_4 5 rfl rfl)
theorem dJ4_addAll_2_102 : decode cJ4_addAll_2 102 = .ok (.ifnonnull 12, 3) := dk_199 0 12 (dk_at dksJ4_addAll_2_4 7 rfl rfl)
theorem dJ4_addAll_2_105 : decode cJ4_addAll_2 105 = .ok (.aload_n 0, 1) := dk_42 (dk_at dksJ4_addAll_2_4 10 rfl rfl)
theorem dJ4_addAll_2_106 : decode cJ4_addAll_2 106 = .ok (.aload 12, 2) := dk_25 12 (dk_at dksJ4_addAll_2_4 11 rfl rfl)
theorem dJ4_addAll_2_108 : decode cJ4_addAll_2 108 = .ok (.putfield 18, 3) := dk_181 0 18 (dk_at dksJ4_addAll_2_4 13 rfl rfl)
theorem dJ4_addAll_2_111 : decode cJ4_addAll_2 111 = .ok (.goto 10, 3) := dk_167 0 10 (dk_at dksJ4_addAll_2_4 16 rfl rfl)
theorem dJ4_addAll_2_114 : decode cJ4_addAll_2 114 = .ok (.aload 5, 2) := dk_25 5 (dk_at dksJ4_addAll_2_4 19 rfl rfl)
theorem dJ4_addAll_2_116 : decode cJ4_addAll_2 116 = .ok (.aload 12, 2) := dk_25 12 (dk_at dksJ4_addAll_2_4 21 rfl rfl)
theorem dJ4_addAll_2_118 : decode cJ4_addAll_2 118 = .ok (.putfield 36, 3) := dk_181 0 36 (dk_at dksJ4_addAll_2_5 0 rfl rfl)
theorem dJ4_addAll_2_121 : decode cJ4_addAll_2 121 = .ok (.aload 12, 2) := dk_25 12 (dk_at dksJ4_addAll_2_5 3 rfl rfl)
theorem dJ4_addAll_2_123 : decode cJ4_addAll_2 123 = .ok (.astore 5, 2) := dk_58 5 (dk_at dksJ4_addAll_2_5 5 rfl rfl)
theorem dJ4_addAll_2_125 : decode cJ4_addAll_2 125 = .ok (.iinc 9 1, 3) := dk_132 9 1 (dk_at dksJ4_addAll_2_5 7 rfl rfl)
theorem dJ4_addAll_2_128 : decode cJ4_addAll_2 128 = .ok (.goto (-60), 3) := dk_167 255 196 (dk_at dksJ4_addAll_2_5 10 rfl rfl)
theorem dJ4_addAll_2_131 : decode cJ4_addAll_2 131 = .ok (.aload 6, 2) := dk_25 6 (dk_at dksJ4_addAll_2_5 13 rfl rfl)
theorem dJ4_addAll_2_133 : decode cJ4_addAll_2 133 = .ok (.ifnonnull 12, 3) := dk_199 0 12 (dk_at dksJ4_addAll_2_5 15 rfl rfl)
theorem dJ4_addAll_2_136 : decode cJ4_addAll_2 136 = .ok (.aload_n 0, 1) := dk_42 (dk_at dksJ4_addAll_2_5 18 rfl rfl)
theorem dJ4_addAll_2_137 : decode cJ4_addAll_2 137 = .ok (.aload 5, 2) := dk_25 5 (dk_at dksJ4_addAll_2_5 19 rfl rfl)
theorem dJ4_addAll_2_139 : decode cJ4_addAll_2 139 = .ok (.putfield 27, 3) := dk_181 0 27 (dk_at dksJ4_addAll_2_5 21 rfl rfl)
theorem dJ4_addAll_2_142 : decode cJ4_addAll_2 142 = .ok (.goto 17, 3) := dk_167 0 17 (dk_at dksJ4_addAll_2_6 0 rfl rfl)
theorem dJ4_addAll_2_145 : decode cJ4_addAll_2 145 = .ok (.aload 5, 2) := dk_25 5 (dk_at dksJ4_addAll_2_6 3 rfl rfl)
theorem dJ4_addAll_2_147 : decode cJ4_addAll_2 147 = .ok (.aload 6, 2) := dk_25 6 (dk_at dksJ4_addAll_2_6 5 rfl rfl)
theorem dJ4_addAll_2_149 : decode cJ4_addAll_2 149 = .ok (.putfield 36, 3) := dk_181 0 36 (dk_at dksJ4_addAll_2_6 7 rfl rfl)
theorem dJ4_addAll_2_152 : decode cJ4_addAll_2 152 = .ok (.aload 6, 2) := dk_25 6 (dk_at dksJ4_addAll_2_6 10 rfl rfl)
theorem dJ4_addAll_2_154 : decode cJ4_addAll_2 154 = .ok (.aload 5, 2) := dk_25 5 (dk_at dksJ4_addAll_2_6 12 rfl rfl)
theorem dJ4_addAll_2_156 : decode cJ4_addAll_2 156 = .ok (.putfield 30, 3) := dk_181 0 30 (dk_at dksJ4_addAll_2_6 14 rfl rfl)
theorem dJ4_addAll_2_159 : decode cJ4_addAll_2 159 = .ok (.aload_n 0, 1) := dk_42 (dk_at dksJ4_addAll_2_6 17 rfl rfl)
theorem dJ4_addAll_2_160 : decode cJ4_addAll_2 160 = .ok (.dup, 1) := dk_89 (dk_at dksJ4_addAll_2_6 18 rfl rfl)
theorem dJ4_addAll_2_161 : decode cJ4_addAll_2 161 = .ok (.getfield 7, 3) := dk_180 0 7 (dk_at dksJ4_addAll_2_6 19 rfl rfl)
theorem dJ4_addAll_2_164 : decode cJ4_addAll_2 164 = .ok (.iload 4, 2) := dk_21 4 (dk_at dksJ4_addAll_2_6 22 rfl rfl)
theorem dJ4_addAll_2_166 : decode cJ4_addAll_2 166 = .ok (.iadd, 1) := dk_96 (dk_at dksJ4_addAll_2_7 0 rfl rfl)
theorem dJ4_addAll_2_167 : decode cJ4_addAll_2 167 = .ok (.putfield 7, 3) := dk_181 0 7 (dk_at dksJ4_addAll_2_7 1 rfl rfl)
theorem dJ4_addAll_2_170 : decode cJ4_addAll_2 170 = .ok (.aload_n 0, 1) := dk_42 (dk_at dksJ4_addAll_2_7 4 rfl rfl)
theorem dJ4_addAll_2_171 : decode cJ4_addAll_2 171 = .ok (.dup, 1) := dk_89 (dk_at dksJ4_addAll_2_7 5 rfl rfl)
theorem dJ4_addAll_2_172 : decode cJ4_addAll_2 172 = .ok (.getfield 33, 3) := dk_180 0 33 (dk_at dksJ4_addAll_2_7 6 rfl rfl)
theorem dJ4_addAll_2_175 : decode cJ4_addAll_2 175 = .ok (.iconst 1, 1) := dk_4 (dk_at dksJ4_addAll_2_7 9 rfl rfl)
theorem dJ4_addAll_2_176 : decode cJ4_addAll_2 176 = .ok (.iadd, 1) := dk_96 (dk_at dksJ4_addAll_2_7 10 rfl rfl)
theorem dJ4_addAll_2_177 : decode cJ4_addAll_2 177 = .ok (.putfield 33, 3) := dk_181 0 33 (dk_at dksJ4_addAll_2_7 11 rfl rfl)
theorem dJ4_addAll_2_180 : decode cJ4_addAll_2 180 = .ok (.iconst 1, 1) := dk_4 (dk_at dksJ4_addAll_2_7 14 rfl rfl)
theorem dJ4_addAll_2_181 : decode cJ4_addAll_2 181 = .ok (.ireturn, 1) := dk_172 (dk_at dksJ4_addAll_2_7 15 rfl rfl)
abbrev cJ4_removeFirst : ByteArray := prog_59_method_11_code
def yJ4_removeFirst : MethodName := ⟨RJ4, "removeFirst", "()Ljava/lang/Object;"⟩
def dkwJ4_removeFirst_0 : List UInt8 := [42, 180, 0, 18, 76, 43, 199, 0, 11, 187, 0, 43, 89, 183, 0, 45, 191, 42, 43, 182, 0, 46, 176]
abbrev dktJ4_removeFirst_0 : List UInt8 := dkwJ4_removeFirst_0 ++ []
theorem dksJ4_removeFirst_0 : cJ4_removeFirst.data.toList.drop 0 = dktJ4_removeFirst_0 := by decide +kernel
theorem dJ4_removeFirst_0 : decode cJ4_removeFirst 0 = .ok (.aload_n 0, 1) := dk_42 (dk_at dksJ4_removeFirst_0 0 rfl rfl)
theorem dJ4_removeFirst_1 : decode cJ4_removeFirst 1 = .ok (.getfield 18, 3) := dk_180 0 18 (dk_at dksJ4_removeFirst_0 1 rfl rfl)
theorem dJ4_removeFirst_4 : decode cJ4_removeFirst 4 = .ok (.astore_n 1, 1) := dk_76 (dk_at dksJ4_removeFirst_0 4 rfl rfl)
theorem dJ4_removeFirst_5 : decode cJ4_removeFirst 5 = .ok (.aload_n 1, 1) := dk_43 (dk_at dksJ4_removeFirst_0 5 rfl rfl)
theorem dJ4_removeFirst_6 : decode cJ4_removeFirst 6 = .ok (.ifnonnull 11, 3) := dk_199 0 11 (dk_at dksJ4_removeFirst_0 6 rfl rfl)
theorem dJ4_removeFirst_9 : decode cJ4_removeFirst 9 = .ok (.new 43, 3) := dk_187 0 43 (dk_at dksJ4_removeFirst_0 9 rfl rfl)
theorem dJ4_removeFirst_12 : decode cJ4_removeFirst 12 = .ok (.dup, 1) := dk_89 (dk_at dksJ4_removeFirst_0 12 rfl rfl)
theorem dJ4_removeFirst_13 : decode cJ4_removeFirst 13 = .ok (.invokespecial 45, 3) := dk_183 0 45 (dk_at dksJ4_removeFirst_0 13 rfl rfl)
theorem dJ4_removeFirst_16 : decode cJ4_removeFirst 16 = .ok (.athrow, 1) := dk_191 (dk_at dksJ4_removeFirst_0 16 rfl rfl)
theorem dJ4_removeFirst_17 : decode cJ4_removeFirst 17 = .ok (.aload_n 0, 1) := dk_42 (dk_at dksJ4_removeFirst_0 17 rfl rfl)
theorem dJ4_removeFirst_18 : decode cJ4_removeFirst 18 = .ok (.aload_n 1, 1) := dk_43 (dk_at dksJ4_removeFirst_0 18 rfl rfl)
theorem dJ4_removeFirst_19 : decode cJ4_removeFirst 19 = .ok (.invokevirtual 46, 3) := dk_182 0 46 (dk_at dksJ4_removeFirst_0 19 rfl rfl)
theorem dJ4_removeFirst_22 : decode cJ4_removeFirst 22 = .ok (.areturn, 1) := dk_176 (dk_at dksJ4_removeFirst_0 22 rfl rfl)
abbrev cJ4_unlinkFirst : ByteArray := prog_59_method_6_code
def yJ4_unlinkFirst : MethodName := ⟨RJ4, "unlinkFirst", "(Ljava/util/LinkedList$Node;)Ljava/lang/Object;"⟩
def dkwJ4_unlinkFirst_2 : List UInt8 := [180, 0, 7, 4, 100, 181, 0, 7, 42, 89, 180, 0, 33, 4, 96, 181, 0, 33, 44, 176]
abbrev dktJ4_unlinkFirst_2 : List UInt8 := dkwJ4_unlinkFirst_2 ++ []
def dkwJ4_unlinkFirst_1 : List UInt8 := [181, 0, 18, 45, 199, 0, 11, 42, 1, 181, 0, 27, 167, 0, 8, 45, 1, 181, 0, 30, 42, 89]
abbrev dktJ4_unlinkFirst_1 : List UInt8 := dkwJ4_unlinkFirst_1 ++ dktJ4_unlinkFirst_2
def dkwJ4_unlinkFirst_0 : List UInt8 := [43, 180, 0, 39, 77, 43, 180, 0, 36, 78, 43, 1, 181, 0, 39, 43, 1, 181, 0, 36, 42, 45]
abbrev dktJ4_unlinkFirst_0 : List UInt8 := dkwJ4_unlinkFirst_0 ++ dktJ4_unlinkFirst_1
theorem dksJ4_unlinkFirst_0 : cJ4_unlinkFirst.data.toList.drop 0 = dktJ4_unlinkFirst_0 := by decide +kernel
theorem dksJ4_unlinkFirst_1 : cJ4_unlinkFirst.data.toList.drop 22 = dktJ4_unlinkFirst_1 := dk_seg dksJ4_unlinkFirst_0 22 rfl rfl
theorem dksJ4_unlinkFirst_2 : cJ4_unlinkFirst.data.toList.drop 44 = dktJ4_unlinkFirst_2 := dk_seg dksJ4_unlinkFirst_1 22 rfl rfl
theorem dJ4_unlinkFirst_0 : decode cJ4_unlinkFirst 0 = .ok (.aload_n 1, 1) := dk_43 (dk_at dksJ4_unlinkFirst_0 0 rfl rfl)
theorem dJ4_unlinkFirst_1 : decode cJ4_unlinkFirst 1 = .ok (.getfield 39, 3) := dk_180 0 39 (dk_at dksJ4_unlinkFirst_0 1 rfl rfl)
theorem dJ4_unlinkFirst_4 : decode cJ4_unlinkFirst 4 = .ok (.astore_n 2, 1) := dk_77 (dk_at dksJ4_unlinkFirst_0 4 rfl rfl)
theorem dJ4_unlinkFirst_5 : decode cJ4_unlinkFirst 5 = .ok (.aload_n 1, 1) := dk_43 (dk_at dksJ4_unlinkFirst_0 5 rfl rfl)
theorem dJ4_unlinkFirst_6 : decode cJ4_unlinkFirst 6 = .ok (.getfield 36, 3) := dk_180 0 36 (dk_at dksJ4_unlinkFirst_0 6 rfl rfl)
theorem dJ4_unlinkFirst_9 : decode cJ4_unlinkFirst 9 = .ok (.astore_n 3, 1) := dk_78 (dk_at dksJ4_unlinkFirst_0 9 rfl rfl)
theorem dJ4_unlinkFirst_10 : decode cJ4_unlinkFirst 10 = .ok (.aload_n 1, 1) := dk_43 (dk_at dksJ4_unlinkFirst_0 10 rfl rfl)
theorem dJ4_unlinkFirst_11 : decode cJ4_unlinkFirst 11 = .ok (.aconst_null, 1) := dk_1 (dk_at dksJ4_unlinkFirst_0 11 rfl rfl)
theorem dJ4_unlinkFirst_12 : decode cJ4_unlinkFirst 12 = .ok (.putfield 39, 3) := dk_181 0 39 (dk_at dksJ4_unlinkFirst_0 12 rfl rfl)
theorem dJ4_unlinkFirst_15 : decode cJ4_unlinkFirst 15 = .ok (.aload_n 1, 1) := dk_43 (dk_at dksJ4_unlinkFirst_0 15 rfl rfl)
theorem dJ4_unlinkFirst_16 : decode cJ4_unlinkFirst 16 = .ok (.aconst_null, 1) := dk_1 (dk_at dksJ4_unlinkFirst_0 16 rfl rfl)
theorem dJ4_unlinkFirst_17 : decode cJ4_unlinkFirst 17 = .ok (.putfield 36, 3) := dk_181 0 36 (dk_at dksJ4_unlinkFirst_0 17 rfl rfl)
theorem dJ4_unlinkFirst_20 : decode cJ4_unlinkFirst 20 = .ok (.aload_n 0, 1) := dk_42 (dk_at dksJ4_unlinkFirst_0 20 rfl rfl)
theorem dJ4_unlinkFirst_21 : decode cJ4_unlinkFirst 21 = .ok (.aload_n 3, 1) := dk_45 (dk_at dksJ4_unlinkFirst_0 21 rfl rfl)
theorem dJ4_unlinkFirst_22 : decode cJ4_unlinkFirst 22 = .ok (.putfield 18, 3) := dk_181 0 18 (dk_at dksJ4_unlinkFirst_1 0 rfl rfl)
theorem dJ4_unlinkFirst_25 : decode cJ4_unlinkFirst 25 = .ok (.aload_n 3, 1) := dk_45 (dk_at dksJ4_unlinkFirst_1 3 rfl rfl)
theorem dJ4_unlinkFirst_26 : decode cJ4_unlinkFirst 26 = .ok (.ifnonnull 11, 3) := dk_199 0 11 (dk_at dksJ4_unlinkFirst_1 4 rfl rfl)
theorem dJ4_unlinkFirst_29 : decode cJ4_unlinkFirst 29 = .ok (.aload_n 0, 1) := dk_42 (dk_at dksJ4_unlinkFirst_1 7 rfl rfl)
theorem dJ4_unlinkFirst_30 : decode cJ4_unlinkFirst 30 = .ok (.aconst_null, 1) := dk_1 (dk_at dksJ4_unlinkFirst_1 8 rfl rfl)
theorem dJ4_unlinkFirst_31 : decode cJ4_unlinkFirst 31 = .ok (.putfield 27, 3) := dk_181 0 27 (dk_at dksJ4_unlinkFirst_1 9 rfl rfl)
theorem dJ4_unlinkFirst_34 : decode cJ4_unlinkFirst 34 = .ok (.goto 8, 3) := dk_167 0 8 (dk_at dksJ4_unlinkFirst_1 12 rfl rfl)
theorem dJ4_unlinkFirst_37 : decode cJ4_unlinkFirst 37 = .ok (.aload_n 3, 1) := dk_45 (dk_at dksJ4_unlinkFirst_1 15 rfl rfl)
theorem dJ4_unlinkFirst_38 : decode cJ4_unlinkFirst 38 = .ok (.aconst_null, 1) := dk_1 (dk_at dksJ4_unlinkFirst_1 16 rfl rfl)
theorem dJ4_unlinkFirst_39 : decode cJ4_unlinkFirst 39 = .ok (.putfield 30, 3) := dk_181 0 30 (dk_at dksJ4_unlinkFirst_1 17 rfl rfl)
theorem dJ4_unlinkFirst_42 : decode cJ4_unlinkFirst 42 = .ok (.aload_n 0, 1) := dk_42 (dk_at dksJ4_unlinkFirst_1 20 rfl rfl)
theorem dJ4_unlinkFirst_43 : decode cJ4_unlinkFirst 43 = .ok (.dup, 1) := dk_89 (dk_at dksJ4_unlinkFirst_1 21 rfl rfl)
theorem dJ4_unlinkFirst_44 : decode cJ4_unlinkFirst 44 = .ok (.getfield 7, 3) := dk_180 0 7 (dk_at dksJ4_unlinkFirst_2 0 rfl rfl)
theorem dJ4_unlinkFirst_47 : decode cJ4_unlinkFirst 47 = .ok (.iconst 1, 1) := dk_4 (dk_at dksJ4_unlinkFirst_2 3 rfl rfl)
theorem dJ4_unlinkFirst_48 : decode cJ4_unlinkFirst 48 = .ok (.isub, 1) := dk_100 (dk_at dksJ4_unlinkFirst_2 4 rfl rfl)
theorem dJ4_unlinkFirst_49 : decode cJ4_unlinkFirst 49 = .ok (.putfield 7, 3) := dk_181 0 7 (dk_at dksJ4_unlinkFirst_2 5 rfl rfl)
theorem dJ4_unlinkFirst_52 : decode cJ4_unlinkFirst 52 = .ok (.aload_n 0, 1) := dk_42 (dk_at dksJ4_unlinkFirst_2 8 rfl rfl)
theorem dJ4_unlinkFirst_53 : decode cJ4_unlinkFirst 53 = .ok (.dup, 1) := dk_89 (dk_at dksJ4_unlinkFirst_2 9 rfl rfl)
theorem dJ4_unlinkFirst_54 : decode cJ4_unlinkFirst 54 = .ok (.getfield 33, 3) := dk_180 0 33 (dk_at dksJ4_unlinkFirst_2 10 rfl rfl)
theorem dJ4_unlinkFirst_57 : decode cJ4_unlinkFirst 57 = .ok (.iconst 1, 1) := dk_4 (dk_at dksJ4_unlinkFirst_2 13 rfl rfl)
theorem dJ4_unlinkFirst_58 : decode cJ4_unlinkFirst 58 = .ok (.iadd, 1) := dk_96 (dk_at dksJ4_unlinkFirst_2 14 rfl rfl)
theorem dJ4_unlinkFirst_59 : decode cJ4_unlinkFirst 59 = .ok (.putfield 33, 3) := dk_181 0 33 (dk_at dksJ4_unlinkFirst_2 15 rfl rfl)
theorem dJ4_unlinkFirst_62 : decode cJ4_unlinkFirst 62 = .ok (.aload_n 2, 1) := dk_44 (dk_at dksJ4_unlinkFirst_2 18 rfl rfl)
theorem dJ4_unlinkFirst_63 : decode cJ4_unlinkFirst 63 = .ok (.areturn, 1) := dk_176 (dk_at dksJ4_unlinkFirst_2 19 rfl rfl)
abbrev cJ4_contains : ByteArray := prog_59_method_15_code
def yJ4_contains : MethodName := ⟨RJ4, "contains", "(Ljava/lang/Object;)Z"⟩
def dkwJ4_contains_0 : List UInt8 := [42, 43, 182, 0, 60, 155, 0, 7, 4, 167, 0, 4, 3, 172]
abbrev dktJ4_contains_0 : List UInt8 := dkwJ4_contains_0 ++ []
theorem dksJ4_contains_0 : cJ4_contains.data.toList.drop 0 = dktJ4_contains_0 := by decide +kernel
theorem dJ4_contains_0 : decode cJ4_contains 0 = .ok (.aload_n 0, 1) := dk_42 (dk_at dksJ4_contains_0 0 rfl rfl)
theorem dJ4_contains_1 : decode cJ4_contains 1 = .ok (.aload_n 1, 1) := dk_43 (dk_at dksJ4_contains_0 1 rfl rfl)
theorem dJ4_contains_2 : decode cJ4_contains 2 = .ok (.invokevirtual 60, 3) := dk_182 0 60 (dk_at dksJ4_contains_0 2 rfl rfl)
theorem dJ4_contains_5 : decode cJ4_contains 5 = .ok (.ifCond .lt 7, 3) := dk_155 0 7 (dk_at dksJ4_contains_0 5 rfl rfl)
theorem dJ4_contains_8 : decode cJ4_contains 8 = .ok (.iconst 1, 1) := dk_4 (dk_at dksJ4_contains_0 8 rfl rfl)
theorem dJ4_contains_9 : decode cJ4_contains 9 = .ok (.goto 4, 3) := dk_167 0 4 (dk_at dksJ4_contains_0 9 rfl rfl)
theorem dJ4_contains_12 : decode cJ4_contains 12 = .ok (.iconst 0, 1) := dk_3 (dk_at dksJ4_contains_0 12 rfl rfl)
theorem dJ4_contains_13 : decode cJ4_contains 13 = .ok (.ireturn, 1) := dk_172 (dk_at dksJ4_contains_0 13 rfl rfl)
abbrev cJ4_indexOf : ByteArray := prog_59_method_32_code
def yJ4_indexOf : MethodName := ⟨RJ4, "indexOf", "(Ljava/lang/Object;)I"⟩
def dkwJ4_indexOf_3 : List UInt8 := [172]
abbrev dktJ4_indexOf_3 : List UInt8 := dkwJ4_indexOf_3 ++ []
def dkwJ4_indexOf_2 : List UInt8 := [45, 180, 0, 39, 182, 0, 67, 153, 0, 5, 28, 172, 132, 2, 1, 45, 180, 0, 36, 78, 167, 255, 231, 2]
abbrev dktJ4_indexOf_2 : List UInt8 := dkwJ4_indexOf_2 ++ dktJ4_indexOf_3
def dkwJ4_indexOf_1 : List UInt8 := [132, 2, 1, 45, 180, 0, 36, 78, 167, 255, 235, 167, 0, 36, 42, 180, 0, 18, 78, 45, 198, 0, 27, 43]
abbrev dktJ4_indexOf_1 : List UInt8 := dkwJ4_indexOf_1 ++ dktJ4_indexOf_2
def dkwJ4_indexOf_0 : List UInt8 := [3, 61, 43, 199, 0, 35, 42, 180, 0, 18, 78, 45, 198, 0, 23, 45, 180, 0, 39, 199, 0, 5, 28, 172]
abbrev dktJ4_indexOf_0 : List UInt8 := dkwJ4_indexOf_0 ++ dktJ4_indexOf_1
theorem dksJ4_indexOf_0 : cJ4_indexOf.data.toList.drop 0 = dktJ4_indexOf_0 := by decide +kernel
theorem dksJ4_indexOf_1 : cJ4_indexOf.data.toList.drop 24 = dktJ4_indexOf_1 := dk_seg dksJ4_indexOf_0 24 rfl rfl
theorem dksJ4_indexOf_2 : cJ4_indexOf.data.toList.drop 48 = dktJ4_indexOf_2 := dk_seg dksJ4_indexOf_1 24 rfl rfl
theorem dksJ4_indexOf_3 : cJ4_indexOf.data.toList.drop 72 = dktJ4_indexOf_3 := dk_seg dksJ4_indexOf_2 24 rfl rfl
theorem dJ4_indexOf_0 : decode cJ4_indexOf 0 = .ok (.iconst 0, 1) := dk_3 (dk_at dksJ4_indexOf_0 0 rfl rfl)
theorem dJ4_indexOf_1 : decode cJ4_indexOf 1 = .ok (.istore_n 2, 1) := dk_61 (dk_at dksJ4_indexOf_0 1 rfl rfl)
theorem dJ4_indexOf_2 : decode cJ4_indexOf 2 = .ok (.aload_n 1, 1) := dk_43 (dk_at dksJ4_indexOf_0 2 rfl rfl)
theorem dJ4_indexOf_3 : decode cJ4_indexOf 3 = .ok (.ifnonnull 35, 3) := dk_199 0 35 (dk_at dksJ4_indexOf_0 3 rfl rfl)
theorem dJ4_indexOf_6 : decode cJ4_indexOf 6 = .ok (.aload_n 0, 1) := dk_42 (dk_at dksJ4_indexOf_0 6 rfl rfl)
theorem dJ4_indexOf_7 : decode cJ4_indexOf 7 = .ok (.getfield 18, 3) := dk_180 0 18 (dk_at dksJ4_indexOf_0 7 rfl rfl)
theorem dJ4_indexOf_10 : decode cJ4_indexOf 10 = .ok (.astore_n 3, 1) := dk_78 (dk_at dksJ4_indexOf_0 10 rfl rfl)
theorem dJ4_indexOf_11 : decode cJ4_indexOf 11 = .ok (.aload_n 3, 1) := dk_45 (dk_at dksJ4_indexOf_0 11 rfl rfl)
theorem dJ4_indexOf_12 : decode cJ4_indexOf 12 = .ok (.ifnull 23, 3) := dk_198 0 23 (dk_at dksJ4_indexOf_0 12 rfl rfl)
theorem dJ4_indexOf_15 : decode cJ4_indexOf 15 = .ok (.aload_n 3, 1) := dk_45 (dk_at dksJ4_indexOf_0 15 rfl rfl)
theorem dJ4_indexOf_16 : decode cJ4_indexOf 16 = .ok (.getfield 39, 3) := dk_180 0 39 (dk_at dksJ4_indexOf_0 16 rfl rfl)
theorem dJ4_indexOf_19 : decode cJ4_indexOf 19 = .ok (.ifnonnull 5, 3) := dk_199 0 5 (dk_at dksJ4_indexOf_0 19 rfl rfl)
theorem dJ4_indexOf_22 : decode cJ4_indexOf 22 = .ok (.iload_n 2, 1) := dk_28 (dk_at dksJ4_indexOf_0 22 rfl rfl)
theorem dJ4_indexOf_23 : decode cJ4_indexOf 23 = .ok (.ireturn, 1) := dk_172 (dk_at dksJ4_indexOf_0 23 rfl rfl)
theorem dJ4_indexOf_24 : decode cJ4_indexOf 24 = .ok (.iinc 2 1, 3) := dk_132 2 1 (dk_at dksJ4_indexOf_1 0 rfl rfl)
theorem dJ4_indexOf_27 : decode cJ4_indexOf 27 = .ok (.aload_n 3, 1) := dk_45 (dk_at dksJ4_indexOf_1 3 rfl rfl)
theorem dJ4_indexOf_28 : decode cJ4_indexOf 28 = .ok (.getfield 36, 3) := dk_180 0 36 (dk_at dksJ4_indexOf_1 4 rfl rfl)
theorem dJ4_indexOf_31 : decode cJ4_indexOf 31 = .ok (.astore_n 3, 1) := dk_78 (dk_at dksJ4_indexOf_1 7 rfl rfl)
theorem dJ4_indexOf_32 : decode cJ4_indexOf 32 = .ok (.goto (-21), 3) := dk_167 255 235 (dk_at dksJ4_indexOf_1 8 rfl rfl)
theorem dJ4_indexOf_35 : decode cJ4_indexOf 35 = .ok (.goto 36, 3) := dk_167 0 36 (dk_at dksJ4_indexOf_1 11 rfl rfl)
theorem dJ4_indexOf_38 : decode cJ4_indexOf 38 = .ok (.aload_n 0, 1) := dk_42 (dk_at dksJ4_indexOf_1 14 rfl rfl)
theorem dJ4_indexOf_39 : decode cJ4_indexOf 39 = .ok (.getfield 18, 3) := dk_180 0 18 (dk_at dksJ4_indexOf_1 15 rfl rfl)
theorem dJ4_indexOf_42 : decode cJ4_indexOf 42 = .ok (.astore_n 3, 1) := dk_78 (dk_at dksJ4_indexOf_1 18 rfl rfl)
theorem dJ4_indexOf_43 : decode cJ4_indexOf 43 = .ok (.aload_n 3, 1) := dk_45 (dk_at dksJ4_indexOf_1 19 rfl rfl)
theorem dJ4_indexOf_44 : decode cJ4_indexOf 44 = .ok (.ifnull 27, 3) := dk_198 0 27 (dk_at dksJ4_indexOf_1 20 rfl rfl)
theorem dJ4_indexOf_47 : decode cJ4_indexOf 47 = .ok (.aload_n 1, 1) := dk_43 (dk_at dksJ4_indexOf_1 23 rfl rfl)
theorem dJ4_indexOf_48 : decode cJ4_indexOf 48 = .ok (.aload_n 3, 1) := dk_45 (dk_at dksJ4_indexOf_2 0 rfl rfl)
theorem dJ4_indexOf_49 : decode cJ4_indexOf 49 = .ok (.getfield 39, 3) := dk_180 0 39 (dk_at dksJ4_indexOf_2 1 rfl rfl)
theorem dJ4_indexOf_52 : decode cJ4_indexOf 52 = .ok (.invokevirtual 67, 3) := dk_182 0 67 (dk_at dksJ4_indexOf_2 4 rfl rfl)
theorem dJ4_indexOf_55 : decode cJ4_indexOf 55 = .ok (.ifCond .eq 5, 3) := dk_153 0 5 (dk_at dksJ4_indexOf_2 7 rfl rfl)
theorem dJ4_indexOf_58 : decode cJ4_indexOf 58 = .ok (.iload_n 2, 1) := dk_28 (dk_at dksJ4_indexOf_2 10 rfl rfl)
theorem dJ4_indexOf_59 : decode cJ4_indexOf 59 = .ok (.ireturn, 1) := dk_172 (dk_at dksJ4_indexOf_2 11 rfl rfl)
theorem dJ4_indexOf_60 : decode cJ4_indexOf 60 = .ok (.iinc 2 1, 3) := dk_132 2 1 (dk_at dksJ4_indexOf_2 12 rfl rfl)
theorem dJ4_indexOf_63 : decode cJ4_indexOf 63 = .ok (.aload_n 3, 1) := dk_45 (dk_at dksJ4_indexOf_2 15 rfl rfl)
theorem dJ4_indexOf_64 : decode cJ4_indexOf 64 = .ok (.getfield 36, 3) := dk_180 0 36 (dk_at dksJ4_indexOf_2 16 rfl rfl)
theorem dJ4_indexOf_67 : decode cJ4_indexOf 67 = .ok (.astore_n 3, 1) := dk_78 (dk_at dksJ4_indexOf_2 19 rfl rfl)
theorem dJ4_indexOf_68 : decode cJ4_indexOf 68 = .ok (.goto (-25), 3) := dk_167 255 231 (dk_at dksJ4_indexOf_2 20 rfl rfl)
theorem dJ4_indexOf_71 : decode cJ4_indexOf 71 = .ok (.iconst (-1), 1) := dk_2 (dk_at dksJ4_indexOf_2 23 rfl rfl)
theorem dJ4_indexOf_72 : decode cJ4_indexOf 72 = .ok (.ireturn, 1) := dk_172 (dk_at dksJ4_indexOf_3 0 rfl rfl)
abbrev cJ4_peekFirst : ByteArray := prog_59_method_41_code
def yJ4_peekFirst : MethodName := ⟨RJ4, "peekFirst", "()Ljava/lang/Object;"⟩
def dkwJ4_peekFirst_0 : List UInt8 := [42, 180, 0, 18, 76, 43, 199, 0, 7, 1, 167, 0, 7, 43, 180, 0, 39, 176]
abbrev dktJ4_peekFirst_0 : List UInt8 := dkwJ4_peekFirst_0 ++ []
theorem dksJ4_peekFirst_0 : cJ4_peekFirst.data.toList.drop 0 = dktJ4_peekFirst_0 := by decide +kernel
theorem dJ4_peekFirst_0 : decode cJ4_peekFirst 0 = .ok (.aload_n 0, 1) := dk_42 (dk_at dksJ4_peekFirst_0 0 rfl rfl)
theorem dJ4_peekFirst_1 : decode cJ4_peekFirst 1 = .ok (.getfield 18, 3) := dk_180 0 18 (dk_at dksJ4_peekFirst_0 1 rfl rfl)
theorem dJ4_peekFirst_4 : decode cJ4_peekFirst 4 = .ok (.astore_n 1, 1) := dk_76 (dk_at dksJ4_peekFirst_0 4 rfl rfl)
theorem dJ4_peekFirst_5 : decode cJ4_peekFirst 5 = .ok (.aload_n 1, 1) := dk_43 (dk_at dksJ4_peekFirst_0 5 rfl rfl)
theorem dJ4_peekFirst_6 : decode cJ4_peekFirst 6 = .ok (.ifnonnull 7, 3) := dk_199 0 7 (dk_at dksJ4_peekFirst_0 6 rfl rfl)
theorem dJ4_peekFirst_9 : decode cJ4_peekFirst 9 = .ok (.aconst_null, 1) := dk_1 (dk_at dksJ4_peekFirst_0 9 rfl rfl)
theorem dJ4_peekFirst_10 : decode cJ4_peekFirst 10 = .ok (.goto 7, 3) := dk_167 0 7 (dk_at dksJ4_peekFirst_0 10 rfl rfl)
theorem dJ4_peekFirst_13 : decode cJ4_peekFirst 13 = .ok (.aload_n 1, 1) := dk_43 (dk_at dksJ4_peekFirst_0 13 rfl rfl)
theorem dJ4_peekFirst_14 : decode cJ4_peekFirst 14 = .ok (.getfield 39, 3) := dk_180 0 39 (dk_at dksJ4_peekFirst_0 14 rfl rfl)
theorem dJ4_peekFirst_17 : decode cJ4_peekFirst 17 = .ok (.areturn, 1) := dk_176 (dk_at dksJ4_peekFirst_0 17 rfl rfl)
theorem q109 : (Jvm.Cond.initialized "java/util/LinkedList") ∈ lw_all := lw_g (lw_at lw_m1 7 rfl) rfl
theorem q188 : (Jvm.Cond.sameField "java/util/LinkedList" "java/util/AbstractList" "modCount" "I") ∈ lw_all := lw_g (lw_at lw_m1 86 rfl) rfl
theorem q192 : (Jvm.Cond.fieldLink "java/util/LinkedList" (33 : Nat) "java/util/LinkedList" "modCount" "I") ∈ lw_all := lw_g (lw_at lw_m1 90 rfl) rfl
theorem q204 : (Jvm.Cond.instantiable "java/util/LinkedList" (4 : Nat)) ∈ lw_all := lw_g (lw_at lw_m1 102 rfl) rfl
theorem q206 : (Jvm.Cond.instanceMethod ({ cls := "java/util/LinkedList", name := "<init>", desc := "()V" } : Jvm.MethodName)) ∈ lw_all := lw_g (lw_at lw_m1 104 rfl) rfl
theorem q207 : (Jvm.Cond.code ({ cls := "java/util/LinkedList", name := "<init>", desc := "()V" } : Jvm.MethodName) prog_59_method_1_code (1 : Nat) (Option.none : Option Jvm.ClassFile.FieldType)) ∈ lw_all := lw_g (lw_at lw_m1 105 rfl) rfl
theorem q208 : (Jvm.Cond.methodLink "java/util/LinkedList" (1 : Nat) ({ cls := "java/util/AbstractSequentialList", name := "<init>", desc := "()V" } : Jvm.MethodName)) ∈ lw_all := lw_g (lw_at lw_m1 106 rfl) rfl
theorem q212 : (Jvm.Cond.fieldLink "java/util/LinkedList" (7 : Nat) "java/util/LinkedList" "size" "I") ∈ lw_all := lw_g (lw_at lw_m1 110 rfl) rfl
theorem q214 : (Jvm.Cond.fieldLink "java/util/LinkedList" (18 : Nat) "java/util/LinkedList" "first" "Ljava/util/LinkedList$Node;") ∈ lw_all := lw_g (lw_at lw_m1 112 rfl) rfl
theorem q215 : (Jvm.Cond.fieldLink "java/util/LinkedList" (27 : Nat) "java/util/LinkedList" "last" "Ljava/util/LinkedList$Node;") ∈ lw_all := lw_g (lw_at lw_m1 113 rfl) rfl
theorem q216 : (Jvm.Cond.lays "java/util/LinkedList" "java/util/LinkedList" "size" "I") ∈ lw_all := lw_g (lw_at lw_m1 114 rfl) rfl
theorem q217 : (Jvm.Cond.soleField "java/util/LinkedList" "size") ∈ lw_all := lw_g (lw_at lw_m1 115 rfl) rfl
theorem q218 : (Jvm.Cond.lays "java/util/LinkedList" "java/util/LinkedList" "first" "Ljava/util/LinkedList$Node;") ∈ lw_all := lw_g (lw_at lw_m1 116 rfl) rfl
theorem q219 : (Jvm.Cond.soleField "java/util/LinkedList" "first") ∈ lw_all := lw_g (lw_at lw_m1 117 rfl) rfl
theorem q220 : (Jvm.Cond.lays "java/util/LinkedList" "java/util/LinkedList" "last" "Ljava/util/LinkedList$Node;") ∈ lw_all := lw_g (lw_at lw_m1 118 rfl) rfl
theorem q221 : (Jvm.Cond.soleField "java/util/LinkedList" "last") ∈ lw_all := lw_g (lw_at lw_m1 119 rfl) rfl
theorem q222 : (Jvm.Cond.lays "java/util/LinkedList" "java/util/AbstractList" "modCount" "I") ∈ lw_all := lw_g (lw_at lw_m1 120 rfl) rfl
theorem q223 : (Jvm.Cond.superclass "java/util/LinkedList" "java/util/AbstractSequentialList") ∈ lw_all := lw_g (lw_at lw_m1 121 rfl) rfl
theorem q284 : (Jvm.Cond.selects "java/util/LinkedList" ({ cls := "java/lang/Object", name := "getClass", desc := "()Ljava/lang/Class;" } : Jvm.MethodName) ({ cls := "java/lang/Object", name := "getClass", desc := "()Ljava/lang/Class;" } : Jvm.MethodName)) ∈ lw_all := lw_g (lw_at lw_m1 182 rfl) rfl
theorem q563 : (Jvm.Cond.selects "java/util/LinkedList" ({ cls := "java/util/AbstractList", name := "size", desc := "()I" } : Jvm.MethodName) ({ cls := "java/util/LinkedList", name := "size", desc := "()I" } : Jvm.MethodName)) ∈ lw_all := lw_g (lw_at lw_m2 221 rfl) rfl
theorem q564 : (Jvm.Cond.instanceMethod ({ cls := "java/util/LinkedList", name := "size", desc := "()I" } : Jvm.MethodName)) ∈ lw_all := lw_g (lw_at lw_m2 222 rfl) rfl
theorem q565 : (Jvm.Cond.code ({ cls := "java/util/LinkedList", name := "size", desc := "()I" } : Jvm.MethodName) prog_59_method_16_code (1 : Nat) (Option.some Jvm.ClassFile.FieldType.int)) ∈ lw_all := lw_g (lw_at lw_m2 223 rfl) rfl
theorem q599 : (Jvm.Cond.selects "java/util/LinkedList" ({ cls := "java/util/AbstractList", name := "get", desc := "(I)Ljava/lang/Object;" } : Jvm.MethodName) ({ cls := "java/util/LinkedList", name := "get", desc := "(I)Ljava/lang/Object;" } : Jvm.MethodName)) ∈ lw_all := lw_g (lw_at lw_m3 17 rfl) rfl
theorem q600 : (Jvm.Cond.instanceMethod ({ cls := "java/util/LinkedList", name := "get", desc := "(I)Ljava/lang/Object;" } : Jvm.MethodName)) ∈ lw_all := lw_g (lw_at lw_m3 18 rfl) rfl
theorem q601 : (Jvm.Cond.code ({ cls := "java/util/LinkedList", name := "get", desc := "(I)Ljava/lang/Object;" } : Jvm.MethodName) prog_59_method_22_code (2 : Nat) (Option.some (Jvm.ClassFile.FieldType.object "java/lang/Object"))) ∈ lw_all := lw_g (lw_at lw_m3 19 rfl) rfl
theorem q602 : (Jvm.Cond.methodLink "java/util/LinkedList" (90 : Nat) ({ cls := "java/util/LinkedList", name := "checkElementIndex", desc := "(I)V" } : Jvm.MethodName)) ∈ lw_all := lw_g (lw_at lw_m3 20 rfl) rfl
theorem q603 : (Jvm.Cond.privateMethod ({ cls := "java/util/LinkedList", name := "checkElementIndex", desc := "(I)V" } : Jvm.MethodName)) ∈ lw_tbl := lw_at lw_m3 21 rfl
theorem q604 : (Jvm.Cond.instanceMethod ({ cls := "java/util/LinkedList", name := "checkElementIndex", desc := "(I)V" } : Jvm.MethodName)) ∈ lw_all := lw_g (lw_at lw_m3 22 rfl) rfl
theorem q605 : (Jvm.Cond.code ({ cls := "java/util/LinkedList", name := "checkElementIndex", desc := "(I)V" } : Jvm.MethodName) prog_59_method_29_code (2 : Nat) (Option.none : Option Jvm.ClassFile.FieldType)) ∈ lw_all := lw_g (lw_at lw_m3 23 rfl) rfl
theorem q606 : (Jvm.Cond.methodLink "java/util/LinkedList" (115 : Nat) ({ cls := "java/util/LinkedList", name := "isElementIndex", desc := "(I)Z" } : Jvm.MethodName)) ∈ lw_all := lw_g (lw_at lw_m3 24 rfl) rfl
theorem q607 : (Jvm.Cond.privateMethod ({ cls := "java/util/LinkedList", name := "isElementIndex", desc := "(I)Z" } : Jvm.MethodName)) ∈ lw_tbl := lw_at lw_m3 25 rfl
theorem q608 : (Jvm.Cond.instanceMethod ({ cls := "java/util/LinkedList", name := "isElementIndex", desc := "(I)Z" } : Jvm.MethodName)) ∈ lw_all := lw_g (lw_at lw_m3 26 rfl) rfl
theorem q609 : (Jvm.Cond.code ({ cls := "java/util/LinkedList", name := "isElementIndex", desc := "(I)Z" } : Jvm.MethodName) prog_59_method_26_code (2 : Nat) (Option.some Jvm.ClassFile.FieldType.boolean)) ∈ lw_all := lw_g (lw_at lw_m3 27 rfl) rfl
theorem q610 : (Jvm.Cond.classLink "java/util/LinkedList" (119 : Nat) "java/lang/IndexOutOfBoundsException") ∈ lw_all := lw_g (lw_at lw_m3 28 rfl) rfl
theorem q657 : (Jvm.Cond.methodLink "java/util/LinkedList" (121 : Nat) ({ cls := "java/util/LinkedList", name := "outOfBoundsMsg", desc := "(I)Ljava/lang/String;" } : Jvm.MethodName)) ∈ lw_all := lw_g (lw_at lw_m3 75 rfl) rfl
theorem q658 : (Jvm.Cond.privateMethod ({ cls := "java/util/LinkedList", name := "outOfBoundsMsg", desc := "(I)Ljava/lang/String;" } : Jvm.MethodName)) ∈ lw_tbl := lw_at lw_m3 76 rfl
theorem q659 : (Jvm.Cond.instanceMethod ({ cls := "java/util/LinkedList", name := "outOfBoundsMsg", desc := "(I)Ljava/lang/String;" } : Jvm.MethodName)) ∈ lw_all := lw_g (lw_at lw_m3 77 rfl) rfl
theorem q660 : (Jvm.Cond.code ({ cls := "java/util/LinkedList", name := "outOfBoundsMsg", desc := "(I)Ljava/lang/String;" } : Jvm.MethodName) prog_59_method_28_code (2 : Nat) (Option.some (Jvm.ClassFile.FieldType.object "java/lang/String"))) ∈ lw_all := lw_g (lw_at lw_m3 78 rfl) rfl
theorem q661 : (Jvm.Cond.classLink "java/util/LinkedList" (97 : Nat) "java/lang/StringBuilder") ∈ lw_all := lw_g (lw_at lw_m3 79 rfl) rfl
theorem q662 : (Jvm.Cond.methodLink "java/util/LinkedList" (99 : Nat) ({ cls := "java/lang/StringBuilder", name := "<init>", desc := "()V" } : Jvm.MethodName)) ∈ lw_all := lw_g (lw_at lw_m3 80 rfl) rfl
theorem q663 : (Jvm.Cond.stringRef "java/util/LinkedList" (100 : Nat) "Index: ") ∈ lw_tbl := lw_at lw_m3 81 rfl
theorem q664 : (Jvm.Cond.methodLink "java/util/LinkedList" (102 : Nat) ({ cls := "java/lang/StringBuilder", name := "append", desc := "(Ljava/lang/String;)Ljava/lang/StringBuilder;" } : Jvm.MethodName)) ∈ lw_all := lw_g (lw_at lw_m3 82 rfl) rfl
theorem q769 : (Jvm.Cond.methodLink "java/util/LinkedList" (106 : Nat) ({ cls := "java/lang/StringBuilder", name := "append", desc := "(I)Ljava/lang/StringBuilder;" } : Jvm.MethodName)) ∈ lw_all := lw_g (lw_at lw_m3 187 rfl) rfl
theorem q794 : (Jvm.Cond.stringRef "java/util/LinkedList" (109 : Nat) ", Size: ") ∈ lw_tbl := lw_at lw_m3 212 rfl
theorem q795 : (Jvm.Cond.methodLink "java/util/LinkedList" (111 : Nat) ({ cls := "java/lang/StringBuilder", name := "toString", desc := "()Ljava/lang/String;" } : Jvm.MethodName)) ∈ lw_all := lw_g (lw_at lw_m3 213 rfl) rfl
theorem q897 : (Jvm.Cond.methodLink "java/util/LinkedList" (125 : Nat) ({ cls := "java/lang/IndexOutOfBoundsException", name := "<init>", desc := "(Ljava/lang/String;)V" } : Jvm.MethodName)) ∈ lw_all := lw_g (lw_at lw_m4 75 rfl) rfl
theorem q903 : (Jvm.Cond.methodLink "java/util/LinkedList" (86 : Nat) ({ cls := "java/util/LinkedList", name := "node", desc := "(I)Ljava/util/LinkedList$Node;" } : Jvm.MethodName)) ∈ lw_all := lw_g (lw_at lw_m4 81 rfl) rfl
theorem q904 : (Jvm.Cond.instanceMethod ({ cls := "java/util/LinkedList", name := "node", desc := "(I)Ljava/util/LinkedList$Node;" } : Jvm.MethodName)) ∈ lw_all := lw_g (lw_at lw_m4 82 rfl) rfl
theorem q905 : (Jvm.Cond.selects "java/util/LinkedList" ({ cls := "java/util/LinkedList", name := "node", desc := "(I)Ljava/util/LinkedList$Node;" } : Jvm.MethodName) ({ cls := "java/util/LinkedList", name := "node", desc := "(I)Ljava/util/LinkedList$Node;" } : Jvm.MethodName)) ∈ lw_all := lw_g (lw_at lw_m4 83 rfl) rfl
theorem q906 : (Jvm.Cond.code ({ cls := "java/util/LinkedList", name := "node", desc := "(I)Ljava/util/LinkedList$Node;" } : Jvm.MethodName) prog_59_method_31_code (4 : Nat) (Option.some (Jvm.ClassFile.FieldType.object "java/util/LinkedList$Node"))) ∈ lw_all := lw_g (lw_at lw_m4 84 rfl) rfl
theorem q1049 : (Jvm.Cond.instanceMethod ({ cls := "java/util/LinkedList", name := "addLast", desc := "(Ljava/lang/Object;)V" } : Jvm.MethodName)) ∈ lw_all := lw_g (lw_at lw_m4 227 rfl) rfl
theorem q1050 : (Jvm.Cond.selects "java/util/LinkedList" ({ cls := "java/util/LinkedList", name := "addLast", desc := "(Ljava/lang/Object;)V" } : Jvm.MethodName) ({ cls := "java/util/LinkedList", name := "addLast", desc := "(Ljava/lang/Object;)V" } : Jvm.MethodName)) ∈ lw_all := lw_g (lw_at lw_m4 228 rfl) rfl
theorem q1051 : (Jvm.Cond.code ({ cls := "java/util/LinkedList", name := "addLast", desc := "(Ljava/lang/Object;)V" } : Jvm.MethodName) prog_59_method_14_code (2 : Nat) (Option.none : Option Jvm.ClassFile.FieldType)) ∈ lw_all := lw_g (lw_at lw_m4 229 rfl) rfl
theorem q1052 : (Jvm.Cond.methodLink "java/util/LinkedList" (57 : Nat) ({ cls := "java/util/LinkedList", name := "linkLast", desc := "(Ljava/lang/Object;)V" } : Jvm.MethodName)) ∈ lw_all := lw_g (lw_at lw_m4 230 rfl) rfl
theorem q1053 : (Jvm.Cond.instanceMethod ({ cls := "java/util/LinkedList", name := "linkLast", desc := "(Ljava/lang/Object;)V" } : Jvm.MethodName)) ∈ lw_all := lw_g (lw_at lw_m4 231 rfl) rfl
theorem q1054 : (Jvm.Cond.selects "java/util/LinkedList" ({ cls := "java/util/LinkedList", name := "linkLast", desc := "(Ljava/lang/Object;)V" } : Jvm.MethodName) ({ cls := "java/util/LinkedList", name := "linkLast", desc := "(Ljava/lang/Object;)V" } : Jvm.MethodName)) ∈ lw_all := lw_g (lw_at lw_m4 232 rfl) rfl
theorem q1055 : (Jvm.Cond.code ({ cls := "java/util/LinkedList", name := "linkLast", desc := "(Ljava/lang/Object;)V" } : Jvm.MethodName) prog_59_method_4_code (4 : Nat) (Option.none : Option Jvm.ClassFile.FieldType)) ∈ lw_all := lw_g (lw_at lw_m4 233 rfl) rfl
theorem q1056 : (Jvm.Cond.classLink "java/util/LinkedList" (22 : Nat) "java/util/LinkedList$Node") ∈ lw_all := lw_g (lw_at lw_m4 234 rfl) rfl
theorem q1058 : (Jvm.Cond.methodLink "java/util/LinkedList" (24 : Nat) ({ cls := "java/util/LinkedList$Node", name := "<init>", desc := "(Ljava/util/LinkedList$Node;Ljava/lang/Object;Ljava/util/LinkedList$Node;)V" } : Jvm.MethodName)) ∈ lw_all := lw_g (lw_at lw_m4 236 rfl) rfl
theorem q1064 : (Jvm.Cond.fieldLink "java/util/LinkedList" (39 : Nat) "java/util/LinkedList$Node" "item" "Ljava/lang/Object;") ∈ lw_all := lw_g (lw_at lw_m5 2 rfl) rfl
theorem q1067 : (Jvm.Cond.fieldLink "java/util/LinkedList" (36 : Nat) "java/util/LinkedList$Node" "next" "Ljava/util/LinkedList$Node;") ∈ lw_all := lw_g (lw_at lw_m5 5 rfl) rfl
theorem q1069 : (Jvm.Cond.fieldLink "java/util/LinkedList" (30 : Nat) "java/util/LinkedList$Node" "prev" "Ljava/util/LinkedList$Node;") ∈ lw_all := lw_g (lw_at lw_m5 7 rfl) rfl
theorem q1107 : (Jvm.Cond.sameMethod "java/util/LinkedList" "java/util/AbstractSequentialList" "iterator" "()Ljava/util/Iterator;") ∈ lw_all := lw_g (lw_at lw_m5 45 rfl) rfl
theorem q1109 : (Jvm.Cond.selects "java/util/LinkedList" ({ cls := "java/util/LinkedList", name := "iterator", desc := "()Ljava/util/Iterator;" } : Jvm.MethodName) ({ cls := "java/util/AbstractSequentialList", name := "iterator", desc := "()Ljava/util/Iterator;" } : Jvm.MethodName)) ∈ lw_all := lw_g (lw_at lw_m5 47 rfl) rfl
theorem q1115 : (Jvm.Cond.selects "java/util/LinkedList" ({ cls := "java/util/AbstractSequentialList", name := "listIterator", desc := "()Ljava/util/ListIterator;" } : Jvm.MethodName) ({ cls := "java/util/AbstractList", name := "listIterator", desc := "()Ljava/util/ListIterator;" } : Jvm.MethodName)) ∈ lw_all := lw_g (lw_at lw_m5 53 rfl) rfl
theorem q1155 : (Jvm.Cond.selects "java/util/LinkedList" ({ cls := "java/util/AbstractList", name := "listIterator", desc := "(I)Ljava/util/ListIterator;" } : Jvm.MethodName) ({ cls := "java/util/LinkedList", name := "listIterator", desc := "(I)Ljava/util/ListIterator;" } : Jvm.MethodName)) ∈ lw_all := lw_g (lw_at lw_m5 93 rfl) rfl
theorem q1156 : (Jvm.Cond.instanceMethod ({ cls := "java/util/LinkedList", name := "listIterator", desc := "(I)Ljava/util/ListIterator;" } : Jvm.MethodName)) ∈ lw_all := lw_g (lw_at lw_m5 94 rfl) rfl
theorem q1157 : (Jvm.Cond.code ({ cls := "java/util/LinkedList", name := "listIterator", desc := "(I)Ljava/util/ListIterator;" } : Jvm.MethodName) prog_59_method_49_code (2 : Nat) (Option.some (Jvm.ClassFile.FieldType.object "java/util/ListIterator"))) ∈ lw_all := lw_g (lw_at lw_m5 95 rfl) rfl
theorem q1158 : (Jvm.Cond.methodLink "java/util/LinkedList" (76 : Nat) ({ cls := "java/util/LinkedList", name := "checkPositionIndex", desc := "(I)V" } : Jvm.MethodName)) ∈ lw_all := lw_g (lw_at lw_m5 96 rfl) rfl
theorem q1159 : (Jvm.Cond.privateMethod ({ cls := "java/util/LinkedList", name := "checkPositionIndex", desc := "(I)V" } : Jvm.MethodName)) ∈ lw_tbl := lw_at lw_m5 97 rfl
theorem q1160 : (Jvm.Cond.instanceMethod ({ cls := "java/util/LinkedList", name := "checkPositionIndex", desc := "(I)V" } : Jvm.MethodName)) ∈ lw_all := lw_g (lw_at lw_m5 98 rfl) rfl
theorem q1161 : (Jvm.Cond.code ({ cls := "java/util/LinkedList", name := "checkPositionIndex", desc := "(I)V" } : Jvm.MethodName) prog_59_method_30_code (2 : Nat) (Option.none : Option Jvm.ClassFile.FieldType)) ∈ lw_all := lw_g (lw_at lw_m5 99 rfl) rfl
theorem q1162 : (Jvm.Cond.methodLink "java/util/LinkedList" (128 : Nat) ({ cls := "java/util/LinkedList", name := "isPositionIndex", desc := "(I)Z" } : Jvm.MethodName)) ∈ lw_all := lw_g (lw_at lw_m5 100 rfl) rfl
theorem q1163 : (Jvm.Cond.privateMethod ({ cls := "java/util/LinkedList", name := "isPositionIndex", desc := "(I)Z" } : Jvm.MethodName)) ∈ lw_tbl := lw_at lw_m5 101 rfl
theorem q1164 : (Jvm.Cond.instanceMethod ({ cls := "java/util/LinkedList", name := "isPositionIndex", desc := "(I)Z" } : Jvm.MethodName)) ∈ lw_all := lw_g (lw_at lw_m5 102 rfl) rfl
theorem q1165 : (Jvm.Cond.code ({ cls := "java/util/LinkedList", name := "isPositionIndex", desc := "(I)Z" } : Jvm.MethodName) prog_59_method_27_code (2 : Nat) (Option.some Jvm.ClassFile.FieldType.boolean)) ∈ lw_all := lw_g (lw_at lw_m5 103 rfl) rfl
theorem q1166 : (Jvm.Cond.classLink "java/util/LinkedList" (150 : Nat) "java/util/LinkedList$ListItr") ∈ lw_all := lw_g (lw_at lw_m5 104 rfl) rfl
theorem q1168 : (Jvm.Cond.methodLink "java/util/LinkedList" (152 : Nat) ({ cls := "java/util/LinkedList$ListItr", name := "<init>", desc := "(Ljava/util/LinkedList;I)V" } : Jvm.MethodName)) ∈ lw_all := lw_g (lw_at lw_m5 106 rfl) rfl
theorem q1405 : (Jvm.Cond.castable "java/util/LinkedList" "java/util/Collection") ∈ lw_tbl := lw_at lw_m6 103 rfl
theorem q1406 : (Jvm.Cond.selects "java/util/LinkedList" ({ cls := "java/util/Collection", name := "toArray", desc := "()[Ljava/lang/Object;" } : Jvm.MethodName) ({ cls := "java/util/LinkedList", name := "toArray", desc := "()[Ljava/lang/Object;" } : Jvm.MethodName)) ∈ lw_all := lw_g (lw_at lw_m6 104 rfl) rfl
theorem q1407 : (Jvm.Cond.unhidden "java/util/LinkedList" "toArray" "()[Ljava/lang/Object;") ∈ lw_tbl := lw_at lw_m6 105 rfl
theorem q1408 : (Jvm.Cond.instanceMethod ({ cls := "java/util/LinkedList", name := "toArray", desc := "()[Ljava/lang/Object;" } : Jvm.MethodName)) ∈ lw_all := lw_g (lw_at lw_m6 106 rfl) rfl
theorem q1409 : (Jvm.Cond.publicMethod ({ cls := "java/util/LinkedList", name := "toArray", desc := "()[Ljava/lang/Object;" } : Jvm.MethodName)) ∈ lw_tbl := lw_at lw_m6 107 rfl
theorem q1410 : (Jvm.Cond.code ({ cls := "java/util/LinkedList", name := "toArray", desc := "()[Ljava/lang/Object;" } : Jvm.MethodName) prog_59_method_53_code (4 : Nat) (Option.some (Jvm.ClassFile.FieldType.array (Jvm.ClassFile.FieldType.object "java/lang/Object")))) ∈ lw_all := lw_g (lw_at lw_m6 108 rfl) rfl
theorem q1411 : (Jvm.Cond.classLink "java/util/LinkedList" (68 : Nat) "java/lang/Object") ∈ lw_all := lw_g (lw_at lw_m6 109 rfl) rfl
theorem q1465 : (Jvm.Cond.instanceMethod ({ cls := "java/util/LinkedList", name := "addAll", desc := "(Ljava/util/Collection;)Z" } : Jvm.MethodName)) ∈ lw_all := lw_g (lw_at lw_m6 163 rfl) rfl
theorem q1466 : (Jvm.Cond.selects "java/util/LinkedList" ({ cls := "java/util/LinkedList", name := "addAll", desc := "(Ljava/util/Collection;)Z" } : Jvm.MethodName) ({ cls := "java/util/LinkedList", name := "addAll", desc := "(Ljava/util/Collection;)Z" } : Jvm.MethodName)) ∈ lw_all := lw_g (lw_at lw_m6 164 rfl) rfl
theorem q1467 : (Jvm.Cond.code ({ cls := "java/util/LinkedList", name := "addAll", desc := "(Ljava/util/Collection;)Z" } : Jvm.MethodName) prog_59_method_19_code (2 : Nat) (Option.some Jvm.ClassFile.FieldType.boolean)) ∈ lw_all := lw_g (lw_at lw_m6 165 rfl) rfl
theorem q1468 : (Jvm.Cond.methodLink "java/util/LinkedList" (73 : Nat) ({ cls := "java/util/LinkedList", name := "addAll", desc := "(ILjava/util/Collection;)Z" } : Jvm.MethodName)) ∈ lw_all := lw_g (lw_at lw_m6 166 rfl) rfl
theorem q1469 : (Jvm.Cond.instanceMethod ({ cls := "java/util/LinkedList", name := "addAll", desc := "(ILjava/util/Collection;)Z" } : Jvm.MethodName)) ∈ lw_all := lw_g (lw_at lw_m6 167 rfl) rfl
theorem q1470 : (Jvm.Cond.selects "java/util/LinkedList" ({ cls := "java/util/LinkedList", name := "addAll", desc := "(ILjava/util/Collection;)Z" } : Jvm.MethodName) ({ cls := "java/util/LinkedList", name := "addAll", desc := "(ILjava/util/Collection;)Z" } : Jvm.MethodName)) ∈ lw_all := lw_g (lw_at lw_m6 168 rfl) rfl
theorem q1471 : (Jvm.Cond.code ({ cls := "java/util/LinkedList", name := "addAll", desc := "(ILjava/util/Collection;)Z" } : Jvm.MethodName) prog_59_method_20_code (13 : Nat) (Option.some Jvm.ClassFile.FieldType.boolean)) ∈ lw_all := lw_g (lw_at lw_m6 169 rfl) rfl
theorem q1472 : (Jvm.Cond.interfaceEntry "java/util/LinkedList" (80 : Nat)) ∈ lw_tbl := lw_at lw_m6 170 rfl
theorem q1473 : (Jvm.Cond.methodLink "java/util/LinkedList" (80 : Nat) ({ cls := "java/util/Collection", name := "toArray", desc := "()[Ljava/lang/Object;" } : Jvm.MethodName)) ∈ lw_all := lw_g (lw_at lw_m6 171 rfl) rfl
theorem q1668 : (Jvm.Cond.sameMethod "java/util/LinkedList" "java/util/AbstractCollection" "isEmpty" "()Z") ∈ lw_all := lw_g (lw_at lw_m7 126 rfl) rfl
theorem q1670 : (Jvm.Cond.selects "java/util/LinkedList" ({ cls := "java/util/LinkedList", name := "isEmpty", desc := "()Z" } : Jvm.MethodName) ({ cls := "java/util/AbstractCollection", name := "isEmpty", desc := "()Z" } : Jvm.MethodName)) ∈ lw_all := lw_g (lw_at lw_m7 128 rfl) rfl
theorem q1680 : (Jvm.Cond.instanceMethod ({ cls := "java/util/LinkedList", name := "removeFirst", desc := "()Ljava/lang/Object;" } : Jvm.MethodName)) ∈ lw_all := lw_g (lw_at lw_m7 138 rfl) rfl
theorem q1681 : (Jvm.Cond.selects "java/util/LinkedList" ({ cls := "java/util/LinkedList", name := "removeFirst", desc := "()Ljava/lang/Object;" } : Jvm.MethodName) ({ cls := "java/util/LinkedList", name := "removeFirst", desc := "()Ljava/lang/Object;" } : Jvm.MethodName)) ∈ lw_all := lw_g (lw_at lw_m7 139 rfl) rfl
theorem q1682 : (Jvm.Cond.code ({ cls := "java/util/LinkedList", name := "removeFirst", desc := "()Ljava/lang/Object;" } : Jvm.MethodName) prog_59_method_11_code (2 : Nat) (Option.some (Jvm.ClassFile.FieldType.object "java/lang/Object"))) ∈ lw_all := lw_g (lw_at lw_m7 140 rfl) rfl
theorem q1683 : (Jvm.Cond.classLink "java/util/LinkedList" (43 : Nat) "java/util/NoSuchElementException") ∈ lw_all := lw_g (lw_at lw_m7 141 rfl) rfl
theorem q1684 : (Jvm.Cond.methodLink "java/util/LinkedList" (45 : Nat) ({ cls := "java/util/NoSuchElementException", name := "<init>", desc := "()V" } : Jvm.MethodName)) ∈ lw_all := lw_g (lw_at lw_m7 142 rfl) rfl
theorem q1685 : (Jvm.Cond.methodLink "java/util/LinkedList" (46 : Nat) ({ cls := "java/util/LinkedList", name := "unlinkFirst", desc := "(Ljava/util/LinkedList$Node;)Ljava/lang/Object;" } : Jvm.MethodName)) ∈ lw_all := lw_g (lw_at lw_m7 143 rfl) rfl
theorem q1686 : (Jvm.Cond.privateMethod ({ cls := "java/util/LinkedList", name := "unlinkFirst", desc := "(Ljava/util/LinkedList$Node;)Ljava/lang/Object;" } : Jvm.MethodName)) ∈ lw_tbl := lw_at lw_m7 144 rfl
theorem q1687 : (Jvm.Cond.instanceMethod ({ cls := "java/util/LinkedList", name := "unlinkFirst", desc := "(Ljava/util/LinkedList$Node;)Ljava/lang/Object;" } : Jvm.MethodName)) ∈ lw_all := lw_g (lw_at lw_m7 145 rfl) rfl
theorem q1688 : (Jvm.Cond.code ({ cls := "java/util/LinkedList", name := "unlinkFirst", desc := "(Ljava/util/LinkedList$Node;)Ljava/lang/Object;" } : Jvm.MethodName) prog_59_method_6_code (4 : Nat) (Option.some (Jvm.ClassFile.FieldType.object "java/lang/Object"))) ∈ lw_all := lw_g (lw_at lw_m7 146 rfl) rfl
theorem q1898 : (Jvm.Cond.selects "java/util/LinkedList" ({ cls := "java/util/Collection", name := "contains", desc := "(Ljava/lang/Object;)Z" } : Jvm.MethodName) ({ cls := "java/util/LinkedList", name := "contains", desc := "(Ljava/lang/Object;)Z" } : Jvm.MethodName)) ∈ lw_all := lw_g (lw_at lw_m8 116 rfl) rfl
theorem q1899 : (Jvm.Cond.unhidden "java/util/LinkedList" "contains" "(Ljava/lang/Object;)Z") ∈ lw_tbl := lw_at lw_m8 117 rfl
theorem q1900 : (Jvm.Cond.instanceMethod ({ cls := "java/util/LinkedList", name := "contains", desc := "(Ljava/lang/Object;)Z" } : Jvm.MethodName)) ∈ lw_all := lw_g (lw_at lw_m8 118 rfl) rfl
theorem q1901 : (Jvm.Cond.publicMethod ({ cls := "java/util/LinkedList", name := "contains", desc := "(Ljava/lang/Object;)Z" } : Jvm.MethodName)) ∈ lw_tbl := lw_at lw_m8 119 rfl
theorem q1902 : (Jvm.Cond.code ({ cls := "java/util/LinkedList", name := "contains", desc := "(Ljava/lang/Object;)Z" } : Jvm.MethodName) prog_59_method_15_code (2 : Nat) (Option.some Jvm.ClassFile.FieldType.boolean)) ∈ lw_all := lw_g (lw_at lw_m8 120 rfl) rfl
theorem q1903 : (Jvm.Cond.methodLink "java/util/LinkedList" (60 : Nat) ({ cls := "java/util/LinkedList", name := "indexOf", desc := "(Ljava/lang/Object;)I" } : Jvm.MethodName)) ∈ lw_all := lw_g (lw_at lw_m8 121 rfl) rfl
theorem q1904 : (Jvm.Cond.instanceMethod ({ cls := "java/util/LinkedList", name := "indexOf", desc := "(Ljava/lang/Object;)I" } : Jvm.MethodName)) ∈ lw_all := lw_g (lw_at lw_m8 122 rfl) rfl
theorem q1905 : (Jvm.Cond.selects "java/util/LinkedList" ({ cls := "java/util/LinkedList", name := "indexOf", desc := "(Ljava/lang/Object;)I" } : Jvm.MethodName) ({ cls := "java/util/LinkedList", name := "indexOf", desc := "(Ljava/lang/Object;)I" } : Jvm.MethodName)) ∈ lw_all := lw_g (lw_at lw_m8 123 rfl) rfl
theorem q1906 : (Jvm.Cond.code ({ cls := "java/util/LinkedList", name := "indexOf", desc := "(Ljava/lang/Object;)I" } : Jvm.MethodName) prog_59_method_32_code (4 : Nat) (Option.some Jvm.ClassFile.FieldType.int)) ∈ lw_all := lw_g (lw_at lw_m8 124 rfl) rfl
theorem q1907 : (Jvm.Cond.methodLink "java/util/LinkedList" (67 : Nat) ({ cls := "java/lang/Object", name := "equals", desc := "(Ljava/lang/Object;)Z" } : Jvm.MethodName)) ∈ lw_all := lw_g (lw_at lw_m8 125 rfl) rfl
theorem q2042 : (Jvm.Cond.instanceMethod ({ cls := "java/util/LinkedList", name := "peekFirst", desc := "()Ljava/lang/Object;" } : Jvm.MethodName)) ∈ lw_all := lw_g (lw_at lw_m9 20 rfl) rfl
theorem q2043 : (Jvm.Cond.selects "java/util/LinkedList" ({ cls := "java/util/LinkedList", name := "peekFirst", desc := "()Ljava/lang/Object;" } : Jvm.MethodName) ({ cls := "java/util/LinkedList", name := "peekFirst", desc := "()Ljava/lang/Object;" } : Jvm.MethodName)) ∈ lw_all := lw_g (lw_at lw_m9 21 rfl) rfl
theorem q2044 : (Jvm.Cond.code ({ cls := "java/util/LinkedList", name := "peekFirst", desc := "()Ljava/lang/Object;" } : Jvm.MethodName) prog_59_method_41_code (2 : Nat) (Option.some (Jvm.ClassFile.FieldType.object "java/lang/Object"))) ∈ lw_all := lw_g (lw_at lw_m9 22 rfl) rfl
theorem q2181 : (Jvm.Cond.unhidden "java/util/LinkedList" "getClass" "()Ljava/lang/Class;") ∈ lw_tbl := lw_at lw_m9 159 rfl
theorem q3157 : (Jvm.Cond.selects "java/util/LinkedList" ({ cls := "java/util/LinkedList", name := "size", desc := "()I" } : Jvm.MethodName) ({ cls := "java/util/LinkedList", name := "size", desc := "()I" } : Jvm.MethodName)) ∈ lw_all := lw_g (lw_at lw_m13 175 rfl) rfl
theorem q3161 : (Jvm.Cond.selects "java/util/LinkedList" ({ cls := "java/util/AbstractCollection", name := "size", desc := "()I" } : Jvm.MethodName) ({ cls := "java/util/LinkedList", name := "size", desc := "()I" } : Jvm.MethodName)) ∈ lw_all := lw_g (lw_at lw_m13 179 rfl) rfl
theorem q3163 : (Jvm.Cond.selects "java/util/LinkedList" ({ cls := "java/util/LinkedList", name := "get", desc := "(I)Ljava/lang/Object;" } : Jvm.MethodName) ({ cls := "java/util/LinkedList", name := "get", desc := "(I)Ljava/lang/Object;" } : Jvm.MethodName)) ∈ lw_all := lw_g (lw_at lw_m13 181 rfl) rfl
theorem q3173 : (Jvm.Cond.castable "java/util/LinkedList" "java/lang/Object") ∈ lw_tbl := lw_at lw_m13 191 rfl
theorem in_J4 : ∀ w ∈ wsJ40, w ∈ lw_all := lw_in wsJ40 [222, 216, 218, 220] (by decide +kernel) (by decide +kernel)
