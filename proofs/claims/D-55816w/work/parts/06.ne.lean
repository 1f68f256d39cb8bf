/-! MissingMiddles$Chains -/
set_option maxRecDepth 100000
def RX10 : String := "MissingMiddles$Chains"
def TX10 : u_T := fun k => match k with
  | 0 => ("MissingMiddles$Chains", "book", "LMissingMiddles$Book;", true)
  | 1 => ("MissingMiddles$Chains", "scraps", "Ljava/util/ArrayList;", true)
  | _ => ("MissingMiddles$Chains", "choice", "LMissingMiddles$Choice;", true)
def tyX10 : Nat → FieldType := fun k => match k with
  | 0 => .object "MissingMiddles$Book"
  | 1 => .object "java/util/ArrayList"
  | _ => .object "MissingMiddles$Choice"
abbrev wsX100 : List Cond := u_ws RX10 TX10 3
theorem nmX10 : ∀ a, a < 3 → ∀ b, b < 3 → a ≠ b → (TX10 a).2.1 ≠ (TX10 b).2.1 := by decide +kernel
theorem tyX10_ok : ∀ k, k < 3 → parseFieldDescriptor (TX10 k).2.2.1 = some (tyX10 k) := by decide +kernel
abbrev cX10_init : ByteArray := prog_3_method_1_code
def yX10_init : MethodName := ⟨RX10, "<init>", "(LMissingMiddles$Book;Ljava/util/ArrayList;LMissingMiddles$Choice;)V"⟩
def dkwX10_init_0 : List UInt8 := [42, 183, 0, 3, 42, 43, 181, 0, 9, 42, 44, 181, 0, 15, 42, 45, 181, 0, 19, 177]
abbrev dktX10_init_0 : List UInt8 := dkwX10_init_0 ++ []
theorem dksX10_init_0 : cX10_init.data.toList.drop 0 = dktX10_init_0 := by decide +kernel
theorem dX10_init_0 : decode cX10_init 0 = .ok (.aload_n 0, 1) := dk_42 (dk_at dksX10_init_0 0 rfl rfl)
theorem dX10_init_1 : decode cX10_init 1 = .ok (.invokespecial 3, 3) := dk_183 0 3 (dk_at dksX10_init_0 1 rfl rfl)
theorem dX10_init_4 : decode cX10_init 4 = .ok (.aload_n 0, 1) := dk_42 (dk_at dksX10_init_0 4 rfl rfl)
theorem dX10_init_5 : decode cX10_init 5 = .ok (.aload_n 1, 1) := dk_43 (dk_at dksX10_init_0 5 rfl rfl)
theorem dX10_init_6 : decode cX10_init 6 = .ok (.putfield 9, 3) := dk_181 0 9 (dk_at dksX10_init_0 6 rfl rfl)
theorem dX10_init_9 : decode cX10_init 9 = .ok (.aload_n 0, 1) := dk_42 (dk_at dksX10_init_0 9 rfl rfl)
theorem dX10_init_10 : decode cX10_init 10 = .ok (.aload_n 2, 1) := dk_44 (dk_at dksX10_init_0 10 rfl rfl)
theorem dX10_init_11 : decode cX10_init 11 = .ok (.putfield 15, 3) := dk_181 0 15 (dk_at dksX10_init_0 11 rfl rfl)
theorem dX10_init_14 : decode cX10_init 14 = .ok (.aload_n 0, 1) := dk_42 (dk_at dksX10_init_0 14 rfl rfl)
theorem dX10_init_15 : decode cX10_init 15 = .ok (.aload_n 3, 1) := dk_45 (dk_at dksX10_init_0 15 rfl rfl)
theorem dX10_init_16 : decode cX10_init 16 = .ok (.putfield 19, 3) := dk_181 0 19 (dk_at dksX10_init_0 16 rfl rfl)
theorem dX10_init_19 : decode cX10_init 19 = .ok (.return_, 1) := dk_177 (dk_at dksX10_init_0 19 rfl rfl)
abbrev cX10_best : ByteArray := prog_3_method_8_code
def yX10_best : MethodName := ⟨RX10, "best", "()Ljava/util/LinkedList;"⟩
def dkwX10_best_5 : List UInt8 := [176]
abbrev dktX10_best_5 : List UInt8 := dkwX10_best_5 ++ []
def dkwX10_best_4 : List UInt8 := [42, 180, 0, 15, 21, 5, 182, 0, 111, 192, 0, 52, 180, 0, 65, 54, 4, 132, 1, 255, 167, 255, 195, 44]
abbrev dktX10_best_4 : List UInt8 := dkwX10_best_4 ++ dktX10_best_5
def dkwX10_best_3 : List UInt8 := [184, 0, 101, 182, 0, 107, 42, 180, 0, 15, 21, 5, 182, 0, 111, 192, 0, 52, 180, 0, 64, 4, 96, 62]
abbrev dktX10_best_3 : List UInt8 := dkwX10_best_3 ++ dktX10_best_4
def dkwX10_best_2 : List UInt8 := [180, 0, 79, 54, 4, 27, 158, 0, 63, 42, 29, 21, 4, 27, 182, 0, 98, 54, 5, 44, 21, 5]
abbrev dktX10_best_2 : List UInt8 := dkwX10_best_2 ++ dktX10_best_3
def dkwX10_best_1 : List UInt8 := [1, 176, 187, 0, 95, 89, 183, 0, 97, 77, 42, 180, 0, 9, 180, 0, 76, 62, 42, 180, 0, 9]
abbrev dktX10_best_1 : List UInt8 := dkwX10_best_1 ++ dktX10_best_2
def dkwX10_best_0 : List UInt8 := [42, 42, 180, 0, 9, 180, 0, 76, 42, 180, 0, 9, 180, 0, 79, 182, 0, 92, 60, 27, 2, 160, 0, 5]
abbrev dktX10_best_0 : List UInt8 := dkwX10_best_0 ++ dktX10_best_1
theorem dksX10_best_0 : cX10_best.data.toList.drop 0 = dktX10_best_0 := by decide +kernel
theorem dksX10_best_1 : cX10_best.data.toList.drop 24 = dktX10_best_1 := dk_seg dksX10_best_0 24 rfl rfl
theorem dksX10_best_2 : cX10_best.data.toList.drop 46 = dktX10_best_2 := dk_seg dksX10_best_1 22 rfl rfl
theorem dksX10_best_3 : cX10_best.data.toList.drop 68 = dktX10_best_3 := dk_seg dksX10_best_2 22 rfl rfl
theorem dksX10_best_4 : cX10_best.data.toList.drop 92 = dktX10_best_4 := dk_seg dksX10_best_3 24 rfl rfl
theorem dksX10_best_5 : cX10_best.data.toList.drop 116 = dktX10_best_5 := dk_seg dksX10_best_4 24 rfl rfl
theorem dX10_best_0 : decode cX10_best 0 = .ok (.aload_n 0, 1) := dk_42 (dk_at dksX10_best_0 0 rfl rfl)
theorem dX10_best_1 : decode cX10_best 1 = .ok (.aload_n 0, 1) := dk_42 (dk_at dksX10_best_0 1 rfl rfl)
theorem dX10_best_2 : decode cX10_best 2 = .ok (.getfield 9, 3) := dk_180 0 9 (dk_at dksX10_best_0 2 rfl rfl)
theorem dX10_best_5 : decode cX10_best 5 = .ok (.getfield 76, 3) := dk_180 0 76 (dk_at dksX10_best_0 5 rfl rfl)
theorem dX10_best_8 : decode cX10_best 8 = .ok (.aload_n 0, 1) := dk_42 (dk_at dksX10_best_0 8 rfl rfl)
theorem dX10_best_9 : decode cX10_best 9 = .ok (.getfield 9, 3) := dk_180 0 9 (dk_at dksX10_best_0 9 rfl rfl)
theorem dX10_best_12 : decode cX10_best 12 = .ok (.getfield 79, 3) := dk_180 0 79 (dk_at dksX10_best_0 12 rfl rfl)
theorem dX10_best_15 : decode cX10_best 15 = .ok (.invokevirtual 92, 3) := dk_182 0 92 (dk_at dksX10_best_0 15 rfl rfl)
theorem dX10_best_18 : decode cX10_best 18 = .ok (.istore_n 1, 1) := dk_60 (dk_at dksX10_best_0 18 rfl rfl)
theorem dX10_best_19 : decode cX10_best 19 = .ok (.iload_n 1, 1) := dk_27 (dk_at dksX10_best_0 19 rfl rfl)
theorem dX10_best_20 : decode cX10_best 20 = .ok (.iconst (-1), 1) := dk_2 (dk_at dksX10_best_0 20 rfl rfl)
theorem dX10_best_21 : decode cX10_best 21 = .ok (.if_icmp .ne 5, 3) := dk_160 0 5 (dk_at dksX10_best_0 21 rfl rfl)
theorem dX10_best_24 : decode cX10_best 24 = .ok (.aconst_null, 1) := dk_1 (dk_at dksX10_best_1 0 rfl rfl)
theorem dX10_best_25 : decode cX10_best 25 = .ok (.areturn, 1) := dk_176 (dk_at dksX10_best_1 1 rfl rfl)
theorem dX10_best_26 : decode cX10_best 26 = .ok (.new 95, 3) := dk_187 0 95 (dk_at dksX10_best_1 2 rfl rfl)
theorem dX10_best_29 : decode cX10_best 29 = .ok (.dup, 1) := dk_89 (dk_at dksX10_best_1 5 rfl rfl)
theorem dX10_best_30 : decode cX10_best 30 = .ok (.invokespecial 97, 3) := dk_183 0 97 (dk_at dksX10_best_1 6 rfl rfl)
theorem dX10_best_33 : decode cX10_best 33 = .ok (.astore_n 2, 1) := dk_77 (dk_at dksX10_best_1 9 rfl rfl)
theorem dX10_best_34 : decode cX10_best 34 = .ok (.aload_n 0, 1) := dk_42 (dk_at dksX10_best_1 10 rfl rfl)
theorem dX10_best_35 : decode cX10_best 35 = .ok (.getfield 9, 3) := dk_180 0 9 (dk_at dksX10_best_1 11 rfl rfl)
theorem dX10_best_38 : decode cX10_best 38 = .ok (.getfield 76, 3) := dk_180 0 76 (dk_at dksX10_best_1 14 rfl rfl)
theorem dX10_best_41 : decode cX10_best 41 = .ok (.istore_n 3, 1) := dk_62 (dk_at dksX10_best_1 17 rfl rfl)
theorem dX10_best_42 : decode cX10_best 42 = .ok (.aload_n 0, 1) := dk_42 (dk_at dksX10_best_1 18 rfl rfl)
theorem dX10_best_43 : decode cX10_best 43 = .ok (.getfield 9, 3) := dk_180 0 9 (dk_at dksX10_best_1 19 rfl rfl)
theorem dX10_best_46 : decode cX10_best 46 = .ok (.getfield 79, 3) := dk_180 0 79 (dk_at dksX10_best_2 0 rfl rfl)
theorem dX10_best_49 : decode cX10_best 49 = .ok (.istore 4, 2) := dk_54 4 (dk_at dksX10_best_2 3 rfl rfl)
theorem dX10_best_51 : decode cX10_best 51 = .ok (.iload_n 1, 1) := dk_27 (dk_at dksX10_best_2 5 rfl rfl)
theorem dX10_best_52 : decode cX10_best 52 = .ok (.ifCond .le 63, 3) := dk_158 0 63 (dk_at dksX10_best_2 6 rfl rfl)
theorem dX10_best_55 : decode cX10_best 55 = .ok (.aload_n 0, 1) := dk_42 (dk_at dksX10_best_2 9 rfl rfl)
theorem dX10_best_56 : decode cX10_best 56 = .ok (.iload_n 3, 1) := dk_29 (dk_at dksX10_best_2 10 rfl rfl)
theorem dX10_best_57 : decode cX10_best 57 = .ok (.iload 4, 2) := dk_21 4 (dk_at dksX10_best_2 11 rfl rfl)
theorem dX10_best_59 : decode cX10_best 59 = .ok (.iload_n 1, 1) := dk_27 (dk_at dksX10_best_2 13 rfl rfl)
theorem dX10_best_60 : decode cX10_best 60 = .ok (.invokevirtual 98, 3) := dk_182 0 98 (dk_at dksX10_best_2 14 rfl rfl)
theorem dX10_best_63 : decode cX10_best 63 = .ok (.istore 5, 2) := dk_54 5 (dk_at dksX10_best_2 17 rfl rfl)
theorem dX10_best_65 : decode cX10_best 65 = .ok (.aload_n 2, 1) := dk_44 (dk_at dksX10_best_2 19 rfl rfl)
theorem dX10_best_66 : decode cX10_best 66 = .ok (.iload 5, 2) := dk_21 5 (dk_at dksX10_best_2 20 rfl rfl)
theorem dX10_best_68 : decode cX10_best 68 = .ok (.invokestatic 101, 3) := dk_184 0 101 (dk_at dksX10_best_3 0 rfl rfl)
theorem dX10_best_71 : decode cX10_best 71 = .ok (.invokevirtual 107, 3) := dk_182 0 107 (dk_at dksX10_best_3 3 rfl rfl)
theorem dX10_best_74 : decode cX10_best 74 = .ok (.aload_n 0, 1) := dk_42 (dk_at dksX10_best_3 6 rfl rfl)
theorem dX10_best_75 : decode cX10_best 75 = .ok (.getfield 15, 3) := dk_180 0 15 (dk_at dksX10_best_3 7 rfl rfl)
theorem dX10_best_78 : decode cX10_best 78 = .ok (.iload 5, 2) := dk_21 5 (dk_at dksX10_best_3 10 rfl rfl)
theorem dX10_best_80 : decode cX10_best 80 = .ok (.invokevirtual 111, 3) := dk_182 0 111 (dk_at dksX10_best_3 12 rfl rfl)
theorem dX10_best_83 : decode cX10_best 83 = .ok (.checkcast 52, 3) := dk_192 0 52 (dk_at dksX10_best_3 15 rfl rfl)
theorem dX10_best_86 : decode cX10_best 86 = .ok (.getfield 64, 3) := dk_180 0 64 (dk_at dksX10_best_3 18 rfl rfl)
theorem dX10_best_89 : decode cX10_best 89 = .ok (.iconst 1, 1) := dk_4 (dk_at dksX10_best_3 21 rfl rfl)
theorem dX10_best_90 : decode cX10_best 90 = .ok (.iadd, 1) := dk_96 (dk_at dksX10_best_3 22 rfl rfl)
theorem dX10_best_91 : decode cX10_best 91 = .ok (.istore_n 3, 1) := dk_62 (dk_at dksX10_best_3 23 rfl rfl)
theorem dX10_best_92 : decode cX10_best 92 = .ok (.aload_n 0, 1) := dk_42 (dk_at dksX10_best_4 0 rfl rfl)
theorem dX10_best_93 : decode cX10_best 93 = .ok (.getfield 15, 3) := dk_180 0 15 (dk_at dksX10_best_4 1 rfl rfl)
theorem dX10_best_96 : decode cX10_best 96 = .ok (.iload 5, 2) := dk_21 5 (dk_at dksX10_best_4 4 rfl rfl)
theorem dX10_best_98 : decode cX10_best 98 = .ok (.invokevirtual 111, 3) := dk_182 0 111 (dk_at dksX10_best_4 6 rfl rfl)
theorem dX10_best_101 : decode cX10_best 101 = .ok (.checkcast 52, 3) := dk_192 0 52 (dk_at dksX10_best_4 9 rfl rfl)
theorem dX10_best_104 : decode cX10_best 104 = .ok (.getfield 65, 3) := dk_180 0 65 (dk_at dksX10_best_4 12 rfl rfl)
theorem dX10_best_107 : decode cX10_best 107 = .ok (.istore 4, 2) := dk_54 4 (dk_at dksX10_best_4 15 rfl rfl)
theorem dX10_best_109 : decode cX10_best 109 = .ok (.iinc 1 (-1), 3) := dk_132 1 255 (dk_at dksX10_best_4 17 rfl rfl)
theorem dX10_best_112 : decode cX10_best 112 = .ok (.goto (-61), 3) := dk_167 255 195 (dk_at dksX10_best_4 20 rfl rfl)
theorem dX10_best_115 : decode cX10_best 115 = .ok (.aload_n 2, 1) := dk_44 (dk_at dksX10_best_4 23 rfl rfl)
theorem dX10_best_116 : decode cX10_best 116 = .ok (.areturn, 1) := dk_176 (dk_at dksX10_best_5 0 rfl rfl)
abbrev cX10_fewest : ByteArray := prog_3_method_7_code
def yX10_fewest : MethodName := ⟨RX10, "fewest", "(II)I"⟩
def dkwX10_fewest_5 : List UInt8 := [21, 7, 153, 0, 10, 21, 6, 4, 96, 167, 0, 4, 29, 62, 167, 255, 148, 29, 172]
abbrev dktX10_fewest_5 : List UInt8 := dkwX10_fewest_5 ++ []
def dkwX10_fewest_4 : List UInt8 := [159, 0, 20, 29, 2, 159, 0, 11, 21, 6, 4, 96, 29, 162, 0, 7, 4, 167, 0, 4, 3, 54, 7]
abbrev dktX10_fewest_4 : List UInt8 := dkwX10_fewest_4 ++ dktX10_fewest_5
def dkwX10_fewest_3 : List UInt8 := [153, 0, 61, 42, 25, 5, 180, 0, 64, 4, 96, 25, 5, 180, 0, 65, 182, 0, 92, 54, 6, 21, 6, 2]
abbrev dktX10_fewest_3 : List UInt8 := dkwX10_fewest_3 ++ dktX10_fewest_4
def dkwX10_fewest_2 : List UInt8 := [180, 0, 19, 25, 5, 185, 0, 54, 2, 0, 153, 0, 75, 25, 5, 27, 28, 42, 180, 0, 9, 182, 0, 60]
abbrev dktX10_fewest_2 : List UInt8 := dkwX10_fewest_2 ++ dktX10_fewest_3
def dkwX10_fewest_1 : List UInt8 := [25, 4, 185, 0, 42, 1, 0, 153, 0, 104, 25, 4, 185, 0, 48, 1, 0, 192, 0, 52, 58, 5, 42]
abbrev dktX10_fewest_1 : List UInt8 := dkwX10_fewest_1 ++ dktX10_fewest_2
def dkwX10_fewest_0 : List UInt8 := [42, 27, 28, 182, 0, 32, 153, 0, 7, 3, 167, 0, 4, 2, 62, 42, 180, 0, 15, 182, 0, 36, 58, 4]
abbrev dktX10_fewest_0 : List UInt8 := dkwX10_fewest_0 ++ dktX10_fewest_1
theorem dksX10_fewest_0 : cX10_fewest.data.toList.drop 0 = dktX10_fewest_0 := by decide +kernel
theorem dksX10_fewest_1 : cX10_fewest.data.toList.drop 24 = dktX10_fewest_1 := dk_seg dksX10_fewest_0 24 rfl rfl
theorem dksX10_fewest_2 : cX10_fewest.data.toList.drop 47 = dktX10_fewest_2 := dk_seg dksX10_fewest_1 23 rfl rfl
theorem dksX10_fewest_3 : cX10_fewest.data.toList.drop 71 = dktX10_fewest_3 := dk_seg dksX10_fewest_2 24 rfl rfl
theorem dksX10_fewest_4 : cX10_fewest.data.toList.drop 95 = dktX10_fewest_4 := dk_seg dksX10_fewest_3 24 rfl rfl
theorem dksX10_fewest_5 : cX10_fewest.data.toList.drop 118 = dktX10_fewest_5 := dk_seg dksX10_fewest_4 23 rfl rfl
theorem dX10_fewest_0 : decode cX10_fewest 0 = .ok (.aload_n 0, 1) := dk_42 (dk_at dksX10_fewest_0 0 rfl rfl)
theorem dX10_fewest_1 : decode cX10_fewest 1 = .ok (.iload_n 1, 1) := dk_27 (dk_at dksX10_fewest_0 1 rfl rfl)
theorem dX10_fewest_2 : decode cX10_fewest 2 = .ok (.iload_n 2, 1) := dk_28 (dk_at dksX10_fewest_0 2 rfl rfl)
theorem dX10_fewest_3 : decode cX10_fewest 3 = .ok (.invokevirtual 32, 3) := dk_182 0 32 (dk_at dksX10_fewest_0 3 rfl rfl)
theorem dX10_fewest_6 : decode cX10_fewest 6 = .ok (.ifCond .eq 7, 3) := dk_153 0 7 (dk_at dksX10_fewest_0 6 rfl rfl)
theorem dX10_fewest_9 : decode cX10_fewest 9 = .ok (.iconst 0, 1) := dk_3 (dk_at dksX10_fewest_0 9 rfl rfl)
theorem dX10_fewest_10 : decode cX10_fewest 10 = .ok (.goto 4, 3) := dk_167 0 4 (dk_at dksX10_fewest_0 10 rfl rfl)
theorem dX10_fewest_13 : decode cX10_fewest 13 = .ok (.iconst (-1), 1) := dk_2 (dk_at dksX10_fewest_0 13 rfl rfl)
theorem dX10_fewest_14 : decode cX10_fewest 14 = .ok (.istore_n 3, 1) := dk_62 (dk_at dksX10_fewest_0 14 rfl rfl)
theorem dX10_fewest_15 : decode cX10_fewest 15 = .ok (.aload_n 0, 1) := dk_42 (dk_at dksX10_fewest_0 15 rfl rfl)
theorem dX10_fewest_16 : decode cX10_fewest 16 = .ok (.getfield 15, 3) := dk_180 0 15 (dk_at dksX10_fewest_0 16 rfl rfl)
theorem dX10_fewest_19 : decode cX10_fewest 19 = .ok (.invokevirtual 36, 3) := dk_182 0 36 (dk_at dksX10_fewest_0 19 rfl rfl)
theorem dX10_fewest_22 : decode cX10_fewest 22 = .ok (.astore 4, 2) := dk_58 4 (dk_at dksX10_fewest_0 22 rfl rfl)
theorem dX10_fewest_24 : decode cX10_fewest 24 = .ok (.aload 4, 2) := dk_25 4 (dk_at dksX10_fewest_1 0 rfl rfl)
theorem dX10_fewest_26 : decode cX10_fewest 26 = .ok (.invokeinterface 42 1, 5) := by decide +kernel
theorem dX10_fewest_31 : decode cX10_fewest 31 = .ok (.ifCond .eq 104, 3) := dk_153 0 104 (dk_at dksX10_fewest_1 7 rfl rfl)
theorem dX10_fewest_34 : decode cX10_fewest 34 = .ok (.aload 4, 2) := dk_25 4 (dk_at dksX10_fewest_1 10 rfl rfl)
theorem dX10_fewest_36 : decode cX10_fewest 36 = .ok (.invokeinterface 48 1, 5) := by decide +kernel
theorem dX10_fewest_41 : decode cX10_fewest 41 = .ok (.checkcast 52, 3) := dk_192 0 52 (dk_at dksX10_fewest_1 17 rfl rfl)
theorem dX10_fewest_44 : decode cX10_fewest 44 = .ok (.astore 5, 2) := dk_58 5 (dk_at dksX10_fewest_1 20 rfl rfl)
theorem dX10_fewest_46 : decode cX10_fewest 46 = .ok (.aload_n 0, 1) := dk_42 (dk_at dksX10_fewest_1 22 rfl rfl)
theorem dX10_fewest_47 : decode cX10_fewest 47 = .ok (.getfield 19, 3) := dk_180 0 19 (dk_at dksX10_fewest_2 0 rfl rfl)
theorem dX10_fewest_50 : decode cX10_fewest 50 = .ok (.aload 5, 2) := dk_25 5 (dk_at dksX10_fewest_2 3 rfl rfl)
theorem dX10_fewest_52 : decode cX10_fewest 52 = .ok (.invokeinterface 54 2, 5) := by decide +kernel
theorem dX10_fewest_57 : decode cX10_fewest 57 = .ok (.ifCond .eq 75, 3) := dk_153 0 75 (dk_at dksX10_fewest_2 10 rfl rfl)
theorem dX10_fewest_60 : decode cX10_fewest 60 = .ok (.aload 5, 2) := dk_25 5 (dk_at dksX10_fewest_2 13 rfl rfl)
theorem dX10_fewest_62 : decode cX10_fewest 62 = .ok (.iload_n 1, 1) := dk_27 (dk_at dksX10_fewest_2 15 rfl rfl)
theorem dX10_fewest_63 : decode cX10_fewest 63 = .ok (.iload_n 2, 1) := dk_28 (dk_at dksX10_fewest_2 16 rfl rfl)
theorem dX10_fewest_64 : decode cX10_fewest 64 = .ok (.aload_n 0, 1) := dk_42 (dk_at dksX10_fewest_2 17 rfl rfl)
theorem dX10_fewest_65 : decode cX10_fewest 65 = .ok (.getfield 9, 3) := dk_180 0 9 (dk_at dksX10_fewest_2 18 rfl rfl)
theorem dX10_fewest_68 : decode cX10_fewest 68 = .ok (.invokevirtual 60, 3) := dk_182 0 60 (dk_at dksX10_fewest_2 21 rfl rfl)
theorem dX10_fewest_71 : decode cX10_fewest 71 = .ok (.ifCond .eq 61, 3) := dk_153 0 61 (dk_at dksX10_fewest_3 0 rfl rfl)
theorem dX10_fewest_74 : decode cX10_fewest 74 = .ok (.aload_n 0, 1) := dk_42 (dk_at dksX10_fewest_3 3 rfl rfl)
theorem dX10_fewest_75 : decode cX10_fewest 75 = .ok (.aload 5, 2) := dk_25 5 (dk_at dksX10_fewest_3 4 rfl rfl)
theorem dX10_fewest_77 : decode cX10_fewest 77 = .ok (.getfield 64, 3) := dk_180 0 64 (dk_at dksX10_fewest_3 6 rfl rfl)
theorem dX10_fewest_80 : decode cX10_fewest 80 = .ok (.iconst 1, 1) := dk_4 (dk_at dksX10_fewest_3 9 rfl rfl)
theorem dX10_fewest_81 : decode cX10_fewest 81 = .ok (.iadd, 1) := dk_96 (dk_at dksX10_fewest_3 10 rfl rfl)
theorem dX10_fewest_82 : decode cX10_fewest 82 = .ok (.aload 5, 2) := dk_25 5 (dk_at dksX10_fewest_3 11 rfl rfl)
theorem dX10_fewest_84 : decode cX10_fewest 84 = .ok (.getfield 65, 3) := dk_180 0 65 (dk_at dksX10_fewest_3 13 rfl rfl)
theorem dX10_fewest_87 : decode cX10_fewest 87 = .ok (.invokevirtual 92, 3) := dk_182 0 92 (dk_at dksX10_fewest_3 16 rfl rfl)
theorem dX10_fewest_90 : decode cX10_fewest 90 = .ok (.istore 6, 2) := dk_54 6 (dk_at dksX10_fewest_3 19 rfl rfl)
theorem dX10_fewest_92 : decode cX10_fewest 92 = .ok (.iload 6, 2) := dk_21 6 (dk_at dksX10_fewest_3 21 rfl rfl)
theorem dX10_fewest_94 : decode cX10_fewest 94 = .ok (.iconst (-1), 1) := dk_2 (dk_at dksX10_fewest_3 23 rfl rfl)
theorem dX10_fewest_95 : decode cX10_fewest 95 = .ok (.if_icmp .eq 20, 3) := dk_159 0 20 (dk_at dksX10_fewest_4 0 rfl rfl)
theorem dX10_fewest_98 : decode cX10_fewest 98 = .ok (.iload_n 3, 1) := dk_29 (dk_at dksX10_fewest_4 3 rfl rfl)
theorem dX10_fewest_99 : decode cX10_fewest 99 = .ok (.iconst (-1), 1) := dk_2 (dk_at dksX10_fewest_4 4 rfl rfl)
theorem dX10_fewest_100 : decode cX10_fewest 100 = .ok (.if_icmp .eq 11, 3) := dk_159 0 11 (dk_at dksX10_fewest_4 5 rfl rfl)
theorem dX10_fewest_103 : decode cX10_fewest 103 = .ok (.iload 6, 2) := dk_21 6 (dk_at dksX10_fewest_4 8 rfl rfl)
theorem dX10_fewest_105 : decode cX10_fewest 105 = .ok (.iconst 1, 1) := dk_4 (dk_at dksX10_fewest_4 10 rfl rfl)
theorem dX10_fewest_106 : decode cX10_fewest 106 = .ok (.iadd, 1) := dk_96 (dk_at dksX10_fewest_4 11 rfl rfl)
theorem dX10_fewest_107 : decode cX10_fewest 107 = .ok (.iload_n 3, 1) := dk_29 (dk_at dksX10_fewest_4 12 rfl rfl)
theorem dX10_fewest_108 : decode cX10_fewest 108 = .ok (.if_icmp .ge 7, 3) := dk_162 0 7 (dk_at dksX10_fewest_4 13 rfl rfl)
theorem dX10_fewest_111 : decode cX10_fewest 111 = .ok (.iconst 1, 1) := dk_4 (dk_at dksX10_fewest_4 16 rfl rfl)
theorem dX10_fewest_112 : decode cX10_fewest 112 = .ok (.goto 4, 3) := dk_167 0 4 (dk_at dksX10_fewest_4 17 rfl rfl)
theorem dX10_fewest_115 : decode cX10_fewest 115 = .ok (.iconst 0, 1) := dk_3 (dk_at dksX10_fewest_4 20 rfl rfl)
theorem dX10_fewest_116 : decode cX10_fewest 116 = .ok (.istore 7, 2) := dk_54 7 (dk_at dksX10_fewest_4 21 rfl rfl)
theorem dX10_fewest_118 : decode cX10_fewest 118 = .ok (.iload 7, 2) := dk_21 7 (dk_at dksX10_fewest_5 0 rfl rfl)
theorem dX10_fewest_120 : decode cX10_fewest 120 = .ok (.ifCond .eq 10, 3) := dk_153 0 10 (dk_at dksX10_fewest_5 2 rfl rfl)
theorem dX10_fewest_123 : decode cX10_fewest 123 = .ok (.iload 6, 2) := dk_21 6 (dk_at dksX10_fewest_5 5 rfl rfl)
theorem dX10_fewest_125 : decode cX10_fewest 125 = .ok (.iconst 1, 1) := dk_4 (dk_at dksX10_fewest_5 7 rfl rfl)
theorem dX10_fewest_126 : decode cX10_fewest 126 = .ok (.iadd, 1) := dk_96 (dk_at dksX10_fewest_5 8 rfl rfl)
theorem dX10_fewest_127 : decode cX10_fewest 127 = .ok (.goto 4, 3) := dk_167 0 4 (dk_at dksX10_fewest_5 9 rfl rfl)
theorem dX10_fewest_130 : decode cX10_fewest 130 = .ok (.iload_n 3, 1) := dk_29 (dk_at dksX10_fewest_5 12 rfl rfl)
theorem dX10_fewest_131 : decode cX10_fewest 131 = .ok (.istore_n 3, 1) := dk_62 (dk_at dksX10_fewest_5 13 rfl rfl)
theorem dX10_fewest_132 : decode cX10_fewest 132 = .ok (.goto (-108), 3) := dk_167 255 148 (dk_at dksX10_fewest_5 14 rfl rfl)
theorem dX10_fewest_135 : decode cX10_fewest 135 = .ok (.iload_n 3, 1) := dk_29 (dk_at dksX10_fewest_5 17 rfl rfl)
theorem dX10_fewest_136 : decode cX10_fewest 136 = .ok (.ireturn, 1) := dk_172 (dk_at dksX10_fewest_5 18 rfl rfl)
abbrev cX10_isEnd : ByteArray := prog_3_method_2_code
def yX10_isEnd : MethodName := ⟨RX10, "isEnd", "(II)Z"⟩
def dkwX10_isEnd_1 : List UInt8 := [4, 167, 0, 4, 3, 172]
abbrev dktX10_isEnd_1 : List UInt8 := dkwX10_isEnd_1 ++ []
def dkwX10_isEnd_0 : List UInt8 := [27, 42, 180, 0, 9, 180, 0, 23, 4, 96, 160, 0, 18, 28, 42, 180, 0, 9, 180, 0, 29, 160, 0, 7]
abbrev dktX10_isEnd_0 : List UInt8 := dkwX10_isEnd_0 ++ dktX10_isEnd_1
theorem dksX10_isEnd_0 : cX10_isEnd.data.toList.drop 0 = dktX10_isEnd_0 := by decide +kernel
theorem dksX10_isEnd_1 : cX10_isEnd.data.toList.drop 24 = dktX10_isEnd_1 := dk_seg dksX10_isEnd_0 24 rfl rfl
theorem dX10_isEnd_0 : decode cX10_isEnd 0 = .ok (.iload_n 1, 1) := dk_27 (dk_at dksX10_isEnd_0 0 rfl rfl)
theorem dX10_isEnd_1 : decode cX10_isEnd 1 = .ok (.aload_n 0, 1) := dk_42 (dk_at dksX10_isEnd_0 1 rfl rfl)
theorem dX10_isEnd_2 : decode cX10_isEnd 2 = .ok (.getfield 9, 3) := dk_180 0 9 (dk_at dksX10_isEnd_0 2 rfl rfl)
theorem dX10_isEnd_5 : decode cX10_isEnd 5 = .ok (.getfield 23, 3) := dk_180 0 23 (dk_at dksX10_isEnd_0 5 rfl rfl)
theorem dX10_isEnd_8 : decode cX10_isEnd 8 = .ok (.iconst 1, 1) := dk_4 (dk_at dksX10_isEnd_0 8 rfl rfl)
theorem dX10_isEnd_9 : decode cX10_isEnd 9 = .ok (.iadd, 1) := dk_96 (dk_at dksX10_isEnd_0 9 rfl rfl)
theorem dX10_isEnd_10 : decode cX10_isEnd 10 = .ok (.if_icmp .ne 18, 3) := dk_160 0 18 (dk_at dksX10_isEnd_0 10 rfl rfl)
theorem dX10_isEnd_13 : decode cX10_isEnd 13 = .ok (.iload_n 2, 1) := dk_28 (dk_at dksX10_isEnd_0 13 rfl rfl)
theorem dX10_isEnd_14 : decode cX10_isEnd 14 = .ok (.aload_n 0, 1) := dk_42 (dk_at dksX10_isEnd_0 14 rfl rfl)
theorem dX10_isEnd_15 : decode cX10_isEnd 15 = .ok (.getfield 9, 3) := dk_180 0 9 (dk_at dksX10_isEnd_0 15 rfl rfl)
theorem dX10_isEnd_18 : decode cX10_isEnd 18 = .ok (.getfield 29, 3) := dk_180 0 29 (dk_at dksX10_isEnd_0 18 rfl rfl)
theorem dX10_isEnd_21 : decode cX10_isEnd 21 = .ok (.if_icmp .ne 7, 3) := dk_160 0 7 (dk_at dksX10_isEnd_0 21 rfl rfl)
theorem dX10_isEnd_24 : decode cX10_isEnd 24 = .ok (.iconst 1, 1) := dk_4 (dk_at dksX10_isEnd_1 0 rfl rfl)
theorem dX10_isEnd_25 : decode cX10_isEnd 25 = .ok (.goto 4, 3) := dk_167 0 4 (dk_at dksX10_isEnd_1 1 rfl rfl)
theorem dX10_isEnd_28 : decode cX10_isEnd 28 = .ok (.iconst 0, 1) := dk_3 (dk_at dksX10_isEnd_1 4 rfl rfl)
theorem dX10_isEnd_29 : decode cX10_isEnd 29 = .ok (.ireturn, 1) := dk_172 (dk_at dksX10_isEnd_1 5 rfl rfl)
abbrev cX10_next : ByteArray := prog_3_method_9_code
def yX10_next : MethodName := ⟨RX10, "next", "(III)I"⟩
def dkwX10_next_4 : List UInt8 := [160, 0, 6, 21, 4, 172, 132, 4, 1, 167, 255, 166, 187, 0, 115, 89, 183, 0, 117, 191]
abbrev dktX10_next_4 : List UInt8 := dkwX10_next_4 ++ []
def dkwX10_next_3 : List UInt8 := [153, 0, 28, 42, 25, 6, 180, 0, 64, 4, 96, 25, 6, 180, 0, 65, 182, 0, 92, 29, 4, 100]
abbrev dktX10_next_3 : List UInt8 := dkwX10_next_3 ++ dktX10_next_4
def dkwX10_next_2 : List UInt8 := [25, 6, 27, 28, 42, 180, 0, 9, 182, 0, 60, 153, 0, 7, 4, 167, 0, 4, 3, 54, 7, 21, 7]
abbrev dktX10_next_2 : List UInt8 := dkwX10_next_2 ++ dktX10_next_3
def dkwX10_next_1 : List UInt8 := [185, 0, 48, 1, 0, 192, 0, 52, 58, 6, 42, 180, 0, 19, 25, 6, 185, 0, 54, 2, 0, 153, 0, 21]
abbrev dktX10_next_1 : List UInt8 := dkwX10_next_1 ++ dktX10_next_2
def dkwX10_next_0 : List UInt8 := [3, 54, 4, 42, 180, 0, 15, 182, 0, 36, 58, 5, 25, 5, 185, 0, 42, 1, 0, 153, 0, 86, 25, 5]
abbrev dktX10_next_0 : List UInt8 := dkwX10_next_0 ++ dktX10_next_1
theorem dksX10_next_0 : cX10_next.data.toList.drop 0 = dktX10_next_0 := by decide +kernel
theorem dksX10_next_1 : cX10_next.data.toList.drop 24 = dktX10_next_1 := dk_seg dksX10_next_0 24 rfl rfl
theorem dksX10_next_2 : cX10_next.data.toList.drop 48 = dktX10_next_2 := dk_seg dksX10_next_1 24 rfl rfl
theorem dksX10_next_3 : cX10_next.data.toList.drop 71 = dktX10_next_3 := dk_seg dksX10_next_2 23 rfl rfl
theorem dksX10_next_4 : cX10_next.data.toList.drop 93 = dktX10_next_4 := dk_seg dksX10_next_3 22 rfl rfl
theorem dX10_next_0 : decode cX10_next 0 = .ok (.iconst 0, 1) := dk_3 (dk_at dksX10_next_0 0 rfl rfl)
theorem dX10_next_1 : decode cX10_next 1 = .ok (.istore 4, 2) := dk_54 4 (dk_at dksX10_next_0 1 rfl rfl)
theorem dX10_next_3 : decode cX10_next 3 = .ok (.aload_n 0, 1) := dk_42 (dk_at dksX10_next_0 3 rfl rfl)
theorem dX10_next_4 : decode cX10_next 4 = .ok (.getfield 15, 3) := dk_180 0 15 (dk_at dksX10_next_0 4 rfl rfl)
theorem dX10_next_7 : decode cX10_next 7 = .ok (.invokevirtual 36, 3) := dk_182 0 36 (dk_at dksX10_next_0 7 rfl rfl)
theorem dX10_next_10 : decode cX10_next 10 = .ok (.astore 5, 2) := dk_58 5 (dk_at dksX10_next_0 10 rfl rfl)
theorem dX10_next_12 : decode cX10_next 12 = .ok (.aload 5, 2) := dk_25 5 (dk_at dksX10_next_0 12 rfl rfl)
theorem dX10_next_14 : decode cX10_next 14 = .ok (.invokeinterface 42 1, 5) := by decide +kernel
theorem dX10_next_19 : decode cX10_next 19 = .ok (.ifCond .eq 86, 3) := dk_153 0 86 (dk_at dksX10_next_0 19 rfl rfl)
theorem dX10_next_22 : decode cX10_next 22 = .ok (.aload 5, 2) := dk_25 5 (dk_at dksX10_next_0 22 rfl rfl)
theorem dX10_next_24 : decode cX10_next 24 = .ok (.invokeinterface 48 1, 5) := by decide +kernel
theorem dX10_next_29 : decode cX10_next 29 = .ok (.checkcast 52, 3) := dk_192 0 52 (dk_at dksX10_next_1 5 rfl rfl)
theorem dX10_next_32 : decode cX10_next 32 = .ok (.astore 6, 2) := dk_58 6 (dk_at dksX10_next_1 8 rfl rfl)
theorem dX10_next_34 : decode cX10_next 34 = .ok (.aload_n 0, 1) := dk_42 (dk_at dksX10_next_1 10 rfl rfl)
theorem dX10_next_35 : decode cX10_next 35 = .ok (.getfield 19, 3) := dk_180 0 19 (dk_at dksX10_next_1 11 rfl rfl)
theorem dX10_next_38 : decode cX10_next 38 = .ok (.aload 6, 2) := dk_25 6 (dk_at dksX10_next_1 14 rfl rfl)
theorem dX10_next_40 : decode cX10_next 40 = .ok (.invokeinterface 54 2, 5) := by decide +kernel
theorem dX10_next_45 : decode cX10_next 45 = .ok (.ifCond .eq 21, 3) := dk_153 0 21 (dk_at dksX10_next_1 21 rfl rfl)
theorem dX10_next_48 : decode cX10_next 48 = .ok (.aload 6, 2) := dk_25 6 (dk_at dksX10_next_2 0 rfl rfl)
theorem dX10_next_50 : decode cX10_next 50 = .ok (.iload_n 1, 1) := dk_27 (dk_at dksX10_next_2 2 rfl rfl)
theorem dX10_next_51 : decode cX10_next 51 = .ok (.iload_n 2, 1) := dk_28 (dk_at dksX10_next_2 3 rfl rfl)
theorem dX10_next_52 : decode cX10_next 52 = .ok (.aload_n 0, 1) := dk_42 (dk_at dksX10_next_2 4 rfl rfl)
theorem dX10_next_53 : decode cX10_next 53 = .ok (.getfield 9, 3) := dk_180 0 9 (dk_at dksX10_next_2 5 rfl rfl)
theorem dX10_next_56 : decode cX10_next 56 = .ok (.invokevirtual 60, 3) := dk_182 0 60 (dk_at dksX10_next_2 8 rfl rfl)
theorem dX10_next_59 : decode cX10_next 59 = .ok (.ifCond .eq 7, 3) := dk_153 0 7 (dk_at dksX10_next_2 11 rfl rfl)
theorem dX10_next_62 : decode cX10_next 62 = .ok (.iconst 1, 1) := dk_4 (dk_at dksX10_next_2 14 rfl rfl)
theorem dX10_next_63 : decode cX10_next 63 = .ok (.goto 4, 3) := dk_167 0 4 (dk_at dksX10_next_2 15 rfl rfl)
theorem dX10_next_66 : decode cX10_next 66 = .ok (.iconst 0, 1) := dk_3 (dk_at dksX10_next_2 18 rfl rfl)
theorem dX10_next_67 : decode cX10_next 67 = .ok (.istore 7, 2) := dk_54 7 (dk_at dksX10_next_2 19 rfl rfl)
theorem dX10_next_69 : decode cX10_next 69 = .ok (.iload 7, 2) := dk_21 7 (dk_at dksX10_next_2 21 rfl rfl)
theorem dX10_next_71 : decode cX10_next 71 = .ok (.ifCond .eq 28, 3) := dk_153 0 28 (dk_at dksX10_next_3 0 rfl rfl)
theorem dX10_next_74 : decode cX10_next 74 = .ok (.aload_n 0, 1) := dk_42 (dk_at dksX10_next_3 3 rfl rfl)
theorem dX10_next_75 : decode cX10_next 75 = .ok (.aload 6, 2) := dk_25 6 (dk_at dksX10_next_3 4 rfl rfl)
theorem dX10_next_77 : decode cX10_next 77 = .ok (.getfield 64, 3) := dk_180 0 64 (dk_at dksX10_next_3 6 rfl rfl)
theorem dX10_next_80 : decode cX10_next 80 = .ok (.iconst 1, 1) := dk_4 (dk_at dksX10_next_3 9 rfl rfl)
theorem dX10_next_81 : decode cX10_next 81 = .ok (.iadd, 1) := dk_96 (dk_at dksX10_next_3 10 rfl rfl)
theorem dX10_next_82 : decode cX10_next 82 = .ok (.aload 6, 2) := dk_25 6 (dk_at dksX10_next_3 11 rfl rfl)
theorem dX10_next_84 : decode cX10_next 84 = .ok (.getfield 65, 3) := dk_180 0 65 (dk_at dksX10_next_3 13 rfl rfl)
theorem dX10_next_87 : decode cX10_next 87 = .ok (.invokevirtual 92, 3) := dk_182 0 92 (dk_at dksX10_next_3 16 rfl rfl)
theorem dX10_next_90 : decode cX10_next 90 = .ok (.iload_n 3, 1) := dk_29 (dk_at dksX10_next_3 19 rfl rfl)
theorem dX10_next_91 : decode cX10_next 91 = .ok (.iconst 1, 1) := dk_4 (dk_at dksX10_next_3 20 rfl rfl)
theorem dX10_next_92 : decode cX10_next 92 = .ok (.isub, 1) := dk_100 (dk_at dksX10_next_3 21 rfl rfl)
theorem dX10_next_93 : decode cX10_next 93 = .ok (.if_icmp .ne 6, 3) := dk_160 0 6 (dk_at dksX10_next_4 0 rfl rfl)
theorem dX10_next_96 : decode cX10_next 96 = .ok (.iload 4, 2) := dk_21 4 (dk_at dksX10_next_4 3 rfl rfl)
theorem dX10_next_98 : decode cX10_next 98 = .ok (.ireturn, 1) := dk_172 (dk_at dksX10_next_4 5 rfl rfl)
theorem dX10_next_99 : decode cX10_next 99 = .ok (.iinc 4 1, 3) := dk_132 4 1 (dk_at dksX10_next_4 6 rfl rfl)
theorem dX10_next_102 : decode cX10_next 102 = .ok (.goto (-90), 3) := dk_167 255 166 (dk_at dksX10_next_4 9 rfl rfl)
theorem dX10_next_105 : decode cX10_next 105 = .ok (.new 115, 3) := dk_187 0 115 (dk_at dksX10_next_4 12 rfl rfl)
theorem dX10_next_108 : decode cX10_next 108 = .ok (.dup, 1) := dk_89 (dk_at dksX10_next_4 15 rfl rfl)
theorem dX10_next_109 : decode cX10_next 109 = .ok (.invokespecial 117, 3) := dk_183 0 117 (dk_at dksX10_next_4 16 rfl rfl)
theorem dX10_next_112 : decode cX10_next 112 = .ok (.athrow, 1) := dk_191 (dk_at dksX10_next_4 19 rfl rfl)
abbrev cX10_count : ByteArray := prog_3_method_4_code
def yX10_count : MethodName := ⟨RX10, "count", "()I"⟩
def dkwX10_count_0 : List UInt8 := [42, 42, 180, 0, 9, 180, 0, 76, 42, 180, 0, 9, 180, 0, 79, 182, 0, 68, 172]
abbrev dktX10_count_0 : List UInt8 := dkwX10_count_0 ++ []
theorem dksX10_count_0 : cX10_count.data.toList.drop 0 = dktX10_count_0 := by decide +kernel
theorem dX10_count_0 : decode cX10_count 0 = .ok (.aload_n 0, 1) := dk_42 (dk_at dksX10_count_0 0 rfl rfl)
theorem dX10_count_1 : decode cX10_count 1 = .ok (.aload_n 0, 1) := dk_42 (dk_at dksX10_count_0 1 rfl rfl)
theorem dX10_count_2 : decode cX10_count 2 = .ok (.getfield 9, 3) := dk_180 0 9 (dk_at dksX10_count_0 2 rfl rfl)
theorem dX10_count_5 : decode cX10_count 5 = .ok (.getfield 76, 3) := dk_180 0 76 (dk_at dksX10_count_0 5 rfl rfl)
theorem dX10_count_8 : decode cX10_count 8 = .ok (.aload_n 0, 1) := dk_42 (dk_at dksX10_count_0 8 rfl rfl)
theorem dX10_count_9 : decode cX10_count 9 = .ok (.getfield 9, 3) := dk_180 0 9 (dk_at dksX10_count_0 9 rfl rfl)
theorem dX10_count_12 : decode cX10_count 12 = .ok (.getfield 79, 3) := dk_180 0 79 (dk_at dksX10_count_0 12 rfl rfl)
theorem dX10_count_15 : decode cX10_count 15 = .ok (.invokevirtual 68, 3) := dk_182 0 68 (dk_at dksX10_count_0 15 rfl rfl)
theorem dX10_count_18 : decode cX10_count 18 = .ok (.ireturn, 1) := dk_172 (dk_at dksX10_count_0 18 rfl rfl)
abbrev cX10_count_2 : ByteArray := prog_3_method_3_code
def yX10_count_2 : MethodName := ⟨RX10, "count", "(II)I"⟩
def dkwX10_count_2_4 : List UInt8 := [62, 167, 255, 184, 29, 172]
abbrev dktX10_count_2_4 : List UInt8 := dkwX10_count_2_4 ++ []
def dkwX10_count_2_3 : List UInt8 := [153, 0, 25, 29, 42, 25, 5, 180, 0, 64, 4, 96, 25, 5, 180, 0, 65, 182, 0, 68, 96, 184, 0, 72]
abbrev dktX10_count_2_3 : List UInt8 := dkwX10_count_2_3 ++ dktX10_count_2_4
def dkwX10_count_2_2 : List UInt8 := [180, 0, 19, 25, 5, 185, 0, 54, 2, 0, 153, 0, 39, 25, 5, 27, 28, 42, 180, 0, 9, 182, 0, 60]
abbrev dktX10_count_2_2 : List UInt8 := dkwX10_count_2_2 ++ dktX10_count_2_3
def dkwX10_count_2_1 : List UInt8 := [25, 4, 185, 0, 42, 1, 0, 153, 0, 68, 25, 4, 185, 0, 48, 1, 0, 192, 0, 52, 58, 5, 42]
abbrev dktX10_count_2_1 : List UInt8 := dkwX10_count_2_1 ++ dktX10_count_2_2
def dkwX10_count_2_0 : List UInt8 := [42, 27, 28, 182, 0, 32, 153, 0, 7, 4, 167, 0, 4, 3, 62, 42, 180, 0, 15, 182, 0, 36, 58, 4]
abbrev dktX10_count_2_0 : List UInt8 := dkwX10_count_2_0 ++ dktX10_count_2_1
theorem dksX10_count_2_0 : cX10_count_2.data.toList.drop 0 = dktX10_count_2_0 := by decide +kernel
theorem dksX10_count_2_1 : cX10_count_2.data.toList.drop 24 = dktX10_count_2_1 := dk_seg dksX10_count_2_0 24 rfl rfl
theorem dksX10_count_2_2 : cX10_count_2.data.toList.drop 47 = dktX10_count_2_2 := dk_seg dksX10_count_2_1 23 rfl rfl
theorem dksX10_count_2_3 : cX10_count_2.data.toList.drop 71 = dktX10_count_2_3 := dk_seg dksX10_count_2_2 24 rfl rfl
theorem dksX10_count_2_4 : cX10_count_2.data.toList.drop 95 = dktX10_count_2_4 := dk_seg dksX10_count_2_3 24 rfl rfl
theorem dX10_count_2_0 : decode cX10_count_2 0 = .ok (.aload_n 0, 1) := dk_42 (dk_at dksX10_count_2_0 0 rfl rfl)
theorem dX10_count_2_1 : decode cX10_count_2 1 = .ok (.iload_n 1, 1) := dk_27 (dk_at dksX10_count_2_0 1 rfl rfl)
theorem dX10_count_2_2 : decode cX10_count_2 2 = .ok (.iload_n 2, 1) := dk_28 (dk_at dksX10_count_2_0 2 rfl rfl)
theorem dX10_count_2_3 : decode cX10_count_2 3 = .ok (.invokevirtual 32, 3) := dk_182 0 32 (dk_at dksX10_count_2_0 3 rfl rfl)
theorem dX10_count_2_6 : decode cX10_count_2 6 = .ok (.ifCond .eq 7, 3) := dk_153 0 7 (dk_at dksX10_count_2_0 6 rfl rfl)
theorem dX10_count_2_9 : decode cX10_count_2 9 = .ok (.iconst 1, 1) := dk_4 (dk_at dksX10_count_2_0 9 rfl rfl)
theorem dX10_count_2_10 : decode cX10_count_2 10 = .ok (.goto 4, 3) := dk_167 0 4 (dk_at dksX10_count_2_0 10 rfl rfl)
theorem dX10_count_2_13 : decode cX10_count_2 13 = .ok (.iconst 0, 1) := dk_3 (dk_at dksX10_count_2_0 13 rfl rfl)
theorem dX10_count_2_14 : decode cX10_count_2 14 = .ok (.istore_n 3, 1) := dk_62 (dk_at dksX10_count_2_0 14 rfl rfl)
theorem dX10_count_2_15 : decode cX10_count_2 15 = .ok (.aload_n 0, 1) := dk_42 (dk_at dksX10_count_2_0 15 rfl rfl)
theorem dX10_count_2_16 : decode cX10_count_2 16 = .ok (.getfield 15, 3) := dk_180 0 15 (dk_at dksX10_count_2_0 16 rfl rfl)
theorem dX10_count_2_19 : decode cX10_count_2 19 = .ok (.invokevirtual 36, 3) := dk_182 0 36 (dk_at dksX10_count_2_0 19 rfl rfl)
theorem dX10_count_2_22 : decode cX10_count_2 22 = .ok (.astore 4, 2) := dk_58 4 (dk_at dksX10_count_2_0 22 rfl rfl)
theorem dX10_count_2_24 : decode cX10_count_2 24 = .ok (.aload 4, 2) := dk_25 4 (dk_at dksX10_count_2_1 0 rfl rfl)
theorem dX10_count_2_26 : decode cX10_count_2 26 = .ok (.invokeinterface 42 1, 5) := by decide +kernel
theorem dX10_count_2_31 : decode cX10_count_2 31 = .ok (.ifCond .eq 68, 3) := dk_153 0 68 (dk_at dksX10_count_2_1 7 rfl rfl)
theorem dX10_count_2_34 : decode cX10_count_2 34 = .ok (.aload 4, 2) := dk_25 4 (dk_at dksX10_count_2_1 10 rfl rfl)
theorem dX10_count_2_36 : decode cX10_count_2 36 = .ok (.invokeinterface 48 1, 5) := by decide +kernel
theorem dX10_count_2_41 : decode cX10_count_2 41 = .ok (.checkcast 52, 3) := dk_192 0 52 (dk_at dksX10_count_2_1 17 rfl rfl)
theorem dX10_count_2_44 : decode cX10_count_2 44 = .ok (.astore 5, 2) := dk_58 5 (dk_at dksX10_count_2_1 20 rfl rfl)
theorem dX10_count_2_46 : decode cX10_count_2 46 = .ok (.aload_n 0, 1) := dk_42 (dk_at dksX10_count_2_1 22 rfl rfl)
theorem dX10_count_2_47 : decode cX10_count_2 47 = .ok (.getfield 19, 3) := dk_180 0 19 (dk_at dksX10_count_2_2 0 rfl rfl)
theorem dX10_count_2_50 : decode cX10_count_2 50 = .ok (.aload 5, 2) := dk_25 5 (dk_at dksX10_count_2_2 3 rfl rfl)
theorem dX10_count_2_52 : decode cX10_count_2 52 = .ok (.invokeinterface 54 2, 5) := by decide +kernel
theorem dX10_count_2_57 : decode cX10_count_2 57 = .ok (.ifCond .eq 39, 3) := dk_153 0 39 (dk_at dksX10_count_2_2 10 rfl rfl)
theorem dX10_count_2_60 : decode cX10_count_2 60 = .ok (.aload 5, 2) := dk_25 5 (dk_at dksX10_count_2_2 13 rfl rfl)
theorem dX10_count_2_62 : decode cX10_count_2 62 = .ok (.iload_n 1, 1) := dk_27 (dk_at dksX10_count_2_2 15 rfl rfl)
theorem dX10_count_2_63 : decode cX10_count_2 63 = .ok (.iload_n 2, 1) := dk_28 (dk_at dksX10_count_2_2 16 rfl rfl)
theorem dX10_count_2_64 : decode cX10_count_2 64 = .ok (.aload_n 0, 1) := dk_42 (dk_at dksX10_count_2_2 17 rfl rfl)
theorem dX10_count_2_65 : decode cX10_count_2 65 = .ok (.getfield 9, 3) := dk_180 0 9 (dk_at dksX10_count_2_2 18 rfl rfl)
theorem dX10_count_2_68 : decode cX10_count_2 68 = .ok (.invokevirtual 60, 3) := dk_182 0 60 (dk_at dksX10_count_2_2 21 rfl rfl)
theorem dX10_count_2_71 : decode cX10_count_2 71 = .ok (.ifCond .eq 25, 3) := dk_153 0 25 (dk_at dksX10_count_2_3 0 rfl rfl)
theorem dX10_count_2_74 : decode cX10_count_2 74 = .ok (.iload_n 3, 1) := dk_29 (dk_at dksX10_count_2_3 3 rfl rfl)
theorem dX10_count_2_75 : decode cX10_count_2 75 = .ok (.aload_n 0, 1) := dk_42 (dk_at dksX10_count_2_3 4 rfl rfl)
theorem dX10_count_2_76 : decode cX10_count_2 76 = .ok (.aload 5, 2) := dk_25 5 (dk_at dksX10_count_2_3 5 rfl rfl)
theorem dX10_count_2_78 : decode cX10_count_2 78 = .ok (.getfield 64, 3) := dk_180 0 64 (dk_at dksX10_count_2_3 7 rfl rfl)
theorem dX10_count_2_81 : decode cX10_count_2 81 = .ok (.iconst 1, 1) := dk_4 (dk_at dksX10_count_2_3 10 rfl rfl)
theorem dX10_count_2_82 : decode cX10_count_2 82 = .ok (.iadd, 1) := dk_96 (dk_at dksX10_count_2_3 11 rfl rfl)
theorem dX10_count_2_83 : decode cX10_count_2 83 = .ok (.aload 5, 2) := dk_25 5 (dk_at dksX10_count_2_3 12 rfl rfl)
theorem dX10_count_2_85 : decode cX10_count_2 85 = .ok (.getfield 65, 3) := dk_180 0 65 (dk_at dksX10_count_2_3 14 rfl rfl)
theorem dX10_count_2_88 : decode cX10_count_2 88 = .ok (.invokevirtual 68, 3) := dk_182 0 68 (dk_at dksX10_count_2_3 17 rfl rfl)
theorem dX10_count_2_91 : decode cX10_count_2 91 = .ok (.iadd, 1) := dk_96 (dk_at dksX10_count_2_3 20 rfl rfl)
theorem dX10_count_2_92 : decode cX10_count_2 92 = .ok (.invokestatic 72, 3) := dk_184 0 72 (dk_at dksX10_count_2_3 21 rfl rfl)
theorem dX10_count_2_95 : decode cX10_count_2 95 = .ok (.istore_n 3, 1) := dk_62 (dk_at dksX10_count_2_4 0 rfl rfl)
theorem dX10_count_2_96 : decode cX10_count_2 96 = .ok (.goto (-72), 3) := dk_167 255 184 (dk_at dksX10_count_2_4 1 rfl rfl)
theorem dX10_count_2_99 : decode cX10_count_2 99 = .ok (.iload_n 3, 1) := dk_29 (dk_at dksX10_count_2_4 4 rfl rfl)
theorem dX10_count_2_100 : decode cX10_count_2 100 = .ok (.ireturn, 1) := dk_172 (dk_at dksX10_count_2_4 5 rfl rfl)
abbrev cX10_countBack : ByteArray := prog_3_method_6_code
def yX10_countBack : MethodName := ⟨RX10, "countBack", "()I"⟩
def dkwX10_countBack_0 : List UInt8 := [42, 42, 180, 0, 9, 180, 0, 23, 42, 180, 0, 9, 180, 0, 29, 182, 0, 89, 172]
abbrev dktX10_countBack_0 : List UInt8 := dkwX10_countBack_0 ++ []
theorem dksX10_countBack_0 : cX10_countBack.data.toList.drop 0 = dktX10_countBack_0 := by decide +kernel
theorem dX10_countBack_0 : decode cX10_countBack 0 = .ok (.aload_n 0, 1) := dk_42 (dk_at dksX10_countBack_0 0 rfl rfl)
theorem dX10_countBack_1 : decode cX10_countBack 1 = .ok (.aload_n 0, 1) := dk_42 (dk_at dksX10_countBack_0 1 rfl rfl)
theorem dX10_countBack_2 : decode cX10_countBack 2 = .ok (.getfield 9, 3) := dk_180 0 9 (dk_at dksX10_countBack_0 2 rfl rfl)
theorem dX10_countBack_5 : decode cX10_countBack 5 = .ok (.getfield 23, 3) := dk_180 0 23 (dk_at dksX10_countBack_0 5 rfl rfl)
theorem dX10_countBack_8 : decode cX10_countBack 8 = .ok (.aload_n 0, 1) := dk_42 (dk_at dksX10_countBack_0 8 rfl rfl)
theorem dX10_countBack_9 : decode cX10_countBack 9 = .ok (.getfield 9, 3) := dk_180 0 9 (dk_at dksX10_countBack_0 9 rfl rfl)
theorem dX10_countBack_12 : decode cX10_countBack 12 = .ok (.getfield 29, 3) := dk_180 0 29 (dk_at dksX10_countBack_0 12 rfl rfl)
theorem dX10_countBack_15 : decode cX10_countBack 15 = .ok (.invokevirtual 89, 3) := dk_182 0 89 (dk_at dksX10_countBack_0 15 rfl rfl)
theorem dX10_countBack_18 : decode cX10_countBack 18 = .ok (.ireturn, 1) := dk_172 (dk_at dksX10_countBack_0 18 rfl rfl)
abbrev cX10_countBack_2 : ByteArray := prog_3_method_5_code
def yX10_countBack_2 : MethodName := ⟨RX10, "countBack", "(II)I"⟩
def dkwX10_countBack_2_5 : List UInt8 := [172]
abbrev dktX10_countBack_2_5 : List UInt8 := dkwX10_countBack_2_5 ++ []
def dkwX10_countBack_2_4 : List UInt8 := [25, 5, 180, 0, 85, 4, 100, 25, 5, 180, 0, 86, 182, 0, 89, 96, 184, 0, 72, 62, 167, 255, 184, 29]
abbrev dktX10_countBack_2_4 : List UInt8 := dkwX10_countBack_2_4 ++ dktX10_countBack_2_5
def dkwX10_countBack_2_3 : List UInt8 := [185, 0, 54, 2, 0, 153, 0, 39, 25, 5, 27, 28, 42, 180, 0, 9, 182, 0, 82, 153, 0, 25, 29, 42]
abbrev dktX10_countBack_2_3 : List UInt8 := dkwX10_countBack_2_3 ++ dktX10_countBack_2_4
def dkwX10_countBack_2_2 : List UInt8 := [153, 0, 68, 25, 4, 185, 0, 48, 1, 0, 192, 0, 52, 58, 5, 42, 180, 0, 19, 25, 5]
abbrev dktX10_countBack_2_2 : List UInt8 := dkwX10_countBack_2_2 ++ dktX10_countBack_2_3
def dkwX10_countBack_2_1 : List UInt8 := [4, 167, 0, 4, 3, 62, 42, 180, 0, 15, 182, 0, 36, 58, 4, 25, 4, 185, 0, 42, 1, 0]
abbrev dktX10_countBack_2_1 : List UInt8 := dkwX10_countBack_2_1 ++ dktX10_countBack_2_2
def dkwX10_countBack_2_0 : List UInt8 := [27, 42, 180, 0, 9, 180, 0, 76, 4, 100, 160, 0, 18, 28, 42, 180, 0, 9, 180, 0, 79, 160, 0, 7]
abbrev dktX10_countBack_2_0 : List UInt8 := dkwX10_countBack_2_0 ++ dktX10_countBack_2_1
theorem dksX10_countBack_2_0 : cX10_countBack_2.data.toList.drop 0 = dktX10_countBack_2_0 := by decide +kernel
theorem dksX10_countBack_2_1 : cX10_countBack_2.data.toList.drop 24 = dktX10_countBack_2_1 := dk_seg dksX10_countBack_2_0 24 rfl rfl
theorem dksX10_countBack_2_2 : cX10_countBack_2.data.toList.drop 46 = dktX10_countBack_2_2 := dk_seg dksX10_countBack_2_1 22 rfl rfl
theorem dksX10_countBack_2_3 : cX10_countBack_2.data.toList.drop 67 = dktX10_countBack_2_3 := dk_seg dksX10_countBack_2_2 21 rfl rfl
theorem dksX10_countBack_2_4 : cX10_countBack_2.data.toList.drop 91 = dktX10_countBack_2_4 := dk_seg dksX10_countBack_2_3 24 rfl rfl
theorem dksX10_countBack_2_5 : cX10_countBack_2.data.toList.drop 115 = dktX10_countBack_2_5 := dk_seg dksX10_countBack_2_4 24 rfl rfl
theorem dX10_countBack_2_0 : decode cX10_countBack_2 0 = .ok (.iload_n 1, 1) := dk_27 (dk_at dksX10_countBack_2_0 0 rfl rfl)
theorem dX10_countBack_2_1 : decode cX10_countBack_2 1 = .ok (.aload_n 0, 1) := dk_42 (dk_at dksX10_countBack_2_0 1 rfl rfl)
theorem dX10_countBack_2_2 : decode cX10_countBack_2 2 = .ok (.getfield 9, 3) := dk_180 0 9 (dk_at dksX10_countBack_2_0 2 rfl rfl)
theorem dX10_countBack_2_5 : decode cX10_countBack_2 5 = .ok (.getfield 76, 3) := dk_180 0 76 (dk_at dksX10_countBack_2_0 5 rfl rfl)
theorem dX10_countBack_2_8 : decode cX10_countBack_2 8 = .ok (.iconst 1, 1) := dk_4 (dk_at dksX10_countBack_2_0 8 rfl rfl)
theorem dX10_countBack_2_9 : decode cX10_countBack_2 9 = .ok (.isub, 1) := dk_100 (dk_at dksX10_countBack_2_0 9 rfl rfl)
theorem dX10_countBack_2_10 : decode cX10_countBack_2 10 = .ok (.if_icmp .ne 18, 3) := dk_160 0 18 (dk_at dksX10_countBack_2_0 10 rfl rfl)
theorem dX10_countBack_2_13 : decode cX10_countBack_2 13 = .ok (.iload_n 2, 1) := dk_28 (dk_at dksX10_countBack_2_0 13 rfl rfl)
theorem dX10_countBack_2_14 : decode cX10_countBack_2 14 = .ok (.aload_n 0, 1) := dk_42 (dk_at dksX10_countBack_2_0 14 rfl rfl)
theorem dX10_countBack_2_15 : decode cX10_countBack_2 15 = .ok (.getfield 9, 3) := dk_180 0 9 (dk_at dksX10_countBack_2_0 15 rfl rfl)
theorem dX10_countBack_2_18 : decode cX10_countBack_2 18 = .ok (.getfield 79, 3) := dk_180 0 79 (dk_at dksX10_countBack_2_0 18 rfl rfl)
theorem dX10_countBack_2_21 : decode cX10_countBack_2 21 = .ok (.if_icmp .ne 7, 3) := dk_160 0 7 (dk_at dksX10_countBack_2_0 21 rfl rfl)
theorem dX10_countBack_2_24 : decode cX10_countBack_2 24 = .ok (.iconst 1, 1) := dk_4 (dk_at dksX10_countBack_2_1 0 rfl rfl)
theorem dX10_countBack_2_25 : decode cX10_countBack_2 25 = .ok (.goto 4, 3) := dk_167 0 4 (dk_at dksX10_countBack_2_1 1 rfl rfl)
theorem dX10_countBack_2_28 : decode cX10_countBack_2 28 = .ok (.iconst 0, 1) := dk_3 (dk_at dksX10_countBack_2_1 4 rfl rfl)
theorem dX10_countBack_2_29 : decode cX10_countBack_2 29 = .ok (.istore_n 3, 1) := dk_62 (dk_at dksX10_countBack_2_1 5 rfl rfl)
theorem dX10_countBack_2_30 : decode cX10_countBack_2 30 = .ok (.aload_n 0, 1) := dk_42 (dk_at dksX10_countBack_2_1 6 rfl rfl)
theorem dX10_countBack_2_31 : decode cX10_countBack_2 31 = .ok (.getfield 15, 3) := dk_180 0 15 (dk_at dksX10_countBack_2_1 7 rfl rfl)
theorem dX10_countBack_2_34 : decode cX10_countBack_2 34 = .ok (.invokevirtual 36, 3) := dk_182 0 36 (dk_at dksX10_countBack_2_1 10 rfl rfl)
theorem dX10_countBack_2_37 : decode cX10_countBack_2 37 = .ok (.astore 4, 2) := dk_58 4 (dk_at dksX10_countBack_2_1 13 rfl rfl)
theorem dX10_countBack_2_39 : decode cX10_countBack_2 39 = .ok (.aload 4, 2) := dk_25 4 (dk_at dksX10_countBack_2_1 15 rfl rfl)
theorem dX10_countBack_2_41 : decode cX10_countBack_2 41 = .ok (.invokeinterface 42 1, 5) := by decide +kernel
theorem dX10_countBack_2_46 : decode cX10_countBack_2 46 = .ok (.ifCond .eq 68, 3) := dk_153 0 68 (dk_at dksX10_countBack_2_2 0 rfl rfl)
theorem dX10_countBack_2_49 : decode cX10_countBack_2 49 = .ok (.aload 4, 2) := dk_25 4 (dk_at dksX10_countBack_2_2 3 rfl rfl)
theorem dX10_countBack_2_51 : decode cX10_countBack_2 51 = .ok (.invokeinterface 48 1, 5) := by decide +kernel
theorem dX10_countBack_2_56 : decode cX10_countBack_2 56 = .ok (.checkcast 52, 3) := dk_192 0 52 (dk_at dksX10_countBack_2_2 10 rfl rfl)
theorem dX10_countBack_2_59 : decode cX10_countBack_2 59 = .ok (.astore 5, 2) := dk_58 5 (dk_at dksX10_countBack_2_2 13 rfl rfl)
theorem dX10_countBack_2_61 : decode cX10_countBack_2 61 = .ok (.aload_n 0, 1) := dk_42 (dk_at dksX10_countBack_2_2 15 rfl rfl)
theorem dX10_countBack_2_62 : decode cX10_countBack_2 62 = .ok (.getfield 19, 3) := dk_180 0 19 (dk_at dksX10_countBack_2_2 16 rfl rfl)
theorem dX10_countBack_2_65 : decode cX10_countBack_2 65 = .ok (.aload 5, 2) := dk_25 5 (dk_at dksX10_countBack_2_2 19 rfl rfl)
theorem dX10_countBack_2_67 : decode cX10_countBack_2 67 = .ok (.invokeinterface 54 2, 5) := by decide +kernel
theorem dX10_countBack_2_72 : decode cX10_countBack_2 72 = .ok (.ifCond .eq 39, 3) := dk_153 0 39 (dk_at dksX10_countBack_2_3 5 rfl rfl)
theorem dX10_countBack_2_75 : decode cX10_countBack_2 75 = .ok (.aload 5, 2) := dk_25 5 (dk_at dksX10_countBack_2_3 8 rfl rfl)
theorem dX10_countBack_2_77 : decode cX10_countBack_2 77 = .ok (.iload_n 1, 1) := dk_27 (dk_at dksX10_countBack_2_3 10 rfl rfl)
theorem dX10_countBack_2_78 : decode cX10_countBack_2 78 = .ok (.iload_n 2, 1) := dk_28 (dk_at dksX10_countBack_2_3 11 rfl rfl)
theorem dX10_countBack_2_79 : decode cX10_countBack_2 79 = .ok (.aload_n 0, 1) := dk_42 (dk_at dksX10_countBack_2_3 12 rfl rfl)
theorem dX10_countBack_2_80 : decode cX10_countBack_2 80 = .ok (.getfield 9, 3) := dk_180 0 9 (dk_at dksX10_countBack_2_3 13 rfl rfl)
theorem dX10_countBack_2_83 : decode cX10_countBack_2 83 = .ok (.invokevirtual 82, 3) := dk_182 0 82 (dk_at dksX10_countBack_2_3 16 rfl rfl)
theorem dX10_countBack_2_86 : decode cX10_countBack_2 86 = .ok (.ifCond .eq 25, 3) := dk_153 0 25 (dk_at dksX10_countBack_2_3 19 rfl rfl)
theorem dX10_countBack_2_89 : decode cX10_countBack_2 89 = .ok (.iload_n 3, 1) := dk_29 (dk_at dksX10_countBack_2_3 22 rfl rfl)
theorem dX10_countBack_2_90 : decode cX10_countBack_2 90 = .ok (.aload_n 0, 1) := dk_42 (dk_at dksX10_countBack_2_3 23 rfl rfl)
theorem dX10_countBack_2_91 : decode cX10_countBack_2 91 = .ok (.aload 5, 2) := dk_25 5 (dk_at dksX10_countBack_2_4 0 rfl rfl)
theorem dX10_countBack_2_93 : decode cX10_countBack_2 93 = .ok (.getfield 85, 3) := dk_180 0 85 (dk_at dksX10_countBack_2_4 2 rfl rfl)
theorem dX10_countBack_2_96 : decode cX10_countBack_2 96 = .ok (.iconst 1, 1) := dk_4 (dk_at dksX10_countBack_2_4 5 rfl rfl)
theorem dX10_countBack_2_97 : decode cX10_countBack_2 97 = .ok (.isub, 1) := dk_100 (dk_at dksX10_countBack_2_4 6 rfl rfl)
theorem dX10_countBack_2_98 : decode cX10_countBack_2 98 = .ok (.aload 5, 2) := dk_25 5 (dk_at dksX10_countBack_2_4 7 rfl rfl)
theorem dX10_countBack_2_100 : decode cX10_countBack_2 100 = .ok (.getfield 86, 3) := dk_180 0 86 (dk_at dksX10_countBack_2_4 9 rfl rfl)
theorem dX10_countBack_2_103 : decode cX10_countBack_2 103 = .ok (.invokevirtual 89, 3) := dk_182 0 89 (dk_at dksX10_countBack_2_4 12 rfl rfl)
theorem dX10_countBack_2_106 : decode cX10_countBack_2 106 = .ok (.iadd, 1) := dk_96 (dk_at dksX10_countBack_2_4 15 rfl rfl)
theorem dX10_countBack_2_107 : decode cX10_countBack_2 107 = .ok (.invokestatic 72, 3) := dk_184 0 72 (dk_at dksX10_countBack_2_4 16 rfl rfl)
theorem dX10_countBack_2_110 : decode cX10_countBack_2 110 = .ok (.istore_n 3, 1) := dk_62 (dk_at dksX10_countBack_2_4 19 rfl rfl)
theorem dX10_countBack_2_111 : decode cX10_countBack_2 111 = .ok (.goto (-72), 3) := dk_167 255 184 (dk_at dksX10_countBack_2_4 20 rfl rfl)
theorem dX10_countBack_2_114 : decode cX10_countBack_2 114 = .ok (.iload_n 3, 1) := dk_29 (dk_at dksX10_countBack_2_4 23 rfl rfl)
theorem dX10_countBack_2_115 : decode cX10_countBack_2 115 = .ok (.ireturn, 1) := dk_172 (dk_at dksX10_countBack_2_5 0 rfl rfl)
abbrev cX10_doesJoin : ByteArray := prog_3_method_16_code
def yX10_doesJoin : MethodName := ⟨RX10, "doesJoin", "(Ljava/util/LinkedList;)Z"⟩
def dkwX10_doesJoin_6 : List UInt8 := [167, 0, 4, 3, 172]
abbrev dktX10_doesJoin_6 : List UInt8 := dkwX10_doesJoin_6 ++ []
def dkwX10_doesJoin_5 : List UInt8 := [25, 7, 180, 0, 65, 62, 167, 255, 161, 21, 4, 153, 0, 16, 42, 28, 29, 182, 0, 32, 153, 0, 7, 4]
abbrev dktX10_doesJoin_5 : List UInt8 := dkwX10_doesJoin_5 ++ dktX10_doesJoin_6
def dkwX10_doesJoin_4 : List UInt8 := [180, 0, 86, 29, 160, 0, 7, 4, 167, 0, 4, 3, 126, 54, 4, 25, 7, 180, 0, 64, 4, 96, 61]
abbrev dktX10_doesJoin_4 : List UInt8 := dkwX10_doesJoin_4 ++ dktX10_doesJoin_5
def dkwX10_doesJoin_3 : List UInt8 := [180, 0, 19, 25, 7, 185, 0, 54, 2, 0, 153, 0, 25, 25, 7, 180, 0, 85, 28, 160, 0, 16, 25, 7]
abbrev dktX10_doesJoin_3 : List UInt8 := dkwX10_doesJoin_3 ++ dktX10_doesJoin_4
def dkwX10_doesJoin_2 : List UInt8 := [182, 0, 179, 54, 6, 42, 180, 0, 15, 21, 6, 182, 0, 111, 192, 0, 52, 58, 7, 21, 4, 42]
abbrev dktX10_doesJoin_2 : List UInt8 := dkwX10_doesJoin_2 ++ dktX10_doesJoin_3
def dkwX10_doesJoin_1 : List UInt8 := [58, 5, 25, 5, 185, 0, 42, 1, 0, 153, 0, 91, 25, 5, 185, 0, 48, 1, 0, 192, 0, 102]
abbrev dktX10_doesJoin_1 : List UInt8 := dkwX10_doesJoin_1 ++ dktX10_doesJoin_2
def dkwX10_doesJoin_0 : List UInt8 := [42, 180, 0, 9, 180, 0, 76, 61, 42, 180, 0, 9, 180, 0, 79, 62, 4, 54, 4, 43, 182, 0, 178]
abbrev dktX10_doesJoin_0 : List UInt8 := dkwX10_doesJoin_0 ++ dktX10_doesJoin_1
theorem dksX10_doesJoin_0 : cX10_doesJoin.data.toList.drop 0 = dktX10_doesJoin_0 := by decide +kernel
theorem dksX10_doesJoin_1 : cX10_doesJoin.data.toList.drop 23 = dktX10_doesJoin_1 := dk_seg dksX10_doesJoin_0 23 rfl rfl
theorem dksX10_doesJoin_2 : cX10_doesJoin.data.toList.drop 45 = dktX10_doesJoin_2 := dk_seg dksX10_doesJoin_1 22 rfl rfl
theorem dksX10_doesJoin_3 : cX10_doesJoin.data.toList.drop 67 = dktX10_doesJoin_3 := dk_seg dksX10_doesJoin_2 22 rfl rfl
theorem dksX10_doesJoin_4 : cX10_doesJoin.data.toList.drop 91 = dktX10_doesJoin_4 := dk_seg dksX10_doesJoin_3 24 rfl rfl
theorem dksX10_doesJoin_5 : cX10_doesJoin.data.toList.drop 114 = dktX10_doesJoin_5 := dk_seg dksX10_doesJoin_4 23 rfl rfl
theorem dksX10_doesJoin_6 : cX10_doesJoin.data.toList.drop 138 = dktX10_doesJoin_6 := dk_seg dksX10_doesJoin_5 24 rfl rfl
theorem dX10_doesJoin_0 : decode cX10_doesJoin 0 = .ok (.aload_n 0, 1) := dk_42 (dk_at dksX10_doesJoin_0 0 rfl rfl)
theorem dX10_doesJoin_1 : decode cX10_doesJoin 1 = .ok (.getfield 9, 3) := dk_180 0 9 (dk_at dksX10_doesJoin_0 1 rfl rfl)
theorem dX10_doesJoin_4 : decode cX10_doesJoin 4 = .ok (.getfield 76, 3) := dk_180 0 76 (dk_at dksX10_doesJoin_0 4 rfl rfl)
theorem dX10_doesJoin_7 : decode cX10_doesJoin 7 = .ok (.istore_n 2, 1) := dk_61 (dk_at dksX10_doesJoin_0 7 rfl rfl)
theorem dX10_doesJoin_8 : decode cX10_doesJoin 8 = .ok (.aload_n 0, 1) := dk_42 (dk_at dksX10_doesJoin_0 8 rfl rfl)
theorem dX10_doesJoin_9 : decode cX10_doesJoin 9 = .ok (.getfield 9, 3) := dk_180 0 9 (dk_at dksX10_doesJoin_0 9 rfl rfl)
theorem dX10_doesJoin_12 : decode cX10_doesJoin 12 = .ok (.getfield 79, 3) := dk_180 0 79 (dk_at dksX10_doesJoin_0 12 rfl rfl)
theorem dX10_doesJoin_15 : decode cX10_doesJoin 15 = .ok (.istore_n 3, 1) := dk_62 (dk_at dksX10_doesJoin_0 15 rfl rfl)
theorem dX10_doesJoin_16 : decode cX10_doesJoin 16 = .ok (.iconst 1, 1) := dk_4 (dk_at dksX10_doesJoin_0 16 rfl rfl)
theorem dX10_doesJoin_17 : decode cX10_doesJoin 17 = .ok (.istore 4, 2) := dk_54 4 (dk_at dksX10_doesJoin_0 17 rfl rfl)
theorem dX10_doesJoin_19 : decode cX10_doesJoin 19 = .ok (.aload_n 1, 1) := dk_43 (dk_at dksX10_doesJoin_0 19 rfl rfl)
theorem dX10_doesJoin_20 : decode cX10_doesJoin 20 = .ok (.invokevirtual 178, 3) := dk_182 0 178 (dk_at dksX10_doesJoin_0 20 rfl rfl)
theorem dX10_doesJoin_23 : decode cX10_doesJoin 23 = .ok (.astore 5, 2) := dk_58 5 (dk_at dksX10_doesJoin_1 0 rfl rfl)
theorem dX10_doesJoin_25 : decode cX10_doesJoin 25 = .ok (.aload 5, 2) := dk_25 5 (dk_at dksX10_doesJoin_1 2 rfl rfl)
theorem dX10_doesJoin_27 : decode cX10_doesJoin 27 = .ok (.invokeinterface 42 1, 5) := by decide +kernel
theorem dX10_doesJoin_32 : decode cX10_doesJoin 32 = .ok (.ifCond .eq 91, 3) := dk_153 0 91 (dk_at dksX10_doesJoin_1 9 rfl rfl)
theorem dX10_doesJoin_35 : decode cX10_doesJoin 35 = .ok (.aload 5, 2) := dk_25 5 (dk_at dksX10_doesJoin_1 12 rfl rfl)
theorem dX10_doesJoin_37 : decode cX10_doesJoin 37 = .ok (.invokeinterface 48 1, 5) := by decide +kernel
theorem dX10_doesJoin_42 : decode cX10_doesJoin 42 = .ok (.checkcast 102, 3) := dk_192 0 102 (dk_at dksX10_doesJoin_1 19 rfl rfl)
theorem dX10_doesJoin_45 : decode cX10_doesJoin 45 = .ok (.invokevirtual 179, 3) := dk_182 0 179 (dk_at dksX10_doesJoin_2 0 rfl rfl)
theorem dX10_doesJoin_48 : decode cX10_doesJoin 48 = .ok (.istore 6, 2) := dk_54 6 (dk_at dksX10_doesJoin_2 3 rfl rfl)
theorem dX10_doesJoin_50 : decode cX10_doesJoin 50 = .ok (.aload_n 0, 1) := dk_42 (dk_at dksX10_doesJoin_2 5 rfl rfl)
theorem dX10_doesJoin_51 : decode cX10_doesJoin 51 = .ok (.getfield 15, 3) := dk_180 0 15 (dk_at dksX10_doesJoin_2 6 rfl rfl)
theorem dX10_doesJoin_54 : decode cX10_doesJoin 54 = .ok (.iload 6, 2) := dk_21 6 (dk_at dksX10_doesJoin_2 9 rfl rfl)
theorem dX10_doesJoin_56 : decode cX10_doesJoin 56 = .ok (.invokevirtual 111, 3) := dk_182 0 111 (dk_at dksX10_doesJoin_2 11 rfl rfl)
theorem dX10_doesJoin_59 : decode cX10_doesJoin 59 = .ok (.checkcast 52, 3) := dk_192 0 52 (dk_at dksX10_doesJoin_2 14 rfl rfl)
theorem dX10_doesJoin_62 : decode cX10_doesJoin 62 = .ok (.astore 7, 2) := dk_58 7 (dk_at dksX10_doesJoin_2 17 rfl rfl)
theorem dX10_doesJoin_64 : decode cX10_doesJoin 64 = .ok (.iload 4, 2) := dk_21 4 (dk_at dksX10_doesJoin_2 19 rfl rfl)
theorem dX10_doesJoin_66 : decode cX10_doesJoin 66 = .ok (.aload_n 0, 1) := dk_42 (dk_at dksX10_doesJoin_2 21 rfl rfl)
theorem dX10_doesJoin_67 : decode cX10_doesJoin 67 = .ok (.getfield 19, 3) := dk_180 0 19 (dk_at dksX10_doesJoin_3 0 rfl rfl)
theorem dX10_doesJoin_70 : decode cX10_doesJoin 70 = .ok (.aload 7, 2) := dk_25 7 (dk_at dksX10_doesJoin_3 3 rfl rfl)
theorem dX10_doesJoin_72 : decode cX10_doesJoin 72 = .ok (.invokeinterface 54 2, 5) := by decide +kernel
theorem dX10_doesJoin_77 : decode cX10_doesJoin 77 = .ok (.ifCond .eq 25, 3) := dk_153 0 25 (dk_at dksX10_doesJoin_3 10 rfl rfl)
theorem dX10_doesJoin_80 : decode cX10_doesJoin 80 = .ok (.aload 7, 2) := dk_25 7 (dk_at dksX10_doesJoin_3 13 rfl rfl)
theorem dX10_doesJoin_82 : decode cX10_doesJoin 82 = .ok (.getfield 85, 3) := dk_180 0 85 (dk_at dksX10_doesJoin_3 15 rfl rfl)
theorem dX10_doesJoin_85 : decode cX10_doesJoin 85 = .ok (.iload_n 2, 1) := dk_28 (dk_at dksX10_doesJoin_3 18 rfl rfl)
theorem dX10_doesJoin_86 : decode cX10_doesJoin 86 = .ok (.if_icmp .ne 16, 3) := dk_160 0 16 (dk_at dksX10_doesJoin_3 19 rfl rfl)
theorem dX10_doesJoin_89 : decode cX10_doesJoin 89 = .ok (.aload 7, 2) := dk_25 7 (dk_at dksX10_doesJoin_3 22 rfl rfl)
theorem dX10_doesJoin_91 : decode cX10_doesJoin 91 = .ok (.getfield 86, 3) := dk_180 0 86 (dk_at dksX10_doesJoin_4 0 rfl rfl)
theorem dX10_doesJoin_94 : decode cX10_doesJoin 94 = .ok (.iload_n 3, 1) := dk_29 (dk_at dksX10_doesJoin_4 3 rfl rfl)
theorem dX10_doesJoin_95 : decode cX10_doesJoin 95 = .ok (.if_icmp .ne 7, 3) := dk_160 0 7 (dk_at dksX10_doesJoin_4 4 rfl rfl)
theorem dX10_doesJoin_98 : decode cX10_doesJoin 98 = .ok (.iconst 1, 1) := dk_4 (dk_at dksX10_doesJoin_4 7 rfl rfl)
theorem dX10_doesJoin_99 : decode cX10_doesJoin 99 = .ok (.goto 4, 3) := dk_167 0 4 (dk_at dksX10_doesJoin_4 8 rfl rfl)
theorem dX10_doesJoin_102 : decode cX10_doesJoin 102 = .ok (.iconst 0, 1) := dk_3 (dk_at dksX10_doesJoin_4 11 rfl rfl)
theorem dX10_doesJoin_103 : decode cX10_doesJoin 103 = .ok (.iand, 1) := dk_126 (dk_at dksX10_doesJoin_4 12 rfl rfl)
theorem dX10_doesJoin_104 : decode cX10_doesJoin 104 = .ok (.istore 4, 2) := dk_54 4 (dk_at dksX10_doesJoin_4 13 rfl rfl)
theorem dX10_doesJoin_106 : decode cX10_doesJoin 106 = .ok (.aload 7, 2) := dk_25 7 (dk_at dksX10_doesJoin_4 15 rfl rfl)
theorem dX10_doesJoin_108 : decode cX10_doesJoin 108 = .ok (.getfield 64, 3) := dk_180 0 64 (dk_at dksX10_doesJoin_4 17 rfl rfl)
theorem dX10_doesJoin_111 : decode cX10_doesJoin 111 = .ok (.iconst 1, 1) := dk_4 (dk_at dksX10_doesJoin_4 20 rfl rfl)
theorem dX10_doesJoin_112 : decode cX10_doesJoin 112 = .ok (.iadd, 1) := dk_96 (dk_at dksX10_doesJoin_4 21 rfl rfl)
theorem dX10_doesJoin_113 : decode cX10_doesJoin 113 = .ok (.istore_n 2, 1) := dk_61 (dk_at dksX10_doesJoin_4 22 rfl rfl)
theorem dX10_doesJoin_114 : decode cX10_doesJoin 114 = .ok (.aload 7, 2) := dk_25 7 (dk_at dksX10_doesJoin_5 0 rfl rfl)
theorem dX10_doesJoin_116 : decode cX10_doesJoin 116 = .ok (.getfield 65, 3) := dk_180 0 65 (dk_at dksX10_doesJoin_5 2 rfl rfl)
theorem dX10_doesJoin_119 : decode cX10_doesJoin 119 = .ok (.istore_n 3, 1) := dk_62 (dk_at dksX10_doesJoin_5 5 rfl rfl)
theorem dX10_doesJoin_120 : decode cX10_doesJoin 120 = .ok (.goto (-95), 3) := dk_167 255 161 (dk_at dksX10_doesJoin_5 6 rfl rfl)
theorem dX10_doesJoin_123 : decode cX10_doesJoin 123 = .ok (.iload 4, 2) := dk_21 4 (dk_at dksX10_doesJoin_5 9 rfl rfl)
theorem dX10_doesJoin_125 : decode cX10_doesJoin 125 = .ok (.ifCond .eq 16, 3) := dk_153 0 16 (dk_at dksX10_doesJoin_5 11 rfl rfl)
theorem dX10_doesJoin_128 : decode cX10_doesJoin 128 = .ok (.aload_n 0, 1) := dk_42 (dk_at dksX10_doesJoin_5 14 rfl rfl)
theorem dX10_doesJoin_129 : decode cX10_doesJoin 129 = .ok (.iload_n 2, 1) := dk_28 (dk_at dksX10_doesJoin_5 15 rfl rfl)
theorem dX10_doesJoin_130 : decode cX10_doesJoin 130 = .ok (.iload_n 3, 1) := dk_29 (dk_at dksX10_doesJoin_5 16 rfl rfl)
theorem dX10_doesJoin_131 : decode cX10_doesJoin 131 = .ok (.invokevirtual 32, 3) := dk_182 0 32 (dk_at dksX10_doesJoin_5 17 rfl rfl)
theorem dX10_doesJoin_134 : decode cX10_doesJoin 134 = .ok (.ifCond .eq 7, 3) := dk_153 0 7 (dk_at dksX10_doesJoin_5 20 rfl rfl)
theorem dX10_doesJoin_137 : decode cX10_doesJoin 137 = .ok (.iconst 1, 1) := dk_4 (dk_at dksX10_doesJoin_5 23 rfl rfl)
theorem dX10_doesJoin_138 : decode cX10_doesJoin 138 = .ok (.goto 4, 3) := dk_167 0 4 (dk_at dksX10_doesJoin_6 0 rfl rfl)
theorem dX10_doesJoin_141 : decode cX10_doesJoin 141 = .ok (.iconst 0, 1) := dk_3 (dk_at dksX10_doesJoin_6 3 rfl rfl)
theorem dX10_doesJoin_142 : decode cX10_doesJoin 142 = .ok (.ireturn, 1) := dk_172 (dk_at dksX10_doesJoin_6 4 rfl rfl)
abbrev cX10_needed : ByteArray := prog_3_method_11_code
def yX10_needed : MethodName := ⟨RX10, "needed", "()I"⟩
def dkwX10_needed_3 : List UInt8 := [96, 182, 0, 144, 62, 167, 255, 238, 42, 182, 0, 147, 154, 0, 7, 3, 167, 0, 4, 28, 172]
abbrev dktX10_needed_3 : List UInt8 := dkwX10_needed_3 ++ []
def dkwX10_needed_2 : List UInt8 := [182, 0, 132, 3, 61, 43, 3, 182, 0, 144, 62, 29, 155, 0, 20, 28, 4, 29, 120, 128, 61, 43, 29, 4]
abbrev dktX10_needed_2 : List UInt8 := dkwX10_needed_2 ++ dktX10_needed_3
def dkwX10_needed_1 : List UInt8 := [180, 0, 9, 180, 0, 76, 42, 180, 0, 9, 180, 0, 79, 187, 0, 119, 89, 16, 12, 183, 0, 139, 43]
abbrev dktX10_needed_1 : List UInt8 := dkwX10_needed_1 ++ dktX10_needed_2
def dkwX10_needed_0 : List UInt8 := [187, 0, 119, 89, 16, 12, 183, 0, 139, 76, 43, 3, 42, 180, 0, 15, 182, 0, 124, 182, 0, 141, 42, 42]
abbrev dktX10_needed_0 : List UInt8 := dkwX10_needed_0 ++ dktX10_needed_1
theorem dksX10_needed_0 : cX10_needed.data.toList.drop 0 = dktX10_needed_0 := by decide +kernel
theorem dksX10_needed_1 : cX10_needed.data.toList.drop 24 = dktX10_needed_1 := dk_seg dksX10_needed_0 24 rfl rfl
theorem dksX10_needed_2 : cX10_needed.data.toList.drop 47 = dktX10_needed_2 := dk_seg dksX10_needed_1 23 rfl rfl
theorem dksX10_needed_3 : cX10_needed.data.toList.drop 71 = dktX10_needed_3 := dk_seg dksX10_needed_2 24 rfl rfl
theorem dX10_needed_0 : decode cX10_needed 0 = .ok (.new 119, 3) := dk_187 0 119 (dk_at dksX10_needed_0 0 rfl rfl)
theorem dX10_needed_3 : decode cX10_needed 3 = .ok (.dup, 1) := dk_89 (dk_at dksX10_needed_0 3 rfl rfl)
theorem dX10_needed_4 : decode cX10_needed 4 = .ok (.bipush 12, 2) := dk_16 12 (dk_at dksX10_needed_0 4 rfl rfl)
theorem dX10_needed_6 : decode cX10_needed 6 = .ok (.invokespecial 139, 3) := dk_183 0 139 (dk_at dksX10_needed_0 6 rfl rfl)
theorem dX10_needed_9 : decode cX10_needed 9 = .ok (.astore_n 1, 1) := dk_76 (dk_at dksX10_needed_0 9 rfl rfl)
theorem dX10_needed_10 : decode cX10_needed 10 = .ok (.aload_n 1, 1) := dk_43 (dk_at dksX10_needed_0 10 rfl rfl)
theorem dX10_needed_11 : decode cX10_needed 11 = .ok (.iconst 0, 1) := dk_3 (dk_at dksX10_needed_0 11 rfl rfl)
theorem dX10_needed_12 : decode cX10_needed 12 = .ok (.aload_n 0, 1) := dk_42 (dk_at dksX10_needed_0 12 rfl rfl)
theorem dX10_needed_13 : decode cX10_needed 13 = .ok (.getfield 15, 3) := dk_180 0 15 (dk_at dksX10_needed_0 13 rfl rfl)
theorem dX10_needed_16 : decode cX10_needed 16 = .ok (.invokevirtual 124, 3) := dk_182 0 124 (dk_at dksX10_needed_0 16 rfl rfl)
theorem dX10_needed_19 : decode cX10_needed 19 = .ok (.invokevirtual 141, 3) := dk_182 0 141 (dk_at dksX10_needed_0 19 rfl rfl)
theorem dX10_needed_22 : decode cX10_needed 22 = .ok (.aload_n 0, 1) := dk_42 (dk_at dksX10_needed_0 22 rfl rfl)
theorem dX10_needed_23 : decode cX10_needed 23 = .ok (.aload_n 0, 1) := dk_42 (dk_at dksX10_needed_0 23 rfl rfl)
theorem dX10_needed_24 : decode cX10_needed 24 = .ok (.getfield 9, 3) := dk_180 0 9 (dk_at dksX10_needed_1 0 rfl rfl)
theorem dX10_needed_27 : decode cX10_needed 27 = .ok (.getfield 76, 3) := dk_180 0 76 (dk_at dksX10_needed_1 3 rfl rfl)
theorem dX10_needed_30 : decode cX10_needed 30 = .ok (.aload_n 0, 1) := dk_42 (dk_at dksX10_needed_1 6 rfl rfl)
theorem dX10_needed_31 : decode cX10_needed 31 = .ok (.getfield 9, 3) := dk_180 0 9 (dk_at dksX10_needed_1 7 rfl rfl)
theorem dX10_needed_34 : decode cX10_needed 34 = .ok (.getfield 79, 3) := dk_180 0 79 (dk_at dksX10_needed_1 10 rfl rfl)
theorem dX10_needed_37 : decode cX10_needed 37 = .ok (.new 119, 3) := dk_187 0 119 (dk_at dksX10_needed_1 13 rfl rfl)
theorem dX10_needed_40 : decode cX10_needed 40 = .ok (.dup, 1) := dk_89 (dk_at dksX10_needed_1 16 rfl rfl)
theorem dX10_needed_41 : decode cX10_needed 41 = .ok (.bipush 12, 2) := dk_16 12 (dk_at dksX10_needed_1 17 rfl rfl)
theorem dX10_needed_43 : decode cX10_needed 43 = .ok (.invokespecial 139, 3) := dk_183 0 139 (dk_at dksX10_needed_1 19 rfl rfl)
theorem dX10_needed_46 : decode cX10_needed 46 = .ok (.aload_n 1, 1) := dk_43 (dk_at dksX10_needed_1 22 rfl rfl)
theorem dX10_needed_47 : decode cX10_needed 47 = .ok (.invokevirtual 132, 3) := dk_182 0 132 (dk_at dksX10_needed_2 0 rfl rfl)
theorem dX10_needed_50 : decode cX10_needed 50 = .ok (.iconst 0, 1) := dk_3 (dk_at dksX10_needed_2 3 rfl rfl)
theorem dX10_needed_51 : decode cX10_needed 51 = .ok (.istore_n 2, 1) := dk_61 (dk_at dksX10_needed_2 4 rfl rfl)
theorem dX10_needed_52 : decode cX10_needed 52 = .ok (.aload_n 1, 1) := dk_43 (dk_at dksX10_needed_2 5 rfl rfl)
theorem dX10_needed_53 : decode cX10_needed 53 = .ok (.iconst 0, 1) := dk_3 (dk_at dksX10_needed_2 6 rfl rfl)
theorem dX10_needed_54 : decode cX10_needed 54 = .ok (.invokevirtual 144, 3) := dk_182 0 144 (dk_at dksX10_needed_2 7 rfl rfl)
theorem dX10_needed_57 : decode cX10_needed 57 = .ok (.istore_n 3, 1) := dk_62 (dk_at dksX10_needed_2 10 rfl rfl)
theorem dX10_needed_58 : decode cX10_needed 58 = .ok (.iload_n 3, 1) := dk_29 (dk_at dksX10_needed_2 11 rfl rfl)
theorem dX10_needed_59 : decode cX10_needed 59 = .ok (.ifCond .lt 20, 3) := dk_155 0 20 (dk_at dksX10_needed_2 12 rfl rfl)
theorem dX10_needed_62 : decode cX10_needed 62 = .ok (.iload_n 2, 1) := dk_28 (dk_at dksX10_needed_2 15 rfl rfl)
theorem dX10_needed_63 : decode cX10_needed 63 = .ok (.iconst 1, 1) := dk_4 (dk_at dksX10_needed_2 16 rfl rfl)
theorem dX10_needed_64 : decode cX10_needed 64 = .ok (.iload_n 3, 1) := dk_29 (dk_at dksX10_needed_2 17 rfl rfl)
theorem dX10_needed_65 : decode cX10_needed 65 = .ok (.ishl, 1) := dk_120 (dk_at dksX10_needed_2 18 rfl rfl)
theorem dX10_needed_66 : decode cX10_needed 66 = .ok (.ior, 1) := dk_128 (dk_at dksX10_needed_2 19 rfl rfl)
theorem dX10_needed_67 : decode cX10_needed 67 = .ok (.istore_n 2, 1) := dk_61 (dk_at dksX10_needed_2 20 rfl rfl)
theorem dX10_needed_68 : decode cX10_needed 68 = .ok (.aload_n 1, 1) := dk_43 (dk_at dksX10_needed_2 21 rfl rfl)
theorem dX10_needed_69 : decode cX10_needed 69 = .ok (.iload_n 3, 1) := dk_29 (dk_at dksX10_needed_2 22 rfl rfl)
theorem dX10_needed_70 : decode cX10_needed 70 = .ok (.iconst 1, 1) := dk_4 (dk_at dksX10_needed_2 23 rfl rfl)
theorem dX10_needed_71 : decode cX10_needed 71 = .ok (.iadd, 1) := dk_96 (dk_at dksX10_needed_3 0 rfl rfl)
theorem dX10_needed_72 : decode cX10_needed 72 = .ok (.invokevirtual 144, 3) := dk_182 0 144 (dk_at dksX10_needed_3 1 rfl rfl)
theorem dX10_needed_75 : decode cX10_needed 75 = .ok (.istore_n 3, 1) := dk_62 (dk_at dksX10_needed_3 4 rfl rfl)
theorem dX10_needed_76 : decode cX10_needed 76 = .ok (.goto (-18), 3) := dk_167 255 238 (dk_at dksX10_needed_3 5 rfl rfl)
theorem dX10_needed_79 : decode cX10_needed 79 = .ok (.aload_n 0, 1) := dk_42 (dk_at dksX10_needed_3 8 rfl rfl)
theorem dX10_needed_80 : decode cX10_needed 80 = .ok (.invokevirtual 147, 3) := dk_182 0 147 (dk_at dksX10_needed_3 9 rfl rfl)
theorem dX10_needed_83 : decode cX10_needed 83 = .ok (.ifCond .ne 7, 3) := dk_154 0 7 (dk_at dksX10_needed_3 12 rfl rfl)
theorem dX10_needed_86 : decode cX10_needed 86 = .ok (.iconst 0, 1) := dk_3 (dk_at dksX10_needed_3 15 rfl rfl)
theorem dX10_needed_87 : decode cX10_needed 87 = .ok (.goto 4, 3) := dk_167 0 4 (dk_at dksX10_needed_3 16 rfl rfl)
theorem dX10_needed_90 : decode cX10_needed 90 = .ok (.iload_n 2, 1) := dk_28 (dk_at dksX10_needed_3 19 rfl rfl)
theorem dX10_needed_91 : decode cX10_needed 91 = .ok (.ireturn, 1) := dk_172 (dk_at dksX10_needed_3 20 rfl rfl)
abbrev cX10_keep : ByteArray := prog_3_method_10_code
def yX10_keep : MethodName := ⟨RX10, "keep", "(IILjava/util/BitSet;Ljava/util/BitSet;)V"⟩
def dkwX10_keep_4 : List UInt8 := [182, 0, 132, 45, 21, 5, 182, 0, 136, 132, 5, 1, 167, 255, 168, 177]
abbrev dktX10_keep_4 : List UInt8 := dkwX10_keep_4 ++ []
def dkwX10_keep_3 : List UInt8 := [45, 21, 5, 182, 0, 128, 42, 25, 6, 180, 0, 64, 4, 96, 25, 6, 180, 0, 65, 45, 25, 4]
abbrev dktX10_keep_3 : List UInt8 := dkwX10_keep_3 ++ dktX10_keep_4
def dkwX10_keep_2 : List UInt8 := [25, 6, 185, 0, 54, 2, 0, 153, 0, 48, 25, 6, 27, 28, 42, 180, 0, 9, 182, 0, 60, 153, 0, 34]
abbrev dktX10_keep_2 : List UInt8 := dkwX10_keep_2 ++ dktX10_keep_3
def dkwX10_keep_1 : List UInt8 := [182, 0, 124, 162, 0, 82, 42, 180, 0, 15, 21, 5, 182, 0, 111, 192, 0, 52, 58, 6, 42, 180, 0, 19]
abbrev dktX10_keep_1 : List UInt8 := dkwX10_keep_1 ++ dktX10_keep_2
def dkwX10_keep_0 : List UInt8 := [42, 27, 28, 182, 0, 32, 153, 0, 9, 25, 4, 45, 182, 0, 118, 3, 54, 5, 21, 5, 42, 180, 0, 15]
abbrev dktX10_keep_0 : List UInt8 := dkwX10_keep_0 ++ dktX10_keep_1
theorem dksX10_keep_0 : cX10_keep.data.toList.drop 0 = dktX10_keep_0 := by decide +kernel
theorem dksX10_keep_1 : cX10_keep.data.toList.drop 24 = dktX10_keep_1 := dk_seg dksX10_keep_0 24 rfl rfl
theorem dksX10_keep_2 : cX10_keep.data.toList.drop 48 = dktX10_keep_2 := dk_seg dksX10_keep_1 24 rfl rfl
theorem dksX10_keep_3 : cX10_keep.data.toList.drop 72 = dktX10_keep_3 := dk_seg dksX10_keep_2 24 rfl rfl
theorem dksX10_keep_4 : cX10_keep.data.toList.drop 94 = dktX10_keep_4 := dk_seg dksX10_keep_3 22 rfl rfl
theorem dX10_keep_0 : decode cX10_keep 0 = .ok (.aload_n 0, 1) := dk_42 (dk_at dksX10_keep_0 0 rfl rfl)
theorem dX10_keep_1 : decode cX10_keep 1 = .ok (.iload_n 1, 1) := dk_27 (dk_at dksX10_keep_0 1 rfl rfl)
theorem dX10_keep_2 : decode cX10_keep 2 = .ok (.iload_n 2, 1) := dk_28 (dk_at dksX10_keep_0 2 rfl rfl)
theorem dX10_keep_3 : decode cX10_keep 3 = .ok (.invokevirtual 32, 3) := dk_182 0 32 (dk_at dksX10_keep_0 3 rfl rfl)
theorem dX10_keep_6 : decode cX10_keep 6 = .ok (.ifCond .eq 9, 3) := dk_153 0 9 (dk_at dksX10_keep_0 6 rfl rfl)
theorem dX10_keep_9 : decode cX10_keep 9 = .ok (.aload 4, 2) := dk_25 4 (dk_at dksX10_keep_0 9 rfl rfl)
theorem dX10_keep_11 : decode cX10_keep 11 = .ok (.aload_n 3, 1) := dk_45 (dk_at dksX10_keep_0 11 rfl rfl)
theorem dX10_keep_12 : decode cX10_keep 12 = .ok (.invokevirtual 118, 3) := dk_182 0 118 (dk_at dksX10_keep_0 12 rfl rfl)
theorem dX10_keep_15 : decode cX10_keep 15 = .ok (.iconst 0, 1) := dk_3 (dk_at dksX10_keep_0 15 rfl rfl)
theorem dX10_keep_16 : decode cX10_keep 16 = .ok (.istore 5, 2) := dk_54 5 (dk_at dksX10_keep_0 16 rfl rfl)
theorem dX10_keep_18 : decode cX10_keep 18 = .ok (.iload 5, 2) := dk_21 5 (dk_at dksX10_keep_0 18 rfl rfl)
theorem dX10_keep_20 : decode cX10_keep 20 = .ok (.aload_n 0, 1) := dk_42 (dk_at dksX10_keep_0 20 rfl rfl)
theorem dX10_keep_21 : decode cX10_keep 21 = .ok (.getfield 15, 3) := dk_180 0 15 (dk_at dksX10_keep_0 21 rfl rfl)
theorem dX10_keep_24 : decode cX10_keep 24 = .ok (.invokevirtual 124, 3) := dk_182 0 124 (dk_at dksX10_keep_1 0 rfl rfl)
theorem dX10_keep_27 : decode cX10_keep 27 = .ok (.if_icmp .ge 82, 3) := dk_162 0 82 (dk_at dksX10_keep_1 3 rfl rfl)
theorem dX10_keep_30 : decode cX10_keep 30 = .ok (.aload_n 0, 1) := dk_42 (dk_at dksX10_keep_1 6 rfl rfl)
theorem dX10_keep_31 : decode cX10_keep 31 = .ok (.getfield 15, 3) := dk_180 0 15 (dk_at dksX10_keep_1 7 rfl rfl)
theorem dX10_keep_34 : decode cX10_keep 34 = .ok (.iload 5, 2) := dk_21 5 (dk_at dksX10_keep_1 10 rfl rfl)
theorem dX10_keep_36 : decode cX10_keep 36 = .ok (.invokevirtual 111, 3) := dk_182 0 111 (dk_at dksX10_keep_1 12 rfl rfl)
theorem dX10_keep_39 : decode cX10_keep 39 = .ok (.checkcast 52, 3) := dk_192 0 52 (dk_at dksX10_keep_1 15 rfl rfl)
theorem dX10_keep_42 : decode cX10_keep 42 = .ok (.astore 6, 2) := dk_58 6 (dk_at dksX10_keep_1 18 rfl rfl)
theorem dX10_keep_44 : decode cX10_keep 44 = .ok (.aload_n 0, 1) := dk_42 (dk_at dksX10_keep_1 20 rfl rfl)
theorem dX10_keep_45 : decode cX10_keep 45 = .ok (.getfield 19, 3) := dk_180 0 19 (dk_at dksX10_keep_1 21 rfl rfl)
theorem dX10_keep_48 : decode cX10_keep 48 = .ok (.aload 6, 2) := dk_25 6 (dk_at dksX10_keep_2 0 rfl rfl)
theorem dX10_keep_50 : decode cX10_keep 50 = .ok (.invokeinterface 54 2, 5) := by decide +kernel
theorem dX10_keep_55 : decode cX10_keep 55 = .ok (.ifCond .eq 48, 3) := dk_153 0 48 (dk_at dksX10_keep_2 7 rfl rfl)
theorem dX10_keep_58 : decode cX10_keep 58 = .ok (.aload 6, 2) := dk_25 6 (dk_at dksX10_keep_2 10 rfl rfl)
theorem dX10_keep_60 : decode cX10_keep 60 = .ok (.iload_n 1, 1) := dk_27 (dk_at dksX10_keep_2 12 rfl rfl)
theorem dX10_keep_61 : decode cX10_keep 61 = .ok (.iload_n 2, 1) := dk_28 (dk_at dksX10_keep_2 13 rfl rfl)
theorem dX10_keep_62 : decode cX10_keep 62 = .ok (.aload_n 0, 1) := dk_42 (dk_at dksX10_keep_2 14 rfl rfl)
theorem dX10_keep_63 : decode cX10_keep 63 = .ok (.getfield 9, 3) := dk_180 0 9 (dk_at dksX10_keep_2 15 rfl rfl)
theorem dX10_keep_66 : decode cX10_keep 66 = .ok (.invokevirtual 60, 3) := dk_182 0 60 (dk_at dksX10_keep_2 18 rfl rfl)
theorem dX10_keep_69 : decode cX10_keep 69 = .ok (.ifCond .eq 34, 3) := dk_153 0 34 (dk_at dksX10_keep_2 21 rfl rfl)
theorem dX10_keep_72 : decode cX10_keep 72 = .ok (.aload_n 3, 1) := dk_45 (dk_at dksX10_keep_3 0 rfl rfl)
theorem dX10_keep_73 : decode cX10_keep 73 = .ok (.iload 5, 2) := dk_21 5 (dk_at dksX10_keep_3 1 rfl rfl)
theorem dX10_keep_75 : decode cX10_keep 75 = .ok (.invokevirtual 128, 3) := dk_182 0 128 (dk_at dksX10_keep_3 3 rfl rfl)
theorem dX10_keep_78 : decode cX10_keep 78 = .ok (.aload_n 0, 1) := dk_42 (dk_at dksX10_keep_3 6 rfl rfl)
theorem dX10_keep_79 : decode cX10_keep 79 = .ok (.aload 6, 2) := dk_25 6 (dk_at dksX10_keep_3 7 rfl rfl)
theorem dX10_keep_81 : decode cX10_keep 81 = .ok (.getfield 64, 3) := dk_180 0 64 (dk_at dksX10_keep_3 9 rfl rfl)
theorem dX10_keep_84 : decode cX10_keep 84 = .ok (.iconst 1, 1) := dk_4 (dk_at dksX10_keep_3 12 rfl rfl)
theorem dX10_keep_85 : decode cX10_keep 85 = .ok (.iadd, 1) := dk_96 (dk_at dksX10_keep_3 13 rfl rfl)
theorem dX10_keep_86 : decode cX10_keep 86 = .ok (.aload 6, 2) := dk_25 6 (dk_at dksX10_keep_3 14 rfl rfl)
theorem dX10_keep_88 : decode cX10_keep 88 = .ok (.getfield 65, 3) := dk_180 0 65 (dk_at dksX10_keep_3 16 rfl rfl)
theorem dX10_keep_91 : decode cX10_keep 91 = .ok (.aload_n 3, 1) := dk_45 (dk_at dksX10_keep_3 19 rfl rfl)
theorem dX10_keep_92 : decode cX10_keep 92 = .ok (.aload 4, 2) := dk_25 4 (dk_at dksX10_keep_3 20 rfl rfl)
theorem dX10_keep_94 : decode cX10_keep 94 = .ok (.invokevirtual 132, 3) := dk_182 0 132 (dk_at dksX10_keep_4 0 rfl rfl)
theorem dX10_keep_97 : decode cX10_keep 97 = .ok (.aload_n 3, 1) := dk_45 (dk_at dksX10_keep_4 3 rfl rfl)
theorem dX10_keep_98 : decode cX10_keep 98 = .ok (.iload 5, 2) := dk_21 5 (dk_at dksX10_keep_4 4 rfl rfl)
theorem dX10_keep_100 : decode cX10_keep 100 = .ok (.invokevirtual 136, 3) := dk_182 0 136 (dk_at dksX10_keep_4 6 rfl rfl)
theorem dX10_keep_103 : decode cX10_keep 103 = .ok (.iinc 5 1, 3) := dk_132 5 1 (dk_at dksX10_keep_4 9 rfl rfl)
theorem dX10_keep_106 : decode cX10_keep 106 = .ok (.goto (-88), 3) := dk_167 255 168 (dk_at dksX10_keep_4 12 rfl rfl)
theorem dX10_keep_109 : decode cX10_keep 109 = .ok (.return_, 1) := dk_177 (dk_at dksX10_keep_4 15 rfl rfl)
abbrev cX10_reachRight : ByteArray := prog_3_method_12_code
def yX10_reachRight : MethodName := ⟨RX10, "reachRight", "()I"⟩
def dkwX10_reachRight_3 : List UInt8 := [180, 0, 65, 43, 182, 0, 152, 167, 255, 217, 28, 172]
abbrev dktX10_reachRight_3 : List UInt8 := dkwX10_reachRight_3 ++ []
def dkwX10_reachRight_2 : List UInt8 := [182, 0, 159, 192, 0, 52, 78, 28, 45, 180, 0, 64, 184, 0, 162, 61, 42, 45, 180, 0, 64, 4, 96, 45]
abbrev dktX10_reachRight_2 : List UInt8 := dkwX10_reachRight_2 ++ dktX10_reachRight_3
def dkwX10_reachRight_1 : List UInt8 := [180, 0, 76, 42, 180, 0, 9, 180, 0, 79, 43, 182, 0, 152, 43, 182, 0, 156, 154, 0, 38, 43]
abbrev dktX10_reachRight_1 : List UInt8 := dkwX10_reachRight_1 ++ dktX10_reachRight_2
def dkwX10_reachRight_0 : List UInt8 := [187, 0, 149, 89, 183, 0, 151, 76, 42, 180, 0, 9, 180, 0, 76, 4, 100, 61, 42, 42, 180, 0, 9]
abbrev dktX10_reachRight_0 : List UInt8 := dkwX10_reachRight_0 ++ dktX10_reachRight_1
theorem dksX10_reachRight_0 : cX10_reachRight.data.toList.drop 0 = dktX10_reachRight_0 := by decide +kernel
theorem dksX10_reachRight_1 : cX10_reachRight.data.toList.drop 23 = dktX10_reachRight_1 := dk_seg dksX10_reachRight_0 23 rfl rfl
theorem dksX10_reachRight_2 : cX10_reachRight.data.toList.drop 45 = dktX10_reachRight_2 := dk_seg dksX10_reachRight_1 22 rfl rfl
theorem dksX10_reachRight_3 : cX10_reachRight.data.toList.drop 69 = dktX10_reachRight_3 := dk_seg dksX10_reachRight_2 24 rfl rfl
theorem dX10_reachRight_0 : decode cX10_reachRight 0 = .ok (.new 149, 3) := dk_187 0 149 (dk_at dksX10_reachRight_0 0 rfl rfl)
theorem dX10_reachRight_3 : decode cX10_reachRight 3 = .ok (.dup, 1) := dk_89 (dk_at dksX10_reachRight_0 3 rfl rfl)
theorem dX10_reachRight_4 : decode cX10_reachRight 4 = .ok (.invokespecial 151, 3) := dk_183 0 151 (dk_at dksX10_reachRight_0 4 rfl rfl)
theorem dX10_reachRight_7 : decode cX10_reachRight 7 = .ok (.astore_n 1, 1) := dk_76 (dk_at dksX10_reachRight_0 7 rfl rfl)
theorem dX10_reachRight_8 : decode cX10_reachRight 8 = .ok (.aload_n 0, 1) := dk_42 (dk_at dksX10_reachRight_0 8 rfl rfl)
theorem dX10_reachRight_9 : decode cX10_reachRight 9 = .ok (.getfield 9, 3) := dk_180 0 9 (dk_at dksX10_reachRight_0 9 rfl rfl)
theorem dX10_reachRight_12 : decode cX10_reachRight 12 = .ok (.getfield 76, 3) := dk_180 0 76 (dk_at dksX10_reachRight_0 12 rfl rfl)
theorem dX10_reachRight_15 : decode cX10_reachRight 15 = .ok (.iconst 1, 1) := dk_4 (dk_at dksX10_reachRight_0 15 rfl rfl)
theorem dX10_reachRight_16 : decode cX10_reachRight 16 = .ok (.isub, 1) := dk_100 (dk_at dksX10_reachRight_0 16 rfl rfl)
theorem dX10_reachRight_17 : decode cX10_reachRight 17 = .ok (.istore_n 2, 1) := dk_61 (dk_at dksX10_reachRight_0 17 rfl rfl)
theorem dX10_reachRight_18 : decode cX10_reachRight 18 = .ok (.aload_n 0, 1) := dk_42 (dk_at dksX10_reachRight_0 18 rfl rfl)
theorem dX10_reachRight_19 : decode cX10_reachRight 19 = .ok (.aload_n 0, 1) := dk_42 (dk_at dksX10_reachRight_0 19 rfl rfl)
theorem dX10_reachRight_20 : decode cX10_reachRight 20 = .ok (.getfield 9, 3) := dk_180 0 9 (dk_at dksX10_reachRight_0 20 rfl rfl)
theorem dX10_reachRight_23 : decode cX10_reachRight 23 = .ok (.getfield 76, 3) := dk_180 0 76 (dk_at dksX10_reachRight_1 0 rfl rfl)
theorem dX10_reachRight_26 : decode cX10_reachRight 26 = .ok (.aload_n 0, 1) := dk_42 (dk_at dksX10_reachRight_1 3 rfl rfl)
theorem dX10_reachRight_27 : decode cX10_reachRight 27 = .ok (.getfield 9, 3) := dk_180 0 9 (dk_at dksX10_reachRight_1 4 rfl rfl)
theorem dX10_reachRight_30 : decode cX10_reachRight 30 = .ok (.getfield 79, 3) := dk_180 0 79 (dk_at dksX10_reachRight_1 7 rfl rfl)
theorem dX10_reachRight_33 : decode cX10_reachRight 33 = .ok (.aload_n 1, 1) := dk_43 (dk_at dksX10_reachRight_1 10 rfl rfl)
theorem dX10_reachRight_34 : decode cX10_reachRight 34 = .ok (.invokevirtual 152, 3) := dk_182 0 152 (dk_at dksX10_reachRight_1 11 rfl rfl)
theorem dX10_reachRight_37 : decode cX10_reachRight 37 = .ok (.aload_n 1, 1) := dk_43 (dk_at dksX10_reachRight_1 14 rfl rfl)
theorem dX10_reachRight_38 : decode cX10_reachRight 38 = .ok (.invokevirtual 156, 3) := dk_182 0 156 (dk_at dksX10_reachRight_1 15 rfl rfl)
theorem dX10_reachRight_41 : decode cX10_reachRight 41 = .ok (.ifCond .ne 38, 3) := dk_154 0 38 (dk_at dksX10_reachRight_1 18 rfl rfl)
theorem dX10_reachRight_44 : decode cX10_reachRight 44 = .ok (.aload_n 1, 1) := dk_43 (dk_at dksX10_reachRight_1 21 rfl rfl)
theorem dX10_reachRight_45 : decode cX10_reachRight 45 = .ok (.invokevirtual 159, 3) := dk_182 0 159 (dk_at dksX10_reachRight_2 0 rfl rfl)
theorem dX10_reachRight_48 : decode cX10_reachRight 48 = .ok (.checkcast 52, 3) := dk_192 0 52 (dk_at dksX10_reachRight_2 3 rfl rfl)
theorem dX10_reachRight_51 : decode cX10_reachRight 51 = .ok (.astore_n 3, 1) := dk_78 (dk_at dksX10_reachRight_2 6 rfl rfl)
theorem dX10_reachRight_52 : decode cX10_reachRight 52 = .ok (.iload_n 2, 1) := dk_28 (dk_at dksX10_reachRight_2 7 rfl rfl)
theorem dX10_reachRight_53 : decode cX10_reachRight 53 = .ok (.aload_n 3, 1) := dk_45 (dk_at dksX10_reachRight_2 8 rfl rfl)
theorem dX10_reachRight_54 : decode cX10_reachRight 54 = .ok (.getfield 64, 3) := dk_180 0 64 (dk_at dksX10_reachRight_2 9 rfl rfl)
theorem dX10_reachRight_57 : decode cX10_reachRight 57 = .ok (.invokestatic 162, 3) := dk_184 0 162 (dk_at dksX10_reachRight_2 12 rfl rfl)
theorem dX10_reachRight_60 : decode cX10_reachRight 60 = .ok (.istore_n 2, 1) := dk_61 (dk_at dksX10_reachRight_2 15 rfl rfl)
theorem dX10_reachRight_61 : decode cX10_reachRight 61 = .ok (.aload_n 0, 1) := dk_42 (dk_at dksX10_reachRight_2 16 rfl rfl)
theorem dX10_reachRight_62 : decode cX10_reachRight 62 = .ok (.aload_n 3, 1) := dk_45 (dk_at dksX10_reachRight_2 17 rfl rfl)
theorem dX10_reachRight_63 : decode cX10_reachRight 63 = .ok (.getfield 64, 3) := dk_180 0 64 (dk_at dksX10_reachRight_2 18 rfl rfl)
theorem dX10_reachRight_66 : decode cX10_reachRight 66 = .ok (.iconst 1, 1) := dk_4 (dk_at dksX10_reachRight_2 21 rfl rfl)
theorem dX10_reachRight_67 : decode cX10_reachRight 67 = .ok (.iadd, 1) := dk_96 (dk_at dksX10_reachRight_2 22 rfl rfl)
theorem dX10_reachRight_68 : decode cX10_reachRight 68 = .ok (.aload_n 3, 1) := dk_45 (dk_at dksX10_reachRight_2 23 rfl rfl)
theorem dX10_reachRight_69 : decode cX10_reachRight 69 = .ok (.getfield 65, 3) := dk_180 0 65 (dk_at dksX10_reachRight_3 0 rfl rfl)
theorem dX10_reachRight_72 : decode cX10_reachRight 72 = .ok (.aload_n 1, 1) := dk_43 (dk_at dksX10_reachRight_3 3 rfl rfl)
theorem dX10_reachRight_73 : decode cX10_reachRight 73 = .ok (.invokevirtual 152, 3) := dk_182 0 152 (dk_at dksX10_reachRight_3 4 rfl rfl)
theorem dX10_reachRight_76 : decode cX10_reachRight 76 = .ok (.goto (-39), 3) := dk_167 255 217 (dk_at dksX10_reachRight_3 7 rfl rfl)
theorem dX10_reachRight_79 : decode cX10_reachRight 79 = .ok (.iload_n 2, 1) := dk_28 (dk_at dksX10_reachRight_3 10 rfl rfl)
theorem dX10_reachRight_80 : decode cX10_reachRight 80 = .ok (.ireturn, 1) := dk_172 (dk_at dksX10_reachRight_3 11 rfl rfl)
abbrev cX10_addOn : ByteArray := prog_3_method_13_code
def yX10_addOn : MethodName := ⟨RX10, "addOn", "(IILjava/util/ArrayDeque;)V"⟩
def dkwX10_addOn_3 : List UInt8 := [25, 5, 182, 0, 171, 167, 255, 191, 177]
abbrev dktX10_addOn_3 : List UInt8 := dkwX10_addOn_3 ++ []
def dkwX10_addOn_2 : List UInt8 := [25, 5, 27, 28, 42, 180, 0, 9, 182, 0, 60, 153, 0, 18, 45, 25, 5, 182, 0, 167, 154, 0, 9, 45]
abbrev dktX10_addOn_2 : List UInt8 := dkwX10_addOn_2 ++ dktX10_addOn_3
def dkwX10_addOn_1 : List UInt8 := [185, 0, 48, 1, 0, 192, 0, 52, 58, 5, 42, 180, 0, 19, 25, 5, 185, 0, 54, 2, 0, 153, 0, 32]
abbrev dktX10_addOn_1 : List UInt8 := dkwX10_addOn_1 ++ dktX10_addOn_2
def dkwX10_addOn_0 : List UInt8 := [42, 180, 0, 15, 182, 0, 36, 58, 4, 25, 4, 185, 0, 42, 1, 0, 153, 0, 61, 25, 4]
abbrev dktX10_addOn_0 : List UInt8 := dkwX10_addOn_0 ++ dktX10_addOn_1
theorem dksX10_addOn_0 : cX10_addOn.data.toList.drop 0 = dktX10_addOn_0 := by decide +kernel
theorem dksX10_addOn_1 : cX10_addOn.data.toList.drop 21 = dktX10_addOn_1 := dk_seg dksX10_addOn_0 21 rfl rfl
theorem dksX10_addOn_2 : cX10_addOn.data.toList.drop 45 = dktX10_addOn_2 := dk_seg dksX10_addOn_1 24 rfl rfl
theorem dksX10_addOn_3 : cX10_addOn.data.toList.drop 69 = dktX10_addOn_3 := dk_seg dksX10_addOn_2 24 rfl rfl
theorem dX10_addOn_0 : decode cX10_addOn 0 = .ok (.aload_n 0, 1) := dk_42 (dk_at dksX10_addOn_0 0 rfl rfl)
theorem dX10_addOn_1 : decode cX10_addOn 1 = .ok (.getfield 15, 3) := dk_180 0 15 (dk_at dksX10_addOn_0 1 rfl rfl)
theorem dX10_addOn_4 : decode cX10_addOn 4 = .ok (.invokevirtual 36, 3) := dk_182 0 36 (dk_at dksX10_addOn_0 4 rfl rfl)
theorem dX10_addOn_7 : decode cX10_addOn 7 = .ok (.astore 4, 2) := dk_58 4 (dk_at dksX10_addOn_0 7 rfl rfl)
theorem dX10_addOn_9 : decode cX10_addOn 9 = .ok (.aload 4, 2) := dk_25 4 (dk_at dksX10_addOn_0 9 rfl rfl)
theorem dX10_addOn_11 : decode cX10_addOn 11 = .ok (.invokeinterface 42 1, 5) := by decide +kernel
theorem dX10_addOn_16 : decode cX10_addOn 16 = .ok (.ifCond .eq 61, 3) := dk_153 0 61 (dk_at dksX10_addOn_0 16 rfl rfl)
theorem dX10_addOn_19 : decode cX10_addOn 19 = .ok (.aload 4, 2) := dk_25 4 (dk_at dksX10_addOn_0 19 rfl rfl)
theorem dX10_addOn_21 : decode cX10_addOn 21 = .ok (.invokeinterface 48 1, 5) := by decide +kernel
theorem dX10_addOn_26 : decode cX10_addOn 26 = .ok (.checkcast 52, 3) := dk_192 0 52 (dk_at dksX10_addOn_1 5 rfl rfl)
theorem dX10_addOn_29 : decode cX10_addOn 29 = .ok (.astore 5, 2) := dk_58 5 (dk_at dksX10_addOn_1 8 rfl rfl)
theorem dX10_addOn_31 : decode cX10_addOn 31 = .ok (.aload_n 0, 1) := dk_42 (dk_at dksX10_addOn_1 10 rfl rfl)
theorem dX10_addOn_32 : decode cX10_addOn 32 = .ok (.getfield 19, 3) := dk_180 0 19 (dk_at dksX10_addOn_1 11 rfl rfl)
theorem dX10_addOn_35 : decode cX10_addOn 35 = .ok (.aload 5, 2) := dk_25 5 (dk_at dksX10_addOn_1 14 rfl rfl)
theorem dX10_addOn_37 : decode cX10_addOn 37 = .ok (.invokeinterface 54 2, 5) := by decide +kernel
theorem dX10_addOn_42 : decode cX10_addOn 42 = .ok (.ifCond .eq 32, 3) := dk_153 0 32 (dk_at dksX10_addOn_1 21 rfl rfl)
theorem dX10_addOn_45 : decode cX10_addOn 45 = .ok (.aload 5, 2) := dk_25 5 (dk_at dksX10_addOn_2 0 rfl rfl)
theorem dX10_addOn_47 : decode cX10_addOn 47 = .ok (.iload_n 1, 1) := dk_27 (dk_at dksX10_addOn_2 2 rfl rfl)
theorem dX10_addOn_48 : decode cX10_addOn 48 = .ok (.iload_n 2, 1) := dk_28 (dk_at dksX10_addOn_2 3 rfl rfl)
theorem dX10_addOn_49 : decode cX10_addOn 49 = .ok (.aload_n 0, 1) := dk_42 (dk_at dksX10_addOn_2 4 rfl rfl)
theorem dX10_addOn_50 : decode cX10_addOn 50 = .ok (.getfield 9, 3) := dk_180 0 9 (dk_at dksX10_addOn_2 5 rfl rfl)
theorem dX10_addOn_53 : decode cX10_addOn 53 = .ok (.invokevirtual 60, 3) := dk_182 0 60 (dk_at dksX10_addOn_2 8 rfl rfl)
theorem dX10_addOn_56 : decode cX10_addOn 56 = .ok (.ifCond .eq 18, 3) := dk_153 0 18 (dk_at dksX10_addOn_2 11 rfl rfl)
theorem dX10_addOn_59 : decode cX10_addOn 59 = .ok (.aload_n 3, 1) := dk_45 (dk_at dksX10_addOn_2 14 rfl rfl)
theorem dX10_addOn_60 : decode cX10_addOn 60 = .ok (.aload 5, 2) := dk_25 5 (dk_at dksX10_addOn_2 15 rfl rfl)
theorem dX10_addOn_62 : decode cX10_addOn 62 = .ok (.invokevirtual 167, 3) := dk_182 0 167 (dk_at dksX10_addOn_2 17 rfl rfl)
theorem dX10_addOn_65 : decode cX10_addOn 65 = .ok (.ifCond .ne 9, 3) := dk_154 0 9 (dk_at dksX10_addOn_2 20 rfl rfl)
theorem dX10_addOn_68 : decode cX10_addOn 68 = .ok (.aload_n 3, 1) := dk_45 (dk_at dksX10_addOn_2 23 rfl rfl)
theorem dX10_addOn_69 : decode cX10_addOn 69 = .ok (.aload 5, 2) := dk_25 5 (dk_at dksX10_addOn_3 0 rfl rfl)
theorem dX10_addOn_71 : decode cX10_addOn 71 = .ok (.invokevirtual 171, 3) := dk_182 0 171 (dk_at dksX10_addOn_3 2 rfl rfl)
theorem dX10_addOn_74 : decode cX10_addOn 74 = .ok (.goto (-65), 3) := dk_167 255 191 (dk_at dksX10_addOn_3 5 rfl rfl)
theorem dX10_addOn_77 : decode cX10_addOn 77 = .ok (.return_, 1) := dk_177 (dk_at dksX10_addOn_3 8 rfl rfl)
abbrev cX10_reachLeft : ByteArray := prog_3_method_14_code
def yX10_reachLeft : MethodName := ⟨RX10, "reachLeft", "()I"⟩
def dkwX10_reachLeft_3 : List UInt8 := [180, 0, 86, 43, 182, 0, 172, 167, 255, 217, 28, 172]
abbrev dktX10_reachLeft_3 : List UInt8 := dkwX10_reachLeft_3 ++ []
def dkwX10_reachLeft_2 : List UInt8 := [182, 0, 159, 192, 0, 52, 78, 28, 45, 180, 0, 85, 184, 0, 175, 61, 42, 45, 180, 0, 85, 4, 100, 45]
abbrev dktX10_reachLeft_2 : List UInt8 := dkwX10_reachLeft_2 ++ dktX10_reachLeft_3
def dkwX10_reachLeft_1 : List UInt8 := [180, 0, 23, 42, 180, 0, 9, 180, 0, 29, 43, 182, 0, 172, 43, 182, 0, 156, 154, 0, 38, 43]
abbrev dktX10_reachLeft_1 : List UInt8 := dkwX10_reachLeft_1 ++ dktX10_reachLeft_2
def dkwX10_reachLeft_0 : List UInt8 := [187, 0, 149, 89, 183, 0, 151, 76, 42, 180, 0, 9, 180, 0, 23, 4, 96, 61, 42, 42, 180, 0, 9]
abbrev dktX10_reachLeft_0 : List UInt8 := dkwX10_reachLeft_0 ++ dktX10_reachLeft_1
theorem dksX10_reachLeft_0 : cX10_reachLeft.data.toList.drop 0 = dktX10_reachLeft_0 := by decide +kernel
theorem dksX10_reachLeft_1 : cX10_reachLeft.data.toList.drop 23 = dktX10_reachLeft_1 := dk_seg dksX10_reachLeft_0 23 rfl rfl
theorem dksX10_reachLeft_2 : cX10_reachLeft.data.toList.drop 45 = dktX10_reachLeft_2 := dk_seg dksX10_reachLeft_1 22 rfl rfl
theorem dksX10_reachLeft_3 : cX10_reachLeft.data.toList.drop 69 = dktX10_reachLeft_3 := dk_seg dksX10_reachLeft_2 24 rfl rfl
theorem dX10_reachLeft_0 : decode cX10_reachLeft 0 = .ok (.new 149, 3) := dk_187 0 149 (dk_at dksX10_reachLeft_0 0 rfl rfl)
theorem dX10_reachLeft_3 : decode cX10_reachLeft 3 = .ok (.dup, 1) := dk_89 (dk_at dksX10_reachLeft_0 3 rfl rfl)
theorem dX10_reachLeft_4 : decode cX10_reachLeft 4 = .ok (.invokespecial 151, 3) := dk_183 0 151 (dk_at dksX10_reachLeft_0 4 rfl rfl)
theorem dX10_reachLeft_7 : decode cX10_reachLeft 7 = .ok (.astore_n 1, 1) := dk_76 (dk_at dksX10_reachLeft_0 7 rfl rfl)
theorem dX10_reachLeft_8 : decode cX10_reachLeft 8 = .ok (.aload_n 0, 1) := dk_42 (dk_at dksX10_reachLeft_0 8 rfl rfl)
theorem dX10_reachLeft_9 : decode cX10_reachLeft 9 = .ok (.getfield 9, 3) := dk_180 0 9 (dk_at dksX10_reachLeft_0 9 rfl rfl)
theorem dX10_reachLeft_12 : decode cX10_reachLeft 12 = .ok (.getfield 23, 3) := dk_180 0 23 (dk_at dksX10_reachLeft_0 12 rfl rfl)
theorem dX10_reachLeft_15 : decode cX10_reachLeft 15 = .ok (.iconst 1, 1) := dk_4 (dk_at dksX10_reachLeft_0 15 rfl rfl)
theorem dX10_reachLeft_16 : decode cX10_reachLeft 16 = .ok (.iadd, 1) := dk_96 (dk_at dksX10_reachLeft_0 16 rfl rfl)
theorem dX10_reachLeft_17 : decode cX10_reachLeft 17 = .ok (.istore_n 2, 1) := dk_61 (dk_at dksX10_reachLeft_0 17 rfl rfl)
theorem dX10_reachLeft_18 : decode cX10_reachLeft 18 = .ok (.aload_n 0, 1) := dk_42 (dk_at dksX10_reachLeft_0 18 rfl rfl)
theorem dX10_reachLeft_19 : decode cX10_reachLeft 19 = .ok (.aload_n 0, 1) := dk_42 (dk_at dksX10_reachLeft_0 19 rfl rfl)
theorem dX10_reachLeft_20 : decode cX10_reachLeft 20 = .ok (.getfield 9, 3) := dk_180 0 9 (dk_at dksX10_reachLeft_0 20 rfl rfl)
theorem dX10_reachLeft_23 : decode cX10_reachLeft 23 = .ok (.getfield 23, 3) := dk_180 0 23 (dk_at dksX10_reachLeft_1 0 rfl rfl)
theorem dX10_reachLeft_26 : decode cX10_reachLeft 26 = .ok (.aload_n 0, 1) := dk_42 (dk_at dksX10_reachLeft_1 3 rfl rfl)
theorem dX10_reachLeft_27 : decode cX10_reachLeft 27 = .ok (.getfield 9, 3) := dk_180 0 9 (dk_at dksX10_reachLeft_1 4 rfl rfl)
theorem dX10_reachLeft_30 : decode cX10_reachLeft 30 = .ok (.getfield 29, 3) := dk_180 0 29 (dk_at dksX10_reachLeft_1 7 rfl rfl)
theorem dX10_reachLeft_33 : decode cX10_reachLeft 33 = .ok (.aload_n 1, 1) := dk_43 (dk_at dksX10_reachLeft_1 10 rfl rfl)
theorem dX10_reachLeft_34 : decode cX10_reachLeft 34 = .ok (.invokevirtual 172, 3) := dk_182 0 172 (dk_at dksX10_reachLeft_1 11 rfl rfl)
theorem dX10_reachLeft_37 : decode cX10_reachLeft 37 = .ok (.aload_n 1, 1) := dk_43 (dk_at dksX10_reachLeft_1 14 rfl rfl)
theorem dX10_reachLeft_38 : decode cX10_reachLeft 38 = .ok (.invokevirtual 156, 3) := dk_182 0 156 (dk_at dksX10_reachLeft_1 15 rfl rfl)
theorem dX10_reachLeft_41 : decode cX10_reachLeft 41 = .ok (.ifCond .ne 38, 3) := dk_154 0 38 (dk_at dksX10_reachLeft_1 18 rfl rfl)
theorem dX10_reachLeft_44 : decode cX10_reachLeft 44 = .ok (.aload_n 1, 1) := dk_43 (dk_at dksX10_reachLeft_1 21 rfl rfl)
theorem dX10_reachLeft_45 : decode cX10_reachLeft 45 = .ok (.invokevirtual 159, 3) := dk_182 0 159 (dk_at dksX10_reachLeft_2 0 rfl rfl)
theorem dX10_reachLeft_48 : decode cX10_reachLeft 48 = .ok (.checkcast 52, 3) := dk_192 0 52 (dk_at dksX10_reachLeft_2 3 rfl rfl)
theorem dX10_reachLeft_51 : decode cX10_reachLeft 51 = .ok (.astore_n 3, 1) := dk_78 (dk_at dksX10_reachLeft_2 6 rfl rfl)
theorem dX10_reachLeft_52 : decode cX10_reachLeft 52 = .ok (.iload_n 2, 1) := dk_28 (dk_at dksX10_reachLeft_2 7 rfl rfl)
theorem dX10_reachLeft_53 : decode cX10_reachLeft 53 = .ok (.aload_n 3, 1) := dk_45 (dk_at dksX10_reachLeft_2 8 rfl rfl)
theorem dX10_reachLeft_54 : decode cX10_reachLeft 54 = .ok (.getfield 85, 3) := dk_180 0 85 (dk_at dksX10_reachLeft_2 9 rfl rfl)
theorem dX10_reachLeft_57 : decode cX10_reachLeft 57 = .ok (.invokestatic 175, 3) := dk_184 0 175 (dk_at dksX10_reachLeft_2 12 rfl rfl)
theorem dX10_reachLeft_60 : decode cX10_reachLeft 60 = .ok (.istore_n 2, 1) := dk_61 (dk_at dksX10_reachLeft_2 15 rfl rfl)
theorem dX10_reachLeft_61 : decode cX10_reachLeft 61 = .ok (.aload_n 0, 1) := dk_42 (dk_at dksX10_reachLeft_2 16 rfl rfl)
theorem dX10_reachLeft_62 : decode cX10_reachLeft 62 = .ok (.aload_n 3, 1) := dk_45 (dk_at dksX10_reachLeft_2 17 rfl rfl)
theorem dX10_reachLeft_63 : decode cX10_reachLeft 63 = .ok (.getfield 85, 3) := dk_180 0 85 (dk_at dksX10_reachLeft_2 18 rfl rfl)
theorem dX10_reachLeft_66 : decode cX10_reachLeft 66 = .ok (.iconst 1, 1) := dk_4 (dk_at dksX10_reachLeft_2 21 rfl rfl)
theorem dX10_reachLeft_67 : decode cX10_reachLeft 67 = .ok (.isub, 1) := dk_100 (dk_at dksX10_reachLeft_2 22 rfl rfl)
theorem dX10_reachLeft_68 : decode cX10_reachLeft 68 = .ok (.aload_n 3, 1) := dk_45 (dk_at dksX10_reachLeft_2 23 rfl rfl)
theorem dX10_reachLeft_69 : decode cX10_reachLeft 69 = .ok (.getfield 86, 3) := dk_180 0 86 (dk_at dksX10_reachLeft_3 0 rfl rfl)
theorem dX10_reachLeft_72 : decode cX10_reachLeft 72 = .ok (.aload_n 1, 1) := dk_43 (dk_at dksX10_reachLeft_3 3 rfl rfl)
theorem dX10_reachLeft_73 : decode cX10_reachLeft 73 = .ok (.invokevirtual 172, 3) := dk_182 0 172 (dk_at dksX10_reachLeft_3 4 rfl rfl)
theorem dX10_reachLeft_76 : decode cX10_reachLeft 76 = .ok (.goto (-39), 3) := dk_167 255 217 (dk_at dksX10_reachLeft_3 7 rfl rfl)
theorem dX10_reachLeft_79 : decode cX10_reachLeft 79 = .ok (.iload_n 2, 1) := dk_28 (dk_at dksX10_reachLeft_3 10 rfl rfl)
theorem dX10_reachLeft_80 : decode cX10_reachLeft 80 = .ok (.ireturn, 1) := dk_172 (dk_at dksX10_reachLeft_3 11 rfl rfl)
abbrev cX10_addBack : ByteArray := prog_3_method_15_code
def yX10_addBack : MethodName := ⟨RX10, "addBack", "(IILjava/util/ArrayDeque;)V"⟩
def dkwX10_addBack_3 : List UInt8 := [25, 5, 182, 0, 171, 167, 255, 191, 177]
abbrev dktX10_addBack_3 : List UInt8 := dkwX10_addBack_3 ++ []
def dkwX10_addBack_2 : List UInt8 := [25, 5, 27, 28, 42, 180, 0, 9, 182, 0, 82, 153, 0, 18, 45, 25, 5, 182, 0, 167, 154, 0, 9, 45]
abbrev dktX10_addBack_2 : List UInt8 := dkwX10_addBack_2 ++ dktX10_addBack_3
def dkwX10_addBack_1 : List UInt8 := [185, 0, 48, 1, 0, 192, 0, 52, 58, 5, 42, 180, 0, 19, 25, 5, 185, 0, 54, 2, 0, 153, 0, 32]
abbrev dktX10_addBack_1 : List UInt8 := dkwX10_addBack_1 ++ dktX10_addBack_2
def dkwX10_addBack_0 : List UInt8 := [42, 180, 0, 15, 182, 0, 36, 58, 4, 25, 4, 185, 0, 42, 1, 0, 153, 0, 61, 25, 4]
abbrev dktX10_addBack_0 : List UInt8 := dkwX10_addBack_0 ++ dktX10_addBack_1
theorem dksX10_addBack_0 : cX10_addBack.data.toList.drop 0 = dktX10_addBack_0 := by decide +kernel
theorem dksX10_addBack_1 : cX10_addBack.data.toList.drop 21 = dktX10_addBack_1 := dk_seg dksX10_addBack_0 21 rfl rfl
theorem dksX10_addBack_2 : cX10_addBack.data.toList.drop 45 = dktX10_addBack_2 := dk_seg dksX10_addBack_1 24 rfl rfl
theorem dksX10_addBack_3 : cX10_addBack.data.toList.drop 69 = dktX10_addBack_3 := dk_seg dksX10_addBack_2 24 rfl rfl
theorem dX10_addBack_0 : decode cX10_addBack 0 = .ok (.aload_n 0, 1) := dk_42 (dk_at dksX10_addBack_0 0 rfl rfl)
theorem dX10_addBack_1 : decode cX10_addBack 1 = .ok (.getfield 15, 3) := dk_180 0 15 (dk_at dksX10_addBack_0 1 rfl rfl)
theorem dX10_addBack_4 : decode cX10_addBack 4 = .ok (.invokevirtual 36, 3) := dk_182 0 36 (dk_at dksX10_addBack_0 4 rfl rfl)
theorem dX10_addBack_7 : decode cX10_addBack 7 = .ok (.astore 4, 2) := dk_58 4 (dk_at dksX10_addBack_0 7 rfl rfl)
theorem dX10_addBack_9 : decode cX10_addBack 9 = .ok (.aload 4, 2) := dk_25 4 (dk_at dksX10_addBack_0 9 rfl rfl)
theorem dX10_addBack_11 : decode cX10_addBack 11 = .ok (.invokeinterface 42 1, 5) := by decide +kernel
theorem dX10_addBack_16 : decode cX10_addBack 16 = .ok (.ifCond .eq 61, 3) := dk_153 0 61 (dk_at dksX10_addBack_0 16 rfl rfl)
theorem dX10_addBack_19 : decode cX10_addBack 19 = .ok (.aload 4, 2) := dk_25 4 (dk_at dksX10_addBack_0 19 rfl rfl)
theorem dX10_addBack_21 : decode cX10_addBack 21 = .ok (.invokeinterface 48 1, 5) := by decide +kernel
theorem dX10_addBack_26 : decode cX10_addBack 26 = .ok (.checkcast 52, 3) := dk_192 0 52 (dk_at dksX10_addBack_1 5 rfl rfl)
theorem dX10_addBack_29 : decode cX10_addBack 29 = .ok (.astore 5, 2) := dk_58 5 (dk_at dksX10_addBack_1 8 rfl rfl)
theorem dX10_addBack_31 : decode cX10_addBack 31 = .ok (.aload_n 0, 1) := dk_42 (dk_at dksX10_addBack_1 10 rfl rfl)
theorem dX10_addBack_32 : decode cX10_addBack 32 = .ok (.getfield 19, 3) := dk_180 0 19 (dk_at dksX10_addBack_1 11 rfl rfl)
theorem dX10_addBack_35 : decode cX10_addBack 35 = .ok (.aload 5, 2) := dk_25 5 (dk_at dksX10_addBack_1 14 rfl rfl)
theorem dX10_addBack_37 : decode cX10_addBack 37 = .ok (.invokeinterface 54 2, 5) := by decide +kernel
theorem dX10_addBack_42 : decode cX10_addBack 42 = .ok (.ifCond .eq 32, 3) := dk_153 0 32 (dk_at dksX10_addBack_1 21 rfl rfl)
theorem dX10_addBack_45 : decode cX10_addBack 45 = .ok (.aload 5, 2) := dk_25 5 (dk_at dksX10_addBack_2 0 rfl rfl)
theorem dX10_addBack_47 : decode cX10_addBack 47 = .ok (.iload_n 1, 1) := dk_27 (dk_at dksX10_addBack_2 2 rfl rfl)
theorem dX10_addBack_48 : decode cX10_addBack 48 = .ok (.iload_n 2, 1) := dk_28 (dk_at dksX10_addBack_2 3 rfl rfl)
theorem dX10_addBack_49 : decode cX10_addBack 49 = .ok (.aload_n 0, 1) := dk_42 (dk_at dksX10_addBack_2 4 rfl rfl)
theorem dX10_addBack_50 : decode cX10_addBack 50 = .ok (.getfield 9, 3) := dk_180 0 9 (dk_at dksX10_addBack_2 5 rfl rfl)
theorem dX10_addBack_53 : decode cX10_addBack 53 = .ok (.invokevirtual 82, 3) := dk_182 0 82 (dk_at dksX10_addBack_2 8 rfl rfl)
theorem dX10_addBack_56 : decode cX10_addBack 56 = .ok (.ifCond .eq 18, 3) := dk_153 0 18 (dk_at dksX10_addBack_2 11 rfl rfl)
theorem dX10_addBack_59 : decode cX10_addBack 59 = .ok (.aload_n 3, 1) := dk_45 (dk_at dksX10_addBack_2 14 rfl rfl)
theorem dX10_addBack_60 : decode cX10_addBack 60 = .ok (.aload 5, 2) := dk_25 5 (dk_at dksX10_addBack_2 15 rfl rfl)
theorem dX10_addBack_62 : decode cX10_addBack 62 = .ok (.invokevirtual 167, 3) := dk_182 0 167 (dk_at dksX10_addBack_2 17 rfl rfl)
theorem dX10_addBack_65 : decode cX10_addBack 65 = .ok (.ifCond .ne 9, 3) := dk_154 0 9 (dk_at dksX10_addBack_2 20 rfl rfl)
theorem dX10_addBack_68 : decode cX10_addBack 68 = .ok (.aload_n 3, 1) := dk_45 (dk_at dksX10_addBack_2 23 rfl rfl)
theorem dX10_addBack_69 : decode cX10_addBack 69 = .ok (.aload 5, 2) := dk_25 5 (dk_at dksX10_addBack_3 0 rfl rfl)
theorem dX10_addBack_71 : decode cX10_addBack 71 = .ok (.invokevirtual 171, 3) := dk_182 0 171 (dk_at dksX10_addBack_3 2 rfl rfl)
theorem dX10_addBack_74 : decode cX10_addBack 74 = .ok (.goto (-65), 3) := dk_167 255 191 (dk_at dksX10_addBack_3 5 rfl rfl)
theorem dX10_addBack_77 : decode cX10_addBack 77 = .ok (.return_, 1) := dk_177 (dk_at dksX10_addBack_3 8 rfl rfl)
theorem q139 : (Jvm.Cond.initialized "MissingMiddles$Chains") ∈ lw_all := lw_g (lw_at lw_m1 37 rfl) rfl
theorem q259 : (Jvm.Cond.selects "MissingMiddles$Chains" ({ cls := "java/lang/Object", name := "getClass", desc := "()Ljava/lang/Class;" } : Jvm.MethodName) ({ cls := "java/lang/Object", name := "getClass", desc := "()Ljava/lang/Class;" } : Jvm.MethodName)) ∈ lw_all := lw_g (lw_at lw_m1 157 rfl) rfl
theorem q482 : (Jvm.Cond.instantiable "MissingMiddles$Chains" (3 : Nat)) ∈ lw_all := lw_g (lw_at lw_m2 140 rfl) rfl
theorem q499 : (Jvm.Cond.instanceMethod ({ cls := "MissingMiddles$Chains", name := "<init>", desc := "(LMissingMiddles$Book;Ljava/util/ArrayList;LMissingMiddles$Choice;)V" } : Jvm.MethodName)) ∈ lw_all := lw_g (lw_at lw_m2 157 rfl) rfl
theorem q500 : (Jvm.Cond.code ({ cls := "MissingMiddles$Chains", name := "<init>", desc := "(LMissingMiddles$Book;Ljava/util/ArrayList;LMissingMiddles$Choice;)V" } : Jvm.MethodName) prog_3_method_1_code (4 : Nat) (Option.none : Option Jvm.ClassFile.FieldType)) ∈ lw_all := lw_g (lw_at lw_m2 158 rfl) rfl
theorem q501 : (Jvm.Cond.methodLink "MissingMiddles$Chains" (3 : Nat) ({ cls := "java/lang/Object", name := "<init>", desc := "()V" } : Jvm.MethodName)) ∈ lw_all := lw_g (lw_at lw_m2 159 rfl) rfl
theorem q502 : (Jvm.Cond.fieldLink "MissingMiddles$Chains" (9 : Nat) "MissingMiddles$Chains" "book" "LMissingMiddles$Book;") ∈ lw_all := lw_g (lw_at lw_m2 160 rfl) rfl
theorem q503 : (Jvm.Cond.fieldLink "MissingMiddles$Chains" (15 : Nat) "MissingMiddles$Chains" "scraps" "Ljava/util/ArrayList;") ∈ lw_all := lw_g (lw_at lw_m2 161 rfl) rfl
theorem q504 : (Jvm.Cond.fieldLink "MissingMiddles$Chains" (19 : Nat) "MissingMiddles$Chains" "choice" "LMissingMiddles$Choice;") ∈ lw_all := lw_g (lw_at lw_m2 162 rfl) rfl
theorem q505 : (Jvm.Cond.laysFinal "MissingMiddles$Chains" "MissingMiddles$Chains" "book" "LMissingMiddles$Book;") ∈ lw_all := lw_g (lw_at lw_m2 163 rfl) rfl
theorem q506 : (Jvm.Cond.soleField "MissingMiddles$Chains" "book") ∈ lw_all := lw_g (lw_at lw_m2 164 rfl) rfl
theorem q507 : (Jvm.Cond.laysFinal "MissingMiddles$Chains" "MissingMiddles$Chains" "scraps" "Ljava/util/ArrayList;") ∈ lw_all := lw_g (lw_at lw_m2 165 rfl) rfl
theorem q508 : (Jvm.Cond.soleField "MissingMiddles$Chains" "scraps") ∈ lw_all := lw_g (lw_at lw_m2 166 rfl) rfl
theorem q509 : (Jvm.Cond.laysFinal "MissingMiddles$Chains" "MissingMiddles$Chains" "choice" "LMissingMiddles$Choice;") ∈ lw_all := lw_g (lw_at lw_m2 167 rfl) rfl
theorem q510 : (Jvm.Cond.soleField "MissingMiddles$Chains" "choice") ∈ lw_all := lw_g (lw_at lw_m2 168 rfl) rfl
theorem q511 : (Jvm.Cond.superclass "MissingMiddles$Chains" "java/lang/Object") ∈ lw_all := lw_g (lw_at lw_m2 169 rfl) rfl
theorem q513 : (Jvm.Cond.instanceMethod ({ cls := "MissingMiddles$Chains", name := "best", desc := "()Ljava/util/LinkedList;" } : Jvm.MethodName)) ∈ lw_all := lw_g (lw_at lw_m2 171 rfl) rfl
theorem q514 : (Jvm.Cond.selects "MissingMiddles$Chains" ({ cls := "MissingMiddles$Chains", name := "best", desc := "()Ljava/util/LinkedList;" } : Jvm.MethodName) ({ cls := "MissingMiddles$Chains", name := "best", desc := "()Ljava/util/LinkedList;" } : Jvm.MethodName)) ∈ lw_all := lw_g (lw_at lw_m2 172 rfl) rfl
theorem q515 : (Jvm.Cond.code ({ cls := "MissingMiddles$Chains", name := "best", desc := "()Ljava/util/LinkedList;" } : Jvm.MethodName) prog_3_method_8_code (6 : Nat) (Option.some (Jvm.ClassFile.FieldType.object "java/util/LinkedList"))) ∈ lw_all := lw_g (lw_at lw_m2 173 rfl) rfl
theorem q516 : (Jvm.Cond.methodLink "MissingMiddles$Chains" (92 : Nat) ({ cls := "MissingMiddles$Chains", name := "fewest", desc := "(II)I" } : Jvm.MethodName)) ∈ lw_all := lw_g (lw_at lw_m2 174 rfl) rfl
theorem q517 : (Jvm.Cond.privateMethod ({ cls := "MissingMiddles$Chains", name := "fewest", desc := "(II)I" } : Jvm.MethodName)) ∈ lw_tbl := lw_at lw_m2 175 rfl
theorem q518 : (Jvm.Cond.instanceMethod ({ cls := "MissingMiddles$Chains", name := "fewest", desc := "(II)I" } : Jvm.MethodName)) ∈ lw_all := lw_g (lw_at lw_m2 176 rfl) rfl
theorem q519 : (Jvm.Cond.code ({ cls := "MissingMiddles$Chains", name := "fewest", desc := "(II)I" } : Jvm.MethodName) prog_3_method_7_code (8 : Nat) (Option.some Jvm.ClassFile.FieldType.int)) ∈ lw_all := lw_g (lw_at lw_m2 177 rfl) rfl
theorem q520 : (Jvm.Cond.methodLink "MissingMiddles$Chains" (32 : Nat) ({ cls := "MissingMiddles$Chains", name := "isEnd", desc := "(II)Z" } : Jvm.MethodName)) ∈ lw_all := lw_g (lw_at lw_m2 178 rfl) rfl
theorem q521 : (Jvm.Cond.privateMethod ({ cls := "MissingMiddles$Chains", name := "isEnd", desc := "(II)Z" } : Jvm.MethodName)) ∈ lw_tbl := lw_at lw_m2 179 rfl
theorem q522 : (Jvm.Cond.instanceMethod ({ cls := "MissingMiddles$Chains", name := "isEnd", desc := "(II)Z" } : Jvm.MethodName)) ∈ lw_all := lw_g (lw_at lw_m2 180 rfl) rfl
theorem q523 : (Jvm.Cond.code ({ cls := "MissingMiddles$Chains", name := "isEnd", desc := "(II)Z" } : Jvm.MethodName) prog_3_method_2_code (3 : Nat) (Option.some Jvm.ClassFile.FieldType.boolean)) ∈ lw_all := lw_g (lw_at lw_m2 181 rfl) rfl
theorem q524 : (Jvm.Cond.methodLink "MissingMiddles$Chains" (36 : Nat) ({ cls := "java/util/ArrayList", name := "iterator", desc := "()Ljava/util/Iterator;" } : Jvm.MethodName)) ∈ lw_all := lw_g (lw_at lw_m2 182 rfl) rfl
theorem q549 : (Jvm.Cond.interfaceEntry "MissingMiddles$Chains" (42 : Nat)) ∈ lw_tbl := lw_at lw_m2 207 rfl
theorem q550 : (Jvm.Cond.methodLink "MissingMiddles$Chains" (42 : Nat) ({ cls := "java/util/Iterator", name := "hasNext", desc := "()Z" } : Jvm.MethodName)) ∈ lw_all := lw_g (lw_at lw_m2 208 rfl) rfl
theorem q581 : (Jvm.Cond.interfaceEntry "MissingMiddles$Chains" (48 : Nat)) ∈ lw_tbl := lw_at lw_m2 239 rfl
theorem q582 : (Jvm.Cond.methodLink "MissingMiddles$Chains" (48 : Nat) ({ cls := "java/util/Iterator", name := "next", desc := "()Ljava/lang/Object;" } : Jvm.MethodName)) ∈ lw_all := lw_g (lw_at lw_m3 0 rfl) rfl
theorem q1011 : (Jvm.Cond.classLink "MissingMiddles$Chains" (52 : Nat) "MissingMiddles$Scrap") ∈ lw_all := lw_g (lw_at lw_m4 189 rfl) rfl
theorem q1012 : (Jvm.Cond.interfaceEntry "MissingMiddles$Chains" (54 : Nat)) ∈ lw_tbl := lw_at lw_m4 190 rfl
theorem q1013 : (Jvm.Cond.methodLink "MissingMiddles$Chains" (54 : Nat) ({ cls := "MissingMiddles$Choice", name := "takes", desc := "(LMissingMiddles$Scrap;)Z" } : Jvm.MethodName)) ∈ lw_all := lw_g (lw_at lw_m4 191 rfl) rfl
theorem q1016 : (Jvm.Cond.methodLink "MissingMiddles$Chains" (60 : Nat) ({ cls := "MissingMiddles$Scrap", name := "goesOn", desc := "(IILMissingMiddles$Book;)Z" } : Jvm.MethodName)) ∈ lw_all := lw_g (lw_at lw_m4 194 rfl) rfl
theorem q1020 : (Jvm.Cond.classLink "MissingMiddles$Chains" (95 : Nat) "java/util/LinkedList") ∈ lw_all := lw_g (lw_at lw_m4 198 rfl) rfl
theorem q1021 : (Jvm.Cond.methodLink "MissingMiddles$Chains" (97 : Nat) ({ cls := "java/util/LinkedList", name := "<init>", desc := "()V" } : Jvm.MethodName)) ∈ lw_all := lw_g (lw_at lw_m4 199 rfl) rfl
theorem q1022 : (Jvm.Cond.methodLink "MissingMiddles$Chains" (98 : Nat) ({ cls := "MissingMiddles$Chains", name := "next", desc := "(III)I" } : Jvm.MethodName)) ∈ lw_all := lw_g (lw_at lw_m4 200 rfl) rfl
theorem q1023 : (Jvm.Cond.privateMethod ({ cls := "MissingMiddles$Chains", name := "next", desc := "(III)I" } : Jvm.MethodName)) ∈ lw_tbl := lw_at lw_m4 201 rfl
theorem q1024 : (Jvm.Cond.instanceMethod ({ cls := "MissingMiddles$Chains", name := "next", desc := "(III)I" } : Jvm.MethodName)) ∈ lw_all := lw_g (lw_at lw_m4 202 rfl) rfl
theorem q1025 : (Jvm.Cond.code ({ cls := "MissingMiddles$Chains", name := "next", desc := "(III)I" } : Jvm.MethodName) prog_3_method_9_code (8 : Nat) (Option.some Jvm.ClassFile.FieldType.int)) ∈ lw_all := lw_g (lw_at lw_m4 203 rfl) rfl
theorem q1026 : (Jvm.Cond.classLink "MissingMiddles$Chains" (115 : Nat) "java/util/NoSuchElementException") ∈ lw_all := lw_g (lw_at lw_m4 204 rfl) rfl
theorem q1027 : (Jvm.Cond.methodLink "MissingMiddles$Chains" (117 : Nat) ({ cls := "java/util/NoSuchElementException", name := "<init>", desc := "()V" } : Jvm.MethodName)) ∈ lw_all := lw_g (lw_at lw_m4 205 rfl) rfl
theorem q1028 : (Jvm.Cond.methodLink "MissingMiddles$Chains" (101 : Nat) ({ cls := "java/lang/Integer", name := "valueOf", desc := "(I)Ljava/lang/Integer;" } : Jvm.MethodName)) ∈ lw_all := lw_g (lw_at lw_m4 206 rfl) rfl
theorem q1048 : (Jvm.Cond.methodLink "MissingMiddles$Chains" (107 : Nat) ({ cls := "java/util/LinkedList", name := "addLast", desc := "(Ljava/lang/Object;)V" } : Jvm.MethodName)) ∈ lw_all := lw_g (lw_at lw_m4 226 rfl) rfl
theorem q1077 : (Jvm.Cond.methodLink "MissingMiddles$Chains" (111 : Nat) ({ cls := "java/util/ArrayList", name := "get", desc := "(I)Ljava/lang/Object;" } : Jvm.MethodName)) ∈ lw_all := lw_g (lw_at lw_m5 15 rfl) rfl
theorem q1079 : (Jvm.Cond.instanceMethod ({ cls := "MissingMiddles$Chains", name := "count", desc := "()I" } : Jvm.MethodName)) ∈ lw_all := lw_g (lw_at lw_m5 17 rfl) rfl
theorem q1080 : (Jvm.Cond.selects "MissingMiddles$Chains" ({ cls := "MissingMiddles$Chains", name := "count", desc := "()I" } : Jvm.MethodName) ({ cls := "MissingMiddles$Chains", name := "count", desc := "()I" } : Jvm.MethodName)) ∈ lw_all := lw_g (lw_at lw_m5 18 rfl) rfl
theorem q1081 : (Jvm.Cond.code ({ cls := "MissingMiddles$Chains", name := "count", desc := "()I" } : Jvm.MethodName) prog_3_method_4_code (1 : Nat) (Option.some Jvm.ClassFile.FieldType.int)) ∈ lw_all := lw_g (lw_at lw_m5 19 rfl) rfl
theorem q1082 : (Jvm.Cond.methodLink "MissingMiddles$Chains" (68 : Nat) ({ cls := "MissingMiddles$Chains", name := "count", desc := "(II)I" } : Jvm.MethodName)) ∈ lw_all := lw_g (lw_at lw_m5 20 rfl) rfl
theorem q1083 : (Jvm.Cond.privateMethod ({ cls := "MissingMiddles$Chains", name := "count", desc := "(II)I" } : Jvm.MethodName)) ∈ lw_tbl := lw_at lw_m5 21 rfl
theorem q1084 : (Jvm.Cond.instanceMethod ({ cls := "MissingMiddles$Chains", name := "count", desc := "(II)I" } : Jvm.MethodName)) ∈ lw_all := lw_g (lw_at lw_m5 22 rfl) rfl
theorem q1085 : (Jvm.Cond.code ({ cls := "MissingMiddles$Chains", name := "count", desc := "(II)I" } : Jvm.MethodName) prog_3_method_3_code (6 : Nat) (Option.some Jvm.ClassFile.FieldType.int)) ∈ lw_all := lw_g (lw_at lw_m5 23 rfl) rfl
theorem q1086 : (Jvm.Cond.methodLinkNest "MissingMiddles$Chains" (72 : Nat) ({ cls := "MissingMiddles", name := "atMost", desc := "(I)I" } : Jvm.MethodName) "MissingMiddles") ∈ lw_tbl := lw_at lw_m5 24 rfl
theorem q1091 : (Jvm.Cond.instanceMethod ({ cls := "MissingMiddles$Chains", name := "countBack", desc := "()I" } : Jvm.MethodName)) ∈ lw_all := lw_g (lw_at lw_m5 29 rfl) rfl
theorem q1092 : (Jvm.Cond.selects "MissingMiddles$Chains" ({ cls := "MissingMiddles$Chains", name := "countBack", desc := "()I" } : Jvm.MethodName) ({ cls := "MissingMiddles$Chains", name := "countBack", desc := "()I" } : Jvm.MethodName)) ∈ lw_all := lw_g (lw_at lw_m5 30 rfl) rfl
theorem q1093 : (Jvm.Cond.code ({ cls := "MissingMiddles$Chains", name := "countBack", desc := "()I" } : Jvm.MethodName) prog_3_method_6_code (1 : Nat) (Option.some Jvm.ClassFile.FieldType.int)) ∈ lw_all := lw_g (lw_at lw_m5 31 rfl) rfl
theorem q1094 : (Jvm.Cond.methodLink "MissingMiddles$Chains" (89 : Nat) ({ cls := "MissingMiddles$Chains", name := "countBack", desc := "(II)I" } : Jvm.MethodName)) ∈ lw_all := lw_g (lw_at lw_m5 32 rfl) rfl
theorem q1095 : (Jvm.Cond.privateMethod ({ cls := "MissingMiddles$Chains", name := "countBack", desc := "(II)I" } : Jvm.MethodName)) ∈ lw_tbl := lw_at lw_m5 33 rfl
theorem q1096 : (Jvm.Cond.instanceMethod ({ cls := "MissingMiddles$Chains", name := "countBack", desc := "(II)I" } : Jvm.MethodName)) ∈ lw_all := lw_g (lw_at lw_m5 34 rfl) rfl
theorem q1097 : (Jvm.Cond.code ({ cls := "MissingMiddles$Chains", name := "countBack", desc := "(II)I" } : Jvm.MethodName) prog_3_method_5_code (6 : Nat) (Option.some Jvm.ClassFile.FieldType.int)) ∈ lw_all := lw_g (lw_at lw_m5 35 rfl) rfl
theorem q1098 : (Jvm.Cond.methodLink "MissingMiddles$Chains" (82 : Nat) ({ cls := "MissingMiddles$Scrap", name := "goesBack", desc := "(IILMissingMiddles$Book;)Z" } : Jvm.MethodName)) ∈ lw_all := lw_g (lw_at lw_m5 36 rfl) rfl
theorem q1103 : (Jvm.Cond.instanceMethod ({ cls := "MissingMiddles$Chains", name := "doesJoin", desc := "(Ljava/util/LinkedList;)Z" } : Jvm.MethodName)) ∈ lw_all := lw_g (lw_at lw_m5 41 rfl) rfl
theorem q1104 : (Jvm.Cond.selects "MissingMiddles$Chains" ({ cls := "MissingMiddles$Chains", name := "doesJoin", desc := "(Ljava/util/LinkedList;)Z" } : Jvm.MethodName) ({ cls := "MissingMiddles$Chains", name := "doesJoin", desc := "(Ljava/util/LinkedList;)Z" } : Jvm.MethodName)) ∈ lw_all := lw_g (lw_at lw_m5 42 rfl) rfl
theorem q1105 : (Jvm.Cond.code ({ cls := "MissingMiddles$Chains", name := "doesJoin", desc := "(Ljava/util/LinkedList;)Z" } : Jvm.MethodName) prog_3_method_16_code (8 : Nat) (Option.some Jvm.ClassFile.FieldType.boolean)) ∈ lw_all := lw_g (lw_at lw_m5 43 rfl) rfl
theorem q1106 : (Jvm.Cond.methodLink "MissingMiddles$Chains" (178 : Nat) ({ cls := "java/util/LinkedList", name := "iterator", desc := "()Ljava/util/Iterator;" } : Jvm.MethodName)) ∈ lw_all := lw_g (lw_at lw_m5 44 rfl) rfl
theorem q1190 : (Jvm.Cond.classLink "MissingMiddles$Chains" (102 : Nat) "java/lang/Integer") ∈ lw_all := lw_g (lw_at lw_m5 128 rfl) rfl
theorem q1191 : (Jvm.Cond.methodLink "MissingMiddles$Chains" (179 : Nat) ({ cls := "java/lang/Integer", name := "intValue", desc := "()I" } : Jvm.MethodName)) ∈ lw_all := lw_g (lw_at lw_m5 129 rfl) rfl
theorem q1196 : (Jvm.Cond.instanceMethod ({ cls := "MissingMiddles$Chains", name := "needed", desc := "()I" } : Jvm.MethodName)) ∈ lw_all := lw_g (lw_at lw_m5 134 rfl) rfl
theorem q1197 : (Jvm.Cond.selects "MissingMiddles$Chains" ({ cls := "MissingMiddles$Chains", name := "needed", desc := "()I" } : Jvm.MethodName) ({ cls := "MissingMiddles$Chains", name := "needed", desc := "()I" } : Jvm.MethodName)) ∈ lw_all := lw_g (lw_at lw_m5 135 rfl) rfl
theorem q1198 : (Jvm.Cond.code ({ cls := "MissingMiddles$Chains", name := "needed", desc := "()I" } : Jvm.MethodName) prog_3_method_11_code (4 : Nat) (Option.some Jvm.ClassFile.FieldType.int)) ∈ lw_all := lw_g (lw_at lw_m5 136 rfl) rfl
theorem q1199 : (Jvm.Cond.classLink "MissingMiddles$Chains" (119 : Nat) "java/util/BitSet") ∈ lw_all := lw_g (lw_at lw_m5 137 rfl) rfl
theorem q1201 : (Jvm.Cond.methodLink "MissingMiddles$Chains" (139 : Nat) ({ cls := "java/util/BitSet", name := "<init>", desc := "(I)V" } : Jvm.MethodName)) ∈ lw_all := lw_g (lw_at lw_m5 139 rfl) rfl
theorem q1223 : (Jvm.Cond.methodLink "MissingMiddles$Chains" (124 : Nat) ({ cls := "java/util/ArrayList", name := "size", desc := "()I" } : Jvm.MethodName)) ∈ lw_all := lw_g (lw_at lw_m5 161 rfl) rfl
theorem q1224 : (Jvm.Cond.methodLink "MissingMiddles$Chains" (141 : Nat) ({ cls := "java/util/BitSet", name := "set", desc := "(II)V" } : Jvm.MethodName)) ∈ lw_all := lw_g (lw_at lw_m5 162 rfl) rfl
theorem q1266 : (Jvm.Cond.methodLink "MissingMiddles$Chains" (132 : Nat) ({ cls := "MissingMiddles$Chains", name := "keep", desc := "(IILjava/util/BitSet;Ljava/util/BitSet;)V" } : Jvm.MethodName)) ∈ lw_all := lw_g (lw_at lw_m5 204 rfl) rfl
theorem q1267 : (Jvm.Cond.privateMethod ({ cls := "MissingMiddles$Chains", name := "keep", desc := "(IILjava/util/BitSet;Ljava/util/BitSet;)V" } : Jvm.MethodName)) ∈ lw_tbl := lw_at lw_m5 205 rfl
theorem q1268 : (Jvm.Cond.instanceMethod ({ cls := "MissingMiddles$Chains", name := "keep", desc := "(IILjava/util/BitSet;Ljava/util/BitSet;)V" } : Jvm.MethodName)) ∈ lw_all := lw_g (lw_at lw_m5 206 rfl) rfl
theorem q1269 : (Jvm.Cond.code ({ cls := "MissingMiddles$Chains", name := "keep", desc := "(IILjava/util/BitSet;Ljava/util/BitSet;)V" } : Jvm.MethodName) prog_3_method_10_code (7 : Nat) (Option.none : Option Jvm.ClassFile.FieldType)) ∈ lw_all := lw_g (lw_at lw_m5 207 rfl) rfl
theorem q1270 : (Jvm.Cond.methodLink "MissingMiddles$Chains" (118 : Nat) ({ cls := "java/util/BitSet", name := "and", desc := "(Ljava/util/BitSet;)V" } : Jvm.MethodName)) ∈ lw_all := lw_g (lw_at lw_m5 208 rfl) rfl
theorem q1278 : (Jvm.Cond.methodLink "MissingMiddles$Chains" (128 : Nat) ({ cls := "java/util/BitSet", name := "set", desc := "(I)V" } : Jvm.MethodName)) ∈ lw_all := lw_g (lw_at lw_m5 216 rfl) rfl
theorem q1283 : (Jvm.Cond.methodLink "MissingMiddles$Chains" (136 : Nat) ({ cls := "java/util/BitSet", name := "clear", desc := "(I)V" } : Jvm.MethodName)) ∈ lw_all := lw_g (lw_at lw_m5 221 rfl) rfl
theorem q1287 : (Jvm.Cond.methodLink "MissingMiddles$Chains" (144 : Nat) ({ cls := "java/util/BitSet", name := "nextSetBit", desc := "(I)I" } : Jvm.MethodName)) ∈ lw_all := lw_g (lw_at lw_m5 225 rfl) rfl
theorem q1298 : (Jvm.Cond.methodLink "MissingMiddles$Chains" (147 : Nat) ({ cls := "MissingMiddles$Chains", name := "count", desc := "()I" } : Jvm.MethodName)) ∈ lw_all := lw_g (lw_at lw_m5 236 rfl) rfl
theorem q1431 : (Jvm.Cond.fieldLinkNest "MissingMiddles$Chains" (85 : Nat) "MissingMiddles$Scrap" "first" "I" "MissingMiddles") ∈ lw_tbl := lw_at lw_m6 129 rfl
theorem q1434 : (Jvm.Cond.fieldLinkNest "MissingMiddles$Chains" (64 : Nat) "MissingMiddles$Scrap" "last" "I" "MissingMiddles") ∈ lw_tbl := lw_at lw_m6 132 rfl
theorem q1437 : (Jvm.Cond.fieldLinkNest "MissingMiddles$Chains" (86 : Nat) "MissingMiddles$Scrap" "begin" "I" "MissingMiddles") ∈ lw_tbl := lw_at lw_m6 135 rfl
theorem q1440 : (Jvm.Cond.fieldLinkNest "MissingMiddles$Chains" (65 : Nat) "MissingMiddles$Scrap" "end" "I" "MissingMiddles") ∈ lw_tbl := lw_at lw_m6 138 rfl
theorem q1622 : (Jvm.Cond.fieldLinkNest "MissingMiddles$Chains" (76 : Nat) "MissingMiddles$Book" "first" "I" "MissingMiddles") ∈ lw_tbl := lw_at lw_m7 80 rfl
theorem q1626 : (Jvm.Cond.fieldLinkNest "MissingMiddles$Chains" (23 : Nat) "MissingMiddles$Book" "last" "I" "MissingMiddles") ∈ lw_tbl := lw_at lw_m7 84 rfl
theorem q1630 : (Jvm.Cond.fieldLinkNest "MissingMiddles$Chains" (79 : Nat) "MissingMiddles$Book" "left" "I" "MissingMiddles") ∈ lw_tbl := lw_at lw_m7 88 rfl
theorem q1633 : (Jvm.Cond.fieldLinkNest "MissingMiddles$Chains" (29 : Nat) "MissingMiddles$Book" "right" "I" "MissingMiddles") ∈ lw_tbl := lw_at lw_m7 91 rfl
theorem q1759 : (Jvm.Cond.instanceMethod ({ cls := "MissingMiddles$Chains", name := "reachRight", desc := "()I" } : Jvm.MethodName)) ∈ lw_all := lw_g (lw_at lw_m7 217 rfl) rfl
theorem q1760 : (Jvm.Cond.selects "MissingMiddles$Chains" ({ cls := "MissingMiddles$Chains", name := "reachRight", desc := "()I" } : Jvm.MethodName) ({ cls := "MissingMiddles$Chains", name := "reachRight", desc := "()I" } : Jvm.MethodName)) ∈ lw_all := lw_g (lw_at lw_m7 218 rfl) rfl
theorem q1761 : (Jvm.Cond.code ({ cls := "MissingMiddles$Chains", name := "reachRight", desc := "()I" } : Jvm.MethodName) prog_3_method_12_code (4 : Nat) (Option.some Jvm.ClassFile.FieldType.int)) ∈ lw_all := lw_g (lw_at lw_m7 219 rfl) rfl
theorem q1762 : (Jvm.Cond.classLink "MissingMiddles$Chains" (149 : Nat) "java/util/ArrayDeque") ∈ lw_all := lw_g (lw_at lw_m7 220 rfl) rfl
theorem q1763 : (Jvm.Cond.methodLink "MissingMiddles$Chains" (151 : Nat) ({ cls := "java/util/ArrayDeque", name := "<init>", desc := "()V" } : Jvm.MethodName)) ∈ lw_all := lw_g (lw_at lw_m7 221 rfl) rfl
theorem q1764 : (Jvm.Cond.methodLink "MissingMiddles$Chains" (152 : Nat) ({ cls := "MissingMiddles$Chains", name := "addOn", desc := "(IILjava/util/ArrayDeque;)V" } : Jvm.MethodName)) ∈ lw_all := lw_g (lw_at lw_m7 222 rfl) rfl
theorem q1765 : (Jvm.Cond.privateMethod ({ cls := "MissingMiddles$Chains", name := "addOn", desc := "(IILjava/util/ArrayDeque;)V" } : Jvm.MethodName)) ∈ lw_tbl := lw_at lw_m7 223 rfl
theorem q1766 : (Jvm.Cond.instanceMethod ({ cls := "MissingMiddles$Chains", name := "addOn", desc := "(IILjava/util/ArrayDeque;)V" } : Jvm.MethodName)) ∈ lw_all := lw_g (lw_at lw_m7 224 rfl) rfl
theorem q1767 : (Jvm.Cond.code ({ cls := "MissingMiddles$Chains", name := "addOn", desc := "(IILjava/util/ArrayDeque;)V" } : Jvm.MethodName) prog_3_method_13_code (6 : Nat) (Option.none : Option Jvm.ClassFile.FieldType)) ∈ lw_all := lw_g (lw_at lw_m7 225 rfl) rfl
theorem q1768 : (Jvm.Cond.methodLink "MissingMiddles$Chains" (167 : Nat) ({ cls := "java/util/ArrayDeque", name := "contains", desc := "(Ljava/lang/Object;)Z" } : Jvm.MethodName)) ∈ lw_all := lw_g (lw_at lw_m7 226 rfl) rfl
theorem q1778 : (Jvm.Cond.selects "MissingMiddles$Chains" ({ cls := "java/lang/Object", name := "equals", desc := "(Ljava/lang/Object;)Z" } : Jvm.MethodName) ({ cls := "java/lang/Object", name := "equals", desc := "(Ljava/lang/Object;)Z" } : Jvm.MethodName)) ∈ lw_all := lw_g (lw_at lw_m7 236 rfl) rfl
theorem q1801 : (Jvm.Cond.methodLink "MissingMiddles$Chains" (171 : Nat) ({ cls := "java/util/ArrayDeque", name := "addLast", desc := "(Ljava/lang/Object;)V" } : Jvm.MethodName)) ∈ lw_all := lw_g (lw_at lw_m8 19 rfl) rfl
theorem q1835 : (Jvm.Cond.methodLink "MissingMiddles$Chains" (156 : Nat) ({ cls := "java/util/ArrayDeque", name := "isEmpty", desc := "()Z" } : Jvm.MethodName)) ∈ lw_all := lw_g (lw_at lw_m8 53 rfl) rfl
theorem q1839 : (Jvm.Cond.methodLink "MissingMiddles$Chains" (159 : Nat) ({ cls := "java/util/ArrayDeque", name := "removeFirst", desc := "()Ljava/lang/Object;" } : Jvm.MethodName)) ∈ lw_all := lw_g (lw_at lw_m8 57 rfl) rfl
theorem q1852 : (Jvm.Cond.methodLink "MissingMiddles$Chains" (162 : Nat) ({ cls := "java/lang/Math", name := "max", desc := "(II)I" } : Jvm.MethodName)) ∈ lw_all := lw_g (lw_at lw_m8 70 rfl) rfl
theorem q2134 : (Jvm.Cond.instanceMethod ({ cls := "MissingMiddles$Chains", name := "reachLeft", desc := "()I" } : Jvm.MethodName)) ∈ lw_all := lw_g (lw_at lw_m9 112 rfl) rfl
theorem q2135 : (Jvm.Cond.selects "MissingMiddles$Chains" ({ cls := "MissingMiddles$Chains", name := "reachLeft", desc := "()I" } : Jvm.MethodName) ({ cls := "MissingMiddles$Chains", name := "reachLeft", desc := "()I" } : Jvm.MethodName)) ∈ lw_all := lw_g (lw_at lw_m9 113 rfl) rfl
theorem q2136 : (Jvm.Cond.code ({ cls := "MissingMiddles$Chains", name := "reachLeft", desc := "()I" } : Jvm.MethodName) prog_3_method_14_code (4 : Nat) (Option.some Jvm.ClassFile.FieldType.int)) ∈ lw_all := lw_g (lw_at lw_m9 114 rfl) rfl
theorem q2137 : (Jvm.Cond.methodLink "MissingMiddles$Chains" (172 : Nat) ({ cls := "MissingMiddles$Chains", name := "addBack", desc := "(IILjava/util/ArrayDeque;)V" } : Jvm.MethodName)) ∈ lw_all := lw_g (lw_at lw_m9 115 rfl) rfl
theorem q2138 : (Jvm.Cond.privateMethod ({ cls := "MissingMiddles$Chains", name := "addBack", desc := "(IILjava/util/ArrayDeque;)V" } : Jvm.MethodName)) ∈ lw_tbl := lw_at lw_m9 116 rfl
theorem q2139 : (Jvm.Cond.instanceMethod ({ cls := "MissingMiddles$Chains", name := "addBack", desc := "(IILjava/util/ArrayDeque;)V" } : Jvm.MethodName)) ∈ lw_all := lw_g (lw_at lw_m9 117 rfl) rfl
theorem q2140 : (Jvm.Cond.code ({ cls := "MissingMiddles$Chains", name := "addBack", desc := "(IILjava/util/ArrayDeque;)V" } : Jvm.MethodName) prog_3_method_15_code (6 : Nat) (Option.none : Option Jvm.ClassFile.FieldType)) ∈ lw_all := lw_g (lw_at lw_m9 118 rfl) rfl
theorem q2141 : (Jvm.Cond.methodLink "MissingMiddles$Chains" (175 : Nat) ({ cls := "java/lang/Math", name := "min", desc := "(II)I" } : Jvm.MethodName)) ∈ lw_all := lw_g (lw_at lw_m9 119 rfl) rfl
theorem q3188 : (Jvm.Cond.castable "MissingMiddles$Chains" "java/lang/Object") ∈ lw_tbl := lw_at lw_m13 206 rfl
theorem in_X10 : ∀ w ∈ wsX100, w ∈ lw_all := lw_in wsX100 [505, 507, 509] (by decide +kernel) (by decide +kernel)
/-! MissingMiddles$Parser -/
set_option maxRecDepth 100000
def RX11 : String := "MissingMiddles$Parser"
def TX11 : u_T := fun k => match k with
  | 0 => ("MissingMiddles$Parser", "text", "Ljava/lang/CharSequence;", true)
  | _ => ("MissingMiddles$Parser", "position", "I", false)
def tyX11 : Nat → FieldType := fun k => match k with
  | 0 => .object "java/lang/CharSequence"
  | _ => .int
abbrev wsX110 : List Cond := u_ws RX11 TX11 2
theorem nmX11 : ∀ a, a < 2 → ∀ b, b < 2 → a ≠ b → (TX11 a).2.1 ≠ (TX11 b).2.1 := by decide +kernel
theorem tyX11_ok : ∀ k, k < 2 → parseFieldDescriptor (TX11 k).2.2.1 = some (tyX11 k) := by decide +kernel
abbrev cX11_init : ByteArray := prog_8_method_1_code
def yX11_init : MethodName := ⟨RX11, "<init>", "(Ljava/lang/CharSequence;)V"⟩
def dkwX11_init_0 : List UInt8 := [42, 183, 0, 3, 42, 43, 181, 0, 9, 177]
abbrev dktX11_init_0 : List UInt8 := dkwX11_init_0 ++ []
theorem dksX11_init_0 : cX11_init.data.toList.drop 0 = dktX11_init_0 := by decide +kernel
theorem dX11_init_0 : decode cX11_init 0 = .ok (.aload_n 0, 1) := dk_42 (dk_at dksX11_init_0 0 rfl rfl)
theorem dX11_init_1 : decode cX11_init 1 = .ok (.invokespecial 3, 3) := dk_183 0 3 (dk_at dksX11_init_0 1 rfl rfl)
theorem dX11_init_4 : decode cX11_init 4 = .ok (.aload_n 0, 1) := dk_42 (dk_at dksX11_init_0 4 rfl rfl)
theorem dX11_init_5 : decode cX11_init 5 = .ok (.aload_n 1, 1) := dk_43 (dk_at dksX11_init_0 5 rfl rfl)
theorem dX11_init_6 : decode cX11_init 6 = .ok (.putfield 9, 3) := dk_181 0 9 (dk_at dksX11_init_0 6 rfl rfl)
theorem dX11_init_9 : decode cX11_init 9 = .ok (.return_, 1) := dk_177 (dk_at dksX11_init_0 9 rfl rfl)
abbrev cX11_orders : ByteArray := prog_8_method_10_code
def yX11_orders : MethodName := ⟨RX11, "orders", "()Ljava/util/ArrayList;"⟩
def dkwX11_orders_2 : List UInt8 := [182, 0, 114, 182, 0, 118, 61, 167, 255, 222, 43, 176]
abbrev dktX11_orders_2 : List UInt8 := dkwX11_orders_2 ++ []
def dkwX11_orders_1 : List UInt8 := [180, 0, 9, 185, 0, 19, 1, 0, 162, 0, 24, 42, 16, 59, 16, 59, 182, 0, 42, 62, 43, 42]
abbrev dktX11_orders_1 : List UInt8 := dkwX11_orders_1 ++ dktX11_orders_2
def dkwX11_orders_0 : List UInt8 := [187, 0, 111, 89, 183, 0, 113, 76, 43, 42, 182, 0, 114, 182, 0, 118, 61, 42, 180, 0, 15, 42]
abbrev dktX11_orders_0 : List UInt8 := dkwX11_orders_0 ++ dktX11_orders_1
theorem dksX11_orders_0 : cX11_orders.data.toList.drop 0 = dktX11_orders_0 := by decide +kernel
theorem dksX11_orders_1 : cX11_orders.data.toList.drop 22 = dktX11_orders_1 := dk_seg dksX11_orders_0 22 rfl rfl
theorem dksX11_orders_2 : cX11_orders.data.toList.drop 44 = dktX11_orders_2 := dk_seg dksX11_orders_1 22 rfl rfl
theorem dX11_orders_0 : decode cX11_orders 0 = .ok (.new 111, 3) := dk_187 0 111 (dk_at dksX11_orders_0 0 rfl rfl)
theorem dX11_orders_3 : decode cX11_orders 3 = .ok (.dup, 1) := dk_89 (dk_at dksX11_orders_0 3 rfl rfl)
theorem dX11_orders_4 : decode cX11_orders 4 = .ok (.invokespecial 113, 3) := dk_183 0 113 (dk_at dksX11_orders_0 4 rfl rfl)
theorem dX11_orders_7 : decode cX11_orders 7 = .ok (.astore_n 1, 1) := dk_76 (dk_at dksX11_orders_0 7 rfl rfl)
theorem dX11_orders_8 : decode cX11_orders 8 = .ok (.aload_n 1, 1) := dk_43 (dk_at dksX11_orders_0 8 rfl rfl)
theorem dX11_orders_9 : decode cX11_orders 9 = .ok (.aload_n 0, 1) := dk_42 (dk_at dksX11_orders_0 9 rfl rfl)
theorem dX11_orders_10 : decode cX11_orders 10 = .ok (.invokevirtual 114, 3) := dk_182 0 114 (dk_at dksX11_orders_0 10 rfl rfl)
theorem dX11_orders_13 : decode cX11_orders 13 = .ok (.invokevirtual 118, 3) := dk_182 0 118 (dk_at dksX11_orders_0 13 rfl rfl)
theorem dX11_orders_16 : decode cX11_orders 16 = .ok (.istore_n 2, 1) := dk_61 (dk_at dksX11_orders_0 16 rfl rfl)
theorem dX11_orders_17 : decode cX11_orders 17 = .ok (.aload_n 0, 1) := dk_42 (dk_at dksX11_orders_0 17 rfl rfl)
theorem dX11_orders_18 : decode cX11_orders 18 = .ok (.getfield 15, 3) := dk_180 0 15 (dk_at dksX11_orders_0 18 rfl rfl)
theorem dX11_orders_21 : decode cX11_orders 21 = .ok (.aload_n 0, 1) := dk_42 (dk_at dksX11_orders_0 21 rfl rfl)
theorem dX11_orders_22 : decode cX11_orders 22 = .ok (.getfield 9, 3) := dk_180 0 9 (dk_at dksX11_orders_1 0 rfl rfl)
theorem dX11_orders_25 : decode cX11_orders 25 = .ok (.invokeinterface 19 1, 5) := by decide +kernel
theorem dX11_orders_30 : decode cX11_orders 30 = .ok (.if_icmp .ge 24, 3) := dk_162 0 24 (dk_at dksX11_orders_1 8 rfl rfl)
theorem dX11_orders_33 : decode cX11_orders 33 = .ok (.aload_n 0, 1) := dk_42 (dk_at dksX11_orders_1 11 rfl rfl)
theorem dX11_orders_34 : decode cX11_orders 34 = .ok (.bipush 59, 2) := dk_16 59 (dk_at dksX11_orders_1 12 rfl rfl)
theorem dX11_orders_36 : decode cX11_orders 36 = .ok (.bipush 59, 2) := dk_16 59 (dk_at dksX11_orders_1 14 rfl rfl)
theorem dX11_orders_38 : decode cX11_orders 38 = .ok (.invokevirtual 42, 3) := dk_182 0 42 (dk_at dksX11_orders_1 16 rfl rfl)
theorem dX11_orders_41 : decode cX11_orders 41 = .ok (.istore_n 3, 1) := dk_62 (dk_at dksX11_orders_1 19 rfl rfl)
theorem dX11_orders_42 : decode cX11_orders 42 = .ok (.aload_n 1, 1) := dk_43 (dk_at dksX11_orders_1 20 rfl rfl)
theorem dX11_orders_43 : decode cX11_orders 43 = .ok (.aload_n 0, 1) := dk_42 (dk_at dksX11_orders_1 21 rfl rfl)
theorem dX11_orders_44 : decode cX11_orders 44 = .ok (.invokevirtual 114, 3) := dk_182 0 114 (dk_at dksX11_orders_2 0 rfl rfl)
theorem dX11_orders_47 : decode cX11_orders 47 = .ok (.invokevirtual 118, 3) := dk_182 0 118 (dk_at dksX11_orders_2 3 rfl rfl)
theorem dX11_orders_50 : decode cX11_orders 50 = .ok (.istore_n 2, 1) := dk_61 (dk_at dksX11_orders_2 6 rfl rfl)
theorem dX11_orders_51 : decode cX11_orders 51 = .ok (.goto (-34), 3) := dk_167 255 222 (dk_at dksX11_orders_2 7 rfl rfl)
theorem dX11_orders_54 : decode cX11_orders 54 = .ok (.aload_n 1, 1) := dk_43 (dk_at dksX11_orders_2 10 rfl rfl)
theorem dX11_orders_55 : decode cX11_orders 55 = .ok (.areturn, 1) := dk_176 (dk_at dksX11_orders_2 11 rfl rfl)
abbrev cX11_order : ByteArray := prog_8_method_9_code
def yX11_order : MethodName := ⟨RX11, "order", "()LMissingMiddles$Order;"⟩
def dkwX11_order_15 : List UInt8 := [182, 0, 49, 79, 183, 0, 57, 176, 187, 0, 37, 89, 27, 183, 0, 39, 191]
abbrev dktX11_order_15 : List UInt8 := dkwX11_order_15 ++ []
def dkwX11_order_14 : List UInt8 := [89, 3, 42, 182, 0, 46, 79, 183, 0, 57, 176, 187, 0, 55, 89, 44, 3, 4, 188, 10, 89, 3, 42]
abbrev dktX11_order_14 : List UInt8 := dkwX11_order_14 ++ dktX11_order_15
def dkwX11_order_13 : List UInt8 := [182, 0, 107, 4, 188, 10, 89, 3, 21, 5, 79, 183, 0, 57, 176, 187, 0, 55, 89, 44, 3, 4, 188, 10]
abbrev dktX11_order_13 : List UInt8 := dkwX11_order_13 ++ dktX11_order_14
def dkwX11_order_12 : List UInt8 := [4, 42, 182, 0, 49, 79, 183, 0, 57, 176, 42, 182, 0, 49, 54, 5, 187, 0, 55, 89, 44, 42]
abbrev dktX11_order_12 : List UInt8 := dkwX11_order_12 ++ dktX11_order_13
def dkwX11_order_11 : List UInt8 := [54, 5, 42, 182, 0, 107, 54, 6, 187, 0, 55, 89, 44, 21, 6, 5, 188, 10, 89, 3, 21, 5, 79, 89]
abbrev dktX11_order_11 : List UInt8 := dkwX11_order_11 ++ dktX11_order_12
def dkwX11_order_10 : List UInt8 := [42, 44, 42, 182, 0, 49, 182, 0, 103, 176, 42, 44, 42, 182, 0, 46, 182, 0, 103, 176, 42, 182, 0, 46]
abbrev dktX11_order_10 : List UInt8 := dkwX11_order_10 ++ dktX11_order_11
def dkwX11_order_9 : List UInt8 := [170, 0, 0, 0, 0, 0, 176, 0, 0, 0, 0, 0, 0, 0, 8, 0, 0, 0, 51, 0, 0, 0, 61, 0, 0, 0, 71, 0, 0, 0, 109, 0, 0, 0, 136, 0, 0, 0, 136, 0, 0, 0, 136, 0, 0, 0, 156, 0, 0, 0, 156]
abbrev dktX11_order_9 : List UInt8 := dkwX11_order_9 ++ dktX11_order_10
def dkwX11_order_8 : List UInt8 := [167, 0, 16, 45, 18, 101, 182, 0, 83, 153, 0, 7, 16, 8, 54, 4, 21, 4]
abbrev dktX11_order_8 : List UInt8 := dkwX11_order_8 ++ dktX11_order_9
def dkwX11_order_7 : List UInt8 := [153, 0, 39, 16, 6, 54, 4, 167, 0, 32, 45, 18, 99, 182, 0, 83, 153, 0, 23, 16, 7, 54, 4]
abbrev dktX11_order_7 : List UInt8 := dkwX11_order_7 ++ dktX11_order_8
def dkwX11_order_6 : List UInt8 := [167, 0, 63, 45, 18, 95, 182, 0, 83, 153, 0, 54, 8, 54, 4, 167, 0, 48, 45, 18, 97, 182, 0, 83]
abbrev dktX11_order_6 : List UInt8 := dkwX11_order_6 ++ dktX11_order_7
def dkwX11_order_5 : List UInt8 := [182, 0, 83, 153, 0, 84, 6, 54, 4, 167, 0, 78, 45, 18, 93, 182, 0, 83, 153, 0, 69, 7, 54, 4]
abbrev dktX11_order_5 : List UInt8 := dkwX11_order_5 ++ dktX11_order_6
def dkwX11_order_4 : List UInt8 := [4, 54, 4, 167, 0, 108, 45, 18, 89, 182, 0, 83, 153, 0, 99, 5, 54, 4, 167, 0, 93, 45, 18, 91]
abbrev dktX11_order_4 : List UInt8 := dkwX11_order_4 ++ dktX11_order_5
def dkwX11_order_3 : List UInt8 := [45, 18, 81, 182, 0, 83, 153, 0, 129, 3, 54, 4, 167, 0, 123, 45, 18, 87, 182, 0, 83, 153, 0, 114]
abbrev dktX11_order_3 : List UInt8 := dkwX11_order_3 ++ dktX11_order_4
def dkwX11_order_2 : List UInt8 := [170, 0, 0, 0, 0, 0, 210, 0, 0, 0, 98, 0, 0, 0, 112, 0, 0, 0, 75, 0, 0, 0, 197, 0, 0, 0, 181, 0, 0, 0, 165, 0, 0, 0, 135, 0, 0, 0, 210, 0, 0, 0, 90, 0, 0, 0, 210, 0, 0, 0, 210, 0, 0, 0, 210, 0, 0, 0, 210, 0, 0, 0, 150, 0, 0, 0, 210, 0, 0, 0, 105, 0, 0, 0, 120]
abbrev dktX11_order_2 : List UInt8 := dkwX11_order_2 ++ dktX11_order_3
def dkwX11_order_1 : List UInt8 := [146, 182, 0, 69, 182, 0, 72, 77, 44, 78, 2, 54, 4, 45, 182, 0, 76]
abbrev dktX11_order_1 : List UInt8 := dkwX11_order_1 ++ dktX11_order_2
def dkwX11_order_0 : List UInt8 := [42, 180, 0, 15, 60, 187, 0, 60, 89, 183, 0, 62, 18, 63, 182, 0, 65, 42, 3, 16, 127, 182, 0, 42]
abbrev dktX11_order_0 : List UInt8 := dkwX11_order_0 ++ dktX11_order_1
theorem dksX11_order_0 : cX11_order.data.toList.drop 0 = dktX11_order_0 := by decide +kernel
theorem dksX11_order_1 : cX11_order.data.toList.drop 24 = dktX11_order_1 := dk_seg dksX11_order_0 24 rfl rfl
theorem dksX11_order_2 : cX11_order.data.toList.drop 41 = dktX11_order_2 := dk_seg dksX11_order_1 17 rfl rfl
theorem dksX11_order_3 : cX11_order.data.toList.drop 116 = dktX11_order_3 := dk_seg dksX11_order_2 75 rfl rfl
theorem dksX11_order_4 : cX11_order.data.toList.drop 140 = dktX11_order_4 := dk_seg dksX11_order_3 24 rfl rfl
theorem dksX11_order_5 : cX11_order.data.toList.drop 164 = dktX11_order_5 := dk_seg dksX11_order_4 24 rfl rfl
theorem dksX11_order_6 : cX11_order.data.toList.drop 188 = dktX11_order_6 := dk_seg dksX11_order_5 24 rfl rfl
theorem dksX11_order_7 : cX11_order.data.toList.drop 212 = dktX11_order_7 := dk_seg dksX11_order_6 24 rfl rfl
theorem dksX11_order_8 : cX11_order.data.toList.drop 235 = dktX11_order_8 := dk_seg dksX11_order_7 23 rfl rfl
theorem dksX11_order_9 : cX11_order.data.toList.drop 253 = dktX11_order_9 := dk_seg dksX11_order_8 18 rfl rfl
theorem dksX11_order_10 : cX11_order.data.toList.drop 304 = dktX11_order_10 := dk_seg dksX11_order_9 51 rfl rfl
theorem dksX11_order_11 : cX11_order.data.toList.drop 328 = dktX11_order_11 := dk_seg dksX11_order_10 24 rfl rfl
theorem dksX11_order_12 : cX11_order.data.toList.drop 352 = dktX11_order_12 := dk_seg dksX11_order_11 24 rfl rfl
theorem dksX11_order_13 : cX11_order.data.toList.drop 374 = dktX11_order_13 := dk_seg dksX11_order_12 22 rfl rfl
theorem dksX11_order_14 : cX11_order.data.toList.drop 398 = dktX11_order_14 := dk_seg dksX11_order_13 24 rfl rfl
theorem dksX11_order_15 : cX11_order.data.toList.drop 421 = dktX11_order_15 := dk_seg dksX11_order_14 23 rfl rfl
theorem dX11_order_0 : decode cX11_order 0 = .ok (.aload_n 0, 1) := dk_42 (dk_at dksX11_order_0 0 rfl rfl)
theorem dX11_order_1 : decode cX11_order 1 = .ok (.getfield 15, 3) := dk_180 0 15 (dk_at dksX11_order_0 1 rfl rfl)
theorem dX11_order_4 : decode cX11_order 4 = .ok (.istore_n 1, 1) := dk_60 (dk_at dksX11_order_0 4 rfl rfl)
theorem dX11_order_5 : decode cX11_order 5 = .ok (.new 60, 3) := dk_187 0 60 (dk_at dksX11_order_0 5 rfl rfl)
theorem dX11_order_8 : decode cX11_order 8 = .ok (.dup, 1) := dk_89 (dk_at dksX11_order_0 8 rfl rfl)
theorem dX11_order_9 : decode cX11_order 9 = .ok (.invokespecial 62, 3) := dk_183 0 62 (dk_at dksX11_order_0 9 rfl rfl)
theorem dX11_order_12 : decode cX11_order 12 = .ok (.ldc 63, 2) := dk_18 63 (dk_at dksX11_order_0 12 rfl rfl)
theorem dX11_order_14 : decode cX11_order 14 = .ok (.invokevirtual 65, 3) := dk_182 0 65 (dk_at dksX11_order_0 14 rfl rfl)
theorem dX11_order_17 : decode cX11_order 17 = .ok (.aload_n 0, 1) := dk_42 (dk_at dksX11_order_0 17 rfl rfl)
theorem dX11_order_18 : decode cX11_order 18 = .ok (.iconst 0, 1) := dk_3 (dk_at dksX11_order_0 18 rfl rfl)
theorem dX11_order_19 : decode cX11_order 19 = .ok (.bipush 127, 2) := dk_16 127 (dk_at dksX11_order_0 19 rfl rfl)
theorem dX11_order_21 : decode cX11_order 21 = .ok (.invokevirtual 42, 3) := dk_182 0 42 (dk_at dksX11_order_0 21 rfl rfl)
theorem dX11_order_24 : decode cX11_order 24 = .ok (.i2c, 1) := dk_146 (dk_at dksX11_order_1 0 rfl rfl)
theorem dX11_order_25 : decode cX11_order 25 = .ok (.invokevirtual 69, 3) := dk_182 0 69 (dk_at dksX11_order_1 1 rfl rfl)
theorem dX11_order_28 : decode cX11_order 28 = .ok (.invokevirtual 72, 3) := dk_182 0 72 (dk_at dksX11_order_1 4 rfl rfl)
theorem dX11_order_31 : decode cX11_order 31 = .ok (.astore_n 2, 1) := dk_77 (dk_at dksX11_order_1 7 rfl rfl)
theorem dX11_order_32 : decode cX11_order 32 = .ok (.aload_n 2, 1) := dk_44 (dk_at dksX11_order_1 8 rfl rfl)
theorem dX11_order_33 : decode cX11_order 33 = .ok (.astore_n 3, 1) := dk_78 (dk_at dksX11_order_1 9 rfl rfl)
theorem dX11_order_34 : decode cX11_order 34 = .ok (.iconst (-1), 1) := dk_2 (dk_at dksX11_order_1 10 rfl rfl)
theorem dX11_order_35 : decode cX11_order 35 = .ok (.istore 4, 2) := dk_54 4 (dk_at dksX11_order_1 11 rfl rfl)
theorem dX11_order_37 : decode cX11_order 37 = .ok (.aload_n 3, 1) := dk_45 (dk_at dksX11_order_1 13 rfl rfl)
theorem dX11_order_38 : decode cX11_order 38 = .ok (.invokevirtual 76, 3) := dk_182 0 76 (dk_at dksX11_order_1 14 rfl rfl)
theorem dX11_order_41 : decode cX11_order 41 = .ok (.tableswitch 210 98 112 #[75, 197, 181, 165, 135, 210, 90, 210, 210, 210, 210, 150, 210, 105, 120], 75) := by decide +kernel
theorem dX11_order_116 : decode cX11_order 116 = .ok (.aload_n 3, 1) := dk_45 (dk_at dksX11_order_3 0 rfl rfl)
theorem dX11_order_117 : decode cX11_order 117 = .ok (.ldc 81, 2) := dk_18 81 (dk_at dksX11_order_3 1 rfl rfl)
theorem dX11_order_119 : decode cX11_order 119 = .ok (.invokevirtual 83, 3) := dk_182 0 83 (dk_at dksX11_order_3 3 rfl rfl)
theorem dX11_order_122 : decode cX11_order 122 = .ok (.ifCond .eq 129, 3) := dk_153 0 129 (dk_at dksX11_order_3 6 rfl rfl)
theorem dX11_order_125 : decode cX11_order 125 = .ok (.iconst 0, 1) := dk_3 (dk_at dksX11_order_3 9 rfl rfl)
theorem dX11_order_126 : decode cX11_order 126 = .ok (.istore 4, 2) := dk_54 4 (dk_at dksX11_order_3 10 rfl rfl)
theorem dX11_order_128 : decode cX11_order 128 = .ok (.goto 123, 3) := dk_167 0 123 (dk_at dksX11_order_3 12 rfl rfl)
theorem dX11_order_131 : decode cX11_order 131 = .ok (.aload_n 3, 1) := dk_45 (dk_at dksX11_order_3 15 rfl rfl)
theorem dX11_order_132 : decode cX11_order 132 = .ok (.ldc 87, 2) := dk_18 87 (dk_at dksX11_order_3 16 rfl rfl)
theorem dX11_order_134 : decode cX11_order 134 = .ok (.invokevirtual 83, 3) := dk_182 0 83 (dk_at dksX11_order_3 18 rfl rfl)
theorem dX11_order_137 : decode cX11_order 137 = .ok (.ifCond .eq 114, 3) := dk_153 0 114 (dk_at dksX11_order_3 21 rfl rfl)
theorem dX11_order_140 : decode cX11_order 140 = .ok (.iconst 1, 1) := dk_4 (dk_at dksX11_order_4 0 rfl rfl)
theorem dX11_order_141 : decode cX11_order 141 = .ok (.istore 4, 2) := dk_54 4 (dk_at dksX11_order_4 1 rfl rfl)
theorem dX11_order_143 : decode cX11_order 143 = .ok (.goto 108, 3) := dk_167 0 108 (dk_at dksX11_order_4 3 rfl rfl)
theorem dX11_order_146 : decode cX11_order 146 = .ok (.aload_n 3, 1) := dk_45 (dk_at dksX11_order_4 6 rfl rfl)
theorem dX11_order_147 : decode cX11_order 147 = .ok (.ldc 89, 2) := dk_18 89 (dk_at dksX11_order_4 7 rfl rfl)
theorem dX11_order_149 : decode cX11_order 149 = .ok (.invokevirtual 83, 3) := dk_182 0 83 (dk_at dksX11_order_4 9 rfl rfl)
theorem dX11_order_152 : decode cX11_order 152 = .ok (.ifCond .eq 99, 3) := dk_153 0 99 (dk_at dksX11_order_4 12 rfl rfl)
theorem dX11_order_155 : decode cX11_order 155 = .ok (.iconst 2, 1) := dk_5 (dk_at dksX11_order_4 15 rfl rfl)
theorem dX11_order_156 : decode cX11_order 156 = .ok (.istore 4, 2) := dk_54 4 (dk_at dksX11_order_4 16 rfl rfl)
theorem dX11_order_158 : decode cX11_order 158 = .ok (.goto 93, 3) := dk_167 0 93 (dk_at dksX11_order_4 18 rfl rfl)
theorem dX11_order_161 : decode cX11_order 161 = .ok (.aload_n 3, 1) := dk_45 (dk_at dksX11_order_4 21 rfl rfl)
theorem dX11_order_162 : decode cX11_order 162 = .ok (.ldc 91, 2) := dk_18 91 (dk_at dksX11_order_4 22 rfl rfl)
theorem dX11_order_164 : decode cX11_order 164 = .ok (.invokevirtual 83, 3) := dk_182 0 83 (dk_at dksX11_order_5 0 rfl rfl)
theorem dX11_order_167 : decode cX11_order 167 = .ok (.ifCond .eq 84, 3) := dk_153 0 84 (dk_at dksX11_order_5 3 rfl rfl)
theorem dX11_order_170 : decode cX11_order 170 = .ok (.iconst 3, 1) := dk_6 (dk_at dksX11_order_5 6 rfl rfl)
theorem dX11_order_171 : decode cX11_order 171 = .ok (.istore 4, 2) := dk_54 4 (dk_at dksX11_order_5 7 rfl rfl)
theorem dX11_order_173 : decode cX11_order 173 = .ok (.goto 78, 3) := dk_167 0 78 (dk_at dksX11_order_5 9 rfl rfl)
theorem dX11_order_176 : decode cX11_order 176 = .ok (.aload_n 3, 1) := dk_45 (dk_at dksX11_order_5 12 rfl rfl)
theorem dX11_order_177 : decode cX11_order 177 = .ok (.ldc 93, 2) := dk_18 93 (dk_at dksX11_order_5 13 rfl rfl)
theorem dX11_order_179 : decode cX11_order 179 = .ok (.invokevirtual 83, 3) := dk_182 0 83 (dk_at dksX11_order_5 15 rfl rfl)
theorem dX11_order_182 : decode cX11_order 182 = .ok (.ifCond .eq 69, 3) := dk_153 0 69 (dk_at dksX11_order_5 18 rfl rfl)
theorem dX11_order_185 : decode cX11_order 185 = .ok (.iconst 4, 1) := dk_7 (dk_at dksX11_order_5 21 rfl rfl)
theorem dX11_order_186 : decode cX11_order 186 = .ok (.istore 4, 2) := dk_54 4 (dk_at dksX11_order_5 22 rfl rfl)
theorem dX11_order_188 : decode cX11_order 188 = .ok (.goto 63, 3) := dk_167 0 63 (dk_at dksX11_order_6 0 rfl rfl)
theorem dX11_order_191 : decode cX11_order 191 = .ok (.aload_n 3, 1) := dk_45 (dk_at dksX11_order_6 3 rfl rfl)
theorem dX11_order_192 : decode cX11_order 192 = .ok (.ldc 95, 2) := dk_18 95 (dk_at dksX11_order_6 4 rfl rfl)
theorem dX11_order_194 : decode cX11_order 194 = .ok (.invokevirtual 83, 3) := dk_182 0 83 (dk_at dksX11_order_6 6 rfl rfl)
theorem dX11_order_197 : decode cX11_order 197 = .ok (.ifCond .eq 54, 3) := dk_153 0 54 (dk_at dksX11_order_6 9 rfl rfl)
theorem dX11_order_200 : decode cX11_order 200 = .ok (.iconst 5, 1) := dk_8 (dk_at dksX11_order_6 12 rfl rfl)
theorem dX11_order_201 : decode cX11_order 201 = .ok (.istore 4, 2) := dk_54 4 (dk_at dksX11_order_6 13 rfl rfl)
theorem dX11_order_203 : decode cX11_order 203 = .ok (.goto 48, 3) := dk_167 0 48 (dk_at dksX11_order_6 15 rfl rfl)
theorem dX11_order_206 : decode cX11_order 206 = .ok (.aload_n 3, 1) := dk_45 (dk_at dksX11_order_6 18 rfl rfl)
theorem dX11_order_207 : decode cX11_order 207 = .ok (.ldc 97, 2) := dk_18 97 (dk_at dksX11_order_6 19 rfl rfl)
theorem dX11_order_209 : decode cX11_order 209 = .ok (.invokevirtual 83, 3) := dk_182 0 83 (dk_at dksX11_order_6 21 rfl rfl)
theorem dX11_order_212 : decode cX11_order 212 = .ok (.ifCond .eq 39, 3) := dk_153 0 39 (dk_at dksX11_order_7 0 rfl rfl)
theorem dX11_order_215 : decode cX11_order 215 = .ok (.bipush 6, 2) := dk_16 6 (dk_at dksX11_order_7 3 rfl rfl)
theorem dX11_order_217 : decode cX11_order 217 = .ok (.istore 4, 2) := dk_54 4 (dk_at dksX11_order_7 5 rfl rfl)
theorem dX11_order_219 : decode cX11_order 219 = .ok (.goto 32, 3) := dk_167 0 32 (dk_at dksX11_order_7 7 rfl rfl)
theorem dX11_order_222 : decode cX11_order 222 = .ok (.aload_n 3, 1) := dk_45 (dk_at dksX11_order_7 10 rfl rfl)
theorem dX11_order_223 : decode cX11_order 223 = .ok (.ldc 99, 2) := dk_18 99 (dk_at dksX11_order_7 11 rfl rfl)
theorem dX11_order_225 : decode cX11_order 225 = .ok (.invokevirtual 83, 3) := dk_182 0 83 (dk_at dksX11_order_7 13 rfl rfl)
theorem dX11_order_228 : decode cX11_order 228 = .ok (.ifCond .eq 23, 3) := dk_153 0 23 (dk_at dksX11_order_7 16 rfl rfl)
theorem dX11_order_231 : decode cX11_order 231 = .ok (.bipush 7, 2) := dk_16 7 (dk_at dksX11_order_7 19 rfl rfl)
theorem dX11_order_233 : decode cX11_order 233 = .ok (.istore 4, 2) := dk_54 4 (dk_at dksX11_order_7 21 rfl rfl)
theorem dX11_order_235 : decode cX11_order 235 = .ok (.goto 16, 3) := dk_167 0 16 (dk_at dksX11_order_8 0 rfl rfl)
theorem dX11_order_238 : decode cX11_order 238 = .ok (.aload_n 3, 1) := dk_45 (dk_at dksX11_order_8 3 rfl rfl)
theorem dX11_order_239 : decode cX11_order 239 = .ok (.ldc 101, 2) := dk_18 101 (dk_at dksX11_order_8 4 rfl rfl)
theorem dX11_order_241 : decode cX11_order 241 = .ok (.invokevirtual 83, 3) := dk_182 0 83 (dk_at dksX11_order_8 6 rfl rfl)
theorem dX11_order_244 : decode cX11_order 244 = .ok (.ifCond .eq 7, 3) := dk_153 0 7 (dk_at dksX11_order_8 9 rfl rfl)
theorem dX11_order_247 : decode cX11_order 247 = .ok (.bipush 8, 2) := dk_16 8 (dk_at dksX11_order_8 12 rfl rfl)
theorem dX11_order_249 : decode cX11_order 249 = .ok (.istore 4, 2) := dk_54 4 (dk_at dksX11_order_8 14 rfl rfl)
theorem dX11_order_251 : decode cX11_order 251 = .ok (.iload 4, 2) := dk_21 4 (dk_at dksX11_order_8 16 rfl rfl)
theorem dX11_order_253 : decode cX11_order 253 = .ok (.tableswitch 176 0 8 #[51, 61, 71, 109, 136, 136, 136, 156, 156], 51) := by decide +kernel
theorem dX11_order_304 : decode cX11_order 304 = .ok (.aload_n 0, 1) := dk_42 (dk_at dksX11_order_10 0 rfl rfl)
theorem dX11_order_305 : decode cX11_order 305 = .ok (.aload_n 2, 1) := dk_44 (dk_at dksX11_order_10 1 rfl rfl)
theorem dX11_order_306 : decode cX11_order 306 = .ok (.aload_n 0, 1) := dk_42 (dk_at dksX11_order_10 2 rfl rfl)
theorem dX11_order_307 : decode cX11_order 307 = .ok (.invokevirtual 49, 3) := dk_182 0 49 (dk_at dksX11_order_10 3 rfl rfl)
theorem dX11_order_310 : decode cX11_order 310 = .ok (.invokevirtual 103, 3) := dk_182 0 103 (dk_at dksX11_order_10 6 rfl rfl)
theorem dX11_order_313 : decode cX11_order 313 = .ok (.areturn, 1) := dk_176 (dk_at dksX11_order_10 9 rfl rfl)
theorem dX11_order_314 : decode cX11_order 314 = .ok (.aload_n 0, 1) := dk_42 (dk_at dksX11_order_10 10 rfl rfl)
theorem dX11_order_315 : decode cX11_order 315 = .ok (.aload_n 2, 1) := dk_44 (dk_at dksX11_order_10 11 rfl rfl)
theorem dX11_order_316 : decode cX11_order 316 = .ok (.aload_n 0, 1) := dk_42 (dk_at dksX11_order_10 12 rfl rfl)
theorem dX11_order_317 : decode cX11_order 317 = .ok (.invokevirtual 46, 3) := dk_182 0 46 (dk_at dksX11_order_10 13 rfl rfl)
theorem dX11_order_320 : decode cX11_order 320 = .ok (.invokevirtual 103, 3) := dk_182 0 103 (dk_at dksX11_order_10 16 rfl rfl)
theorem dX11_order_323 : decode cX11_order 323 = .ok (.areturn, 1) := dk_176 (dk_at dksX11_order_10 19 rfl rfl)
theorem dX11_order_324 : decode cX11_order 324 = .ok (.aload_n 0, 1) := dk_42 (dk_at dksX11_order_10 20 rfl rfl)
theorem dX11_order_325 : decode cX11_order 325 = .ok (.invokevirtual 46, 3) := dk_182 0 46 (dk_at dksX11_order_10 21 rfl rfl)
theorem dX11_order_328 : decode cX11_order 328 = .ok (.istore 5, 2) := dk_54 5 (dk_at dksX11_order_11 0 rfl rfl)
theorem dX11_order_330 : decode cX11_order 330 = .ok (.aload_n 0, 1) := dk_42 (dk_at dksX11_order_11 2 rfl rfl)
theorem dX11_order_331 : decode cX11_order 331 = .ok (.invokevirtual 107, 3) := dk_182 0 107 (dk_at dksX11_order_11 3 rfl rfl)
theorem dX11_order_334 : decode cX11_order 334 = .ok (.istore 6, 2) := dk_54 6 (dk_at dksX11_order_11 6 rfl rfl)
theorem dX11_order_336 : decode cX11_order 336 = .ok (.new 55, 3) := dk_187 0 55 (dk_at dksX11_order_11 8 rfl rfl)
theorem dX11_order_339 : decode cX11_order 339 = .ok (.dup, 1) := dk_89 (dk_at dksX11_order_11 11 rfl rfl)
theorem dX11_order_340 : decode cX11_order 340 = .ok (.aload_n 2, 1) := dk_44 (dk_at dksX11_order_11 12 rfl rfl)
theorem dX11_order_341 : decode cX11_order 341 = .ok (.iload 6, 2) := dk_21 6 (dk_at dksX11_order_11 13 rfl rfl)
theorem dX11_order_343 : decode cX11_order 343 = .ok (.iconst 2, 1) := dk_5 (dk_at dksX11_order_11 15 rfl rfl)
theorem dX11_order_344 : decode cX11_order 344 = .ok (.newarray .int, 2) := dk_188_10 (dk_at dksX11_order_11 16 rfl rfl)
theorem dX11_order_346 : decode cX11_order 346 = .ok (.dup, 1) := dk_89 (dk_at dksX11_order_11 18 rfl rfl)
theorem dX11_order_347 : decode cX11_order 347 = .ok (.iconst 0, 1) := dk_3 (dk_at dksX11_order_11 19 rfl rfl)
theorem dX11_order_348 : decode cX11_order 348 = .ok (.iload 5, 2) := dk_21 5 (dk_at dksX11_order_11 20 rfl rfl)
theorem dX11_order_350 : decode cX11_order 350 = .ok (.iastore, 1) := dk_79 (dk_at dksX11_order_11 22 rfl rfl)
theorem dX11_order_351 : decode cX11_order 351 = .ok (.dup, 1) := dk_89 (dk_at dksX11_order_11 23 rfl rfl)
theorem dX11_order_352 : decode cX11_order 352 = .ok (.iconst 1, 1) := dk_4 (dk_at dksX11_order_12 0 rfl rfl)
theorem dX11_order_353 : decode cX11_order 353 = .ok (.aload_n 0, 1) := dk_42 (dk_at dksX11_order_12 1 rfl rfl)
theorem dX11_order_354 : decode cX11_order 354 = .ok (.invokevirtual 49, 3) := dk_182 0 49 (dk_at dksX11_order_12 2 rfl rfl)
theorem dX11_order_357 : decode cX11_order 357 = .ok (.iastore, 1) := dk_79 (dk_at dksX11_order_12 5 rfl rfl)
theorem dX11_order_358 : decode cX11_order 358 = .ok (.invokespecial 57, 3) := dk_183 0 57 (dk_at dksX11_order_12 6 rfl rfl)
theorem dX11_order_361 : decode cX11_order 361 = .ok (.areturn, 1) := dk_176 (dk_at dksX11_order_12 9 rfl rfl)
theorem dX11_order_362 : decode cX11_order 362 = .ok (.aload_n 0, 1) := dk_42 (dk_at dksX11_order_12 10 rfl rfl)
theorem dX11_order_363 : decode cX11_order 363 = .ok (.invokevirtual 49, 3) := dk_182 0 49 (dk_at dksX11_order_12 11 rfl rfl)
theorem dX11_order_366 : decode cX11_order 366 = .ok (.istore 5, 2) := dk_54 5 (dk_at dksX11_order_12 14 rfl rfl)
theorem dX11_order_368 : decode cX11_order 368 = .ok (.new 55, 3) := dk_187 0 55 (dk_at dksX11_order_12 16 rfl rfl)
theorem dX11_order_371 : decode cX11_order 371 = .ok (.dup, 1) := dk_89 (dk_at dksX11_order_12 19 rfl rfl)
theorem dX11_order_372 : decode cX11_order 372 = .ok (.aload_n 2, 1) := dk_44 (dk_at dksX11_order_12 20 rfl rfl)
theorem dX11_order_373 : decode cX11_order 373 = .ok (.aload_n 0, 1) := dk_42 (dk_at dksX11_order_12 21 rfl rfl)
theorem dX11_order_374 : decode cX11_order 374 = .ok (.invokevirtual 107, 3) := dk_182 0 107 (dk_at dksX11_order_13 0 rfl rfl)
theorem dX11_order_377 : decode cX11_order 377 = .ok (.iconst 1, 1) := dk_4 (dk_at dksX11_order_13 3 rfl rfl)
theorem dX11_order_378 : decode cX11_order 378 = .ok (.newarray .int, 2) := dk_188_10 (dk_at dksX11_order_13 4 rfl rfl)
theorem dX11_order_380 : decode cX11_order 380 = .ok (.dup, 1) := dk_89 (dk_at dksX11_order_13 6 rfl rfl)
theorem dX11_order_381 : decode cX11_order 381 = .ok (.iconst 0, 1) := dk_3 (dk_at dksX11_order_13 7 rfl rfl)
theorem dX11_order_382 : decode cX11_order 382 = .ok (.iload 5, 2) := dk_21 5 (dk_at dksX11_order_13 8 rfl rfl)
theorem dX11_order_384 : decode cX11_order 384 = .ok (.iastore, 1) := dk_79 (dk_at dksX11_order_13 10 rfl rfl)
theorem dX11_order_385 : decode cX11_order 385 = .ok (.invokespecial 57, 3) := dk_183 0 57 (dk_at dksX11_order_13 11 rfl rfl)
theorem dX11_order_388 : decode cX11_order 388 = .ok (.areturn, 1) := dk_176 (dk_at dksX11_order_13 14 rfl rfl)
theorem dX11_order_389 : decode cX11_order 389 = .ok (.new 55, 3) := dk_187 0 55 (dk_at dksX11_order_13 15 rfl rfl)
theorem dX11_order_392 : decode cX11_order 392 = .ok (.dup, 1) := dk_89 (dk_at dksX11_order_13 18 rfl rfl)
theorem dX11_order_393 : decode cX11_order 393 = .ok (.aload_n 2, 1) := dk_44 (dk_at dksX11_order_13 19 rfl rfl)
theorem dX11_order_394 : decode cX11_order 394 = .ok (.iconst 0, 1) := dk_3 (dk_at dksX11_order_13 20 rfl rfl)
theorem dX11_order_395 : decode cX11_order 395 = .ok (.iconst 1, 1) := dk_4 (dk_at dksX11_order_13 21 rfl rfl)
theorem dX11_order_396 : decode cX11_order 396 = .ok (.newarray .int, 2) := dk_188_10 (dk_at dksX11_order_13 22 rfl rfl)
theorem dX11_order_398 : decode cX11_order 398 = .ok (.dup, 1) := dk_89 (dk_at dksX11_order_14 0 rfl rfl)
theorem dX11_order_399 : decode cX11_order 399 = .ok (.iconst 0, 1) := dk_3 (dk_at dksX11_order_14 1 rfl rfl)
theorem dX11_order_400 : decode cX11_order 400 = .ok (.aload_n 0, 1) := dk_42 (dk_at dksX11_order_14 2 rfl rfl)
theorem dX11_order_401 : decode cX11_order 401 = .ok (.invokevirtual 46, 3) := dk_182 0 46 (dk_at dksX11_order_14 3 rfl rfl)
theorem dX11_order_404 : decode cX11_order 404 = .ok (.iastore, 1) := dk_79 (dk_at dksX11_order_14 6 rfl rfl)
theorem dX11_order_405 : decode cX11_order 405 = .ok (.invokespecial 57, 3) := dk_183 0 57 (dk_at dksX11_order_14 7 rfl rfl)
theorem dX11_order_408 : decode cX11_order 408 = .ok (.areturn, 1) := dk_176 (dk_at dksX11_order_14 10 rfl rfl)
theorem dX11_order_409 : decode cX11_order 409 = .ok (.new 55, 3) := dk_187 0 55 (dk_at dksX11_order_14 11 rfl rfl)
theorem dX11_order_412 : decode cX11_order 412 = .ok (.dup, 1) := dk_89 (dk_at dksX11_order_14 14 rfl rfl)
theorem dX11_order_413 : decode cX11_order 413 = .ok (.aload_n 2, 1) := dk_44 (dk_at dksX11_order_14 15 rfl rfl)
theorem dX11_order_414 : decode cX11_order 414 = .ok (.iconst 0, 1) := dk_3 (dk_at dksX11_order_14 16 rfl rfl)
theorem dX11_order_415 : decode cX11_order 415 = .ok (.iconst 1, 1) := dk_4 (dk_at dksX11_order_14 17 rfl rfl)
theorem dX11_order_416 : decode cX11_order 416 = .ok (.newarray .int, 2) := dk_188_10 (dk_at dksX11_order_14 18 rfl rfl)
theorem dX11_order_418 : decode cX11_order 418 = .ok (.dup, 1) := dk_89 (dk_at dksX11_order_14 20 rfl rfl)
theorem dX11_order_419 : decode cX11_order 419 = .ok (.iconst 0, 1) := dk_3 (dk_at dksX11_order_14 21 rfl rfl)
theorem dX11_order_420 : decode cX11_order 420 = .ok (.aload_n 0, 1) := dk_42 (dk_at dksX11_order_14 22 rfl rfl)
theorem dX11_order_421 : decode cX11_order 421 = .ok (.invokevirtual 49, 3) := dk_182 0 49 (dk_at dksX11_order_15 0 rfl rfl)
theorem dX11_order_424 : decode cX11_order 424 = .ok (.iastore, 1) := dk_79 (dk_at dksX11_order_15 3 rfl rfl)
theorem dX11_order_425 : decode cX11_order 425 = .ok (.invokespecial 57, 3) := dk_183 0 57 (dk_at dksX11_order_15 4 rfl rfl)
theorem dX11_order_428 : decode cX11_order 428 = .ok (.areturn, 1) := dk_176 (dk_at dksX11_order_15 7 rfl rfl)
theorem dX11_order_429 : decode cX11_order 429 = .ok (.new 37, 3) := dk_187 0 37 (dk_at dksX11_order_15 8 rfl rfl)
theorem dX11_order_432 : decode cX11_order 432 = .ok (.dup, 1) := dk_89 (dk_at dksX11_order_15 11 rfl rfl)
theorem dX11_order_433 : decode cX11_order 433 = .ok (.iload_n 1, 1) := dk_27 (dk_at dksX11_order_15 12 rfl rfl)
theorem dX11_order_434 : decode cX11_order 434 = .ok (.invokespecial 39, 3) := dk_183 0 39 (dk_at dksX11_order_15 13 rfl rfl)
theorem dX11_order_437 : decode cX11_order 437 = .ok (.athrow, 1) := dk_191 (dk_at dksX11_order_15 16 rfl rfl)
abbrev cX11_take : ByteArray := prog_8_method_3_code
def yX11_take : MethodName := ⟨RX11, "take", "(II)I"⟩
def dkwX11_take_2 : List UInt8 := [100, 172]
abbrev dktX11_take_2 : List UInt8 := dkwX11_take_2 ++ []
def dkwX11_take_1 : List UInt8 := [180, 0, 15, 4, 96, 181, 0, 15, 42, 180, 0, 9, 42, 180, 0, 15, 4, 100, 185, 0, 25, 2, 0, 27]
abbrev dktX11_take_1 : List UInt8 := dkwX11_take_1 ++ dktX11_take_2
def dkwX11_take_0 : List UInt8 := [42, 27, 28, 182, 0, 33, 154, 0, 15, 187, 0, 37, 89, 42, 180, 0, 15, 183, 0, 39, 191, 42, 89]
abbrev dktX11_take_0 : List UInt8 := dkwX11_take_0 ++ dktX11_take_1
theorem dksX11_take_0 : cX11_take.data.toList.drop 0 = dktX11_take_0 := by decide +kernel
theorem dksX11_take_1 : cX11_take.data.toList.drop 23 = dktX11_take_1 := dk_seg dksX11_take_0 23 rfl rfl
theorem dksX11_take_2 : cX11_take.data.toList.drop 47 = dktX11_take_2 := dk_seg dksX11_take_1 24 rfl rfl
theorem dX11_take_0 : decode cX11_take 0 = .ok (.aload_n 0, 1) := dk_42 (dk_at dksX11_take_0 0 rfl rfl)
theorem dX11_take_1 : decode cX11_take 1 = .ok (.iload_n 1, 1) := dk_27 (dk_at dksX11_take_0 1 rfl rfl)
theorem dX11_take_2 : decode cX11_take 2 = .ok (.iload_n 2, 1) := dk_28 (dk_at dksX11_take_0 2 rfl rfl)
theorem dX11_take_3 : decode cX11_take 3 = .ok (.invokevirtual 33, 3) := dk_182 0 33 (dk_at dksX11_take_0 3 rfl rfl)
theorem dX11_take_6 : decode cX11_take 6 = .ok (.ifCond .ne 15, 3) := dk_154 0 15 (dk_at dksX11_take_0 6 rfl rfl)
theorem dX11_take_9 : decode cX11_take 9 = .ok (.new 37, 3) := dk_187 0 37 (dk_at dksX11_take_0 9 rfl rfl)
theorem dX11_take_12 : decode cX11_take 12 = .ok (.dup, 1) := dk_89 (dk_at dksX11_take_0 12 rfl rfl)
theorem dX11_take_13 : decode cX11_take 13 = .ok (.aload_n 0, 1) := dk_42 (dk_at dksX11_take_0 13 rfl rfl)
theorem dX11_take_14 : decode cX11_take 14 = .ok (.getfield 15, 3) := dk_180 0 15 (dk_at dksX11_take_0 14 rfl rfl)
theorem dX11_take_17 : decode cX11_take 17 = .ok (.invokespecial 39, 3) := dk_183 0 39 (dk_at dksX11_take_0 17 rfl rfl)
theorem dX11_take_20 : decode cX11_take 20 = .ok (.athrow, 1) := dk_191 (dk_at dksX11_take_0 20 rfl rfl)
theorem dX11_take_21 : decode cX11_take 21 = .ok (.aload_n 0, 1) := dk_42 (dk_at dksX11_take_0 21 rfl rfl)
theorem dX11_take_22 : decode cX11_take 22 = .ok (.dup, 1) := dk_89 (dk_at dksX11_take_0 22 rfl rfl)
theorem dX11_take_23 : decode cX11_take 23 = .ok (.getfield 15, 3) := dk_180 0 15 (dk_at dksX11_take_1 0 rfl rfl)
theorem dX11_take_26 : decode cX11_take 26 = .ok (.iconst 1, 1) := dk_4 (dk_at dksX11_take_1 3 rfl rfl)
theorem dX11_take_27 : decode cX11_take 27 = .ok (.iadd, 1) := dk_96 (dk_at dksX11_take_1 4 rfl rfl)
theorem dX11_take_28 : decode cX11_take 28 = .ok (.putfield 15, 3) := dk_181 0 15 (dk_at dksX11_take_1 5 rfl rfl)
theorem dX11_take_31 : decode cX11_take 31 = .ok (.aload_n 0, 1) := dk_42 (dk_at dksX11_take_1 8 rfl rfl)
theorem dX11_take_32 : decode cX11_take 32 = .ok (.getfield 9, 3) := dk_180 0 9 (dk_at dksX11_take_1 9 rfl rfl)
theorem dX11_take_35 : decode cX11_take 35 = .ok (.aload_n 0, 1) := dk_42 (dk_at dksX11_take_1 12 rfl rfl)
theorem dX11_take_36 : decode cX11_take 36 = .ok (.getfield 15, 3) := dk_180 0 15 (dk_at dksX11_take_1 13 rfl rfl)
theorem dX11_take_39 : decode cX11_take 39 = .ok (.iconst 1, 1) := dk_4 (dk_at dksX11_take_1 16 rfl rfl)
theorem dX11_take_40 : decode cX11_take 40 = .ok (.isub, 1) := dk_100 (dk_at dksX11_take_1 17 rfl rfl)
theorem dX11_take_41 : decode cX11_take 41 = .ok (.invokeinterface 25 2, 5) := by decide +kernel
theorem dX11_take_46 : decode cX11_take 46 = .ok (.iload_n 1, 1) := dk_27 (dk_at dksX11_take_1 23 rfl rfl)
theorem dX11_take_47 : decode cX11_take 47 = .ok (.isub, 1) := dk_100 (dk_at dksX11_take_2 0 rfl rfl)
theorem dX11_take_48 : decode cX11_take 48 = .ok (.ireturn, 1) := dk_172 (dk_at dksX11_take_2 1 rfl rfl)
abbrev cX11_isNext : ByteArray := prog_8_method_2_code
def yX11_isNext : MethodName := ⟨RX11, "isNext", "(II)Z"⟩
def dkwX11_isNext_1 : List UInt8 := [185, 0, 25, 2, 0, 133, 27, 133, 28, 133, 184, 0, 29, 153, 0, 7, 4, 167, 0, 4, 3, 172]
abbrev dktX11_isNext_1 : List UInt8 := dkwX11_isNext_1 ++ []
def dkwX11_isNext_0 : List UInt8 := [42, 180, 0, 15, 42, 180, 0, 9, 185, 0, 19, 1, 0, 162, 0, 31, 42, 180, 0, 9, 42, 180, 0, 15]
abbrev dktX11_isNext_0 : List UInt8 := dkwX11_isNext_0 ++ dktX11_isNext_1
theorem dksX11_isNext_0 : cX11_isNext.data.toList.drop 0 = dktX11_isNext_0 := by decide +kernel
theorem dksX11_isNext_1 : cX11_isNext.data.toList.drop 24 = dktX11_isNext_1 := dk_seg dksX11_isNext_0 24 rfl rfl
theorem dX11_isNext_0 : decode cX11_isNext 0 = .ok (.aload_n 0, 1) := dk_42 (dk_at dksX11_isNext_0 0 rfl rfl)
theorem dX11_isNext_1 : decode cX11_isNext 1 = .ok (.getfield 15, 3) := dk_180 0 15 (dk_at dksX11_isNext_0 1 rfl rfl)
theorem dX11_isNext_4 : decode cX11_isNext 4 = .ok (.aload_n 0, 1) := dk_42 (dk_at dksX11_isNext_0 4 rfl rfl)
theorem dX11_isNext_5 : decode cX11_isNext 5 = .ok (.getfield 9, 3) := dk_180 0 9 (dk_at dksX11_isNext_0 5 rfl rfl)
theorem dX11_isNext_8 : decode cX11_isNext 8 = .ok (.invokeinterface 19 1, 5) := by decide +kernel
theorem dX11_isNext_13 : decode cX11_isNext 13 = .ok (.if_icmp .ge 31, 3) := dk_162 0 31 (dk_at dksX11_isNext_0 13 rfl rfl)
theorem dX11_isNext_16 : decode cX11_isNext 16 = .ok (.aload_n 0, 1) := dk_42 (dk_at dksX11_isNext_0 16 rfl rfl)
theorem dX11_isNext_17 : decode cX11_isNext 17 = .ok (.getfield 9, 3) := dk_180 0 9 (dk_at dksX11_isNext_0 17 rfl rfl)
theorem dX11_isNext_20 : decode cX11_isNext 20 = .ok (.aload_n 0, 1) := dk_42 (dk_at dksX11_isNext_0 20 rfl rfl)
theorem dX11_isNext_21 : decode cX11_isNext 21 = .ok (.getfield 15, 3) := dk_180 0 15 (dk_at dksX11_isNext_0 21 rfl rfl)
theorem dX11_isNext_24 : decode cX11_isNext 24 = .ok (.invokeinterface 25 2, 5) := by decide +kernel
theorem dX11_isNext_29 : decode cX11_isNext 29 = .ok (.i2l, 1) := dk_133 (dk_at dksX11_isNext_1 5 rfl rfl)
theorem dX11_isNext_30 : decode cX11_isNext 30 = .ok (.iload_n 1, 1) := dk_27 (dk_at dksX11_isNext_1 6 rfl rfl)
theorem dX11_isNext_31 : decode cX11_isNext 31 = .ok (.i2l, 1) := dk_133 (dk_at dksX11_isNext_1 7 rfl rfl)
theorem dX11_isNext_32 : decode cX11_isNext 32 = .ok (.iload_n 2, 1) := dk_28 (dk_at dksX11_isNext_1 8 rfl rfl)
theorem dX11_isNext_33 : decode cX11_isNext 33 = .ok (.i2l, 1) := dk_133 (dk_at dksX11_isNext_1 9 rfl rfl)
theorem dX11_isNext_34 : decode cX11_isNext 34 = .ok (.invokestatic 29, 3) := dk_184 0 29 (dk_at dksX11_isNext_1 10 rfl rfl)
theorem dX11_isNext_37 : decode cX11_isNext 37 = .ok (.ifCond .eq 7, 3) := dk_153 0 7 (dk_at dksX11_isNext_1 13 rfl rfl)
theorem dX11_isNext_40 : decode cX11_isNext 40 = .ok (.iconst 1, 1) := dk_4 (dk_at dksX11_isNext_1 16 rfl rfl)
theorem dX11_isNext_41 : decode cX11_isNext 41 = .ok (.goto 4, 3) := dk_167 0 4 (dk_at dksX11_isNext_1 17 rfl rfl)
theorem dX11_isNext_44 : decode cX11_isNext 44 = .ok (.iconst 0, 1) := dk_3 (dk_at dksX11_isNext_1 20 rfl rfl)
theorem dX11_isNext_45 : decode cX11_isNext 45 = .ok (.ireturn, 1) := dk_172 (dk_at dksX11_isNext_1 21 rfl rfl)
abbrev cX11_number : ByteArray := prog_8_method_5_code
def yX11_number : MethodName := ⟨RX11, "number", "()I"⟩
def dkwX11_number_1 : List UInt8 := [96, 167, 0, 4, 27, 172]
abbrev dktX11_number_1 : List UInt8 := dkwX11_number_1 ++ []
def dkwX11_number_0 : List UInt8 := [42, 182, 0, 46, 60, 42, 16, 48, 16, 57, 182, 0, 33, 153, 0, 15, 16, 10, 27, 104, 42, 182, 0, 46]
abbrev dktX11_number_0 : List UInt8 := dkwX11_number_0 ++ dktX11_number_1
theorem dksX11_number_0 : cX11_number.data.toList.drop 0 = dktX11_number_0 := by decide +kernel
theorem dksX11_number_1 : cX11_number.data.toList.drop 24 = dktX11_number_1 := dk_seg dksX11_number_0 24 rfl rfl
theorem dX11_number_0 : decode cX11_number 0 = .ok (.aload_n 0, 1) := dk_42 (dk_at dksX11_number_0 0 rfl rfl)
theorem dX11_number_1 : decode cX11_number 1 = .ok (.invokevirtual 46, 3) := dk_182 0 46 (dk_at dksX11_number_0 1 rfl rfl)
theorem dX11_number_4 : decode cX11_number 4 = .ok (.istore_n 1, 1) := dk_60 (dk_at dksX11_number_0 4 rfl rfl)
theorem dX11_number_5 : decode cX11_number 5 = .ok (.aload_n 0, 1) := dk_42 (dk_at dksX11_number_0 5 rfl rfl)
theorem dX11_number_6 : decode cX11_number 6 = .ok (.bipush 48, 2) := dk_16 48 (dk_at dksX11_number_0 6 rfl rfl)
theorem dX11_number_8 : decode cX11_number 8 = .ok (.bipush 57, 2) := dk_16 57 (dk_at dksX11_number_0 8 rfl rfl)
theorem dX11_number_10 : decode cX11_number 10 = .ok (.invokevirtual 33, 3) := dk_182 0 33 (dk_at dksX11_number_0 10 rfl rfl)
theorem dX11_number_13 : decode cX11_number 13 = .ok (.ifCond .eq 15, 3) := dk_153 0 15 (dk_at dksX11_number_0 13 rfl rfl)
theorem dX11_number_16 : decode cX11_number 16 = .ok (.bipush 10, 2) := dk_16 10 (dk_at dksX11_number_0 16 rfl rfl)
theorem dX11_number_18 : decode cX11_number 18 = .ok (.iload_n 1, 1) := dk_27 (dk_at dksX11_number_0 18 rfl rfl)
theorem dX11_number_19 : decode cX11_number 19 = .ok (.imul, 1) := dk_104 (dk_at dksX11_number_0 19 rfl rfl)
theorem dX11_number_20 : decode cX11_number 20 = .ok (.aload_n 0, 1) := dk_42 (dk_at dksX11_number_0 20 rfl rfl)
theorem dX11_number_21 : decode cX11_number 21 = .ok (.invokevirtual 46, 3) := dk_182 0 46 (dk_at dksX11_number_0 21 rfl rfl)
theorem dX11_number_24 : decode cX11_number 24 = .ok (.iadd, 1) := dk_96 (dk_at dksX11_number_1 0 rfl rfl)
theorem dX11_number_25 : decode cX11_number 25 = .ok (.goto 4, 3) := dk_167 0 4 (dk_at dksX11_number_1 1 rfl rfl)
theorem dX11_number_28 : decode cX11_number 28 = .ok (.iload_n 1, 1) := dk_27 (dk_at dksX11_number_1 4 rfl rfl)
theorem dX11_number_29 : decode cX11_number 29 = .ok (.ireturn, 1) := dk_172 (dk_at dksX11_number_1 5 rfl rfl)
abbrev cX11_digit : ByteArray := prog_8_method_4_code
def yX11_digit : MethodName := ⟨RX11, "digit", "()I"⟩
def dkwX11_digit_0 : List UInt8 := [42, 16, 48, 16, 57, 182, 0, 42, 172]
abbrev dktX11_digit_0 : List UInt8 := dkwX11_digit_0 ++ []
theorem dksX11_digit_0 : cX11_digit.data.toList.drop 0 = dktX11_digit_0 := by decide +kernel
theorem dX11_digit_0 : decode cX11_digit 0 = .ok (.aload_n 0, 1) := dk_42 (dk_at dksX11_digit_0 0 rfl rfl)
theorem dX11_digit_1 : decode cX11_digit 1 = .ok (.bipush 48, 2) := dk_16 48 (dk_at dksX11_digit_0 1 rfl rfl)
theorem dX11_digit_3 : decode cX11_digit 3 = .ok (.bipush 57, 2) := dk_16 57 (dk_at dksX11_digit_0 3 rfl rfl)
theorem dX11_digit_5 : decode cX11_digit 5 = .ok (.invokevirtual 42, 3) := dk_182 0 42 (dk_at dksX11_digit_0 5 rfl rfl)
theorem dX11_digit_8 : decode cX11_digit 8 = .ok (.ireturn, 1) := dk_172 (dk_at dksX11_digit_0 8 rfl rfl)
abbrev cX11_middle : ByteArray := prog_8_method_8_code
def yX11_middle : MethodName := ⟨RX11, "middle", "(Ljava/lang/String;I)LMissingMiddles$Order;"⟩
def dkwX11_middle_3 : List UInt8 := [79, 183, 0, 57, 176]
abbrev dktX11_middle_3 : List UInt8 := dkwX11_middle_3 ++ []
def dkwX11_middle_2 : List UInt8 := [3, 28, 79, 89, 4, 21, 4, 79, 89, 5, 21, 6, 79, 89, 6, 21, 7, 79, 89, 7, 42, 182, 0, 52]
abbrev dktX11_middle_2 : List UInt8 := dkwX11_middle_2 ++ dktX11_middle_3
def dkwX11_middle_1 : List UInt8 := [54, 5, 42, 182, 0, 49, 54, 6, 42, 182, 0, 52, 54, 7, 187, 0, 55, 89, 43, 3, 8, 188, 10, 89]
abbrev dktX11_middle_1 : List UInt8 := dkwX11_middle_1 ++ dktX11_middle_2
def dkwX11_middle_0 : List UInt8 := [42, 16, 58, 16, 58, 182, 0, 42, 62, 42, 182, 0, 49, 54, 4, 42, 16, 45, 16, 45, 182, 0, 42]
abbrev dktX11_middle_0 : List UInt8 := dkwX11_middle_0 ++ dktX11_middle_1
theorem dksX11_middle_0 : cX11_middle.data.toList.drop 0 = dktX11_middle_0 := by decide +kernel
theorem dksX11_middle_1 : cX11_middle.data.toList.drop 23 = dktX11_middle_1 := dk_seg dksX11_middle_0 23 rfl rfl
theorem dksX11_middle_2 : cX11_middle.data.toList.drop 47 = dktX11_middle_2 := dk_seg dksX11_middle_1 24 rfl rfl
theorem dksX11_middle_3 : cX11_middle.data.toList.drop 71 = dktX11_middle_3 := dk_seg dksX11_middle_2 24 rfl rfl
theorem dX11_middle_0 : decode cX11_middle 0 = .ok (.aload_n 0, 1) := dk_42 (dk_at dksX11_middle_0 0 rfl rfl)
theorem dX11_middle_1 : decode cX11_middle 1 = .ok (.bipush 58, 2) := dk_16 58 (dk_at dksX11_middle_0 1 rfl rfl)
theorem dX11_middle_3 : decode cX11_middle 3 = .ok (.bipush 58, 2) := dk_16 58 (dk_at dksX11_middle_0 3 rfl rfl)
theorem dX11_middle_5 : decode cX11_middle 5 = .ok (.invokevirtual 42, 3) := dk_182 0 42 (dk_at dksX11_middle_0 5 rfl rfl)
theorem dX11_middle_8 : decode cX11_middle 8 = .ok (.istore_n 3, 1) := dk_62 (dk_at dksX11_middle_0 8 rfl rfl)
theorem dX11_middle_9 : decode cX11_middle 9 = .ok (.aload_n 0, 1) := dk_42 (dk_at dksX11_middle_0 9 rfl rfl)
theorem dX11_middle_10 : decode cX11_middle 10 = .ok (.invokevirtual 49, 3) := dk_182 0 49 (dk_at dksX11_middle_0 10 rfl rfl)
theorem dX11_middle_13 : decode cX11_middle 13 = .ok (.istore 4, 2) := dk_54 4 (dk_at dksX11_middle_0 13 rfl rfl)
theorem dX11_middle_15 : decode cX11_middle 15 = .ok (.aload_n 0, 1) := dk_42 (dk_at dksX11_middle_0 15 rfl rfl)
theorem dX11_middle_16 : decode cX11_middle 16 = .ok (.bipush 45, 2) := dk_16 45 (dk_at dksX11_middle_0 16 rfl rfl)
theorem dX11_middle_18 : decode cX11_middle 18 = .ok (.bipush 45, 2) := dk_16 45 (dk_at dksX11_middle_0 18 rfl rfl)
theorem dX11_middle_20 : decode cX11_middle 20 = .ok (.invokevirtual 42, 3) := dk_182 0 42 (dk_at dksX11_middle_0 20 rfl rfl)
theorem dX11_middle_23 : decode cX11_middle 23 = .ok (.istore 5, 2) := dk_54 5 (dk_at dksX11_middle_1 0 rfl rfl)
theorem dX11_middle_25 : decode cX11_middle 25 = .ok (.aload_n 0, 1) := dk_42 (dk_at dksX11_middle_1 2 rfl rfl)
theorem dX11_middle_26 : decode cX11_middle 26 = .ok (.invokevirtual 49, 3) := dk_182 0 49 (dk_at dksX11_middle_1 3 rfl rfl)
theorem dX11_middle_29 : decode cX11_middle 29 = .ok (.istore 6, 2) := dk_54 6 (dk_at dksX11_middle_1 6 rfl rfl)
theorem dX11_middle_31 : decode cX11_middle 31 = .ok (.aload_n 0, 1) := dk_42 (dk_at dksX11_middle_1 8 rfl rfl)
theorem dX11_middle_32 : decode cX11_middle 32 = .ok (.invokevirtual 52, 3) := dk_182 0 52 (dk_at dksX11_middle_1 9 rfl rfl)
theorem dX11_middle_35 : decode cX11_middle 35 = .ok (.istore 7, 2) := dk_54 7 (dk_at dksX11_middle_1 12 rfl rfl)
theorem dX11_middle_37 : decode cX11_middle 37 = .ok (.new 55, 3) := dk_187 0 55 (dk_at dksX11_middle_1 14 rfl rfl)
theorem dX11_middle_40 : decode cX11_middle 40 = .ok (.dup, 1) := dk_89 (dk_at dksX11_middle_1 17 rfl rfl)
theorem dX11_middle_41 : decode cX11_middle 41 = .ok (.aload_n 1, 1) := dk_43 (dk_at dksX11_middle_1 18 rfl rfl)
theorem dX11_middle_42 : decode cX11_middle 42 = .ok (.iconst 0, 1) := dk_3 (dk_at dksX11_middle_1 19 rfl rfl)
theorem dX11_middle_43 : decode cX11_middle 43 = .ok (.iconst 5, 1) := dk_8 (dk_at dksX11_middle_1 20 rfl rfl)
theorem dX11_middle_44 : decode cX11_middle 44 = .ok (.newarray .int, 2) := dk_188_10 (dk_at dksX11_middle_1 21 rfl rfl)
theorem dX11_middle_46 : decode cX11_middle 46 = .ok (.dup, 1) := dk_89 (dk_at dksX11_middle_1 23 rfl rfl)
theorem dX11_middle_47 : decode cX11_middle 47 = .ok (.iconst 0, 1) := dk_3 (dk_at dksX11_middle_2 0 rfl rfl)
theorem dX11_middle_48 : decode cX11_middle 48 = .ok (.iload_n 2, 1) := dk_28 (dk_at dksX11_middle_2 1 rfl rfl)
theorem dX11_middle_49 : decode cX11_middle 49 = .ok (.iastore, 1) := dk_79 (dk_at dksX11_middle_2 2 rfl rfl)
theorem dX11_middle_50 : decode cX11_middle 50 = .ok (.dup, 1) := dk_89 (dk_at dksX11_middle_2 3 rfl rfl)
theorem dX11_middle_51 : decode cX11_middle 51 = .ok (.iconst 1, 1) := dk_4 (dk_at dksX11_middle_2 4 rfl rfl)
theorem dX11_middle_52 : decode cX11_middle 52 = .ok (.iload 4, 2) := dk_21 4 (dk_at dksX11_middle_2 5 rfl rfl)
theorem dX11_middle_54 : decode cX11_middle 54 = .ok (.iastore, 1) := dk_79 (dk_at dksX11_middle_2 7 rfl rfl)
theorem dX11_middle_55 : decode cX11_middle 55 = .ok (.dup, 1) := dk_89 (dk_at dksX11_middle_2 8 rfl rfl)
theorem dX11_middle_56 : decode cX11_middle 56 = .ok (.iconst 2, 1) := dk_5 (dk_at dksX11_middle_2 9 rfl rfl)
theorem dX11_middle_57 : decode cX11_middle 57 = .ok (.iload 6, 2) := dk_21 6 (dk_at dksX11_middle_2 10 rfl rfl)
theorem dX11_middle_59 : decode cX11_middle 59 = .ok (.iastore, 1) := dk_79 (dk_at dksX11_middle_2 12 rfl rfl)
theorem dX11_middle_60 : decode cX11_middle 60 = .ok (.dup, 1) := dk_89 (dk_at dksX11_middle_2 13 rfl rfl)
theorem dX11_middle_61 : decode cX11_middle 61 = .ok (.iconst 3, 1) := dk_6 (dk_at dksX11_middle_2 14 rfl rfl)
theorem dX11_middle_62 : decode cX11_middle 62 = .ok (.iload 7, 2) := dk_21 7 (dk_at dksX11_middle_2 15 rfl rfl)
theorem dX11_middle_64 : decode cX11_middle 64 = .ok (.iastore, 1) := dk_79 (dk_at dksX11_middle_2 17 rfl rfl)
theorem dX11_middle_65 : decode cX11_middle 65 = .ok (.dup, 1) := dk_89 (dk_at dksX11_middle_2 18 rfl rfl)
theorem dX11_middle_66 : decode cX11_middle 66 = .ok (.iconst 4, 1) := dk_7 (dk_at dksX11_middle_2 19 rfl rfl)
theorem dX11_middle_67 : decode cX11_middle 67 = .ok (.aload_n 0, 1) := dk_42 (dk_at dksX11_middle_2 20 rfl rfl)
theorem dX11_middle_68 : decode cX11_middle 68 = .ok (.invokevirtual 52, 3) := dk_182 0 52 (dk_at dksX11_middle_2 21 rfl rfl)
theorem dX11_middle_71 : decode cX11_middle 71 = .ok (.iastore, 1) := dk_79 (dk_at dksX11_middle_3 0 rfl rfl)
theorem dX11_middle_72 : decode cX11_middle 72 = .ok (.invokespecial 57, 3) := dk_183 0 57 (dk_at dksX11_middle_3 1 rfl rfl)
theorem dX11_middle_75 : decode cX11_middle 75 = .ok (.areturn, 1) := dk_176 (dk_at dksX11_middle_3 4 rfl rfl)
abbrev cX11_sign : ByteArray := prog_8_method_6_code
def yX11_sign : MethodName := ⟨RX11, "sign", "()I"⟩
def dkwX11_sign_0 : List UInt8 := [42, 16, 97, 16, 104, 182, 0, 42, 172]
abbrev dktX11_sign_0 : List UInt8 := dkwX11_sign_0 ++ []
theorem dksX11_sign_0 : cX11_sign.data.toList.drop 0 = dktX11_sign_0 := by decide +kernel
theorem dX11_sign_0 : decode cX11_sign 0 = .ok (.aload_n 0, 1) := dk_42 (dk_at dksX11_sign_0 0 rfl rfl)
theorem dX11_sign_1 : decode cX11_sign 1 = .ok (.bipush 97, 2) := dk_16 97 (dk_at dksX11_sign_0 1 rfl rfl)
theorem dX11_sign_3 : decode cX11_sign 3 = .ok (.bipush 104, 2) := dk_16 104 (dk_at dksX11_sign_0 3 rfl rfl)
theorem dX11_sign_5 : decode cX11_sign 5 = .ok (.invokevirtual 42, 3) := dk_182 0 42 (dk_at dksX11_sign_0 5 rfl rfl)
theorem dX11_sign_8 : decode cX11_sign 8 = .ok (.ireturn, 1) := dk_172 (dk_at dksX11_sign_0 8 rfl rfl)
abbrev cX11_plus : ByteArray := prog_8_method_7_code
def yX11_plus : MethodName := ⟨RX11, "plus", "()Z"⟩
def dkwX11_plus_1 : List UInt8 := [42, 16, 45, 16, 45, 182, 0, 42, 61, 27, 172]
abbrev dktX11_plus_1 : List UInt8 := dkwX11_plus_1 ++ []
def dkwX11_plus_0 : List UInt8 := [42, 16, 43, 16, 43, 182, 0, 33, 60, 27, 153, 0, 14, 42, 16, 43, 16, 43, 182, 0, 42, 167, 0, 11]
abbrev dktX11_plus_0 : List UInt8 := dkwX11_plus_0 ++ dktX11_plus_1
theorem dksX11_plus_0 : cX11_plus.data.toList.drop 0 = dktX11_plus_0 := by decide +kernel
theorem dksX11_plus_1 : cX11_plus.data.toList.drop 24 = dktX11_plus_1 := dk_seg dksX11_plus_0 24 rfl rfl
theorem dX11_plus_0 : decode cX11_plus 0 = .ok (.aload_n 0, 1) := dk_42 (dk_at dksX11_plus_0 0 rfl rfl)
theorem dX11_plus_1 : decode cX11_plus 1 = .ok (.bipush 43, 2) := dk_16 43 (dk_at dksX11_plus_0 1 rfl rfl)
theorem dX11_plus_3 : decode cX11_plus 3 = .ok (.bipush 43, 2) := dk_16 43 (dk_at dksX11_plus_0 3 rfl rfl)
theorem dX11_plus_5 : decode cX11_plus 5 = .ok (.invokevirtual 33, 3) := dk_182 0 33 (dk_at dksX11_plus_0 5 rfl rfl)
theorem dX11_plus_8 : decode cX11_plus 8 = .ok (.istore_n 1, 1) := dk_60 (dk_at dksX11_plus_0 8 rfl rfl)
theorem dX11_plus_9 : decode cX11_plus 9 = .ok (.iload_n 1, 1) := dk_27 (dk_at dksX11_plus_0 9 rfl rfl)
theorem dX11_plus_10 : decode cX11_plus 10 = .ok (.ifCond .eq 14, 3) := dk_153 0 14 (dk_at dksX11_plus_0 10 rfl rfl)
theorem dX11_plus_13 : decode cX11_plus 13 = .ok (.aload_n 0, 1) := dk_42 (dk_at dksX11_plus_0 13 rfl rfl)
theorem dX11_plus_14 : decode cX11_plus 14 = .ok (.bipush 43, 2) := dk_16 43 (dk_at dksX11_plus_0 14 rfl rfl)
theorem dX11_plus_16 : decode cX11_plus 16 = .ok (.bipush 43, 2) := dk_16 43 (dk_at dksX11_plus_0 16 rfl rfl)
theorem dX11_plus_18 : decode cX11_plus 18 = .ok (.invokevirtual 42, 3) := dk_182 0 42 (dk_at dksX11_plus_0 18 rfl rfl)
theorem dX11_plus_21 : decode cX11_plus 21 = .ok (.goto 11, 3) := dk_167 0 11 (dk_at dksX11_plus_0 21 rfl rfl)
theorem dX11_plus_24 : decode cX11_plus 24 = .ok (.aload_n 0, 1) := dk_42 (dk_at dksX11_plus_1 0 rfl rfl)
theorem dX11_plus_25 : decode cX11_plus 25 = .ok (.bipush 45, 2) := dk_16 45 (dk_at dksX11_plus_1 1 rfl rfl)
theorem dX11_plus_27 : decode cX11_plus 27 = .ok (.bipush 45, 2) := dk_16 45 (dk_at dksX11_plus_1 3 rfl rfl)
theorem dX11_plus_29 : decode cX11_plus 29 = .ok (.invokevirtual 42, 3) := dk_182 0 42 (dk_at dksX11_plus_1 5 rfl rfl)
theorem dX11_plus_32 : decode cX11_plus 32 = .ok (.istore_n 2, 1) := dk_61 (dk_at dksX11_plus_1 8 rfl rfl)
theorem dX11_plus_33 : decode cX11_plus 33 = .ok (.iload_n 1, 1) := dk_27 (dk_at dksX11_plus_1 9 rfl rfl)
theorem dX11_plus_34 : decode cX11_plus 34 = .ok (.ireturn, 1) := dk_172 (dk_at dksX11_plus_1 10 rfl rfl)
theorem q151 : (Jvm.Cond.initialized "MissingMiddles$Parser") ∈ lw_all := lw_g (lw_at lw_m1 49 rfl) rfl
theorem q262 : (Jvm.Cond.selects "MissingMiddles$Parser" ({ cls := "java/lang/Object", name := "getClass", desc := "()Ljava/lang/Class;" } : Jvm.MethodName) ({ cls := "java/lang/Object", name := "getClass", desc := "()Ljava/lang/Class;" } : Jvm.MethodName)) ∈ lw_all := lw_g (lw_at lw_m1 160 rfl) rfl
theorem q1781 : (Jvm.Cond.selects "MissingMiddles$Parser" ({ cls := "java/lang/Object", name := "equals", desc := "(Ljava/lang/Object;)Z" } : Jvm.MethodName) ({ cls := "java/lang/Object", name := "equals", desc := "(Ljava/lang/Object;)Z" } : Jvm.MethodName)) ∈ lw_all := lw_g (lw_at lw_m7 239 rfl) rfl
theorem q2478 : (Jvm.Cond.instantiable "MissingMiddles$Parser" (2 : Nat)) ∈ lw_all := lw_g (lw_at lw_m10 216 rfl) rfl
theorem q2480 : (Jvm.Cond.instanceMethod ({ cls := "MissingMiddles$Parser", name := "<init>", desc := "(Ljava/lang/CharSequence;)V" } : Jvm.MethodName)) ∈ lw_all := lw_g (lw_at lw_m10 218 rfl) rfl
theorem q2481 : (Jvm.Cond.code ({ cls := "MissingMiddles$Parser", name := "<init>", desc := "(Ljava/lang/CharSequence;)V" } : Jvm.MethodName) prog_8_method_1_code (2 : Nat) (Option.none : Option Jvm.ClassFile.FieldType)) ∈ lw_all := lw_g (lw_at lw_m10 219 rfl) rfl
theorem q2482 : (Jvm.Cond.methodLink "MissingMiddles$Parser" (3 : Nat) ({ cls := "java/lang/Object", name := "<init>", desc := "()V" } : Jvm.MethodName)) ∈ lw_all := lw_g (lw_at lw_m10 220 rfl) rfl
theorem q2483 : (Jvm.Cond.fieldLink "MissingMiddles$Parser" (9 : Nat) "MissingMiddles$Parser" "text" "Ljava/lang/CharSequence;") ∈ lw_all := lw_g (lw_at lw_m10 221 rfl) rfl
theorem q2484 : (Jvm.Cond.fieldLink "MissingMiddles$Parser" (15 : Nat) "MissingMiddles$Parser" "position" "I") ∈ lw_all := lw_g (lw_at lw_m10 222 rfl) rfl
theorem q2485 : (Jvm.Cond.laysFinal "MissingMiddles$Parser" "MissingMiddles$Parser" "text" "Ljava/lang/CharSequence;") ∈ lw_all := lw_g (lw_at lw_m10 223 rfl) rfl
theorem q2486 : (Jvm.Cond.soleField "MissingMiddles$Parser" "text") ∈ lw_all := lw_g (lw_at lw_m10 224 rfl) rfl
theorem q2487 : (Jvm.Cond.lays "MissingMiddles$Parser" "MissingMiddles$Parser" "position" "I") ∈ lw_all := lw_g (lw_at lw_m10 225 rfl) rfl
theorem q2488 : (Jvm.Cond.soleField "MissingMiddles$Parser" "position") ∈ lw_all := lw_g (lw_at lw_m10 226 rfl) rfl
theorem q2489 : (Jvm.Cond.superclass "MissingMiddles$Parser" "java/lang/Object") ∈ lw_all := lw_g (lw_at lw_m10 227 rfl) rfl
theorem q2491 : (Jvm.Cond.instanceMethod ({ cls := "MissingMiddles$Parser", name := "orders", desc := "()Ljava/util/ArrayList;" } : Jvm.MethodName)) ∈ lw_all := lw_g (lw_at lw_m10 229 rfl) rfl
theorem q2492 : (Jvm.Cond.selects "MissingMiddles$Parser" ({ cls := "MissingMiddles$Parser", name := "orders", desc := "()Ljava/util/ArrayList;" } : Jvm.MethodName) ({ cls := "MissingMiddles$Parser", name := "orders", desc := "()Ljava/util/ArrayList;" } : Jvm.MethodName)) ∈ lw_all := lw_g (lw_at lw_m10 230 rfl) rfl
theorem q2493 : (Jvm.Cond.code ({ cls := "MissingMiddles$Parser", name := "orders", desc := "()Ljava/util/ArrayList;" } : Jvm.MethodName) prog_8_method_10_code (4 : Nat) (Option.some (Jvm.ClassFile.FieldType.object "java/util/ArrayList"))) ∈ lw_all := lw_g (lw_at lw_m10 231 rfl) rfl
theorem q2494 : (Jvm.Cond.classLink "MissingMiddles$Parser" (111 : Nat) "java/util/ArrayList") ∈ lw_all := lw_g (lw_at lw_m10 232 rfl) rfl
theorem q2495 : (Jvm.Cond.methodLink "MissingMiddles$Parser" (113 : Nat) ({ cls := "java/util/ArrayList", name := "<init>", desc := "()V" } : Jvm.MethodName)) ∈ lw_all := lw_g (lw_at lw_m10 233 rfl) rfl
theorem q2496 : (Jvm.Cond.methodLink "MissingMiddles$Parser" (114 : Nat) ({ cls := "MissingMiddles$Parser", name := "order", desc := "()LMissingMiddles$Order;" } : Jvm.MethodName)) ∈ lw_all := lw_g (lw_at lw_m10 234 rfl) rfl
theorem q2497 : (Jvm.Cond.privateMethod ({ cls := "MissingMiddles$Parser", name := "order", desc := "()LMissingMiddles$Order;" } : Jvm.MethodName)) ∈ lw_tbl := lw_at lw_m10 235 rfl
theorem q2498 : (Jvm.Cond.instanceMethod ({ cls := "MissingMiddles$Parser", name := "order", desc := "()LMissingMiddles$Order;" } : Jvm.MethodName)) ∈ lw_all := lw_g (lw_at lw_m10 236 rfl) rfl
theorem q2499 : (Jvm.Cond.code ({ cls := "MissingMiddles$Parser", name := "order", desc := "()LMissingMiddles$Order;" } : Jvm.MethodName) prog_8_method_9_code (7 : Nat) (Option.some (Jvm.ClassFile.FieldType.object "MissingMiddles$Order"))) ∈ lw_all := lw_g (lw_at lw_m10 237 rfl) rfl
theorem q2500 : (Jvm.Cond.classLink "MissingMiddles$Parser" (60 : Nat) "java/lang/StringBuilder") ∈ lw_all := lw_g (lw_at lw_m10 238 rfl) rfl
theorem q2501 : (Jvm.Cond.methodLink "MissingMiddles$Parser" (62 : Nat) ({ cls := "java/lang/StringBuilder", name := "<init>", desc := "()V" } : Jvm.MethodName)) ∈ lw_all := lw_g (lw_at lw_m10 239 rfl) rfl
theorem q2502 : (Jvm.Cond.stringRef "MissingMiddles$Parser" (63 : Nat) "") ∈ lw_tbl := lw_at lw_m11 0 rfl
theorem q2503 : (Jvm.Cond.methodLink "MissingMiddles$Parser" (65 : Nat) ({ cls := "java/lang/StringBuilder", name := "append", desc := "(Ljava/lang/String;)Ljava/lang/StringBuilder;" } : Jvm.MethodName)) ∈ lw_all := lw_g (lw_at lw_m11 1 rfl) rfl
theorem q2504 : (Jvm.Cond.methodLink "MissingMiddles$Parser" (42 : Nat) ({ cls := "MissingMiddles$Parser", name := "take", desc := "(II)I" } : Jvm.MethodName)) ∈ lw_all := lw_g (lw_at lw_m11 2 rfl) rfl
theorem q2505 : (Jvm.Cond.privateMethod ({ cls := "MissingMiddles$Parser", name := "take", desc := "(II)I" } : Jvm.MethodName)) ∈ lw_tbl := lw_at lw_m11 3 rfl
theorem q2506 : (Jvm.Cond.instanceMethod ({ cls := "MissingMiddles$Parser", name := "take", desc := "(II)I" } : Jvm.MethodName)) ∈ lw_all := lw_g (lw_at lw_m11 4 rfl) rfl
theorem q2507 : (Jvm.Cond.code ({ cls := "MissingMiddles$Parser", name := "take", desc := "(II)I" } : Jvm.MethodName) prog_8_method_3_code (3 : Nat) (Option.some Jvm.ClassFile.FieldType.int)) ∈ lw_all := lw_g (lw_at lw_m11 5 rfl) rfl
theorem q2508 : (Jvm.Cond.methodLink "MissingMiddles$Parser" (33 : Nat) ({ cls := "MissingMiddles$Parser", name := "isNext", desc := "(II)Z" } : Jvm.MethodName)) ∈ lw_all := lw_g (lw_at lw_m11 6 rfl) rfl
theorem q2509 : (Jvm.Cond.privateMethod ({ cls := "MissingMiddles$Parser", name := "isNext", desc := "(II)Z" } : Jvm.MethodName)) ∈ lw_tbl := lw_at lw_m11 7 rfl
theorem q2510 : (Jvm.Cond.instanceMethod ({ cls := "MissingMiddles$Parser", name := "isNext", desc := "(II)Z" } : Jvm.MethodName)) ∈ lw_all := lw_g (lw_at lw_m11 8 rfl) rfl
theorem q2511 : (Jvm.Cond.code ({ cls := "MissingMiddles$Parser", name := "isNext", desc := "(II)Z" } : Jvm.MethodName) prog_8_method_2_code (3 : Nat) (Option.some Jvm.ClassFile.FieldType.boolean)) ∈ lw_all := lw_g (lw_at lw_m11 9 rfl) rfl
theorem q2512 : (Jvm.Cond.interfaceEntry "MissingMiddles$Parser" (19 : Nat)) ∈ lw_tbl := lw_at lw_m11 10 rfl
theorem q2513 : (Jvm.Cond.methodLink "MissingMiddles$Parser" (19 : Nat) ({ cls := "java/lang/CharSequence", name := "length", desc := "()I" } : Jvm.MethodName)) ∈ lw_all := lw_g (lw_at lw_m11 11 rfl) rfl
theorem q2524 : (Jvm.Cond.interfaceEntry "MissingMiddles$Parser" (25 : Nat)) ∈ lw_tbl := lw_at lw_m11 22 rfl
theorem q2525 : (Jvm.Cond.methodLink "MissingMiddles$Parser" (25 : Nat) ({ cls := "java/lang/CharSequence", name := "charAt", desc := "(I)C" } : Jvm.MethodName)) ∈ lw_all := lw_g (lw_at lw_m11 23 rfl) rfl
theorem q2542 : (Jvm.Cond.methodLinkNest "MissingMiddles$Parser" (29 : Nat) ({ cls := "MissingMiddles", name := "inRange", desc := "(JJJ)Z" } : Jvm.MethodName) "MissingMiddles") ∈ lw_tbl := lw_at lw_m11 40 rfl
theorem q2543 : (Jvm.Cond.classLink "MissingMiddles$Parser" (37 : Nat) "MissingMiddles$SyntaxException") ∈ lw_all := lw_g (lw_at lw_m11 41 rfl) rfl
theorem q2552 : (Jvm.Cond.methodLink "MissingMiddles$Parser" (39 : Nat) ({ cls := "MissingMiddles$SyntaxException", name := "<init>", desc := "(I)V" } : Jvm.MethodName)) ∈ lw_all := lw_g (lw_at lw_m11 50 rfl) rfl
theorem q2562 : (Jvm.Cond.methodLink "MissingMiddles$Parser" (69 : Nat) ({ cls := "java/lang/StringBuilder", name := "append", desc := "(C)Ljava/lang/StringBuilder;" } : Jvm.MethodName)) ∈ lw_all := lw_g (lw_at lw_m11 60 rfl) rfl
theorem q2563 : (Jvm.Cond.methodLink "MissingMiddles$Parser" (72 : Nat) ({ cls := "java/lang/StringBuilder", name := "toString", desc := "()Ljava/lang/String;" } : Jvm.MethodName)) ∈ lw_all := lw_g (lw_at lw_m11 61 rfl) rfl
theorem q2564 : (Jvm.Cond.methodLink "MissingMiddles$Parser" (76 : Nat) ({ cls := "java/lang/String", name := "hashCode", desc := "()I" } : Jvm.MethodName)) ∈ lw_all := lw_g (lw_at lw_m11 62 rfl) rfl
theorem q2565 : (Jvm.Cond.stringRef "MissingMiddles$Parser" (81 : Nat) "b") ∈ lw_tbl := lw_at lw_m11 63 rfl
theorem q2566 : (Jvm.Cond.methodLink "MissingMiddles$Parser" (83 : Nat) ({ cls := "java/lang/String", name := "equals", desc := "(Ljava/lang/Object;)Z" } : Jvm.MethodName)) ∈ lw_all := lw_g (lw_at lw_m11 64 rfl) rfl
theorem q2567 : (Jvm.Cond.stringRef "MissingMiddles$Parser" (87 : Nat) "h") ∈ lw_tbl := lw_at lw_m11 65 rfl
theorem q2568 : (Jvm.Cond.stringRef "MissingMiddles$Parser" (89 : Nat) "o") ∈ lw_tbl := lw_at lw_m11 66 rfl
theorem q2569 : (Jvm.Cond.stringRef "MissingMiddles$Parser" (91 : Nat) "p") ∈ lw_tbl := lw_at lw_m11 67 rfl
theorem q2570 : (Jvm.Cond.stringRef "MissingMiddles$Parser" (93 : Nat) "f") ∈ lw_tbl := lw_at lw_m11 68 rfl
theorem q2571 : (Jvm.Cond.stringRef "MissingMiddles$Parser" (95 : Nat) "m") ∈ lw_tbl := lw_at lw_m11 69 rfl
theorem q2572 : (Jvm.Cond.stringRef "MissingMiddles$Parser" (97 : Nat) "e") ∈ lw_tbl := lw_at lw_m11 70 rfl
theorem q2573 : (Jvm.Cond.stringRef "MissingMiddles$Parser" (99 : Nat) "d") ∈ lw_tbl := lw_at lw_m11 71 rfl
theorem q2574 : (Jvm.Cond.stringRef "MissingMiddles$Parser" (101 : Nat) "c") ∈ lw_tbl := lw_at lw_m11 72 rfl
theorem q2575 : (Jvm.Cond.methodLink "MissingMiddles$Parser" (49 : Nat) ({ cls := "MissingMiddles$Parser", name := "number", desc := "()I" } : Jvm.MethodName)) ∈ lw_all := lw_g (lw_at lw_m11 73 rfl) rfl
theorem q2576 : (Jvm.Cond.privateMethod ({ cls := "MissingMiddles$Parser", name := "number", desc := "()I" } : Jvm.MethodName)) ∈ lw_tbl := lw_at lw_m11 74 rfl
theorem q2577 : (Jvm.Cond.instanceMethod ({ cls := "MissingMiddles$Parser", name := "number", desc := "()I" } : Jvm.MethodName)) ∈ lw_all := lw_g (lw_at lw_m11 75 rfl) rfl
theorem q2578 : (Jvm.Cond.code ({ cls := "MissingMiddles$Parser", name := "number", desc := "()I" } : Jvm.MethodName) prog_8_method_5_code (2 : Nat) (Option.some Jvm.ClassFile.FieldType.int)) ∈ lw_all := lw_g (lw_at lw_m11 76 rfl) rfl
theorem q2579 : (Jvm.Cond.methodLink "MissingMiddles$Parser" (46 : Nat) ({ cls := "MissingMiddles$Parser", name := "digit", desc := "()I" } : Jvm.MethodName)) ∈ lw_all := lw_g (lw_at lw_m11 77 rfl) rfl
theorem q2580 : (Jvm.Cond.privateMethod ({ cls := "MissingMiddles$Parser", name := "digit", desc := "()I" } : Jvm.MethodName)) ∈ lw_tbl := lw_at lw_m11 78 rfl
theorem q2581 : (Jvm.Cond.instanceMethod ({ cls := "MissingMiddles$Parser", name := "digit", desc := "()I" } : Jvm.MethodName)) ∈ lw_all := lw_g (lw_at lw_m11 79 rfl) rfl
theorem q2582 : (Jvm.Cond.code ({ cls := "MissingMiddles$Parser", name := "digit", desc := "()I" } : Jvm.MethodName) prog_8_method_4_code (1 : Nat) (Option.some Jvm.ClassFile.FieldType.int)) ∈ lw_all := lw_g (lw_at lw_m11 80 rfl) rfl
theorem q2583 : (Jvm.Cond.methodLink "MissingMiddles$Parser" (103 : Nat) ({ cls := "MissingMiddles$Parser", name := "middle", desc := "(Ljava/lang/String;I)LMissingMiddles$Order;" } : Jvm.MethodName)) ∈ lw_all := lw_g (lw_at lw_m11 81 rfl) rfl
theorem q2584 : (Jvm.Cond.privateMethod ({ cls := "MissingMiddles$Parser", name := "middle", desc := "(Ljava/lang/String;I)LMissingMiddles$Order;" } : Jvm.MethodName)) ∈ lw_tbl := lw_at lw_m11 82 rfl
theorem q2585 : (Jvm.Cond.instanceMethod ({ cls := "MissingMiddles$Parser", name := "middle", desc := "(Ljava/lang/String;I)LMissingMiddles$Order;" } : Jvm.MethodName)) ∈ lw_all := lw_g (lw_at lw_m11 83 rfl) rfl
theorem q2586 : (Jvm.Cond.code ({ cls := "MissingMiddles$Parser", name := "middle", desc := "(Ljava/lang/String;I)LMissingMiddles$Order;" } : Jvm.MethodName) prog_8_method_8_code (8 : Nat) (Option.some (Jvm.ClassFile.FieldType.object "MissingMiddles$Order"))) ∈ lw_all := lw_g (lw_at lw_m11 84 rfl) rfl
theorem q2587 : (Jvm.Cond.methodLink "MissingMiddles$Parser" (52 : Nat) ({ cls := "MissingMiddles$Parser", name := "sign", desc := "()I" } : Jvm.MethodName)) ∈ lw_all := lw_g (lw_at lw_m11 85 rfl) rfl
theorem q2588 : (Jvm.Cond.privateMethod ({ cls := "MissingMiddles$Parser", name := "sign", desc := "()I" } : Jvm.MethodName)) ∈ lw_tbl := lw_at lw_m11 86 rfl
theorem q2589 : (Jvm.Cond.instanceMethod ({ cls := "MissingMiddles$Parser", name := "sign", desc := "()I" } : Jvm.MethodName)) ∈ lw_all := lw_g (lw_at lw_m11 87 rfl) rfl
theorem q2590 : (Jvm.Cond.code ({ cls := "MissingMiddles$Parser", name := "sign", desc := "()I" } : Jvm.MethodName) prog_8_method_6_code (1 : Nat) (Option.some Jvm.ClassFile.FieldType.int)) ∈ lw_all := lw_g (lw_at lw_m11 88 rfl) rfl
theorem q2591 : (Jvm.Cond.classLink "MissingMiddles$Parser" (55 : Nat) "MissingMiddles$Order") ∈ lw_all := lw_g (lw_at lw_m11 89 rfl) rfl
theorem q2592 : (Jvm.Cond.methodLink "MissingMiddles$Parser" (57 : Nat) ({ cls := "MissingMiddles$Order", name := "<init>", desc := "(Ljava/lang/String;Z[I)V" } : Jvm.MethodName)) ∈ lw_all := lw_g (lw_at lw_m11 90 rfl) rfl
theorem q2593 : (Jvm.Cond.methodLink "MissingMiddles$Parser" (107 : Nat) ({ cls := "MissingMiddles$Parser", name := "plus", desc := "()Z" } : Jvm.MethodName)) ∈ lw_all := lw_g (lw_at lw_m11 91 rfl) rfl
theorem q2594 : (Jvm.Cond.privateMethod ({ cls := "MissingMiddles$Parser", name := "plus", desc := "()Z" } : Jvm.MethodName)) ∈ lw_tbl := lw_at lw_m11 92 rfl
theorem q2595 : (Jvm.Cond.instanceMethod ({ cls := "MissingMiddles$Parser", name := "plus", desc := "()Z" } : Jvm.MethodName)) ∈ lw_all := lw_g (lw_at lw_m11 93 rfl) rfl
theorem q2596 : (Jvm.Cond.code ({ cls := "MissingMiddles$Parser", name := "plus", desc := "()Z" } : Jvm.MethodName) prog_8_method_7_code (3 : Nat) (Option.some Jvm.ClassFile.FieldType.boolean)) ∈ lw_all := lw_g (lw_at lw_m11 94 rfl) rfl
theorem q2597 : (Jvm.Cond.methodLink "MissingMiddles$Parser" (118 : Nat) ({ cls := "java/util/ArrayList", name := "add", desc := "(Ljava/lang/Object;)Z" } : Jvm.MethodName)) ∈ lw_all := lw_g (lw_at lw_m11 95 rfl) rfl
theorem q3198 : (Jvm.Cond.castable "MissingMiddles$Parser" "java/lang/Object") ∈ lw_tbl := lw_at lw_m13 216 rfl
theorem in_X11 : ∀ w ∈ wsX110, w ∈ lw_all := lw_in wsX110 [2485, 2487] (by decide +kernel) (by decide +kernel)
/-! MissingMiddles$SyntaxException -/
set_option maxRecDepth 100000
def RX12 : String := "MissingMiddles$SyntaxException"
def TX12 : u_T := fun k => match k with
  | 0 => ("java/lang/Throwable", "cause", "Ljava/lang/Throwable;", false)
  | 1 => ("java/lang/Throwable", "stackTrace", "[Ljava/lang/StackTraceElement;", false)
  | 2 => ("java/lang/Throwable", "suppressedExceptions", "Ljava/util/List;", false)
  | 3 => ("java/lang/Throwable", "detailMessage", "Ljava/lang/String;", false)
  | 4 => ("java/lang/Throwable", "backtrace", "Ljava/lang/Object;", false)
  | 5 => ("java/lang/Throwable", "depth", "I", false)
  | _ => ("MissingMiddles$SyntaxException", "position", "I", true)
def tyX12 : Nat → FieldType := fun k => match k with
  | 0 => .object "java/lang/Throwable"
  | 1 => .array (.object "java/lang/StackTraceElement")
  | 2 => .object "java/util/List"
  | 3 => .object "java/lang/String"
  | 4 => .object "java/lang/Object"
  | 5 => .int
  | _ => .int
abbrev wsX120 : List Cond := u_ws RX12 TX12 7
theorem nmX12 : ∀ a, a < 7 → ∀ b, b < 7 → a ≠ b → (TX12 a).2.1 ≠ (TX12 b).2.1 := by decide +kernel
theorem tyX12_ok : ∀ k, k < 7 → parseFieldDescriptor (TX12 k).2.2.1 = some (tyX12 k) := by decide +kernel
abbrev cX12_init : ByteArray := prog_12_method_1_code
def yX12_init : MethodName := ⟨RX12, "<init>", "(I)V"⟩
def dkwX12_init_0 : List UInt8 := [42, 1, 1, 3, 3, 183, 0, 1, 42, 27, 181, 0, 7, 177]
abbrev dktX12_init_0 : List UInt8 := dkwX12_init_0 ++ []
theorem dksX12_init_0 : cX12_init.data.toList.drop 0 = dktX12_init_0 := by decide +kernel
theorem dX12_init_0 : decode cX12_init 0 = .ok (.aload_n 0, 1) := dk_42 (dk_at dksX12_init_0 0 rfl rfl)
theorem dX12_init_1 : decode cX12_init 1 = .ok (.aconst_null, 1) := dk_1 (dk_at dksX12_init_0 1 rfl rfl)
theorem dX12_init_2 : decode cX12_init 2 = .ok (.aconst_null, 1) := dk_1 (dk_at dksX12_init_0 2 rfl rfl)
theorem dX12_init_3 : decode cX12_init 3 = .ok (.iconst 0, 1) := dk_3 (dk_at dksX12_init_0 3 rfl rfl)
theorem dX12_init_4 : decode cX12_init 4 = .ok (.iconst 0, 1) := dk_3 (dk_at dksX12_init_0 4 rfl rfl)
theorem dX12_init_5 : decode cX12_init 5 = .ok (.invokespecial 1, 3) := dk_183 0 1 (dk_at dksX12_init_0 5 rfl rfl)
theorem dX12_init_8 : decode cX12_init 8 = .ok (.aload_n 0, 1) := dk_42 (dk_at dksX12_init_0 8 rfl rfl)
theorem dX12_init_9 : decode cX12_init 9 = .ok (.iload_n 1, 1) := dk_27 (dk_at dksX12_init_0 9 rfl rfl)
theorem dX12_init_10 : decode cX12_init 10 = .ok (.putfield 7, 3) := dk_181 0 7 (dk_at dksX12_init_0 10 rfl rfl)
theorem dX12_init_13 : decode cX12_init 13 = .ok (.return_, 1) := dk_177 (dk_at dksX12_init_0 13 rfl rfl)
theorem q152 : (Jvm.Cond.initialized "MissingMiddles$SyntaxException") ∈ lw_all := lw_g (lw_at lw_m1 50 rfl) rfl
theorem q266 : (Jvm.Cond.selects "MissingMiddles$SyntaxException" ({ cls := "java/lang/Object", name := "getClass", desc := "()Ljava/lang/Class;" } : Jvm.MethodName) ({ cls := "java/lang/Object", name := "getClass", desc := "()Ljava/lang/Class;" } : Jvm.MethodName)) ∈ lw_all := lw_g (lw_at lw_m1 164 rfl) rfl
theorem q644 : (Jvm.Cond.selects "MissingMiddles$SyntaxException" ({ cls := "java/lang/Throwable", name := "fillInStackTrace", desc := "()Ljava/lang/Throwable;" } : Jvm.MethodName) ({ cls := "java/lang/Throwable", name := "fillInStackTrace", desc := "()Ljava/lang/Throwable;" } : Jvm.MethodName)) ∈ lw_all := lw_g (lw_at lw_m3 62 rfl) rfl
theorem q932 : (Jvm.Cond.selects "MissingMiddles$SyntaxException" ({ cls := "java/lang/Throwable", name := "toString", desc := "()Ljava/lang/String;" } : Jvm.MethodName) ({ cls := "java/lang/Throwable", name := "toString", desc := "()Ljava/lang/String;" } : Jvm.MethodName)) ∈ lw_all := lw_g (lw_at lw_m4 110 rfl) rfl
theorem q946 : (Jvm.Cond.selects "MissingMiddles$SyntaxException" ({ cls := "java/lang/Throwable", name := "getLocalizedMessage", desc := "()Ljava/lang/String;" } : Jvm.MethodName) ({ cls := "java/lang/Throwable", name := "getLocalizedMessage", desc := "()Ljava/lang/String;" } : Jvm.MethodName)) ∈ lw_all := lw_g (lw_at lw_m4 124 rfl) rfl
theorem q959 : (Jvm.Cond.selects "MissingMiddles$SyntaxException" ({ cls := "java/lang/Throwable", name := "getMessage", desc := "()Ljava/lang/String;" } : Jvm.MethodName) ({ cls := "java/lang/Throwable", name := "getMessage", desc := "()Ljava/lang/String;" } : Jvm.MethodName)) ∈ lw_all := lw_g (lw_at lw_m4 137 rfl) rfl
theorem q1785 : (Jvm.Cond.selects "MissingMiddles$SyntaxException" ({ cls := "java/lang/Object", name := "equals", desc := "(Ljava/lang/Object;)Z" } : Jvm.MethodName) ({ cls := "java/lang/Object", name := "equals", desc := "(Ljava/lang/Object;)Z" } : Jvm.MethodName)) ∈ lw_all := lw_g (lw_at lw_m8 3 rfl) rfl
theorem q2544 : (Jvm.Cond.instantiable "MissingMiddles$SyntaxException" (7 : Nat)) ∈ lw_all := lw_g (lw_at lw_m11 42 rfl) rfl
theorem q2545 : (Jvm.Cond.castable "MissingMiddles$SyntaxException" "MissingMiddles$SyntaxException") ∈ lw_tbl := lw_at lw_m11 43 rfl
theorem q2546 : (Jvm.Cond.selects "MissingMiddles$SyntaxException" ({ cls := "java/lang/Throwable", name := "fillInStackTrace", desc := "(I)Ljava/lang/Throwable;" } : Jvm.MethodName) ({ cls := "java/lang/Throwable", name := "fillInStackTrace", desc := "(I)Ljava/lang/Throwable;" } : Jvm.MethodName)) ∈ lw_all := lw_g (lw_at lw_m11 44 rfl) rfl
theorem q2547 : (Jvm.Cond.lays "MissingMiddles$SyntaxException" "java/lang/Throwable" "cause" "Ljava/lang/Throwable;") ∈ lw_all := lw_g (lw_at lw_m11 45 rfl) rfl
theorem q2548 : (Jvm.Cond.lays "MissingMiddles$SyntaxException" "java/lang/Throwable" "stackTrace" "[Ljava/lang/StackTraceElement;") ∈ lw_all := lw_g (lw_at lw_m11 46 rfl) rfl
theorem q2549 : (Jvm.Cond.lays "MissingMiddles$SyntaxException" "java/lang/Throwable" "suppressedExceptions" "Ljava/util/List;") ∈ lw_all := lw_g (lw_at lw_m11 47 rfl) rfl
theorem q2550 : (Jvm.Cond.lays "MissingMiddles$SyntaxException" "java/lang/Throwable" "detailMessage" "Ljava/lang/String;") ∈ lw_all := lw_g (lw_at lw_m11 48 rfl) rfl
theorem q2551 : (Jvm.Cond.lays "MissingMiddles$SyntaxException" "java/lang/Throwable" "backtrace" "Ljava/lang/Object;") ∈ lw_all := lw_g (lw_at lw_m11 49 rfl) rfl
theorem q2553 : (Jvm.Cond.instanceMethod ({ cls := "MissingMiddles$SyntaxException", name := "<init>", desc := "(I)V" } : Jvm.MethodName)) ∈ lw_all := lw_g (lw_at lw_m11 51 rfl) rfl
theorem q2554 : (Jvm.Cond.code ({ cls := "MissingMiddles$SyntaxException", name := "<init>", desc := "(I)V" } : Jvm.MethodName) prog_12_method_1_code (2 : Nat) (Option.none : Option Jvm.ClassFile.FieldType)) ∈ lw_all := lw_g (lw_at lw_m11 52 rfl) rfl
theorem q2555 : (Jvm.Cond.methodLink "MissingMiddles$SyntaxException" (1 : Nat) ({ cls := "java/lang/Exception", name := "<init>", desc := "(Ljava/lang/String;Ljava/lang/Throwable;ZZ)V" } : Jvm.MethodName)) ∈ lw_all := lw_g (lw_at lw_m11 53 rfl) rfl
theorem q2556 : (Jvm.Cond.fieldLink "MissingMiddles$SyntaxException" (7 : Nat) "MissingMiddles$SyntaxException" "position" "I") ∈ lw_all := lw_g (lw_at lw_m11 54 rfl) rfl
theorem q2558 : (Jvm.Cond.laysFinal "MissingMiddles$SyntaxException" "MissingMiddles$SyntaxException" "position" "I") ∈ lw_all := lw_g (lw_at lw_m11 56 rfl) rfl
theorem q2559 : (Jvm.Cond.soleField "MissingMiddles$SyntaxException" "position") ∈ lw_all := lw_g (lw_at lw_m11 57 rfl) rfl
theorem q2560 : (Jvm.Cond.lays "MissingMiddles$SyntaxException" "java/lang/Throwable" "depth" "I") ∈ lw_all := lw_g (lw_at lw_m11 58 rfl) rfl
theorem q2561 : (Jvm.Cond.superclass "MissingMiddles$SyntaxException" "java/lang/Exception") ∈ lw_all := lw_g (lw_at lw_m11 59 rfl) rfl
theorem q3199 : (Jvm.Cond.castable "MissingMiddles$SyntaxException" "java/lang/Object") ∈ lw_tbl := lw_at lw_m13 217 rfl
theorem in_X12 : ∀ w ∈ wsX120, w ∈ lw_all := lw_in wsX120 [2547, 2548, 2549, 2550, 2551, 2560, 2558] (by decide +kernel) (by decide +kernel)
