/-! MissingMiddles$Office -/
set_option maxRecDepth 100000
def RX2 : String := "MissingMiddles$Office"
def TX2 : u_T := fun k => match k with
  | 0 => ("MissingMiddles$Office", "books", "Ljava/util/ArrayList;", true)
  | 1 => ("MissingMiddles$Office", "scraps", "Ljava/util/ArrayList;", true)
  | 2 => ("MissingMiddles$Office", "attics", "Ljava/util/ArrayList;", true)
  | 3 => ("MissingMiddles$Office", "readers", "[LMissingMiddles$Reader;", true)
  | 4 => ("MissingMiddles$Office", "foundIn", "[I", true)
  | 5 => ("MissingMiddles$Office", "coins", "I", false)
  | 6 => ("MissingMiddles$Office", "price", "I", false)
  | 7 => ("MissingMiddles$Office", "dropped", "I", false)
  | 8 => ("MissingMiddles$Office", "used", "I", false)
  | 9 => ("MissingMiddles$Office", "paid", "I", false)
  | _ => ("MissingMiddles$Office", "joined", "I", false)
def tyX2 : Nat → FieldType := fun k => match k with
  | 0 => .object "java/util/ArrayList"
  | 1 => .object "java/util/ArrayList"
  | 2 => .object "java/util/ArrayList"
  | 3 => .array (.object "MissingMiddles$Reader")
  | 4 => .array .int
  | 5 => .int
  | 6 => .int
  | 7 => .int
  | 8 => .int
  | 9 => .int
  | _ => .int
abbrev wsX20 : List Cond := u_ws RX2 TX2 11
theorem nmX2 : ∀ a, a < 11 → ∀ b, b < 11 → a ≠ b → (TX2 a).2.1 ≠ (TX2 b).2.1 := by decide +kernel
theorem tyX2_ok : ∀ k, k < 11 → parseFieldDescriptor (TX2 k).2.2.1 = some (tyX2 k) := by decide +kernel
abbrev cX2_init : ByteArray := prog_6_method_1_code
def yX2_init : MethodName := ⟨RX2, "<init>", "()V"⟩
def dkwX2_init_4 : List UInt8 := [180, 0, 26, 27, 187, 0, 24, 89, 183, 0, 45, 83, 132, 1, 1, 167, 255, 235, 177]
abbrev dktX2_init_4 : List UInt8 := dkwX2_init_4 ++ []
def dkwX2_init_3 : List UInt8 := [89, 183, 0, 40, 182, 0, 41, 61, 132, 1, 1, 167, 255, 233, 3, 60, 27, 8, 162, 0, 22, 42]
abbrev dktX2_init_3 : List UInt8 := dkwX2_init_3 ++ dktX2_init_4
def dkwX2_init_2 : List UInt8 := [188, 10, 181, 0, 30, 42, 6, 181, 0, 34, 3, 60, 27, 7, 162, 0, 24, 42, 180, 0, 21, 187, 0, 38]
abbrev dktX2_init_2 : List UInt8 := dkwX2_init_2 ++ dktX2_init_3
def dkwX2_init_1 : List UInt8 := [181, 0, 18, 42, 187, 0, 9, 89, 183, 0, 11, 181, 0, 21, 42, 8, 189, 0, 24, 181, 0, 26, 42, 7]
abbrev dktX2_init_1 : List UInt8 := dkwX2_init_1 ++ dktX2_init_2
def dkwX2_init_0 : List UInt8 := [42, 183, 0, 3, 42, 187, 0, 9, 89, 183, 0, 11, 181, 0, 12, 42, 187, 0, 9, 89, 183, 0, 11]
abbrev dktX2_init_0 : List UInt8 := dkwX2_init_0 ++ dktX2_init_1
theorem dksX2_init_0 : cX2_init.data.toList.drop 0 = dktX2_init_0 := by decide +kernel
theorem dksX2_init_1 : cX2_init.data.toList.drop 23 = dktX2_init_1 := dk_seg dksX2_init_0 23 rfl rfl
theorem dksX2_init_2 : cX2_init.data.toList.drop 47 = dktX2_init_2 := dk_seg dksX2_init_1 24 rfl rfl
theorem dksX2_init_3 : cX2_init.data.toList.drop 71 = dktX2_init_3 := dk_seg dksX2_init_2 24 rfl rfl
theorem dksX2_init_4 : cX2_init.data.toList.drop 93 = dktX2_init_4 := dk_seg dksX2_init_3 22 rfl rfl
theorem dX2_init_0 : decode cX2_init 0 = .ok (.aload_n 0, 1) := dk_42 (dk_at dksX2_init_0 0 rfl rfl)
theorem dX2_init_1 : decode cX2_init 1 = .ok (.invokespecial 3, 3) := dk_183 0 3 (dk_at dksX2_init_0 1 rfl rfl)
theorem dX2_init_4 : decode cX2_init 4 = .ok (.aload_n 0, 1) := dk_42 (dk_at dksX2_init_0 4 rfl rfl)
theorem dX2_init_5 : decode cX2_init 5 = .ok (.new 9, 3) := dk_187 0 9 (dk_at dksX2_init_0 5 rfl rfl)
theorem dX2_init_8 : decode cX2_init 8 = .ok (.dup, 1) := dk_89 (dk_at dksX2_init_0 8 rfl rfl)
theorem dX2_init_9 : decode cX2_init 9 = .ok (.invokespecial 11, 3) := dk_183 0 11 (dk_at dksX2_init_0 9 rfl rfl)
theorem dX2_init_12 : decode cX2_init 12 = .ok (.putfield 12, 3) := dk_181 0 12 (dk_at dksX2_init_0 12 rfl rfl)
theorem dX2_init_15 : decode cX2_init 15 = .ok (.aload_n 0, 1) := dk_42 (dk_at dksX2_init_0 15 rfl rfl)
theorem dX2_init_16 : decode cX2_init 16 = .ok (.new 9, 3) := dk_187 0 9 (dk_at dksX2_init_0 16 rfl rfl)
theorem dX2_init_19 : decode cX2_init 19 = .ok (.dup, 1) := dk_89 (dk_at dksX2_init_0 19 rfl rfl)
theorem dX2_init_20 : decode cX2_init 20 = .ok (.invokespecial 11, 3) := dk_183 0 11 (dk_at dksX2_init_0 20 rfl rfl)
theorem dX2_init_23 : decode cX2_init 23 = .ok (.putfield 18, 3) := dk_181 0 18 (dk_at dksX2_init_1 0 rfl rfl)
theorem dX2_init_26 : decode cX2_init 26 = .ok (.aload_n 0, 1) := dk_42 (dk_at dksX2_init_1 3 rfl rfl)
theorem dX2_init_27 : decode cX2_init 27 = .ok (.new 9, 3) := dk_187 0 9 (dk_at dksX2_init_1 4 rfl rfl)
theorem dX2_init_30 : decode cX2_init 30 = .ok (.dup, 1) := dk_89 (dk_at dksX2_init_1 7 rfl rfl)
theorem dX2_init_31 : decode cX2_init 31 = .ok (.invokespecial 11, 3) := dk_183 0 11 (dk_at dksX2_init_1 8 rfl rfl)
theorem dX2_init_34 : decode cX2_init 34 = .ok (.putfield 21, 3) := dk_181 0 21 (dk_at dksX2_init_1 11 rfl rfl)
theorem dX2_init_37 : decode cX2_init 37 = .ok (.aload_n 0, 1) := dk_42 (dk_at dksX2_init_1 14 rfl rfl)
theorem dX2_init_38 : decode cX2_init 38 = .ok (.iconst 5, 1) := dk_8 (dk_at dksX2_init_1 15 rfl rfl)
theorem dX2_init_39 : decode cX2_init 39 = .ok (.anewarray 24, 3) := dk_189 0 24 (dk_at dksX2_init_1 16 rfl rfl)
theorem dX2_init_42 : decode cX2_init 42 = .ok (.putfield 26, 3) := dk_181 0 26 (dk_at dksX2_init_1 19 rfl rfl)
theorem dX2_init_45 : decode cX2_init 45 = .ok (.aload_n 0, 1) := dk_42 (dk_at dksX2_init_1 22 rfl rfl)
theorem dX2_init_46 : decode cX2_init 46 = .ok (.iconst 4, 1) := dk_7 (dk_at dksX2_init_1 23 rfl rfl)
theorem dX2_init_47 : decode cX2_init 47 = .ok (.newarray .int, 2) := dk_188_10 (dk_at dksX2_init_2 0 rfl rfl)
theorem dX2_init_49 : decode cX2_init 49 = .ok (.putfield 30, 3) := dk_181 0 30 (dk_at dksX2_init_2 2 rfl rfl)
theorem dX2_init_52 : decode cX2_init 52 = .ok (.aload_n 0, 1) := dk_42 (dk_at dksX2_init_2 5 rfl rfl)
theorem dX2_init_53 : decode cX2_init 53 = .ok (.iconst 3, 1) := dk_6 (dk_at dksX2_init_2 6 rfl rfl)
theorem dX2_init_54 : decode cX2_init 54 = .ok (.putfield 34, 3) := dk_181 0 34 (dk_at dksX2_init_2 7 rfl rfl)
theorem dX2_init_57 : decode cX2_init 57 = .ok (.iconst 0, 1) := dk_3 (dk_at dksX2_init_2 10 rfl rfl)
theorem dX2_init_58 : decode cX2_init 58 = .ok (.istore_n 1, 1) := dk_60 (dk_at dksX2_init_2 11 rfl rfl)
theorem dX2_init_59 : decode cX2_init 59 = .ok (.iload_n 1, 1) := dk_27 (dk_at dksX2_init_2 12 rfl rfl)
theorem dX2_init_60 : decode cX2_init 60 = .ok (.iconst 4, 1) := dk_7 (dk_at dksX2_init_2 13 rfl rfl)
theorem dX2_init_61 : decode cX2_init 61 = .ok (.if_icmp .ge 24, 3) := dk_162 0 24 (dk_at dksX2_init_2 14 rfl rfl)
theorem dX2_init_64 : decode cX2_init 64 = .ok (.aload_n 0, 1) := dk_42 (dk_at dksX2_init_2 17 rfl rfl)
theorem dX2_init_65 : decode cX2_init 65 = .ok (.getfield 21, 3) := dk_180 0 21 (dk_at dksX2_init_2 18 rfl rfl)
theorem dX2_init_68 : decode cX2_init 68 = .ok (.new 38, 3) := dk_187 0 38 (dk_at dksX2_init_2 21 rfl rfl)
theorem dX2_init_71 : decode cX2_init 71 = .ok (.dup, 1) := dk_89 (dk_at dksX2_init_3 0 rfl rfl)
theorem dX2_init_72 : decode cX2_init 72 = .ok (.invokespecial 40, 3) := dk_183 0 40 (dk_at dksX2_init_3 1 rfl rfl)
theorem dX2_init_75 : decode cX2_init 75 = .ok (.invokevirtual 41, 3) := dk_182 0 41 (dk_at dksX2_init_3 4 rfl rfl)
theorem dX2_init_78 : decode cX2_init 78 = .ok (.istore_n 2, 1) := dk_61 (dk_at dksX2_init_3 7 rfl rfl)
theorem dX2_init_79 : decode cX2_init 79 = .ok (.iinc 1 1, 3) := dk_132 1 1 (dk_at dksX2_init_3 8 rfl rfl)
theorem dX2_init_82 : decode cX2_init 82 = .ok (.goto (-23), 3) := dk_167 255 233 (dk_at dksX2_init_3 11 rfl rfl)
theorem dX2_init_85 : decode cX2_init 85 = .ok (.iconst 0, 1) := dk_3 (dk_at dksX2_init_3 14 rfl rfl)
theorem dX2_init_86 : decode cX2_init 86 = .ok (.istore_n 1, 1) := dk_60 (dk_at dksX2_init_3 15 rfl rfl)
theorem dX2_init_87 : decode cX2_init 87 = .ok (.iload_n 1, 1) := dk_27 (dk_at dksX2_init_3 16 rfl rfl)
theorem dX2_init_88 : decode cX2_init 88 = .ok (.iconst 5, 1) := dk_8 (dk_at dksX2_init_3 17 rfl rfl)
theorem dX2_init_89 : decode cX2_init 89 = .ok (.if_icmp .ge 22, 3) := dk_162 0 22 (dk_at dksX2_init_3 18 rfl rfl)
theorem dX2_init_92 : decode cX2_init 92 = .ok (.aload_n 0, 1) := dk_42 (dk_at dksX2_init_3 21 rfl rfl)
theorem dX2_init_93 : decode cX2_init 93 = .ok (.getfield 26, 3) := dk_180 0 26 (dk_at dksX2_init_4 0 rfl rfl)
theorem dX2_init_96 : decode cX2_init 96 = .ok (.iload_n 1, 1) := dk_27 (dk_at dksX2_init_4 3 rfl rfl)
theorem dX2_init_97 : decode cX2_init 97 = .ok (.new 24, 3) := dk_187 0 24 (dk_at dksX2_init_4 4 rfl rfl)
theorem dX2_init_100 : decode cX2_init 100 = .ok (.dup, 1) := dk_89 (dk_at dksX2_init_4 7 rfl rfl)
theorem dX2_init_101 : decode cX2_init 101 = .ok (.invokespecial 45, 3) := dk_183 0 45 (dk_at dksX2_init_4 8 rfl rfl)
theorem dX2_init_104 : decode cX2_init 104 = .ok (.aastore, 1) := dk_83 (dk_at dksX2_init_4 11 rfl rfl)
theorem dX2_init_105 : decode cX2_init 105 = .ok (.iinc 1 1, 3) := dk_132 1 1 (dk_at dksX2_init_4 12 rfl rfl)
theorem dX2_init_108 : decode cX2_init 108 = .ok (.goto (-21), 3) := dk_167 255 235 (dk_at dksX2_init_4 15 rfl rfl)
theorem dX2_init_111 : decode cX2_init 111 = .ok (.return_, 1) := dk_177 (dk_at dksX2_init_4 18 rfl rfl)
abbrev cX2_isRight : ByteArray := prog_6_method_33_code
def yX2_isRight : MethodName := ⟨RX2, "isRight", "()Z"⟩
def dkwX2_isRight_8 : List UInt8 := [60, 132, 6, 1, 167, 255, 177, 132, 2, 1, 167, 255, 63, 27, 172]
abbrev dktX2_isRight_8 : List UInt8 := dkwX2_isRight_8 ++ []
def dkwX2_isRight_7 : List UInt8 := [42, 28, 21, 6, 182, 1, 75, 154, 0, 7, 4, 167, 0, 4, 3, 160, 0, 7, 4, 167, 0, 4, 3, 126]
abbrev dktX2_isRight_7 : List UInt8 := dkwX2_isRight_7 ++ dktX2_isRight_8
def dkwX2_isRight_6 : List UInt8 := [3, 54, 7, 27, 25, 4, 199, 0, 16, 21, 7, 154, 0, 7, 4, 167, 0, 32, 3, 167, 0, 28, 21, 7]
abbrev dktX2_isRight_6 : List UInt8 := dkwX2_isRight_6 ++ dktX2_isRight_7
def dkwX2_isRight_5 : List UInt8 := [180, 0, 18, 182, 0, 96, 162, 0, 73, 21, 5, 21, 6, 122, 4, 126, 4, 160, 0, 7, 4, 167, 0, 4]
abbrev dktX2_isRight_5 : List UInt8 := dkwX2_isRight_5 ++ dktX2_isRight_6
def dkwX2_isRight_4 : List UInt8 := [153, 0, 7, 4, 167, 0, 4, 3, 126, 60, 45, 182, 1, 72, 54, 5, 3, 54, 6, 21, 6, 42]
abbrev dktX2_isRight_4 : List UInt8 := dkwX2_isRight_4 ++ dktX2_isRight_5
def dkwX2_isRight_3 : List UInt8 := [3, 160, 0, 7, 4, 167, 0, 4, 3, 126, 60, 27, 25, 4, 198, 0, 12, 45, 25, 4, 182, 1, 68]
abbrev dktX2_isRight_3 : List UInt8 := dkwX2_isRight_3 ++ dktX2_isRight_4
def dkwX2_isRight_2 : List UInt8 := [160, 0, 32, 25, 4, 198, 0, 7, 4, 167, 0, 4, 3, 45, 182, 1, 19, 158, 0, 7, 4, 167, 0, 4]
abbrev dktX2_isRight_2 : List UInt8 := dkwX2_isRight_2 ++ dktX2_isRight_3
def dkwX2_isRight_1 : List UInt8 := [192, 0, 108, 182, 0, 211, 78, 45, 182, 0, 215, 58, 4, 27, 45, 182, 1, 19, 45, 182, 1, 65]
abbrev dktX2_isRight_1 : List UInt8 := dkwX2_isRight_1 ++ dktX2_isRight_2
def dkwX2_isRight_0 : List UInt8 := [4, 60, 3, 61, 28, 42, 180, 0, 12, 182, 0, 96, 162, 0, 188, 42, 42, 180, 0, 12, 28, 182, 0, 71]
abbrev dktX2_isRight_0 : List UInt8 := dkwX2_isRight_0 ++ dktX2_isRight_1
theorem dksX2_isRight_0 : cX2_isRight.data.toList.drop 0 = dktX2_isRight_0 := by decide +kernel
theorem dksX2_isRight_1 : cX2_isRight.data.toList.drop 24 = dktX2_isRight_1 := dk_seg dksX2_isRight_0 24 rfl rfl
theorem dksX2_isRight_2 : cX2_isRight.data.toList.drop 46 = dktX2_isRight_2 := dk_seg dksX2_isRight_1 22 rfl rfl
theorem dksX2_isRight_3 : cX2_isRight.data.toList.drop 70 = dktX2_isRight_3 := dk_seg dksX2_isRight_2 24 rfl rfl
theorem dksX2_isRight_4 : cX2_isRight.data.toList.drop 93 = dktX2_isRight_4 := dk_seg dksX2_isRight_3 23 rfl rfl
theorem dksX2_isRight_5 : cX2_isRight.data.toList.drop 115 = dktX2_isRight_5 := dk_seg dksX2_isRight_4 22 rfl rfl
theorem dksX2_isRight_6 : cX2_isRight.data.toList.drop 139 = dktX2_isRight_6 := dk_seg dksX2_isRight_5 24 rfl rfl
theorem dksX2_isRight_7 : cX2_isRight.data.toList.drop 163 = dktX2_isRight_7 := dk_seg dksX2_isRight_6 24 rfl rfl
theorem dksX2_isRight_8 : cX2_isRight.data.toList.drop 187 = dktX2_isRight_8 := dk_seg dksX2_isRight_7 24 rfl rfl
theorem dX2_isRight_0 : decode cX2_isRight 0 = .ok (.iconst 1, 1) := dk_4 (dk_at dksX2_isRight_0 0 rfl rfl)
theorem dX2_isRight_1 : decode cX2_isRight 1 = .ok (.istore_n 1, 1) := dk_60 (dk_at dksX2_isRight_0 1 rfl rfl)
theorem dX2_isRight_2 : decode cX2_isRight 2 = .ok (.iconst 0, 1) := dk_3 (dk_at dksX2_isRight_0 2 rfl rfl)
theorem dX2_isRight_3 : decode cX2_isRight 3 = .ok (.istore_n 2, 1) := dk_61 (dk_at dksX2_isRight_0 3 rfl rfl)
theorem dX2_isRight_4 : decode cX2_isRight 4 = .ok (.iload_n 2, 1) := dk_28 (dk_at dksX2_isRight_0 4 rfl rfl)
theorem dX2_isRight_5 : decode cX2_isRight 5 = .ok (.aload_n 0, 1) := dk_42 (dk_at dksX2_isRight_0 5 rfl rfl)
theorem dX2_isRight_6 : decode cX2_isRight 6 = .ok (.getfield 12, 3) := dk_180 0 12 (dk_at dksX2_isRight_0 6 rfl rfl)
theorem dX2_isRight_9 : decode cX2_isRight 9 = .ok (.invokevirtual 96, 3) := dk_182 0 96 (dk_at dksX2_isRight_0 9 rfl rfl)
theorem dX2_isRight_12 : decode cX2_isRight 12 = .ok (.if_icmp .ge 188, 3) := dk_162 0 188 (dk_at dksX2_isRight_0 12 rfl rfl)
theorem dX2_isRight_15 : decode cX2_isRight 15 = .ok (.aload_n 0, 1) := dk_42 (dk_at dksX2_isRight_0 15 rfl rfl)
theorem dX2_isRight_16 : decode cX2_isRight 16 = .ok (.aload_n 0, 1) := dk_42 (dk_at dksX2_isRight_0 16 rfl rfl)
theorem dX2_isRight_17 : decode cX2_isRight 17 = .ok (.getfield 12, 3) := dk_180 0 12 (dk_at dksX2_isRight_0 17 rfl rfl)
theorem dX2_isRight_20 : decode cX2_isRight 20 = .ok (.iload_n 2, 1) := dk_28 (dk_at dksX2_isRight_0 20 rfl rfl)
theorem dX2_isRight_21 : decode cX2_isRight 21 = .ok (.invokevirtual 71, 3) := dk_182 0 71 (dk_at dksX2_isRight_0 21 rfl rfl)
theorem dX2_isRight_24 : decode cX2_isRight 24 = .ok (.checkcast 108, 3) := dk_192 0 108 (dk_at dksX2_isRight_1 0 rfl rfl)
theorem dX2_isRight_27 : decode cX2_isRight 27 = .ok (.invokevirtual 211, 3) := dk_182 0 211 (dk_at dksX2_isRight_1 3 rfl rfl)
theorem dX2_isRight_30 : decode cX2_isRight 30 = .ok (.astore_n 3, 1) := dk_78 (dk_at dksX2_isRight_1 6 rfl rfl)
theorem dX2_isRight_31 : decode cX2_isRight 31 = .ok (.aload_n 3, 1) := dk_45 (dk_at dksX2_isRight_1 7 rfl rfl)
theorem dX2_isRight_32 : decode cX2_isRight 32 = .ok (.invokevirtual 215, 3) := dk_182 0 215 (dk_at dksX2_isRight_1 8 rfl rfl)
theorem dX2_isRight_35 : decode cX2_isRight 35 = .ok (.astore 4, 2) := dk_58 4 (dk_at dksX2_isRight_1 11 rfl rfl)
theorem dX2_isRight_37 : decode cX2_isRight 37 = .ok (.iload_n 1, 1) := dk_27 (dk_at dksX2_isRight_1 13 rfl rfl)
theorem dX2_isRight_38 : decode cX2_isRight 38 = .ok (.aload_n 3, 1) := dk_45 (dk_at dksX2_isRight_1 14 rfl rfl)
theorem dX2_isRight_39 : decode cX2_isRight 39 = .ok (.invokevirtual 275, 3) := dk_182 1 19 (dk_at dksX2_isRight_1 15 rfl rfl)
theorem dX2_isRight_42 : decode cX2_isRight 42 = .ok (.aload_n 3, 1) := dk_45 (dk_at dksX2_isRight_1 18 rfl rfl)
theorem dX2_isRight_43 : decode cX2_isRight 43 = .ok (.invokevirtual 321, 3) := dk_182 1 65 (dk_at dksX2_isRight_1 19 rfl rfl)
theorem dX2_isRight_46 : decode cX2_isRight 46 = .ok (.if_icmp .ne 32, 3) := dk_160 0 32 (dk_at dksX2_isRight_2 0 rfl rfl)
theorem dX2_isRight_49 : decode cX2_isRight 49 = .ok (.aload 4, 2) := dk_25 4 (dk_at dksX2_isRight_2 3 rfl rfl)
theorem dX2_isRight_51 : decode cX2_isRight 51 = .ok (.ifnull 7, 3) := dk_198 0 7 (dk_at dksX2_isRight_2 5 rfl rfl)
theorem dX2_isRight_54 : decode cX2_isRight 54 = .ok (.iconst 1, 1) := dk_4 (dk_at dksX2_isRight_2 8 rfl rfl)
theorem dX2_isRight_55 : decode cX2_isRight 55 = .ok (.goto 4, 3) := dk_167 0 4 (dk_at dksX2_isRight_2 9 rfl rfl)
theorem dX2_isRight_58 : decode cX2_isRight 58 = .ok (.iconst 0, 1) := dk_3 (dk_at dksX2_isRight_2 12 rfl rfl)
theorem dX2_isRight_59 : decode cX2_isRight 59 = .ok (.aload_n 3, 1) := dk_45 (dk_at dksX2_isRight_2 13 rfl rfl)
theorem dX2_isRight_60 : decode cX2_isRight 60 = .ok (.invokevirtual 275, 3) := dk_182 1 19 (dk_at dksX2_isRight_2 14 rfl rfl)
theorem dX2_isRight_63 : decode cX2_isRight 63 = .ok (.ifCond .le 7, 3) := dk_158 0 7 (dk_at dksX2_isRight_2 17 rfl rfl)
theorem dX2_isRight_66 : decode cX2_isRight 66 = .ok (.iconst 1, 1) := dk_4 (dk_at dksX2_isRight_2 20 rfl rfl)
theorem dX2_isRight_67 : decode cX2_isRight 67 = .ok (.goto 4, 3) := dk_167 0 4 (dk_at dksX2_isRight_2 21 rfl rfl)
theorem dX2_isRight_70 : decode cX2_isRight 70 = .ok (.iconst 0, 1) := dk_3 (dk_at dksX2_isRight_3 0 rfl rfl)
theorem dX2_isRight_71 : decode cX2_isRight 71 = .ok (.if_icmp .ne 7, 3) := dk_160 0 7 (dk_at dksX2_isRight_3 1 rfl rfl)
theorem dX2_isRight_74 : decode cX2_isRight 74 = .ok (.iconst 1, 1) := dk_4 (dk_at dksX2_isRight_3 4 rfl rfl)
theorem dX2_isRight_75 : decode cX2_isRight 75 = .ok (.goto 4, 3) := dk_167 0 4 (dk_at dksX2_isRight_3 5 rfl rfl)
theorem dX2_isRight_78 : decode cX2_isRight 78 = .ok (.iconst 0, 1) := dk_3 (dk_at dksX2_isRight_3 8 rfl rfl)
theorem dX2_isRight_79 : decode cX2_isRight 79 = .ok (.iand, 1) := dk_126 (dk_at dksX2_isRight_3 9 rfl rfl)
theorem dX2_isRight_80 : decode cX2_isRight 80 = .ok (.istore_n 1, 1) := dk_60 (dk_at dksX2_isRight_3 10 rfl rfl)
theorem dX2_isRight_81 : decode cX2_isRight 81 = .ok (.iload_n 1, 1) := dk_27 (dk_at dksX2_isRight_3 11 rfl rfl)
theorem dX2_isRight_82 : decode cX2_isRight 82 = .ok (.aload 4, 2) := dk_25 4 (dk_at dksX2_isRight_3 12 rfl rfl)
theorem dX2_isRight_84 : decode cX2_isRight 84 = .ok (.ifnull 12, 3) := dk_198 0 12 (dk_at dksX2_isRight_3 14 rfl rfl)
theorem dX2_isRight_87 : decode cX2_isRight 87 = .ok (.aload_n 3, 1) := dk_45 (dk_at dksX2_isRight_3 17 rfl rfl)
theorem dX2_isRight_88 : decode cX2_isRight 88 = .ok (.aload 4, 2) := dk_25 4 (dk_at dksX2_isRight_3 18 rfl rfl)
theorem dX2_isRight_90 : decode cX2_isRight 90 = .ok (.invokevirtual 324, 3) := dk_182 1 68 (dk_at dksX2_isRight_3 20 rfl rfl)
theorem dX2_isRight_93 : decode cX2_isRight 93 = .ok (.ifCond .eq 7, 3) := dk_153 0 7 (dk_at dksX2_isRight_4 0 rfl rfl)
theorem dX2_isRight_96 : decode cX2_isRight 96 = .ok (.iconst 1, 1) := dk_4 (dk_at dksX2_isRight_4 3 rfl rfl)
theorem dX2_isRight_97 : decode cX2_isRight 97 = .ok (.goto 4, 3) := dk_167 0 4 (dk_at dksX2_isRight_4 4 rfl rfl)
theorem dX2_isRight_100 : decode cX2_isRight 100 = .ok (.iconst 0, 1) := dk_3 (dk_at dksX2_isRight_4 7 rfl rfl)
theorem dX2_isRight_101 : decode cX2_isRight 101 = .ok (.iand, 1) := dk_126 (dk_at dksX2_isRight_4 8 rfl rfl)
theorem dX2_isRight_102 : decode cX2_isRight 102 = .ok (.istore_n 1, 1) := dk_60 (dk_at dksX2_isRight_4 9 rfl rfl)
theorem dX2_isRight_103 : decode cX2_isRight 103 = .ok (.aload_n 3, 1) := dk_45 (dk_at dksX2_isRight_4 10 rfl rfl)
theorem dX2_isRight_104 : decode cX2_isRight 104 = .ok (.invokevirtual 328, 3) := dk_182 1 72 (dk_at dksX2_isRight_4 11 rfl rfl)
theorem dX2_isRight_107 : decode cX2_isRight 107 = .ok (.istore 5, 2) := dk_54 5 (dk_at dksX2_isRight_4 14 rfl rfl)
theorem dX2_isRight_109 : decode cX2_isRight 109 = .ok (.iconst 0, 1) := dk_3 (dk_at dksX2_isRight_4 16 rfl rfl)
theorem dX2_isRight_110 : decode cX2_isRight 110 = .ok (.istore 6, 2) := dk_54 6 (dk_at dksX2_isRight_4 17 rfl rfl)
theorem dX2_isRight_112 : decode cX2_isRight 112 = .ok (.iload 6, 2) := dk_21 6 (dk_at dksX2_isRight_4 19 rfl rfl)
theorem dX2_isRight_114 : decode cX2_isRight 114 = .ok (.aload_n 0, 1) := dk_42 (dk_at dksX2_isRight_4 21 rfl rfl)
theorem dX2_isRight_115 : decode cX2_isRight 115 = .ok (.getfield 18, 3) := dk_180 0 18 (dk_at dksX2_isRight_5 0 rfl rfl)
theorem dX2_isRight_118 : decode cX2_isRight 118 = .ok (.invokevirtual 96, 3) := dk_182 0 96 (dk_at dksX2_isRight_5 3 rfl rfl)
theorem dX2_isRight_121 : decode cX2_isRight 121 = .ok (.if_icmp .ge 73, 3) := dk_162 0 73 (dk_at dksX2_isRight_5 6 rfl rfl)
theorem dX2_isRight_124 : decode cX2_isRight 124 = .ok (.iload 5, 2) := dk_21 5 (dk_at dksX2_isRight_5 9 rfl rfl)
theorem dX2_isRight_126 : decode cX2_isRight 126 = .ok (.iload 6, 2) := dk_21 6 (dk_at dksX2_isRight_5 11 rfl rfl)
theorem dX2_isRight_128 : decode cX2_isRight 128 = .ok (.ishr, 1) := dk_122 (dk_at dksX2_isRight_5 13 rfl rfl)
theorem dX2_isRight_129 : decode cX2_isRight 129 = .ok (.iconst 1, 1) := dk_4 (dk_at dksX2_isRight_5 14 rfl rfl)
theorem dX2_isRight_130 : decode cX2_isRight 130 = .ok (.iand, 1) := dk_126 (dk_at dksX2_isRight_5 15 rfl rfl)
theorem dX2_isRight_131 : decode cX2_isRight 131 = .ok (.iconst 1, 1) := dk_4 (dk_at dksX2_isRight_5 16 rfl rfl)
theorem dX2_isRight_132 : decode cX2_isRight 132 = .ok (.if_icmp .ne 7, 3) := dk_160 0 7 (dk_at dksX2_isRight_5 17 rfl rfl)
theorem dX2_isRight_135 : decode cX2_isRight 135 = .ok (.iconst 1, 1) := dk_4 (dk_at dksX2_isRight_5 20 rfl rfl)
theorem dX2_isRight_136 : decode cX2_isRight 136 = .ok (.goto 4, 3) := dk_167 0 4 (dk_at dksX2_isRight_5 21 rfl rfl)
theorem dX2_isRight_139 : decode cX2_isRight 139 = .ok (.iconst 0, 1) := dk_3 (dk_at dksX2_isRight_6 0 rfl rfl)
theorem dX2_isRight_140 : decode cX2_isRight 140 = .ok (.istore 7, 2) := dk_54 7 (dk_at dksX2_isRight_6 1 rfl rfl)
theorem dX2_isRight_142 : decode cX2_isRight 142 = .ok (.iload_n 1, 1) := dk_27 (dk_at dksX2_isRight_6 3 rfl rfl)
theorem dX2_isRight_143 : decode cX2_isRight 143 = .ok (.aload 4, 2) := dk_25 4 (dk_at dksX2_isRight_6 4 rfl rfl)
theorem dX2_isRight_145 : decode cX2_isRight 145 = .ok (.ifnonnull 16, 3) := dk_199 0 16 (dk_at dksX2_isRight_6 6 rfl rfl)
theorem dX2_isRight_148 : decode cX2_isRight 148 = .ok (.iload 7, 2) := dk_21 7 (dk_at dksX2_isRight_6 9 rfl rfl)
theorem dX2_isRight_150 : decode cX2_isRight 150 = .ok (.ifCond .ne 7, 3) := dk_154 0 7 (dk_at dksX2_isRight_6 11 rfl rfl)
theorem dX2_isRight_153 : decode cX2_isRight 153 = .ok (.iconst 1, 1) := dk_4 (dk_at dksX2_isRight_6 14 rfl rfl)
theorem dX2_isRight_154 : decode cX2_isRight 154 = .ok (.goto 32, 3) := dk_167 0 32 (dk_at dksX2_isRight_6 15 rfl rfl)
theorem dX2_isRight_157 : decode cX2_isRight 157 = .ok (.iconst 0, 1) := dk_3 (dk_at dksX2_isRight_6 18 rfl rfl)
theorem dX2_isRight_158 : decode cX2_isRight 158 = .ok (.goto 28, 3) := dk_167 0 28 (dk_at dksX2_isRight_6 19 rfl rfl)
theorem dX2_isRight_161 : decode cX2_isRight 161 = .ok (.iload 7, 2) := dk_21 7 (dk_at dksX2_isRight_6 22 rfl rfl)
theorem dX2_isRight_163 : decode cX2_isRight 163 = .ok (.aload_n 0, 1) := dk_42 (dk_at dksX2_isRight_7 0 rfl rfl)
theorem dX2_isRight_164 : decode cX2_isRight 164 = .ok (.iload_n 2, 1) := dk_28 (dk_at dksX2_isRight_7 1 rfl rfl)
theorem dX2_isRight_165 : decode cX2_isRight 165 = .ok (.iload 6, 2) := dk_21 6 (dk_at dksX2_isRight_7 2 rfl rfl)
theorem dX2_isRight_167 : decode cX2_isRight 167 = .ok (.invokevirtual 331, 3) := dk_182 1 75 (dk_at dksX2_isRight_7 4 rfl rfl)
theorem dX2_isRight_170 : decode cX2_isRight 170 = .ok (.ifCond .ne 7, 3) := dk_154 0 7 (dk_at dksX2_isRight_7 7 rfl rfl)
theorem dX2_isRight_173 : decode cX2_isRight 173 = .ok (.iconst 1, 1) := dk_4 (dk_at dksX2_isRight_7 10 rfl rfl)
theorem dX2_isRight_174 : decode cX2_isRight 174 = .ok (.goto 4, 3) := dk_167 0 4 (dk_at dksX2_isRight_7 11 rfl rfl)
theorem dX2_isRight_177 : decode cX2_isRight 177 = .ok (.iconst 0, 1) := dk_3 (dk_at dksX2_isRight_7 14 rfl rfl)
theorem dX2_isRight_178 : decode cX2_isRight 178 = .ok (.if_icmp .ne 7, 3) := dk_160 0 7 (dk_at dksX2_isRight_7 15 rfl rfl)
theorem dX2_isRight_181 : decode cX2_isRight 181 = .ok (.iconst 1, 1) := dk_4 (dk_at dksX2_isRight_7 18 rfl rfl)
theorem dX2_isRight_182 : decode cX2_isRight 182 = .ok (.goto 4, 3) := dk_167 0 4 (dk_at dksX2_isRight_7 19 rfl rfl)
theorem dX2_isRight_185 : decode cX2_isRight 185 = .ok (.iconst 0, 1) := dk_3 (dk_at dksX2_isRight_7 22 rfl rfl)
theorem dX2_isRight_186 : decode cX2_isRight 186 = .ok (.iand, 1) := dk_126 (dk_at dksX2_isRight_7 23 rfl rfl)
theorem dX2_isRight_187 : decode cX2_isRight 187 = .ok (.istore_n 1, 1) := dk_60 (dk_at dksX2_isRight_8 0 rfl rfl)
theorem dX2_isRight_188 : decode cX2_isRight 188 = .ok (.iinc 6 1, 3) := dk_132 6 1 (dk_at dksX2_isRight_8 1 rfl rfl)
theorem dX2_isRight_191 : decode cX2_isRight 191 = .ok (.goto (-79), 3) := dk_167 255 177 (dk_at dksX2_isRight_8 4 rfl rfl)
theorem dX2_isRight_194 : decode cX2_isRight 194 = .ok (.iinc 2 1, 3) := dk_132 2 1 (dk_at dksX2_isRight_8 7 rfl rfl)
theorem dX2_isRight_197 : decode cX2_isRight 197 = .ok (.goto (-193), 3) := dk_167 255 63 (dk_at dksX2_isRight_8 10 rfl rfl)
theorem dX2_isRight_200 : decode cX2_isRight 200 = .ok (.iload_n 1, 1) := dk_27 (dk_at dksX2_isRight_8 13 rfl rfl)
theorem dX2_isRight_201 : decode cX2_isRight 201 = .ok (.ireturn, 1) := dk_172 (dk_at dksX2_isRight_8 14 rfl rfl)
abbrev cX2_chains : ByteArray := prog_6_method_7_code
def yX2_chains : MethodName := ⟨RX2, "chains", "(LMissingMiddles$Book;)LMissingMiddles$Chains;"⟩
def dkwX2_chains_0 : List UInt8 := [187, 0, 126, 89, 43, 42, 180, 0, 18, 42, 186, 0, 128, 0, 0, 183, 0, 132, 176]
abbrev dktX2_chains_0 : List UInt8 := dkwX2_chains_0 ++ []
theorem dksX2_chains_0 : cX2_chains.data.toList.drop 0 = dktX2_chains_0 := by decide +kernel
theorem dX2_chains_0 : decode cX2_chains 0 = .ok (.new 126, 3) := dk_187 0 126 (dk_at dksX2_chains_0 0 rfl rfl)
theorem dX2_chains_3 : decode cX2_chains 3 = .ok (.dup, 1) := dk_89 (dk_at dksX2_chains_0 3 rfl rfl)
theorem dX2_chains_4 : decode cX2_chains 4 = .ok (.aload_n 1, 1) := dk_43 (dk_at dksX2_chains_0 4 rfl rfl)
theorem dX2_chains_5 : decode cX2_chains 5 = .ok (.aload_n 0, 1) := dk_42 (dk_at dksX2_chains_0 5 rfl rfl)
theorem dX2_chains_6 : decode cX2_chains 6 = .ok (.getfield 18, 3) := dk_180 0 18 (dk_at dksX2_chains_0 6 rfl rfl)
theorem dX2_chains_9 : decode cX2_chains 9 = .ok (.aload_n 0, 1) := dk_42 (dk_at dksX2_chains_0 9 rfl rfl)
theorem dX2_chains_10 : decode cX2_chains 10 = .ok (.invokedynamic 128, 5) := by decide +kernel
theorem dX2_chains_15 : decode cX2_chains 15 = .ok (.invokespecial 132, 3) := dk_183 0 132 (dk_at dksX2_chains_0 15 rfl rfl)
theorem dX2_chains_18 : decode cX2_chains 18 = .ok (.areturn, 1) := dk_176 (dk_at dksX2_chains_0 18 rfl rfl)
abbrev cX2_lambda_chains_0 : ByteArray := prog_6_method_39_code
def yX2_lambda_chains_0 : MethodName := ⟨RX2, "lambda$chains$0", "(LMissingMiddles$Scrap;)Z"⟩
def dkwX2_lambda_chains_0_0 : List UInt8 := [42, 43, 182, 0, 240, 172]
abbrev dktX2_lambda_chains_0_0 : List UInt8 := dkwX2_lambda_chains_0_0 ++ []
theorem dksX2_lambda_chains_0_0 : cX2_lambda_chains_0.data.toList.drop 0 = dktX2_lambda_chains_0_0 := by decide +kernel
theorem dX2_lambda_chains_0_0 : decode cX2_lambda_chains_0 0 = .ok (.aload_n 0, 1) := dk_42 (dk_at dksX2_lambda_chains_0_0 0 rfl rfl)
theorem dX2_lambda_chains_0_1 : decode cX2_lambda_chains_0 1 = .ok (.aload_n 1, 1) := dk_43 (dk_at dksX2_lambda_chains_0_0 1 rfl rfl)
theorem dX2_lambda_chains_0_2 : decode cX2_lambda_chains_0 2 = .ok (.invokevirtual 240, 3) := dk_182 0 240 (dk_at dksX2_lambda_chains_0_0 2 rfl rfl)
theorem dX2_lambda_chains_0_5 : decode cX2_lambda_chains_0 5 = .ok (.ireturn, 1) := dk_172 (dk_at dksX2_lambda_chains_0_0 5 rfl rfl)
abbrev cX2_doesCount : ByteArray := prog_6_method_6_code
def yX2_doesCount : MethodName := ⟨RX2, "doesCount", "(LMissingMiddles$Scrap;)Z"⟩
def dkwX2_doesCount_1 : List UInt8 := [43, 182, 0, 122, 155, 0, 7, 4, 167, 0, 4, 3, 172]
abbrev dktX2_doesCount_1 : List UInt8 := dkwX2_doesCount_1 ++ []
def dkwX2_doesCount_0 : List UInt8 := [43, 182, 0, 116, 153, 0, 19, 43, 180, 0, 119, 4, 160, 0, 7, 4, 167, 0, 20, 3, 167, 0, 16, 42]
abbrev dktX2_doesCount_0 : List UInt8 := dkwX2_doesCount_0 ++ dktX2_doesCount_1
theorem dksX2_doesCount_0 : cX2_doesCount.data.toList.drop 0 = dktX2_doesCount_0 := by decide +kernel
theorem dksX2_doesCount_1 : cX2_doesCount.data.toList.drop 24 = dktX2_doesCount_1 := dk_seg dksX2_doesCount_0 24 rfl rfl
theorem dX2_doesCount_0 : decode cX2_doesCount 0 = .ok (.aload_n 1, 1) := dk_43 (dk_at dksX2_doesCount_0 0 rfl rfl)
theorem dX2_doesCount_1 : decode cX2_doesCount 1 = .ok (.invokevirtual 116, 3) := dk_182 0 116 (dk_at dksX2_doesCount_0 1 rfl rfl)
theorem dX2_doesCount_4 : decode cX2_doesCount 4 = .ok (.ifCond .eq 19, 3) := dk_153 0 19 (dk_at dksX2_doesCount_0 4 rfl rfl)
theorem dX2_doesCount_7 : decode cX2_doesCount 7 = .ok (.aload_n 1, 1) := dk_43 (dk_at dksX2_doesCount_0 7 rfl rfl)
theorem dX2_doesCount_8 : decode cX2_doesCount 8 = .ok (.getfield 119, 3) := dk_180 0 119 (dk_at dksX2_doesCount_0 8 rfl rfl)
theorem dX2_doesCount_11 : decode cX2_doesCount 11 = .ok (.iconst 1, 1) := dk_4 (dk_at dksX2_doesCount_0 11 rfl rfl)
theorem dX2_doesCount_12 : decode cX2_doesCount 12 = .ok (.if_icmp .ne 7, 3) := dk_160 0 7 (dk_at dksX2_doesCount_0 12 rfl rfl)
theorem dX2_doesCount_15 : decode cX2_doesCount 15 = .ok (.iconst 1, 1) := dk_4 (dk_at dksX2_doesCount_0 15 rfl rfl)
theorem dX2_doesCount_16 : decode cX2_doesCount 16 = .ok (.goto 20, 3) := dk_167 0 20 (dk_at dksX2_doesCount_0 16 rfl rfl)
theorem dX2_doesCount_19 : decode cX2_doesCount 19 = .ok (.iconst 0, 1) := dk_3 (dk_at dksX2_doesCount_0 19 rfl rfl)
theorem dX2_doesCount_20 : decode cX2_doesCount 20 = .ok (.goto 16, 3) := dk_167 0 16 (dk_at dksX2_doesCount_0 20 rfl rfl)
theorem dX2_doesCount_23 : decode cX2_doesCount 23 = .ok (.aload_n 0, 1) := dk_42 (dk_at dksX2_doesCount_0 23 rfl rfl)
theorem dX2_doesCount_24 : decode cX2_doesCount 24 = .ok (.aload_n 1, 1) := dk_43 (dk_at dksX2_doesCount_1 0 rfl rfl)
theorem dX2_doesCount_25 : decode cX2_doesCount 25 = .ok (.invokevirtual 122, 3) := dk_182 0 122 (dk_at dksX2_doesCount_1 1 rfl rfl)
theorem dX2_doesCount_28 : decode cX2_doesCount 28 = .ok (.ifCond .lt 7, 3) := dk_155 0 7 (dk_at dksX2_doesCount_1 4 rfl rfl)
theorem dX2_doesCount_31 : decode cX2_doesCount 31 = .ok (.iconst 1, 1) := dk_4 (dk_at dksX2_doesCount_1 7 rfl rfl)
theorem dX2_doesCount_32 : decode cX2_doesCount 32 = .ok (.goto 4, 3) := dk_167 0 4 (dk_at dksX2_doesCount_1 8 rfl rfl)
theorem dX2_doesCount_35 : decode cX2_doesCount 35 = .ok (.iconst 0, 1) := dk_3 (dk_at dksX2_doesCount_1 11 rfl rfl)
theorem dX2_doesCount_36 : decode cX2_doesCount 36 = .ok (.ireturn, 1) := dk_172 (dk_at dksX2_doesCount_1 12 rfl rfl)
abbrev cX2_weight : ByteArray := prog_6_method_5_code
def yX2_weight : MethodName := ⟨RX2, "weight", "(LMissingMiddles$Scrap;)I"⟩
def dkwX2_weight_2 : List UInt8 := [180, 0, 26, 29, 50, 180, 0, 113, 116, 96, 61, 132, 3, 1, 167, 255, 199, 28, 172]
abbrev dktX2_weight_2 : List UInt8 := dkwX2_weight_2 ++ []
def dkwX2_weight_1 : List UInt8 := [3, 167, 0, 31, 21, 4, 4, 160, 0, 15, 42, 180, 0, 26, 29, 50, 180, 0, 113, 167, 0, 13, 42]
abbrev dktX2_weight_1 : List UInt8 := dkwX2_weight_1 ++ dktX2_weight_2
def dkwX2_weight_0 : List UInt8 := [3, 61, 3, 62, 29, 8, 162, 0, 58, 43, 180, 0, 110, 29, 46, 54, 4, 28, 21, 4, 2, 160, 0, 7]
abbrev dktX2_weight_0 : List UInt8 := dkwX2_weight_0 ++ dktX2_weight_1
theorem dksX2_weight_0 : cX2_weight.data.toList.drop 0 = dktX2_weight_0 := by decide +kernel
theorem dksX2_weight_1 : cX2_weight.data.toList.drop 24 = dktX2_weight_1 := dk_seg dksX2_weight_0 24 rfl rfl
theorem dksX2_weight_2 : cX2_weight.data.toList.drop 47 = dktX2_weight_2 := dk_seg dksX2_weight_1 23 rfl rfl
theorem dX2_weight_0 : decode cX2_weight 0 = .ok (.iconst 0, 1) := dk_3 (dk_at dksX2_weight_0 0 rfl rfl)
theorem dX2_weight_1 : decode cX2_weight 1 = .ok (.istore_n 2, 1) := dk_61 (dk_at dksX2_weight_0 1 rfl rfl)
theorem dX2_weight_2 : decode cX2_weight 2 = .ok (.iconst 0, 1) := dk_3 (dk_at dksX2_weight_0 2 rfl rfl)
theorem dX2_weight_3 : decode cX2_weight 3 = .ok (.istore_n 3, 1) := dk_62 (dk_at dksX2_weight_0 3 rfl rfl)
theorem dX2_weight_4 : decode cX2_weight 4 = .ok (.iload_n 3, 1) := dk_29 (dk_at dksX2_weight_0 4 rfl rfl)
theorem dX2_weight_5 : decode cX2_weight 5 = .ok (.iconst 5, 1) := dk_8 (dk_at dksX2_weight_0 5 rfl rfl)
theorem dX2_weight_6 : decode cX2_weight 6 = .ok (.if_icmp .ge 58, 3) := dk_162 0 58 (dk_at dksX2_weight_0 6 rfl rfl)
theorem dX2_weight_9 : decode cX2_weight 9 = .ok (.aload_n 1, 1) := dk_43 (dk_at dksX2_weight_0 9 rfl rfl)
theorem dX2_weight_10 : decode cX2_weight 10 = .ok (.getfield 110, 3) := dk_180 0 110 (dk_at dksX2_weight_0 10 rfl rfl)
theorem dX2_weight_13 : decode cX2_weight 13 = .ok (.iload_n 3, 1) := dk_29 (dk_at dksX2_weight_0 13 rfl rfl)
theorem dX2_weight_14 : decode cX2_weight 14 = .ok (.iaload, 1) := dk_46 (dk_at dksX2_weight_0 14 rfl rfl)
theorem dX2_weight_15 : decode cX2_weight 15 = .ok (.istore 4, 2) := dk_54 4 (dk_at dksX2_weight_0 15 rfl rfl)
theorem dX2_weight_17 : decode cX2_weight 17 = .ok (.iload_n 2, 1) := dk_28 (dk_at dksX2_weight_0 17 rfl rfl)
theorem dX2_weight_18 : decode cX2_weight 18 = .ok (.iload 4, 2) := dk_21 4 (dk_at dksX2_weight_0 18 rfl rfl)
theorem dX2_weight_20 : decode cX2_weight 20 = .ok (.iconst (-1), 1) := dk_2 (dk_at dksX2_weight_0 20 rfl rfl)
theorem dX2_weight_21 : decode cX2_weight 21 = .ok (.if_icmp .ne 7, 3) := dk_160 0 7 (dk_at dksX2_weight_0 21 rfl rfl)
theorem dX2_weight_24 : decode cX2_weight 24 = .ok (.iconst 0, 1) := dk_3 (dk_at dksX2_weight_1 0 rfl rfl)
theorem dX2_weight_25 : decode cX2_weight 25 = .ok (.goto 31, 3) := dk_167 0 31 (dk_at dksX2_weight_1 1 rfl rfl)
theorem dX2_weight_28 : decode cX2_weight 28 = .ok (.iload 4, 2) := dk_21 4 (dk_at dksX2_weight_1 4 rfl rfl)
theorem dX2_weight_30 : decode cX2_weight 30 = .ok (.iconst 1, 1) := dk_4 (dk_at dksX2_weight_1 6 rfl rfl)
theorem dX2_weight_31 : decode cX2_weight 31 = .ok (.if_icmp .ne 15, 3) := dk_160 0 15 (dk_at dksX2_weight_1 7 rfl rfl)
theorem dX2_weight_34 : decode cX2_weight 34 = .ok (.aload_n 0, 1) := dk_42 (dk_at dksX2_weight_1 10 rfl rfl)
theorem dX2_weight_35 : decode cX2_weight 35 = .ok (.getfield 26, 3) := dk_180 0 26 (dk_at dksX2_weight_1 11 rfl rfl)
theorem dX2_weight_38 : decode cX2_weight 38 = .ok (.iload_n 3, 1) := dk_29 (dk_at dksX2_weight_1 14 rfl rfl)
theorem dX2_weight_39 : decode cX2_weight 39 = .ok (.aaload, 1) := dk_50 (dk_at dksX2_weight_1 15 rfl rfl)
theorem dX2_weight_40 : decode cX2_weight 40 = .ok (.getfield 113, 3) := dk_180 0 113 (dk_at dksX2_weight_1 16 rfl rfl)
theorem dX2_weight_43 : decode cX2_weight 43 = .ok (.goto 13, 3) := dk_167 0 13 (dk_at dksX2_weight_1 19 rfl rfl)
theorem dX2_weight_46 : decode cX2_weight 46 = .ok (.aload_n 0, 1) := dk_42 (dk_at dksX2_weight_1 22 rfl rfl)
theorem dX2_weight_47 : decode cX2_weight 47 = .ok (.getfield 26, 3) := dk_180 0 26 (dk_at dksX2_weight_2 0 rfl rfl)
theorem dX2_weight_50 : decode cX2_weight 50 = .ok (.iload_n 3, 1) := dk_29 (dk_at dksX2_weight_2 3 rfl rfl)
theorem dX2_weight_51 : decode cX2_weight 51 = .ok (.aaload, 1) := dk_50 (dk_at dksX2_weight_2 4 rfl rfl)
theorem dX2_weight_52 : decode cX2_weight 52 = .ok (.getfield 113, 3) := dk_180 0 113 (dk_at dksX2_weight_2 5 rfl rfl)
theorem dX2_weight_55 : decode cX2_weight 55 = .ok (.ineg, 1) := dk_116 (dk_at dksX2_weight_2 8 rfl rfl)
theorem dX2_weight_56 : decode cX2_weight 56 = .ok (.iadd, 1) := dk_96 (dk_at dksX2_weight_2 9 rfl rfl)
theorem dX2_weight_57 : decode cX2_weight 57 = .ok (.istore_n 2, 1) := dk_61 (dk_at dksX2_weight_2 10 rfl rfl)
theorem dX2_weight_58 : decode cX2_weight 58 = .ok (.iinc 3 1, 3) := dk_132 3 1 (dk_at dksX2_weight_2 11 rfl rfl)
theorem dX2_weight_61 : decode cX2_weight 61 = .ok (.goto (-57), 3) := dk_167 255 199 (dk_at dksX2_weight_2 14 rfl rfl)
theorem dX2_weight_64 : decode cX2_weight 64 = .ok (.iload_n 2, 1) := dk_28 (dk_at dksX2_weight_2 17 rfl rfl)
theorem dX2_weight_65 : decode cX2_weight 65 = .ok (.ireturn, 1) := dk_172 (dk_at dksX2_weight_2 18 rfl rfl)
abbrev cX2_without : ByteArray := prog_6_method_21_code
def yX2_without : MethodName := ⟨RX2, "without", "(II)I"⟩
def dkwX2_without_1 : List UInt8 := [25, 4, 186, 1, 16, 0, 0, 183, 0, 132, 182, 1, 19, 172]
abbrev dktX2_without_1 : List UInt8 := dkwX2_without_1 ++ []
def dkwX2_without_0 : List UInt8 := [42, 27, 182, 0, 189, 78, 42, 28, 182, 0, 225, 58, 4, 187, 0, 126, 89, 45, 42, 180, 0, 18, 42]
abbrev dktX2_without_0 : List UInt8 := dkwX2_without_0 ++ dktX2_without_1
theorem dksX2_without_0 : cX2_without.data.toList.drop 0 = dktX2_without_0 := by decide +kernel
theorem dksX2_without_1 : cX2_without.data.toList.drop 23 = dktX2_without_1 := dk_seg dksX2_without_0 23 rfl rfl
theorem dX2_without_0 : decode cX2_without 0 = .ok (.aload_n 0, 1) := dk_42 (dk_at dksX2_without_0 0 rfl rfl)
theorem dX2_without_1 : decode cX2_without 1 = .ok (.iload_n 1, 1) := dk_27 (dk_at dksX2_without_0 1 rfl rfl)
theorem dX2_without_2 : decode cX2_without 2 = .ok (.invokevirtual 189, 3) := dk_182 0 189 (dk_at dksX2_without_0 2 rfl rfl)
theorem dX2_without_5 : decode cX2_without 5 = .ok (.astore_n 3, 1) := dk_78 (dk_at dksX2_without_0 5 rfl rfl)
theorem dX2_without_6 : decode cX2_without 6 = .ok (.aload_n 0, 1) := dk_42 (dk_at dksX2_without_0 6 rfl rfl)
theorem dX2_without_7 : decode cX2_without 7 = .ok (.iload_n 2, 1) := dk_28 (dk_at dksX2_without_0 7 rfl rfl)
theorem dX2_without_8 : decode cX2_without 8 = .ok (.invokevirtual 225, 3) := dk_182 0 225 (dk_at dksX2_without_0 8 rfl rfl)
theorem dX2_without_11 : decode cX2_without 11 = .ok (.astore 4, 2) := dk_58 4 (dk_at dksX2_without_0 11 rfl rfl)
theorem dX2_without_13 : decode cX2_without 13 = .ok (.new 126, 3) := dk_187 0 126 (dk_at dksX2_without_0 13 rfl rfl)
theorem dX2_without_16 : decode cX2_without 16 = .ok (.dup, 1) := dk_89 (dk_at dksX2_without_0 16 rfl rfl)
theorem dX2_without_17 : decode cX2_without 17 = .ok (.aload_n 3, 1) := dk_45 (dk_at dksX2_without_0 17 rfl rfl)
theorem dX2_without_18 : decode cX2_without 18 = .ok (.aload_n 0, 1) := dk_42 (dk_at dksX2_without_0 18 rfl rfl)
theorem dX2_without_19 : decode cX2_without 19 = .ok (.getfield 18, 3) := dk_180 0 18 (dk_at dksX2_without_0 19 rfl rfl)
theorem dX2_without_22 : decode cX2_without 22 = .ok (.aload_n 0, 1) := dk_42 (dk_at dksX2_without_0 22 rfl rfl)
theorem dX2_without_23 : decode cX2_without 23 = .ok (.aload 4, 2) := dk_25 4 (dk_at dksX2_without_1 0 rfl rfl)
theorem dX2_without_25 : decode cX2_without 25 = .ok (.invokedynamic 272, 5) := by decide +kernel
theorem dX2_without_30 : decode cX2_without 30 = .ok (.invokespecial 132, 3) := dk_183 0 132 (dk_at dksX2_without_1 7 rfl rfl)
theorem dX2_without_33 : decode cX2_without 33 = .ok (.invokevirtual 275, 3) := dk_182 1 19 (dk_at dksX2_without_1 10 rfl rfl)
theorem dX2_without_36 : decode cX2_without 36 = .ok (.ireturn, 1) := dk_172 (dk_at dksX2_without_1 13 rfl rfl)
abbrev cX2_book : ByteArray := prog_6_method_3_code
def yX2_book : MethodName := ⟨RX2, "book", "(I)LMissingMiddles$Book;"⟩
def dkwX2_book_1 : List UInt8 := [182, 0, 71, 192, 0, 108, 176]
abbrev dktX2_book_1 : List UInt8 := dkwX2_book_1 ++ []
def dkwX2_book_0 : List UInt8 := [27, 133, 9, 42, 180, 0, 12, 182, 0, 96, 4, 100, 133, 184, 0, 100, 184, 0, 104, 42, 180, 0, 12, 27]
abbrev dktX2_book_0 : List UInt8 := dkwX2_book_0 ++ dktX2_book_1
theorem dksX2_book_0 : cX2_book.data.toList.drop 0 = dktX2_book_0 := by decide +kernel
theorem dksX2_book_1 : cX2_book.data.toList.drop 24 = dktX2_book_1 := dk_seg dksX2_book_0 24 rfl rfl
theorem dX2_book_0 : decode cX2_book 0 = .ok (.iload_n 1, 1) := dk_27 (dk_at dksX2_book_0 0 rfl rfl)
theorem dX2_book_1 : decode cX2_book 1 = .ok (.i2l, 1) := dk_133 (dk_at dksX2_book_0 1 rfl rfl)
theorem dX2_book_2 : decode cX2_book 2 = .ok (.lconst 0, 1) := dk_9 (dk_at dksX2_book_0 2 rfl rfl)
theorem dX2_book_3 : decode cX2_book 3 = .ok (.aload_n 0, 1) := dk_42 (dk_at dksX2_book_0 3 rfl rfl)
theorem dX2_book_4 : decode cX2_book 4 = .ok (.getfield 12, 3) := dk_180 0 12 (dk_at dksX2_book_0 4 rfl rfl)
theorem dX2_book_7 : decode cX2_book 7 = .ok (.invokevirtual 96, 3) := dk_182 0 96 (dk_at dksX2_book_0 7 rfl rfl)
theorem dX2_book_10 : decode cX2_book 10 = .ok (.iconst 1, 1) := dk_4 (dk_at dksX2_book_0 10 rfl rfl)
theorem dX2_book_11 : decode cX2_book 11 = .ok (.isub, 1) := dk_100 (dk_at dksX2_book_0 11 rfl rfl)
theorem dX2_book_12 : decode cX2_book 12 = .ok (.i2l, 1) := dk_133 (dk_at dksX2_book_0 12 rfl rfl)
theorem dX2_book_13 : decode cX2_book 13 = .ok (.invokestatic 100, 3) := dk_184 0 100 (dk_at dksX2_book_0 13 rfl rfl)
theorem dX2_book_16 : decode cX2_book 16 = .ok (.invokestatic 104, 3) := dk_184 0 104 (dk_at dksX2_book_0 16 rfl rfl)
theorem dX2_book_19 : decode cX2_book 19 = .ok (.aload_n 0, 1) := dk_42 (dk_at dksX2_book_0 19 rfl rfl)
theorem dX2_book_20 : decode cX2_book 20 = .ok (.getfield 12, 3) := dk_180 0 12 (dk_at dksX2_book_0 20 rfl rfl)
theorem dX2_book_23 : decode cX2_book 23 = .ok (.iload_n 1, 1) := dk_27 (dk_at dksX2_book_0 23 rfl rfl)
theorem dX2_book_24 : decode cX2_book 24 = .ok (.invokevirtual 71, 3) := dk_182 0 71 (dk_at dksX2_book_1 0 rfl rfl)
theorem dX2_book_27 : decode cX2_book 27 = .ok (.checkcast 108, 3) := dk_192 0 108 (dk_at dksX2_book_1 3 rfl rfl)
theorem dX2_book_30 : decode cX2_book 30 = .ok (.areturn, 1) := dk_176 (dk_at dksX2_book_1 6 rfl rfl)
abbrev cX2_scrap : ByteArray := prog_6_method_4_code
def yX2_scrap : MethodName := ⟨RX2, "scrap", "(I)LMissingMiddles$Scrap;"⟩
def dkwX2_scrap_1 : List UInt8 := [182, 0, 71, 192, 0, 65, 176]
abbrev dktX2_scrap_1 : List UInt8 := dkwX2_scrap_1 ++ []
def dkwX2_scrap_0 : List UInt8 := [27, 133, 9, 42, 180, 0, 18, 182, 0, 96, 4, 100, 133, 184, 0, 100, 184, 0, 104, 42, 180, 0, 18, 27]
abbrev dktX2_scrap_0 : List UInt8 := dkwX2_scrap_0 ++ dktX2_scrap_1
theorem dksX2_scrap_0 : cX2_scrap.data.toList.drop 0 = dktX2_scrap_0 := by decide +kernel
theorem dksX2_scrap_1 : cX2_scrap.data.toList.drop 24 = dktX2_scrap_1 := dk_seg dksX2_scrap_0 24 rfl rfl
theorem dX2_scrap_0 : decode cX2_scrap 0 = .ok (.iload_n 1, 1) := dk_27 (dk_at dksX2_scrap_0 0 rfl rfl)
theorem dX2_scrap_1 : decode cX2_scrap 1 = .ok (.i2l, 1) := dk_133 (dk_at dksX2_scrap_0 1 rfl rfl)
theorem dX2_scrap_2 : decode cX2_scrap 2 = .ok (.lconst 0, 1) := dk_9 (dk_at dksX2_scrap_0 2 rfl rfl)
theorem dX2_scrap_3 : decode cX2_scrap 3 = .ok (.aload_n 0, 1) := dk_42 (dk_at dksX2_scrap_0 3 rfl rfl)
theorem dX2_scrap_4 : decode cX2_scrap 4 = .ok (.getfield 18, 3) := dk_180 0 18 (dk_at dksX2_scrap_0 4 rfl rfl)
theorem dX2_scrap_7 : decode cX2_scrap 7 = .ok (.invokevirtual 96, 3) := dk_182 0 96 (dk_at dksX2_scrap_0 7 rfl rfl)
theorem dX2_scrap_10 : decode cX2_scrap 10 = .ok (.iconst 1, 1) := dk_4 (dk_at dksX2_scrap_0 10 rfl rfl)
theorem dX2_scrap_11 : decode cX2_scrap 11 = .ok (.isub, 1) := dk_100 (dk_at dksX2_scrap_0 11 rfl rfl)
theorem dX2_scrap_12 : decode cX2_scrap 12 = .ok (.i2l, 1) := dk_133 (dk_at dksX2_scrap_0 12 rfl rfl)
theorem dX2_scrap_13 : decode cX2_scrap 13 = .ok (.invokestatic 100, 3) := dk_184 0 100 (dk_at dksX2_scrap_0 13 rfl rfl)
theorem dX2_scrap_16 : decode cX2_scrap 16 = .ok (.invokestatic 104, 3) := dk_184 0 104 (dk_at dksX2_scrap_0 16 rfl rfl)
theorem dX2_scrap_19 : decode cX2_scrap 19 = .ok (.aload_n 0, 1) := dk_42 (dk_at dksX2_scrap_0 19 rfl rfl)
theorem dX2_scrap_20 : decode cX2_scrap 20 = .ok (.getfield 18, 3) := dk_180 0 18 (dk_at dksX2_scrap_0 20 rfl rfl)
theorem dX2_scrap_23 : decode cX2_scrap 23 = .ok (.iload_n 1, 1) := dk_27 (dk_at dksX2_scrap_0 23 rfl rfl)
theorem dX2_scrap_24 : decode cX2_scrap 24 = .ok (.invokevirtual 71, 3) := dk_182 0 71 (dk_at dksX2_scrap_1 0 rfl rfl)
theorem dX2_scrap_27 : decode cX2_scrap 27 = .ok (.checkcast 65, 3) := dk_192 0 65 (dk_at dksX2_scrap_1 3 rfl rfl)
theorem dX2_scrap_30 : decode cX2_scrap 30 = .ok (.areturn, 1) := dk_176 (dk_at dksX2_scrap_1 6 rfl rfl)
abbrev cX2_lambda_without_2 : ByteArray := prog_6_method_37_code
def yX2_lambda_without_2 : MethodName := ⟨RX2, "lambda$without$2", "(LMissingMiddles$Scrap;LMissingMiddles$Scrap;)Z"⟩
def dkwX2_lambda_without_2_0 : List UInt8 := [44, 43, 165, 0, 15, 42, 44, 182, 0, 240, 153, 0, 7, 4, 167, 0, 4, 3, 172]
abbrev dktX2_lambda_without_2_0 : List UInt8 := dkwX2_lambda_without_2_0 ++ []
theorem dksX2_lambda_without_2_0 : cX2_lambda_without_2.data.toList.drop 0 = dktX2_lambda_without_2_0 := by decide +kernel
theorem dX2_lambda_without_2_0 : decode cX2_lambda_without_2 0 = .ok (.aload_n 2, 1) := dk_44 (dk_at dksX2_lambda_without_2_0 0 rfl rfl)
theorem dX2_lambda_without_2_1 : decode cX2_lambda_without_2 1 = .ok (.aload_n 1, 1) := dk_43 (dk_at dksX2_lambda_without_2_0 1 rfl rfl)
theorem dX2_lambda_without_2_2 : decode cX2_lambda_without_2 2 = .ok (.if_acmp .eq 15, 3) := dk_165 0 15 (dk_at dksX2_lambda_without_2_0 2 rfl rfl)
theorem dX2_lambda_without_2_5 : decode cX2_lambda_without_2 5 = .ok (.aload_n 0, 1) := dk_42 (dk_at dksX2_lambda_without_2_0 5 rfl rfl)
theorem dX2_lambda_without_2_6 : decode cX2_lambda_without_2 6 = .ok (.aload_n 2, 1) := dk_44 (dk_at dksX2_lambda_without_2_0 6 rfl rfl)
theorem dX2_lambda_without_2_7 : decode cX2_lambda_without_2 7 = .ok (.invokevirtual 240, 3) := dk_182 0 240 (dk_at dksX2_lambda_without_2_0 7 rfl rfl)
theorem dX2_lambda_without_2_10 : decode cX2_lambda_without_2 10 = .ok (.ifCond .eq 7, 3) := dk_153 0 7 (dk_at dksX2_lambda_without_2_0 10 rfl rfl)
theorem dX2_lambda_without_2_13 : decode cX2_lambda_without_2 13 = .ok (.iconst 1, 1) := dk_4 (dk_at dksX2_lambda_without_2_0 13 rfl rfl)
theorem dX2_lambda_without_2_14 : decode cX2_lambda_without_2 14 = .ok (.goto 4, 3) := dk_167 0 4 (dk_at dksX2_lambda_without_2_0 14 rfl rfl)
theorem dX2_lambda_without_2_17 : decode cX2_lambda_without_2 17 = .ok (.iconst 0, 1) := dk_3 (dk_at dksX2_lambda_without_2_0 17 rfl rfl)
theorem dX2_lambda_without_2_18 : decode cX2_lambda_without_2 18 = .ok (.ireturn, 1) := dk_172 (dk_at dksX2_lambda_without_2_0 18 rfl rfl)
abbrev cX2_trusts : ByteArray := prog_6_method_32_code
def yX2_trusts : MethodName := ⟨RX2, "trusts", "()I"⟩
def dkwX2_trusts_1 : List UInt8 := [58, 5, 27, 25, 5, 180, 0, 113, 96, 60, 132, 4, 1, 167, 255, 233, 27, 172]
abbrev dktX2_trusts_1 : List UInt8 := dkwX2_trusts_1 ++ []
def dkwX2_trusts_0 : List UInt8 := [3, 60, 42, 180, 0, 26, 77, 44, 190, 62, 3, 54, 4, 21, 4, 29, 162, 0, 23, 44, 21, 4, 50]
abbrev dktX2_trusts_0 : List UInt8 := dkwX2_trusts_0 ++ dktX2_trusts_1
theorem dksX2_trusts_0 : cX2_trusts.data.toList.drop 0 = dktX2_trusts_0 := by decide +kernel
theorem dksX2_trusts_1 : cX2_trusts.data.toList.drop 23 = dktX2_trusts_1 := dk_seg dksX2_trusts_0 23 rfl rfl
theorem dX2_trusts_0 : decode cX2_trusts 0 = .ok (.iconst 0, 1) := dk_3 (dk_at dksX2_trusts_0 0 rfl rfl)
theorem dX2_trusts_1 : decode cX2_trusts 1 = .ok (.istore_n 1, 1) := dk_60 (dk_at dksX2_trusts_0 1 rfl rfl)
theorem dX2_trusts_2 : decode cX2_trusts 2 = .ok (.aload_n 0, 1) := dk_42 (dk_at dksX2_trusts_0 2 rfl rfl)
theorem dX2_trusts_3 : decode cX2_trusts 3 = .ok (.getfield 26, 3) := dk_180 0 26 (dk_at dksX2_trusts_0 3 rfl rfl)
theorem dX2_trusts_6 : decode cX2_trusts 6 = .ok (.astore_n 2, 1) := dk_77 (dk_at dksX2_trusts_0 6 rfl rfl)
theorem dX2_trusts_7 : decode cX2_trusts 7 = .ok (.aload_n 2, 1) := dk_44 (dk_at dksX2_trusts_0 7 rfl rfl)
theorem dX2_trusts_8 : decode cX2_trusts 8 = .ok (.arraylength, 1) := dk_190 (dk_at dksX2_trusts_0 8 rfl rfl)
theorem dX2_trusts_9 : decode cX2_trusts 9 = .ok (.istore_n 3, 1) := dk_62 (dk_at dksX2_trusts_0 9 rfl rfl)
theorem dX2_trusts_10 : decode cX2_trusts 10 = .ok (.iconst 0, 1) := dk_3 (dk_at dksX2_trusts_0 10 rfl rfl)
theorem dX2_trusts_11 : decode cX2_trusts 11 = .ok (.istore 4, 2) := dk_54 4 (dk_at dksX2_trusts_0 11 rfl rfl)
theorem dX2_trusts_13 : decode cX2_trusts 13 = .ok (.iload 4, 2) := dk_21 4 (dk_at dksX2_trusts_0 13 rfl rfl)
theorem dX2_trusts_15 : decode cX2_trusts 15 = .ok (.iload_n 3, 1) := dk_29 (dk_at dksX2_trusts_0 15 rfl rfl)
theorem dX2_trusts_16 : decode cX2_trusts 16 = .ok (.if_icmp .ge 23, 3) := dk_162 0 23 (dk_at dksX2_trusts_0 16 rfl rfl)
theorem dX2_trusts_19 : decode cX2_trusts 19 = .ok (.aload_n 2, 1) := dk_44 (dk_at dksX2_trusts_0 19 rfl rfl)
theorem dX2_trusts_20 : decode cX2_trusts 20 = .ok (.iload 4, 2) := dk_21 4 (dk_at dksX2_trusts_0 20 rfl rfl)
theorem dX2_trusts_22 : decode cX2_trusts 22 = .ok (.aaload, 1) := dk_50 (dk_at dksX2_trusts_0 22 rfl rfl)
theorem dX2_trusts_23 : decode cX2_trusts 23 = .ok (.astore 5, 2) := dk_58 5 (dk_at dksX2_trusts_1 0 rfl rfl)
theorem dX2_trusts_25 : decode cX2_trusts 25 = .ok (.iload_n 1, 1) := dk_27 (dk_at dksX2_trusts_1 2 rfl rfl)
theorem dX2_trusts_26 : decode cX2_trusts 26 = .ok (.aload 5, 2) := dk_25 5 (dk_at dksX2_trusts_1 3 rfl rfl)
theorem dX2_trusts_28 : decode cX2_trusts 28 = .ok (.getfield 113, 3) := dk_180 0 113 (dk_at dksX2_trusts_1 5 rfl rfl)
theorem dX2_trusts_31 : decode cX2_trusts 31 = .ok (.iadd, 1) := dk_96 (dk_at dksX2_trusts_1 8 rfl rfl)
theorem dX2_trusts_32 : decode cX2_trusts 32 = .ok (.istore_n 1, 1) := dk_60 (dk_at dksX2_trusts_1 9 rfl rfl)
theorem dX2_trusts_33 : decode cX2_trusts 33 = .ok (.iinc 4 1, 3) := dk_132 4 1 (dk_at dksX2_trusts_1 10 rfl rfl)
theorem dX2_trusts_36 : decode cX2_trusts 36 = .ok (.goto (-23), 3) := dk_167 255 233 (dk_at dksX2_trusts_1 13 rfl rfl)
theorem dX2_trusts_39 : decode cX2_trusts 39 = .ok (.iload_n 1, 1) := dk_27 (dk_at dksX2_trusts_1 16 rfl rfl)
theorem dX2_trusts_40 : decode cX2_trusts 40 = .ok (.ireturn, 1) := dk_172 (dk_at dksX2_trusts_1 17 rfl rfl)
abbrev cX2_copy : ByteArray := prog_6_method_2_code
def yX2_copy : MethodName := ⟨RX2, "copy", "()LMissingMiddles$Office;"⟩
def dkwX2_copy_8 : List UInt8 := [43, 176]
abbrev dktX2_copy_8 : List UInt8 := dkwX2_copy_8 ++ []
def dkwX2_copy_7 : List UInt8 := [43, 42, 180, 0, 87, 181, 0, 87, 43, 42, 180, 0, 90, 181, 0, 90, 43, 42, 180, 0, 93, 181, 0, 93]
abbrev dktX2_copy_7 : List UInt8 := dkwX2_copy_7 ++ dktX2_copy_8
def dkwX2_copy_6 : List UInt8 := [43, 42, 180, 0, 81, 181, 0, 81, 43, 42, 180, 0, 34, 181, 0, 34, 43, 42, 180, 0, 84, 181, 0, 84]
abbrev dktX2_copy_6 : List UInt8 := dkwX2_copy_6 ++ dktX2_copy_7
def dkwX2_copy_5 : List UInt8 := [162, 0, 24, 43, 180, 0, 26, 29, 42, 180, 0, 26, 29, 50, 182, 0, 78, 83, 132, 3, 1, 167, 255, 233]
abbrev dktX2_copy_5 : List UInt8 := dkwX2_copy_5 ++ dktX2_copy_6
def dkwX2_copy_4 : List UInt8 := [61, 43, 180, 0, 30, 29, 42, 180, 0, 30, 29, 46, 79, 132, 3, 1, 167, 255, 210, 3, 62, 29, 8]
abbrev dktX2_copy_4 : List UInt8 := dkwX2_copy_4 ++ dktX2_copy_5
def dkwX2_copy_3 : List UInt8 := [180, 0, 21, 29, 182, 0, 71, 192, 0, 38, 42, 180, 0, 21, 29, 182, 0, 71, 192, 0, 75, 182, 0, 77]
abbrev dktX2_copy_3 : List UInt8 := dkwX2_copy_3 ++ dktX2_copy_4
def dkwX2_copy_2 : List UInt8 := [43, 180, 0, 18, 25, 4, 182, 0, 67, 182, 0, 41, 61, 167, 255, 223, 3, 62, 29, 7, 162, 0, 47, 43]
abbrev dktX2_copy_2 : List UInt8 := dkwX2_copy_2 ++ dktX2_copy_3
def dkwX2_copy_1 : List UInt8 := [182, 0, 51, 78, 45, 185, 0, 55, 1, 0, 153, 0, 30, 45, 185, 0, 61, 1, 0, 192, 0, 65, 58, 4]
abbrev dktX2_copy_1 : List UInt8 := dkwX2_copy_1 ++ dktX2_copy_2
def dkwX2_copy_0 : List UInt8 := [187, 0, 13, 89, 183, 0, 46, 76, 43, 180, 0, 12, 42, 180, 0, 12, 182, 0, 47, 61, 42, 180, 0, 18]
abbrev dktX2_copy_0 : List UInt8 := dkwX2_copy_0 ++ dktX2_copy_1
theorem dksX2_copy_0 : cX2_copy.data.toList.drop 0 = dktX2_copy_0 := by decide +kernel
theorem dksX2_copy_1 : cX2_copy.data.toList.drop 24 = dktX2_copy_1 := dk_seg dksX2_copy_0 24 rfl rfl
theorem dksX2_copy_2 : cX2_copy.data.toList.drop 48 = dktX2_copy_2 := dk_seg dksX2_copy_1 24 rfl rfl
theorem dksX2_copy_3 : cX2_copy.data.toList.drop 72 = dktX2_copy_3 := dk_seg dksX2_copy_2 24 rfl rfl
theorem dksX2_copy_4 : cX2_copy.data.toList.drop 96 = dktX2_copy_4 := dk_seg dksX2_copy_3 24 rfl rfl
theorem dksX2_copy_5 : cX2_copy.data.toList.drop 119 = dktX2_copy_5 := dk_seg dksX2_copy_4 23 rfl rfl
theorem dksX2_copy_6 : cX2_copy.data.toList.drop 143 = dktX2_copy_6 := dk_seg dksX2_copy_5 24 rfl rfl
theorem dksX2_copy_7 : cX2_copy.data.toList.drop 167 = dktX2_copy_7 := dk_seg dksX2_copy_6 24 rfl rfl
theorem dksX2_copy_8 : cX2_copy.data.toList.drop 191 = dktX2_copy_8 := dk_seg dksX2_copy_7 24 rfl rfl
theorem dX2_copy_0 : decode cX2_copy 0 = .ok (.new 13, 3) := dk_187 0 13 (dk_at dksX2_copy_0 0 rfl rfl)
theorem dX2_copy_3 : decode cX2_copy 3 = .ok (.dup, 1) := dk_89 (dk_at dksX2_copy_0 3 rfl rfl)
theorem dX2_copy_4 : decode cX2_copy 4 = .ok (.invokespecial 46, 3) := dk_183 0 46 (dk_at dksX2_copy_0 4 rfl rfl)
theorem dX2_copy_7 : decode cX2_copy 7 = .ok (.astore_n 1, 1) := dk_76 (dk_at dksX2_copy_0 7 rfl rfl)
theorem dX2_copy_8 : decode cX2_copy 8 = .ok (.aload_n 1, 1) := dk_43 (dk_at dksX2_copy_0 8 rfl rfl)
theorem dX2_copy_9 : decode cX2_copy 9 = .ok (.getfield 12, 3) := dk_180 0 12 (dk_at dksX2_copy_0 9 rfl rfl)
theorem dX2_copy_12 : decode cX2_copy 12 = .ok (.aload_n 0, 1) := dk_42 (dk_at dksX2_copy_0 12 rfl rfl)
theorem dX2_copy_13 : decode cX2_copy 13 = .ok (.getfield 12, 3) := dk_180 0 12 (dk_at dksX2_copy_0 13 rfl rfl)
theorem dX2_copy_16 : decode cX2_copy 16 = .ok (.invokevirtual 47, 3) := dk_182 0 47 (dk_at dksX2_copy_0 16 rfl rfl)
theorem dX2_copy_19 : decode cX2_copy 19 = .ok (.istore_n 2, 1) := dk_61 (dk_at dksX2_copy_0 19 rfl rfl)
theorem dX2_copy_20 : decode cX2_copy 20 = .ok (.aload_n 0, 1) := dk_42 (dk_at dksX2_copy_0 20 rfl rfl)
theorem dX2_copy_21 : decode cX2_copy 21 = .ok (.getfield 18, 3) := dk_180 0 18 (dk_at dksX2_copy_0 21 rfl rfl)
theorem dX2_copy_24 : decode cX2_copy 24 = .ok (.invokevirtual 51, 3) := dk_182 0 51 (dk_at dksX2_copy_1 0 rfl rfl)
theorem dX2_copy_27 : decode cX2_copy 27 = .ok (.astore_n 3, 1) := dk_78 (dk_at dksX2_copy_1 3 rfl rfl)
theorem dX2_copy_28 : decode cX2_copy 28 = .ok (.aload_n 3, 1) := dk_45 (dk_at dksX2_copy_1 4 rfl rfl)
theorem dX2_copy_29 : decode cX2_copy 29 = .ok (.invokeinterface 55 1, 5) := by decide +kernel
theorem dX2_copy_34 : decode cX2_copy 34 = .ok (.ifCond .eq 30, 3) := dk_153 0 30 (dk_at dksX2_copy_1 10 rfl rfl)
theorem dX2_copy_37 : decode cX2_copy 37 = .ok (.aload_n 3, 1) := dk_45 (dk_at dksX2_copy_1 13 rfl rfl)
theorem dX2_copy_38 : decode cX2_copy 38 = .ok (.invokeinterface 61 1, 5) := by decide +kernel
theorem dX2_copy_43 : decode cX2_copy 43 = .ok (.checkcast 65, 3) := dk_192 0 65 (dk_at dksX2_copy_1 19 rfl rfl)
theorem dX2_copy_46 : decode cX2_copy 46 = .ok (.astore 4, 2) := dk_58 4 (dk_at dksX2_copy_1 22 rfl rfl)
theorem dX2_copy_48 : decode cX2_copy 48 = .ok (.aload_n 1, 1) := dk_43 (dk_at dksX2_copy_2 0 rfl rfl)
theorem dX2_copy_49 : decode cX2_copy 49 = .ok (.getfield 18, 3) := dk_180 0 18 (dk_at dksX2_copy_2 1 rfl rfl)
theorem dX2_copy_52 : decode cX2_copy 52 = .ok (.aload 4, 2) := dk_25 4 (dk_at dksX2_copy_2 4 rfl rfl)
theorem dX2_copy_54 : decode cX2_copy 54 = .ok (.invokevirtual 67, 3) := dk_182 0 67 (dk_at dksX2_copy_2 6 rfl rfl)
theorem dX2_copy_57 : decode cX2_copy 57 = .ok (.invokevirtual 41, 3) := dk_182 0 41 (dk_at dksX2_copy_2 9 rfl rfl)
theorem dX2_copy_60 : decode cX2_copy 60 = .ok (.istore_n 2, 1) := dk_61 (dk_at dksX2_copy_2 12 rfl rfl)
theorem dX2_copy_61 : decode cX2_copy 61 = .ok (.goto (-33), 3) := dk_167 255 223 (dk_at dksX2_copy_2 13 rfl rfl)
theorem dX2_copy_64 : decode cX2_copy 64 = .ok (.iconst 0, 1) := dk_3 (dk_at dksX2_copy_2 16 rfl rfl)
theorem dX2_copy_65 : decode cX2_copy 65 = .ok (.istore_n 3, 1) := dk_62 (dk_at dksX2_copy_2 17 rfl rfl)
theorem dX2_copy_66 : decode cX2_copy 66 = .ok (.iload_n 3, 1) := dk_29 (dk_at dksX2_copy_2 18 rfl rfl)
theorem dX2_copy_67 : decode cX2_copy 67 = .ok (.iconst 4, 1) := dk_7 (dk_at dksX2_copy_2 19 rfl rfl)
theorem dX2_copy_68 : decode cX2_copy 68 = .ok (.if_icmp .ge 47, 3) := dk_162 0 47 (dk_at dksX2_copy_2 20 rfl rfl)
theorem dX2_copy_71 : decode cX2_copy 71 = .ok (.aload_n 1, 1) := dk_43 (dk_at dksX2_copy_2 23 rfl rfl)
theorem dX2_copy_72 : decode cX2_copy 72 = .ok (.getfield 21, 3) := dk_180 0 21 (dk_at dksX2_copy_3 0 rfl rfl)
theorem dX2_copy_75 : decode cX2_copy 75 = .ok (.iload_n 3, 1) := dk_29 (dk_at dksX2_copy_3 3 rfl rfl)
theorem dX2_copy_76 : decode cX2_copy 76 = .ok (.invokevirtual 71, 3) := dk_182 0 71 (dk_at dksX2_copy_3 4 rfl rfl)
theorem dX2_copy_79 : decode cX2_copy 79 = .ok (.checkcast 38, 3) := dk_192 0 38 (dk_at dksX2_copy_3 7 rfl rfl)
theorem dX2_copy_82 : decode cX2_copy 82 = .ok (.aload_n 0, 1) := dk_42 (dk_at dksX2_copy_3 10 rfl rfl)
theorem dX2_copy_83 : decode cX2_copy 83 = .ok (.getfield 21, 3) := dk_180 0 21 (dk_at dksX2_copy_3 11 rfl rfl)
theorem dX2_copy_86 : decode cX2_copy 86 = .ok (.iload_n 3, 1) := dk_29 (dk_at dksX2_copy_3 14 rfl rfl)
theorem dX2_copy_87 : decode cX2_copy 87 = .ok (.invokevirtual 71, 3) := dk_182 0 71 (dk_at dksX2_copy_3 15 rfl rfl)
theorem dX2_copy_90 : decode cX2_copy 90 = .ok (.checkcast 75, 3) := dk_192 0 75 (dk_at dksX2_copy_3 18 rfl rfl)
theorem dX2_copy_93 : decode cX2_copy 93 = .ok (.invokevirtual 77, 3) := dk_182 0 77 (dk_at dksX2_copy_3 21 rfl rfl)
theorem dX2_copy_96 : decode cX2_copy 96 = .ok (.istore_n 2, 1) := dk_61 (dk_at dksX2_copy_4 0 rfl rfl)
theorem dX2_copy_97 : decode cX2_copy 97 = .ok (.aload_n 1, 1) := dk_43 (dk_at dksX2_copy_4 1 rfl rfl)
theorem dX2_copy_98 : decode cX2_copy 98 = .ok (.getfield 30, 3) := dk_180 0 30 (dk_at dksX2_copy_4 2 rfl rfl)
theorem dX2_copy_101 : decode cX2_copy 101 = .ok (.iload_n 3, 1) := dk_29 (dk_at dksX2_copy_4 5 rfl rfl)
theorem dX2_copy_102 : decode cX2_copy 102 = .ok (.aload_n 0, 1) := dk_42 (dk_at dksX2_copy_4 6 rfl rfl)
theorem dX2_copy_103 : decode cX2_copy 103 = .ok (.getfield 30, 3) := dk_180 0 30 (dk_at dksX2_copy_4 7 rfl rfl)
theorem dX2_copy_106 : decode cX2_copy 106 = .ok (.iload_n 3, 1) := dk_29 (dk_at dksX2_copy_4 10 rfl rfl)
theorem dX2_copy_107 : decode cX2_copy 107 = .ok (.iaload, 1) := dk_46 (dk_at dksX2_copy_4 11 rfl rfl)
theorem dX2_copy_108 : decode cX2_copy 108 = .ok (.iastore, 1) := dk_79 (dk_at dksX2_copy_4 12 rfl rfl)
theorem dX2_copy_109 : decode cX2_copy 109 = .ok (.iinc 3 1, 3) := dk_132 3 1 (dk_at dksX2_copy_4 13 rfl rfl)
theorem dX2_copy_112 : decode cX2_copy 112 = .ok (.goto (-46), 3) := dk_167 255 210 (dk_at dksX2_copy_4 16 rfl rfl)
theorem dX2_copy_115 : decode cX2_copy 115 = .ok (.iconst 0, 1) := dk_3 (dk_at dksX2_copy_4 19 rfl rfl)
theorem dX2_copy_116 : decode cX2_copy 116 = .ok (.istore_n 3, 1) := dk_62 (dk_at dksX2_copy_4 20 rfl rfl)
theorem dX2_copy_117 : decode cX2_copy 117 = .ok (.iload_n 3, 1) := dk_29 (dk_at dksX2_copy_4 21 rfl rfl)
theorem dX2_copy_118 : decode cX2_copy 118 = .ok (.iconst 5, 1) := dk_8 (dk_at dksX2_copy_4 22 rfl rfl)
theorem dX2_copy_119 : decode cX2_copy 119 = .ok (.if_icmp .ge 24, 3) := dk_162 0 24 (dk_at dksX2_copy_5 0 rfl rfl)
theorem dX2_copy_122 : decode cX2_copy 122 = .ok (.aload_n 1, 1) := dk_43 (dk_at dksX2_copy_5 3 rfl rfl)
theorem dX2_copy_123 : decode cX2_copy 123 = .ok (.getfield 26, 3) := dk_180 0 26 (dk_at dksX2_copy_5 4 rfl rfl)
theorem dX2_copy_126 : decode cX2_copy 126 = .ok (.iload_n 3, 1) := dk_29 (dk_at dksX2_copy_5 7 rfl rfl)
theorem dX2_copy_127 : decode cX2_copy 127 = .ok (.aload_n 0, 1) := dk_42 (dk_at dksX2_copy_5 8 rfl rfl)
theorem dX2_copy_128 : decode cX2_copy 128 = .ok (.getfield 26, 3) := dk_180 0 26 (dk_at dksX2_copy_5 9 rfl rfl)
theorem dX2_copy_131 : decode cX2_copy 131 = .ok (.iload_n 3, 1) := dk_29 (dk_at dksX2_copy_5 12 rfl rfl)
theorem dX2_copy_132 : decode cX2_copy 132 = .ok (.aaload, 1) := dk_50 (dk_at dksX2_copy_5 13 rfl rfl)
theorem dX2_copy_133 : decode cX2_copy 133 = .ok (.invokevirtual 78, 3) := dk_182 0 78 (dk_at dksX2_copy_5 14 rfl rfl)
theorem dX2_copy_136 : decode cX2_copy 136 = .ok (.aastore, 1) := dk_83 (dk_at dksX2_copy_5 17 rfl rfl)
theorem dX2_copy_137 : decode cX2_copy 137 = .ok (.iinc 3 1, 3) := dk_132 3 1 (dk_at dksX2_copy_5 18 rfl rfl)
theorem dX2_copy_140 : decode cX2_copy 140 = .ok (.goto (-23), 3) := dk_167 255 233 (dk_at dksX2_copy_5 21 rfl rfl)
theorem dX2_copy_143 : decode cX2_copy 143 = .ok (.aload_n 1, 1) := dk_43 (dk_at dksX2_copy_6 0 rfl rfl)
theorem dX2_copy_144 : decode cX2_copy 144 = .ok (.aload_n 0, 1) := dk_42 (dk_at dksX2_copy_6 1 rfl rfl)
theorem dX2_copy_145 : decode cX2_copy 145 = .ok (.getfield 81, 3) := dk_180 0 81 (dk_at dksX2_copy_6 2 rfl rfl)
theorem dX2_copy_148 : decode cX2_copy 148 = .ok (.putfield 81, 3) := dk_181 0 81 (dk_at dksX2_copy_6 5 rfl rfl)
theorem dX2_copy_151 : decode cX2_copy 151 = .ok (.aload_n 1, 1) := dk_43 (dk_at dksX2_copy_6 8 rfl rfl)
theorem dX2_copy_152 : decode cX2_copy 152 = .ok (.aload_n 0, 1) := dk_42 (dk_at dksX2_copy_6 9 rfl rfl)
theorem dX2_copy_153 : decode cX2_copy 153 = .ok (.getfield 34, 3) := dk_180 0 34 (dk_at dksX2_copy_6 10 rfl rfl)
theorem dX2_copy_156 : decode cX2_copy 156 = .ok (.putfield 34, 3) := dk_181 0 34 (dk_at dksX2_copy_6 13 rfl rfl)
theorem dX2_copy_159 : decode cX2_copy 159 = .ok (.aload_n 1, 1) := dk_43 (dk_at dksX2_copy_6 16 rfl rfl)
theorem dX2_copy_160 : decode cX2_copy 160 = .ok (.aload_n 0, 1) := dk_42 (dk_at dksX2_copy_6 17 rfl rfl)
theorem dX2_copy_161 : decode cX2_copy 161 = .ok (.getfield 84, 3) := dk_180 0 84 (dk_at dksX2_copy_6 18 rfl rfl)
theorem dX2_copy_164 : decode cX2_copy 164 = .ok (.putfield 84, 3) := dk_181 0 84 (dk_at dksX2_copy_6 21 rfl rfl)
theorem dX2_copy_167 : decode cX2_copy 167 = .ok (.aload_n 1, 1) := dk_43 (dk_at dksX2_copy_7 0 rfl rfl)
theorem dX2_copy_168 : decode cX2_copy 168 = .ok (.aload_n 0, 1) := dk_42 (dk_at dksX2_copy_7 1 rfl rfl)
theorem dX2_copy_169 : decode cX2_copy 169 = .ok (.getfield 87, 3) := dk_180 0 87 (dk_at dksX2_copy_7 2 rfl rfl)
theorem dX2_copy_172 : decode cX2_copy 172 = .ok (.putfield 87, 3) := dk_181 0 87 (dk_at dksX2_copy_7 5 rfl rfl)
theorem dX2_copy_175 : decode cX2_copy 175 = .ok (.aload_n 1, 1) := dk_43 (dk_at dksX2_copy_7 8 rfl rfl)
theorem dX2_copy_176 : decode cX2_copy 176 = .ok (.aload_n 0, 1) := dk_42 (dk_at dksX2_copy_7 9 rfl rfl)
theorem dX2_copy_177 : decode cX2_copy 177 = .ok (.getfield 90, 3) := dk_180 0 90 (dk_at dksX2_copy_7 10 rfl rfl)
theorem dX2_copy_180 : decode cX2_copy 180 = .ok (.putfield 90, 3) := dk_181 0 90 (dk_at dksX2_copy_7 13 rfl rfl)
theorem dX2_copy_183 : decode cX2_copy 183 = .ok (.aload_n 1, 1) := dk_43 (dk_at dksX2_copy_7 16 rfl rfl)
theorem dX2_copy_184 : decode cX2_copy 184 = .ok (.aload_n 0, 1) := dk_42 (dk_at dksX2_copy_7 17 rfl rfl)
theorem dX2_copy_185 : decode cX2_copy 185 = .ok (.getfield 93, 3) := dk_180 0 93 (dk_at dksX2_copy_7 18 rfl rfl)
theorem dX2_copy_188 : decode cX2_copy 188 = .ok (.putfield 93, 3) := dk_181 0 93 (dk_at dksX2_copy_7 21 rfl rfl)
theorem dX2_copy_191 : decode cX2_copy 191 = .ok (.aload_n 1, 1) := dk_43 (dk_at dksX2_copy_8 0 rfl rfl)
theorem dX2_copy_192 : decode cX2_copy 192 = .ok (.areturn, 1) := dk_176 (dk_at dksX2_copy_8 1 rfl rfl)
abbrev cX2_come : ByteArray := prog_6_method_10_code
def yX2_come : MethodName := ⟨RX2, "come", "(IIIII)I"⟩
def dkwX2_come_4 : List UInt8 := [182, 0, 96, 4, 100, 172]
abbrev dktX2_come_4 : List UInt8 := dkwX2_come_4 ++ []
def dkwX2_come_3 : List UInt8 := [187, 0, 108, 89, 27, 28, 29, 21, 4, 21, 5, 3, 183, 0, 165, 182, 0, 41, 54, 6, 42, 180, 0, 12]
abbrev dktX2_come_3 : List UInt8 := dkwX2_come_3 ++ dktX2_come_4
def dkwX2_come_2 : List UInt8 := [182, 0, 96, 16, 6, 162, 0, 7, 4, 167, 0, 4, 3, 4, 16, 6, 184, 0, 160, 42, 180, 0, 12]
abbrev dktX2_come_2 : List UInt8 := dkwX2_come_2 ++ dktX2_come_3
def dkwX2_come_1 : List UInt8 := [5, 161, 0, 14, 29, 27, 4, 100, 163, 0, 7, 4, 167, 0, 4, 3, 184, 0, 151, 42, 180, 0, 12]
abbrev dktX2_come_1 : List UInt8 := dkwX2_come_1 ++ dktX2_come_2
def dkwX2_come_0 : List UInt8 := [27, 133, 20, 0, 147, 20, 0, 149, 184, 0, 100, 184, 0, 151, 28, 29, 21, 4, 21, 5, 184, 0, 154, 28]
abbrev dktX2_come_0 : List UInt8 := dkwX2_come_0 ++ dktX2_come_1
theorem dksX2_come_0 : cX2_come.data.toList.drop 0 = dktX2_come_0 := by decide +kernel
theorem dksX2_come_1 : cX2_come.data.toList.drop 24 = dktX2_come_1 := dk_seg dksX2_come_0 24 rfl rfl
theorem dksX2_come_2 : cX2_come.data.toList.drop 47 = dktX2_come_2 := dk_seg dksX2_come_1 23 rfl rfl
theorem dksX2_come_3 : cX2_come.data.toList.drop 70 = dktX2_come_3 := dk_seg dksX2_come_2 23 rfl rfl
theorem dksX2_come_4 : cX2_come.data.toList.drop 94 = dktX2_come_4 := dk_seg dksX2_come_3 24 rfl rfl
theorem dX2_come_0 : decode cX2_come 0 = .ok (.iload_n 1, 1) := dk_27 (dk_at dksX2_come_0 0 rfl rfl)
theorem dX2_come_1 : decode cX2_come 1 = .ok (.i2l, 1) := dk_133 (dk_at dksX2_come_0 1 rfl rfl)
theorem dX2_come_2 : decode cX2_come 2 = .ok (.ldc2_w 147, 3) := dk_20 0 147 (dk_at dksX2_come_0 2 rfl rfl)
theorem dX2_come_5 : decode cX2_come 5 = .ok (.ldc2_w 149, 3) := dk_20 0 149 (dk_at dksX2_come_0 5 rfl rfl)
theorem dX2_come_8 : decode cX2_come 8 = .ok (.invokestatic 100, 3) := dk_184 0 100 (dk_at dksX2_come_0 8 rfl rfl)
theorem dX2_come_11 : decode cX2_come 11 = .ok (.invokestatic 151, 3) := dk_184 0 151 (dk_at dksX2_come_0 11 rfl rfl)
theorem dX2_come_14 : decode cX2_come 14 = .ok (.iload_n 2, 1) := dk_28 (dk_at dksX2_come_0 14 rfl rfl)
theorem dX2_come_15 : decode cX2_come 15 = .ok (.iload_n 3, 1) := dk_29 (dk_at dksX2_come_0 15 rfl rfl)
theorem dX2_come_16 : decode cX2_come 16 = .ok (.iload 4, 2) := dk_21 4 (dk_at dksX2_come_0 16 rfl rfl)
theorem dX2_come_18 : decode cX2_come 18 = .ok (.iload 5, 2) := dk_21 5 (dk_at dksX2_come_0 18 rfl rfl)
theorem dX2_come_20 : decode cX2_come 20 = .ok (.invokestatic 154, 3) := dk_184 0 154 (dk_at dksX2_come_0 20 rfl rfl)
theorem dX2_come_23 : decode cX2_come 23 = .ok (.iload_n 2, 1) := dk_28 (dk_at dksX2_come_0 23 rfl rfl)
theorem dX2_come_24 : decode cX2_come 24 = .ok (.iconst 2, 1) := dk_5 (dk_at dksX2_come_1 0 rfl rfl)
theorem dX2_come_25 : decode cX2_come 25 = .ok (.if_icmp .lt 14, 3) := dk_161 0 14 (dk_at dksX2_come_1 1 rfl rfl)
theorem dX2_come_28 : decode cX2_come 28 = .ok (.iload_n 3, 1) := dk_29 (dk_at dksX2_come_1 4 rfl rfl)
theorem dX2_come_29 : decode cX2_come 29 = .ok (.iload_n 1, 1) := dk_27 (dk_at dksX2_come_1 5 rfl rfl)
theorem dX2_come_30 : decode cX2_come 30 = .ok (.iconst 1, 1) := dk_4 (dk_at dksX2_come_1 6 rfl rfl)
theorem dX2_come_31 : decode cX2_come 31 = .ok (.isub, 1) := dk_100 (dk_at dksX2_come_1 7 rfl rfl)
theorem dX2_come_32 : decode cX2_come 32 = .ok (.if_icmp .gt 7, 3) := dk_163 0 7 (dk_at dksX2_come_1 8 rfl rfl)
theorem dX2_come_35 : decode cX2_come 35 = .ok (.iconst 1, 1) := dk_4 (dk_at dksX2_come_1 11 rfl rfl)
theorem dX2_come_36 : decode cX2_come 36 = .ok (.goto 4, 3) := dk_167 0 4 (dk_at dksX2_come_1 12 rfl rfl)
theorem dX2_come_39 : decode cX2_come 39 = .ok (.iconst 0, 1) := dk_3 (dk_at dksX2_come_1 15 rfl rfl)
theorem dX2_come_40 : decode cX2_come 40 = .ok (.invokestatic 151, 3) := dk_184 0 151 (dk_at dksX2_come_1 16 rfl rfl)
theorem dX2_come_43 : decode cX2_come 43 = .ok (.aload_n 0, 1) := dk_42 (dk_at dksX2_come_1 19 rfl rfl)
theorem dX2_come_44 : decode cX2_come 44 = .ok (.getfield 12, 3) := dk_180 0 12 (dk_at dksX2_come_1 20 rfl rfl)
theorem dX2_come_47 : decode cX2_come 47 = .ok (.invokevirtual 96, 3) := dk_182 0 96 (dk_at dksX2_come_2 0 rfl rfl)
theorem dX2_come_50 : decode cX2_come 50 = .ok (.bipush 6, 2) := dk_16 6 (dk_at dksX2_come_2 3 rfl rfl)
theorem dX2_come_52 : decode cX2_come 52 = .ok (.if_icmp .ge 7, 3) := dk_162 0 7 (dk_at dksX2_come_2 5 rfl rfl)
theorem dX2_come_55 : decode cX2_come 55 = .ok (.iconst 1, 1) := dk_4 (dk_at dksX2_come_2 8 rfl rfl)
theorem dX2_come_56 : decode cX2_come 56 = .ok (.goto 4, 3) := dk_167 0 4 (dk_at dksX2_come_2 9 rfl rfl)
theorem dX2_come_59 : decode cX2_come 59 = .ok (.iconst 0, 1) := dk_3 (dk_at dksX2_come_2 12 rfl rfl)
theorem dX2_come_60 : decode cX2_come 60 = .ok (.iconst 1, 1) := dk_4 (dk_at dksX2_come_2 13 rfl rfl)
theorem dX2_come_61 : decode cX2_come 61 = .ok (.bipush 6, 2) := dk_16 6 (dk_at dksX2_come_2 14 rfl rfl)
theorem dX2_come_63 : decode cX2_come 63 = .ok (.invokestatic 160, 3) := dk_184 0 160 (dk_at dksX2_come_2 16 rfl rfl)
theorem dX2_come_66 : decode cX2_come 66 = .ok (.aload_n 0, 1) := dk_42 (dk_at dksX2_come_2 19 rfl rfl)
theorem dX2_come_67 : decode cX2_come 67 = .ok (.getfield 12, 3) := dk_180 0 12 (dk_at dksX2_come_2 20 rfl rfl)
theorem dX2_come_70 : decode cX2_come 70 = .ok (.new 108, 3) := dk_187 0 108 (dk_at dksX2_come_3 0 rfl rfl)
theorem dX2_come_73 : decode cX2_come 73 = .ok (.dup, 1) := dk_89 (dk_at dksX2_come_3 3 rfl rfl)
theorem dX2_come_74 : decode cX2_come 74 = .ok (.iload_n 1, 1) := dk_27 (dk_at dksX2_come_3 4 rfl rfl)
theorem dX2_come_75 : decode cX2_come 75 = .ok (.iload_n 2, 1) := dk_28 (dk_at dksX2_come_3 5 rfl rfl)
theorem dX2_come_76 : decode cX2_come 76 = .ok (.iload_n 3, 1) := dk_29 (dk_at dksX2_come_3 6 rfl rfl)
theorem dX2_come_77 : decode cX2_come 77 = .ok (.iload 4, 2) := dk_21 4 (dk_at dksX2_come_3 7 rfl rfl)
theorem dX2_come_79 : decode cX2_come 79 = .ok (.iload 5, 2) := dk_21 5 (dk_at dksX2_come_3 9 rfl rfl)
theorem dX2_come_81 : decode cX2_come 81 = .ok (.iconst 0, 1) := dk_3 (dk_at dksX2_come_3 11 rfl rfl)
theorem dX2_come_82 : decode cX2_come 82 = .ok (.invokespecial 165, 3) := dk_183 0 165 (dk_at dksX2_come_3 12 rfl rfl)
theorem dX2_come_85 : decode cX2_come 85 = .ok (.invokevirtual 41, 3) := dk_182 0 41 (dk_at dksX2_come_3 15 rfl rfl)
theorem dX2_come_88 : decode cX2_come 88 = .ok (.istore 6, 2) := dk_54 6 (dk_at dksX2_come_3 18 rfl rfl)
theorem dX2_come_90 : decode cX2_come 90 = .ok (.aload_n 0, 1) := dk_42 (dk_at dksX2_come_3 20 rfl rfl)
theorem dX2_come_91 : decode cX2_come 91 = .ok (.getfield 12, 3) := dk_180 0 12 (dk_at dksX2_come_3 21 rfl rfl)
theorem dX2_come_94 : decode cX2_come 94 = .ok (.invokevirtual 96, 3) := dk_182 0 96 (dk_at dksX2_come_4 0 rfl rfl)
theorem dX2_come_97 : decode cX2_come 97 = .ok (.iconst 1, 1) := dk_4 (dk_at dksX2_come_4 3 rfl rfl)
theorem dX2_come_98 : decode cX2_come 98 = .ok (.isub, 1) := dk_100 (dk_at dksX2_come_4 4 rfl rfl)
theorem dX2_come_99 : decode cX2_come 99 = .ok (.ireturn, 1) := dk_172 (dk_at dksX2_come_4 5 rfl rfl)
abbrev cX2_hide : ByteArray := prog_6_method_11_code
def yX2_hide : MethodName := ⟨RX2, "hide", "(IIIII)I"⟩
def dkwX2_hide_2 : List UInt8 := [187, 0, 65, 89, 27, 28, 29, 21, 4, 21, 5, 183, 0, 173, 182, 0, 176, 25, 6, 182, 0, 172, 172]
abbrev dktX2_hide_2 : List UInt8 := dkwX2_hide_2 ++ []
def dkwX2_hide_1 : List UInt8 := [58, 6, 25, 6, 182, 0, 172, 7, 162, 0, 7, 4, 167, 0, 4, 3, 4, 7, 184, 0, 160, 25, 6]
abbrev dktX2_hide_1 : List UInt8 := dkwX2_hide_1 ++ dktX2_hide_2
def dkwX2_hide_0 : List UInt8 := [27, 184, 0, 168, 28, 29, 21, 4, 21, 5, 184, 0, 154, 42, 180, 0, 21, 27, 182, 0, 71, 192, 0, 38]
abbrev dktX2_hide_0 : List UInt8 := dkwX2_hide_0 ++ dktX2_hide_1
theorem dksX2_hide_0 : cX2_hide.data.toList.drop 0 = dktX2_hide_0 := by decide +kernel
theorem dksX2_hide_1 : cX2_hide.data.toList.drop 24 = dktX2_hide_1 := dk_seg dksX2_hide_0 24 rfl rfl
theorem dksX2_hide_2 : cX2_hide.data.toList.drop 47 = dktX2_hide_2 := dk_seg dksX2_hide_1 23 rfl rfl
theorem dX2_hide_0 : decode cX2_hide 0 = .ok (.iload_n 1, 1) := dk_27 (dk_at dksX2_hide_0 0 rfl rfl)
theorem dX2_hide_1 : decode cX2_hide 1 = .ok (.invokestatic 168, 3) := dk_184 0 168 (dk_at dksX2_hide_0 1 rfl rfl)
theorem dX2_hide_4 : decode cX2_hide 4 = .ok (.iload_n 2, 1) := dk_28 (dk_at dksX2_hide_0 4 rfl rfl)
theorem dX2_hide_5 : decode cX2_hide 5 = .ok (.iload_n 3, 1) := dk_29 (dk_at dksX2_hide_0 5 rfl rfl)
theorem dX2_hide_6 : decode cX2_hide 6 = .ok (.iload 4, 2) := dk_21 4 (dk_at dksX2_hide_0 6 rfl rfl)
theorem dX2_hide_8 : decode cX2_hide 8 = .ok (.iload 5, 2) := dk_21 5 (dk_at dksX2_hide_0 8 rfl rfl)
theorem dX2_hide_10 : decode cX2_hide 10 = .ok (.invokestatic 154, 3) := dk_184 0 154 (dk_at dksX2_hide_0 10 rfl rfl)
theorem dX2_hide_13 : decode cX2_hide 13 = .ok (.aload_n 0, 1) := dk_42 (dk_at dksX2_hide_0 13 rfl rfl)
theorem dX2_hide_14 : decode cX2_hide 14 = .ok (.getfield 21, 3) := dk_180 0 21 (dk_at dksX2_hide_0 14 rfl rfl)
theorem dX2_hide_17 : decode cX2_hide 17 = .ok (.iload_n 1, 1) := dk_27 (dk_at dksX2_hide_0 17 rfl rfl)
theorem dX2_hide_18 : decode cX2_hide 18 = .ok (.invokevirtual 71, 3) := dk_182 0 71 (dk_at dksX2_hide_0 18 rfl rfl)
theorem dX2_hide_21 : decode cX2_hide 21 = .ok (.checkcast 38, 3) := dk_192 0 38 (dk_at dksX2_hide_0 21 rfl rfl)
theorem dX2_hide_24 : decode cX2_hide 24 = .ok (.astore 6, 2) := dk_58 6 (dk_at dksX2_hide_1 0 rfl rfl)
theorem dX2_hide_26 : decode cX2_hide 26 = .ok (.aload 6, 2) := dk_25 6 (dk_at dksX2_hide_1 2 rfl rfl)
theorem dX2_hide_28 : decode cX2_hide 28 = .ok (.invokevirtual 172, 3) := dk_182 0 172 (dk_at dksX2_hide_1 4 rfl rfl)
theorem dX2_hide_31 : decode cX2_hide 31 = .ok (.iconst 4, 1) := dk_7 (dk_at dksX2_hide_1 7 rfl rfl)
theorem dX2_hide_32 : decode cX2_hide 32 = .ok (.if_icmp .ge 7, 3) := dk_162 0 7 (dk_at dksX2_hide_1 8 rfl rfl)
theorem dX2_hide_35 : decode cX2_hide 35 = .ok (.iconst 1, 1) := dk_4 (dk_at dksX2_hide_1 11 rfl rfl)
theorem dX2_hide_36 : decode cX2_hide 36 = .ok (.goto 4, 3) := dk_167 0 4 (dk_at dksX2_hide_1 12 rfl rfl)
theorem dX2_hide_39 : decode cX2_hide 39 = .ok (.iconst 0, 1) := dk_3 (dk_at dksX2_hide_1 15 rfl rfl)
theorem dX2_hide_40 : decode cX2_hide 40 = .ok (.iconst 1, 1) := dk_4 (dk_at dksX2_hide_1 16 rfl rfl)
theorem dX2_hide_41 : decode cX2_hide 41 = .ok (.iconst 4, 1) := dk_7 (dk_at dksX2_hide_1 17 rfl rfl)
theorem dX2_hide_42 : decode cX2_hide 42 = .ok (.invokestatic 160, 3) := dk_184 0 160 (dk_at dksX2_hide_1 18 rfl rfl)
theorem dX2_hide_45 : decode cX2_hide 45 = .ok (.aload 6, 2) := dk_25 6 (dk_at dksX2_hide_1 21 rfl rfl)
theorem dX2_hide_47 : decode cX2_hide 47 = .ok (.new 65, 3) := dk_187 0 65 (dk_at dksX2_hide_2 0 rfl rfl)
theorem dX2_hide_50 : decode cX2_hide 50 = .ok (.dup, 1) := dk_89 (dk_at dksX2_hide_2 3 rfl rfl)
theorem dX2_hide_51 : decode cX2_hide 51 = .ok (.iload_n 1, 1) := dk_27 (dk_at dksX2_hide_2 4 rfl rfl)
theorem dX2_hide_52 : decode cX2_hide 52 = .ok (.iload_n 2, 1) := dk_28 (dk_at dksX2_hide_2 5 rfl rfl)
theorem dX2_hide_53 : decode cX2_hide 53 = .ok (.iload_n 3, 1) := dk_29 (dk_at dksX2_hide_2 6 rfl rfl)
theorem dX2_hide_54 : decode cX2_hide 54 = .ok (.iload 4, 2) := dk_21 4 (dk_at dksX2_hide_2 7 rfl rfl)
theorem dX2_hide_56 : decode cX2_hide 56 = .ok (.iload 5, 2) := dk_21 5 (dk_at dksX2_hide_2 9 rfl rfl)
theorem dX2_hide_58 : decode cX2_hide 58 = .ok (.invokespecial 173, 3) := dk_183 0 173 (dk_at dksX2_hide_2 11 rfl rfl)
theorem dX2_hide_61 : decode cX2_hide 61 = .ok (.invokevirtual 176, 3) := dk_182 0 176 (dk_at dksX2_hide_2 14 rfl rfl)
theorem dX2_hide_64 : decode cX2_hide 64 = .ok (.aload 6, 2) := dk_25 6 (dk_at dksX2_hide_2 17 rfl rfl)
theorem dX2_hide_66 : decode cX2_hide 66 = .ok (.invokevirtual 172, 3) := dk_182 0 172 (dk_at dksX2_hide_2 19 rfl rfl)
theorem dX2_hide_69 : decode cX2_hide 69 = .ok (.ireturn, 1) := dk_172 (dk_at dksX2_hide_2 22 rfl rfl)
abbrev cX2_find : ByteArray := prog_6_method_12_code
def yX2_find : MethodName := ⟨RX2, "find", "(I)I"⟩
def dkwX2_find_4 : List UInt8 := [182, 0, 96, 4, 100, 172]
abbrev dktX2_find_4 : List UInt8 := dkwX2_find_4 ++ []
def dkwX2_find_3 : List UInt8 := [192, 0, 65, 182, 0, 67, 182, 0, 41, 62, 42, 180, 0, 30, 27, 92, 46, 4, 96, 79, 42, 180, 0, 18]
abbrev dktX2_find_3 : List UInt8 := dkwX2_find_3 ++ dktX2_find_4
def dkwX2_find_2 : List UInt8 := [162, 0, 7, 4, 167, 0, 4, 3, 4, 16, 12, 184, 0, 160, 42, 180, 0, 18, 44, 182, 0, 183]
abbrev dktX2_find_2 : List UInt8 := dkwX2_find_2 ++ dktX2_find_3
def dkwX2_find_1 : List UInt8 := [167, 0, 4, 3, 5, 42, 180, 0, 18, 182, 0, 96, 184, 0, 160, 42, 180, 0, 18, 182, 0, 96, 16, 12]
abbrev dktX2_find_1 : List UInt8 := dkwX2_find_1 ++ dktX2_find_2
def dkwX2_find_0 : List UInt8 := [27, 184, 0, 168, 42, 180, 0, 21, 27, 182, 0, 71, 192, 0, 38, 77, 44, 182, 0, 180, 154, 0, 7, 4]
abbrev dktX2_find_0 : List UInt8 := dkwX2_find_0 ++ dktX2_find_1
theorem dksX2_find_0 : cX2_find.data.toList.drop 0 = dktX2_find_0 := by decide +kernel
theorem dksX2_find_1 : cX2_find.data.toList.drop 24 = dktX2_find_1 := dk_seg dksX2_find_0 24 rfl rfl
theorem dksX2_find_2 : cX2_find.data.toList.drop 48 = dktX2_find_2 := dk_seg dksX2_find_1 24 rfl rfl
theorem dksX2_find_3 : cX2_find.data.toList.drop 70 = dktX2_find_3 := dk_seg dksX2_find_2 22 rfl rfl
theorem dksX2_find_4 : cX2_find.data.toList.drop 94 = dktX2_find_4 := dk_seg dksX2_find_3 24 rfl rfl
theorem dX2_find_0 : decode cX2_find 0 = .ok (.iload_n 1, 1) := dk_27 (dk_at dksX2_find_0 0 rfl rfl)
theorem dX2_find_1 : decode cX2_find 1 = .ok (.invokestatic 168, 3) := dk_184 0 168 (dk_at dksX2_find_0 1 rfl rfl)
theorem dX2_find_4 : decode cX2_find 4 = .ok (.aload_n 0, 1) := dk_42 (dk_at dksX2_find_0 4 rfl rfl)
theorem dX2_find_5 : decode cX2_find 5 = .ok (.getfield 21, 3) := dk_180 0 21 (dk_at dksX2_find_0 5 rfl rfl)
theorem dX2_find_8 : decode cX2_find 8 = .ok (.iload_n 1, 1) := dk_27 (dk_at dksX2_find_0 8 rfl rfl)
theorem dX2_find_9 : decode cX2_find 9 = .ok (.invokevirtual 71, 3) := dk_182 0 71 (dk_at dksX2_find_0 9 rfl rfl)
theorem dX2_find_12 : decode cX2_find 12 = .ok (.checkcast 38, 3) := dk_192 0 38 (dk_at dksX2_find_0 12 rfl rfl)
theorem dX2_find_15 : decode cX2_find 15 = .ok (.astore_n 2, 1) := dk_77 (dk_at dksX2_find_0 15 rfl rfl)
theorem dX2_find_16 : decode cX2_find 16 = .ok (.aload_n 2, 1) := dk_44 (dk_at dksX2_find_0 16 rfl rfl)
theorem dX2_find_17 : decode cX2_find 17 = .ok (.invokevirtual 180, 3) := dk_182 0 180 (dk_at dksX2_find_0 17 rfl rfl)
theorem dX2_find_20 : decode cX2_find 20 = .ok (.ifCond .ne 7, 3) := dk_154 0 7 (dk_at dksX2_find_0 20 rfl rfl)
theorem dX2_find_23 : decode cX2_find 23 = .ok (.iconst 1, 1) := dk_4 (dk_at dksX2_find_0 23 rfl rfl)
theorem dX2_find_24 : decode cX2_find 24 = .ok (.goto 4, 3) := dk_167 0 4 (dk_at dksX2_find_1 0 rfl rfl)
theorem dX2_find_27 : decode cX2_find 27 = .ok (.iconst 0, 1) := dk_3 (dk_at dksX2_find_1 3 rfl rfl)
theorem dX2_find_28 : decode cX2_find 28 = .ok (.iconst 2, 1) := dk_5 (dk_at dksX2_find_1 4 rfl rfl)
theorem dX2_find_29 : decode cX2_find 29 = .ok (.aload_n 0, 1) := dk_42 (dk_at dksX2_find_1 5 rfl rfl)
theorem dX2_find_30 : decode cX2_find 30 = .ok (.getfield 18, 3) := dk_180 0 18 (dk_at dksX2_find_1 6 rfl rfl)
theorem dX2_find_33 : decode cX2_find 33 = .ok (.invokevirtual 96, 3) := dk_182 0 96 (dk_at dksX2_find_1 9 rfl rfl)
theorem dX2_find_36 : decode cX2_find 36 = .ok (.invokestatic 160, 3) := dk_184 0 160 (dk_at dksX2_find_1 12 rfl rfl)
theorem dX2_find_39 : decode cX2_find 39 = .ok (.aload_n 0, 1) := dk_42 (dk_at dksX2_find_1 15 rfl rfl)
theorem dX2_find_40 : decode cX2_find 40 = .ok (.getfield 18, 3) := dk_180 0 18 (dk_at dksX2_find_1 16 rfl rfl)
theorem dX2_find_43 : decode cX2_find 43 = .ok (.invokevirtual 96, 3) := dk_182 0 96 (dk_at dksX2_find_1 19 rfl rfl)
theorem dX2_find_46 : decode cX2_find 46 = .ok (.bipush 12, 2) := dk_16 12 (dk_at dksX2_find_1 22 rfl rfl)
theorem dX2_find_48 : decode cX2_find 48 = .ok (.if_icmp .ge 7, 3) := dk_162 0 7 (dk_at dksX2_find_2 0 rfl rfl)
theorem dX2_find_51 : decode cX2_find 51 = .ok (.iconst 1, 1) := dk_4 (dk_at dksX2_find_2 3 rfl rfl)
theorem dX2_find_52 : decode cX2_find 52 = .ok (.goto 4, 3) := dk_167 0 4 (dk_at dksX2_find_2 4 rfl rfl)
theorem dX2_find_55 : decode cX2_find 55 = .ok (.iconst 0, 1) := dk_3 (dk_at dksX2_find_2 7 rfl rfl)
theorem dX2_find_56 : decode cX2_find 56 = .ok (.iconst 1, 1) := dk_4 (dk_at dksX2_find_2 8 rfl rfl)
theorem dX2_find_57 : decode cX2_find 57 = .ok (.bipush 12, 2) := dk_16 12 (dk_at dksX2_find_2 9 rfl rfl)
theorem dX2_find_59 : decode cX2_find 59 = .ok (.invokestatic 160, 3) := dk_184 0 160 (dk_at dksX2_find_2 11 rfl rfl)
theorem dX2_find_62 : decode cX2_find 62 = .ok (.aload_n 0, 1) := dk_42 (dk_at dksX2_find_2 14 rfl rfl)
theorem dX2_find_63 : decode cX2_find 63 = .ok (.getfield 18, 3) := dk_180 0 18 (dk_at dksX2_find_2 15 rfl rfl)
theorem dX2_find_66 : decode cX2_find 66 = .ok (.aload_n 2, 1) := dk_44 (dk_at dksX2_find_2 18 rfl rfl)
theorem dX2_find_67 : decode cX2_find 67 = .ok (.invokevirtual 183, 3) := dk_182 0 183 (dk_at dksX2_find_2 19 rfl rfl)
theorem dX2_find_70 : decode cX2_find 70 = .ok (.checkcast 65, 3) := dk_192 0 65 (dk_at dksX2_find_3 0 rfl rfl)
theorem dX2_find_73 : decode cX2_find 73 = .ok (.invokevirtual 67, 3) := dk_182 0 67 (dk_at dksX2_find_3 3 rfl rfl)
theorem dX2_find_76 : decode cX2_find 76 = .ok (.invokevirtual 41, 3) := dk_182 0 41 (dk_at dksX2_find_3 6 rfl rfl)
theorem dX2_find_79 : decode cX2_find 79 = .ok (.istore_n 3, 1) := dk_62 (dk_at dksX2_find_3 9 rfl rfl)
theorem dX2_find_80 : decode cX2_find 80 = .ok (.aload_n 0, 1) := dk_42 (dk_at dksX2_find_3 10 rfl rfl)
theorem dX2_find_81 : decode cX2_find 81 = .ok (.getfield 30, 3) := dk_180 0 30 (dk_at dksX2_find_3 11 rfl rfl)
theorem dX2_find_84 : decode cX2_find 84 = .ok (.iload_n 1, 1) := dk_27 (dk_at dksX2_find_3 14 rfl rfl)
theorem dX2_find_85 : decode cX2_find 85 = .ok (.dup2, 1) := dk_92 (dk_at dksX2_find_3 15 rfl rfl)
theorem dX2_find_86 : decode cX2_find 86 = .ok (.iaload, 1) := dk_46 (dk_at dksX2_find_3 16 rfl rfl)
theorem dX2_find_87 : decode cX2_find 87 = .ok (.iconst 1, 1) := dk_4 (dk_at dksX2_find_3 17 rfl rfl)
theorem dX2_find_88 : decode cX2_find 88 = .ok (.iadd, 1) := dk_96 (dk_at dksX2_find_3 18 rfl rfl)
theorem dX2_find_89 : decode cX2_find 89 = .ok (.iastore, 1) := dk_79 (dk_at dksX2_find_3 19 rfl rfl)
theorem dX2_find_90 : decode cX2_find 90 = .ok (.aload_n 0, 1) := dk_42 (dk_at dksX2_find_3 20 rfl rfl)
theorem dX2_find_91 : decode cX2_find 91 = .ok (.getfield 18, 3) := dk_180 0 18 (dk_at dksX2_find_3 21 rfl rfl)
theorem dX2_find_94 : decode cX2_find 94 = .ok (.invokevirtual 96, 3) := dk_182 0 96 (dk_at dksX2_find_4 0 rfl rfl)
theorem dX2_find_97 : decode cX2_find 97 = .ok (.iconst 1, 1) := dk_4 (dk_at dksX2_find_4 3 rfl rfl)
theorem dX2_find_98 : decode cX2_find 98 = .ok (.isub, 1) := dk_100 (dk_at dksX2_find_4 4 rfl rfl)
theorem dX2_find_99 : decode cX2_find 99 = .ok (.ireturn, 1) := dk_172 (dk_at dksX2_find_4 5 rfl rfl)
abbrev cX2_swear : ByteArray := prog_6_method_17_code
def yX2_swear : MethodName := ⟨RX2, "swear", "(IIZ)I"⟩
def dkwX2_swear_3 : List UInt8 := [180, 0, 113, 184, 0, 160, 25, 4, 180, 0, 110, 27, 21, 5, 79, 42, 25, 4, 182, 0, 122, 172]
abbrev dktX2_swear_3 : List UInt8 := dkwX2_swear_3 ++ []
def dkwX2_swear_2 : List UInt8 := [180, 0, 110, 27, 46, 21, 5, 159, 0, 7, 4, 167, 0, 4, 3, 6, 42, 180, 0, 26, 27, 50]
abbrev dktX2_swear_2 : List UInt8 := dkwX2_swear_2 ++ dktX2_swear_3
def dkwX2_swear_1 : List UInt8 := [182, 0, 116, 154, 0, 7, 4, 167, 0, 4, 3, 7, 25, 4, 180, 0, 119, 184, 0, 160, 25, 4]
abbrev dktX2_swear_1 : List UInt8 := dkwX2_swear_1 ++ dktX2_swear_2
def dkwX2_swear_0 : List UInt8 := [27, 184, 0, 247, 42, 28, 182, 0, 225, 58, 4, 29, 153, 0, 7, 4, 167, 0, 4, 3, 54, 5, 25, 4]
abbrev dktX2_swear_0 : List UInt8 := dkwX2_swear_0 ++ dktX2_swear_1
theorem dksX2_swear_0 : cX2_swear.data.toList.drop 0 = dktX2_swear_0 := by decide +kernel
theorem dksX2_swear_1 : cX2_swear.data.toList.drop 24 = dktX2_swear_1 := dk_seg dksX2_swear_0 24 rfl rfl
theorem dksX2_swear_2 : cX2_swear.data.toList.drop 46 = dktX2_swear_2 := dk_seg dksX2_swear_1 22 rfl rfl
theorem dksX2_swear_3 : cX2_swear.data.toList.drop 68 = dktX2_swear_3 := dk_seg dksX2_swear_2 22 rfl rfl
theorem dX2_swear_0 : decode cX2_swear 0 = .ok (.iload_n 1, 1) := dk_27 (dk_at dksX2_swear_0 0 rfl rfl)
theorem dX2_swear_1 : decode cX2_swear 1 = .ok (.invokestatic 247, 3) := dk_184 0 247 (dk_at dksX2_swear_0 1 rfl rfl)
theorem dX2_swear_4 : decode cX2_swear 4 = .ok (.aload_n 0, 1) := dk_42 (dk_at dksX2_swear_0 4 rfl rfl)
theorem dX2_swear_5 : decode cX2_swear 5 = .ok (.iload_n 2, 1) := dk_28 (dk_at dksX2_swear_0 5 rfl rfl)
theorem dX2_swear_6 : decode cX2_swear 6 = .ok (.invokevirtual 225, 3) := dk_182 0 225 (dk_at dksX2_swear_0 6 rfl rfl)
theorem dX2_swear_9 : decode cX2_swear 9 = .ok (.astore 4, 2) := dk_58 4 (dk_at dksX2_swear_0 9 rfl rfl)
theorem dX2_swear_11 : decode cX2_swear 11 = .ok (.iload_n 3, 1) := dk_29 (dk_at dksX2_swear_0 11 rfl rfl)
theorem dX2_swear_12 : decode cX2_swear 12 = .ok (.ifCond .eq 7, 3) := dk_153 0 7 (dk_at dksX2_swear_0 12 rfl rfl)
theorem dX2_swear_15 : decode cX2_swear 15 = .ok (.iconst 1, 1) := dk_4 (dk_at dksX2_swear_0 15 rfl rfl)
theorem dX2_swear_16 : decode cX2_swear 16 = .ok (.goto 4, 3) := dk_167 0 4 (dk_at dksX2_swear_0 16 rfl rfl)
theorem dX2_swear_19 : decode cX2_swear 19 = .ok (.iconst 0, 1) := dk_3 (dk_at dksX2_swear_0 19 rfl rfl)
theorem dX2_swear_20 : decode cX2_swear 20 = .ok (.istore 5, 2) := dk_54 5 (dk_at dksX2_swear_0 20 rfl rfl)
theorem dX2_swear_22 : decode cX2_swear 22 = .ok (.aload 4, 2) := dk_25 4 (dk_at dksX2_swear_0 22 rfl rfl)
theorem dX2_swear_24 : decode cX2_swear 24 = .ok (.invokevirtual 116, 3) := dk_182 0 116 (dk_at dksX2_swear_1 0 rfl rfl)
theorem dX2_swear_27 : decode cX2_swear 27 = .ok (.ifCond .ne 7, 3) := dk_154 0 7 (dk_at dksX2_swear_1 3 rfl rfl)
theorem dX2_swear_30 : decode cX2_swear 30 = .ok (.iconst 1, 1) := dk_4 (dk_at dksX2_swear_1 6 rfl rfl)
theorem dX2_swear_31 : decode cX2_swear 31 = .ok (.goto 4, 3) := dk_167 0 4 (dk_at dksX2_swear_1 7 rfl rfl)
theorem dX2_swear_34 : decode cX2_swear 34 = .ok (.iconst 0, 1) := dk_3 (dk_at dksX2_swear_1 10 rfl rfl)
theorem dX2_swear_35 : decode cX2_swear 35 = .ok (.iconst 4, 1) := dk_7 (dk_at dksX2_swear_1 11 rfl rfl)
theorem dX2_swear_36 : decode cX2_swear 36 = .ok (.aload 4, 2) := dk_25 4 (dk_at dksX2_swear_1 12 rfl rfl)
theorem dX2_swear_38 : decode cX2_swear 38 = .ok (.getfield 119, 3) := dk_180 0 119 (dk_at dksX2_swear_1 14 rfl rfl)
theorem dX2_swear_41 : decode cX2_swear 41 = .ok (.invokestatic 160, 3) := dk_184 0 160 (dk_at dksX2_swear_1 17 rfl rfl)
theorem dX2_swear_44 : decode cX2_swear 44 = .ok (.aload 4, 2) := dk_25 4 (dk_at dksX2_swear_1 20 rfl rfl)
theorem dX2_swear_46 : decode cX2_swear 46 = .ok (.getfield 110, 3) := dk_180 0 110 (dk_at dksX2_swear_2 0 rfl rfl)
theorem dX2_swear_49 : decode cX2_swear 49 = .ok (.iload_n 1, 1) := dk_27 (dk_at dksX2_swear_2 3 rfl rfl)
theorem dX2_swear_50 : decode cX2_swear 50 = .ok (.iaload, 1) := dk_46 (dk_at dksX2_swear_2 4 rfl rfl)
theorem dX2_swear_51 : decode cX2_swear 51 = .ok (.iload 5, 2) := dk_21 5 (dk_at dksX2_swear_2 5 rfl rfl)
theorem dX2_swear_53 : decode cX2_swear 53 = .ok (.if_icmp .eq 7, 3) := dk_159 0 7 (dk_at dksX2_swear_2 7 rfl rfl)
theorem dX2_swear_56 : decode cX2_swear 56 = .ok (.iconst 1, 1) := dk_4 (dk_at dksX2_swear_2 10 rfl rfl)
theorem dX2_swear_57 : decode cX2_swear 57 = .ok (.goto 4, 3) := dk_167 0 4 (dk_at dksX2_swear_2 11 rfl rfl)
theorem dX2_swear_60 : decode cX2_swear 60 = .ok (.iconst 0, 1) := dk_3 (dk_at dksX2_swear_2 14 rfl rfl)
theorem dX2_swear_61 : decode cX2_swear 61 = .ok (.iconst 3, 1) := dk_6 (dk_at dksX2_swear_2 15 rfl rfl)
theorem dX2_swear_62 : decode cX2_swear 62 = .ok (.aload_n 0, 1) := dk_42 (dk_at dksX2_swear_2 16 rfl rfl)
theorem dX2_swear_63 : decode cX2_swear 63 = .ok (.getfield 26, 3) := dk_180 0 26 (dk_at dksX2_swear_2 17 rfl rfl)
theorem dX2_swear_66 : decode cX2_swear 66 = .ok (.iload_n 1, 1) := dk_27 (dk_at dksX2_swear_2 20 rfl rfl)
theorem dX2_swear_67 : decode cX2_swear 67 = .ok (.aaload, 1) := dk_50 (dk_at dksX2_swear_2 21 rfl rfl)
theorem dX2_swear_68 : decode cX2_swear 68 = .ok (.getfield 113, 3) := dk_180 0 113 (dk_at dksX2_swear_3 0 rfl rfl)
theorem dX2_swear_71 : decode cX2_swear 71 = .ok (.invokestatic 160, 3) := dk_184 0 160 (dk_at dksX2_swear_3 3 rfl rfl)
theorem dX2_swear_74 : decode cX2_swear 74 = .ok (.aload 4, 2) := dk_25 4 (dk_at dksX2_swear_3 6 rfl rfl)
theorem dX2_swear_76 : decode cX2_swear 76 = .ok (.getfield 110, 3) := dk_180 0 110 (dk_at dksX2_swear_3 8 rfl rfl)
theorem dX2_swear_79 : decode cX2_swear 79 = .ok (.iload_n 1, 1) := dk_27 (dk_at dksX2_swear_3 11 rfl rfl)
theorem dX2_swear_80 : decode cX2_swear 80 = .ok (.iload 5, 2) := dk_21 5 (dk_at dksX2_swear_3 12 rfl rfl)
theorem dX2_swear_82 : decode cX2_swear 82 = .ok (.iastore, 1) := dk_79 (dk_at dksX2_swear_3 14 rfl rfl)
theorem dX2_swear_83 : decode cX2_swear 83 = .ok (.aload_n 0, 1) := dk_42 (dk_at dksX2_swear_3 15 rfl rfl)
theorem dX2_swear_84 : decode cX2_swear 84 = .ok (.aload 4, 2) := dk_25 4 (dk_at dksX2_swear_3 16 rfl rfl)
theorem dX2_swear_86 : decode cX2_swear 86 = .ok (.invokevirtual 122, 3) := dk_182 0 122 (dk_at dksX2_swear_3 18 rfl rfl)
theorem dX2_swear_89 : decode cX2_swear 89 = .ok (.ireturn, 1) := dk_172 (dk_at dksX2_swear_3 21 rfl rfl)
abbrev cX2_prove : ByteArray := prog_6_method_18_code
def yX2_prove : MethodName := ⟨RX2, "prove", "(IZ)I"⟩
def dkwX2_prove_4 : List UInt8 := [167, 255, 207, 45, 45, 180, 0, 119, 182, 0, 253, 172]
abbrev dktX2_prove_4 : List UInt8 := dkwX2_prove_4 ++ []
def dkwX2_prove_3 : List UInt8 := [180, 0, 110, 21, 4, 46, 45, 180, 0, 119, 160, 0, 7, 4, 167, 0, 4, 3, 182, 0, 250, 132, 4, 1]
abbrev dktX2_prove_3 : List UInt8 := dkwX2_prove_3 ++ dktX2_prove_4
def dkwX2_prove_2 : List UInt8 := [162, 0, 49, 45, 180, 0, 110, 21, 4, 46, 2, 159, 0, 32, 42, 180, 0, 26, 21, 4, 50, 45]
abbrev dktX2_prove_2 : List UInt8 := dkwX2_prove_2 ++ dktX2_prove_3
def dkwX2_prove_1 : List UInt8 := [184, 0, 160, 45, 28, 153, 0, 7, 4, 167, 0, 4, 3, 181, 0, 119, 3, 54, 4, 21, 4, 8]
abbrev dktX2_prove_1 : List UInt8 := dkwX2_prove_1 ++ dktX2_prove_2
def dkwX2_prove_0 : List UInt8 := [42, 27, 182, 0, 225, 78, 45, 182, 0, 116, 154, 0, 7, 4, 167, 0, 4, 3, 7, 45, 180, 0, 119]
abbrev dktX2_prove_0 : List UInt8 := dkwX2_prove_0 ++ dktX2_prove_1
theorem dksX2_prove_0 : cX2_prove.data.toList.drop 0 = dktX2_prove_0 := by decide +kernel
theorem dksX2_prove_1 : cX2_prove.data.toList.drop 23 = dktX2_prove_1 := dk_seg dksX2_prove_0 23 rfl rfl
theorem dksX2_prove_2 : cX2_prove.data.toList.drop 45 = dktX2_prove_2 := dk_seg dksX2_prove_1 22 rfl rfl
theorem dksX2_prove_3 : cX2_prove.data.toList.drop 67 = dktX2_prove_3 := dk_seg dksX2_prove_2 22 rfl rfl
theorem dksX2_prove_4 : cX2_prove.data.toList.drop 91 = dktX2_prove_4 := dk_seg dksX2_prove_3 24 rfl rfl
theorem dX2_prove_0 : decode cX2_prove 0 = .ok (.aload_n 0, 1) := dk_42 (dk_at dksX2_prove_0 0 rfl rfl)
theorem dX2_prove_1 : decode cX2_prove 1 = .ok (.iload_n 1, 1) := dk_27 (dk_at dksX2_prove_0 1 rfl rfl)
theorem dX2_prove_2 : decode cX2_prove 2 = .ok (.invokevirtual 225, 3) := dk_182 0 225 (dk_at dksX2_prove_0 2 rfl rfl)
theorem dX2_prove_5 : decode cX2_prove 5 = .ok (.astore_n 3, 1) := dk_78 (dk_at dksX2_prove_0 5 rfl rfl)
theorem dX2_prove_6 : decode cX2_prove 6 = .ok (.aload_n 3, 1) := dk_45 (dk_at dksX2_prove_0 6 rfl rfl)
theorem dX2_prove_7 : decode cX2_prove 7 = .ok (.invokevirtual 116, 3) := dk_182 0 116 (dk_at dksX2_prove_0 7 rfl rfl)
theorem dX2_prove_10 : decode cX2_prove 10 = .ok (.ifCond .ne 7, 3) := dk_154 0 7 (dk_at dksX2_prove_0 10 rfl rfl)
theorem dX2_prove_13 : decode cX2_prove 13 = .ok (.iconst 1, 1) := dk_4 (dk_at dksX2_prove_0 13 rfl rfl)
theorem dX2_prove_14 : decode cX2_prove 14 = .ok (.goto 4, 3) := dk_167 0 4 (dk_at dksX2_prove_0 14 rfl rfl)
theorem dX2_prove_17 : decode cX2_prove 17 = .ok (.iconst 0, 1) := dk_3 (dk_at dksX2_prove_0 17 rfl rfl)
theorem dX2_prove_18 : decode cX2_prove 18 = .ok (.iconst 4, 1) := dk_7 (dk_at dksX2_prove_0 18 rfl rfl)
theorem dX2_prove_19 : decode cX2_prove 19 = .ok (.aload_n 3, 1) := dk_45 (dk_at dksX2_prove_0 19 rfl rfl)
theorem dX2_prove_20 : decode cX2_prove 20 = .ok (.getfield 119, 3) := dk_180 0 119 (dk_at dksX2_prove_0 20 rfl rfl)
theorem dX2_prove_23 : decode cX2_prove 23 = .ok (.invokestatic 160, 3) := dk_184 0 160 (dk_at dksX2_prove_1 0 rfl rfl)
theorem dX2_prove_26 : decode cX2_prove 26 = .ok (.aload_n 3, 1) := dk_45 (dk_at dksX2_prove_1 3 rfl rfl)
theorem dX2_prove_27 : decode cX2_prove 27 = .ok (.iload_n 2, 1) := dk_28 (dk_at dksX2_prove_1 4 rfl rfl)
theorem dX2_prove_28 : decode cX2_prove 28 = .ok (.ifCond .eq 7, 3) := dk_153 0 7 (dk_at dksX2_prove_1 5 rfl rfl)
theorem dX2_prove_31 : decode cX2_prove 31 = .ok (.iconst 1, 1) := dk_4 (dk_at dksX2_prove_1 8 rfl rfl)
theorem dX2_prove_32 : decode cX2_prove 32 = .ok (.goto 4, 3) := dk_167 0 4 (dk_at dksX2_prove_1 9 rfl rfl)
theorem dX2_prove_35 : decode cX2_prove 35 = .ok (.iconst 0, 1) := dk_3 (dk_at dksX2_prove_1 12 rfl rfl)
theorem dX2_prove_36 : decode cX2_prove 36 = .ok (.putfield 119, 3) := dk_181 0 119 (dk_at dksX2_prove_1 13 rfl rfl)
theorem dX2_prove_39 : decode cX2_prove 39 = .ok (.iconst 0, 1) := dk_3 (dk_at dksX2_prove_1 16 rfl rfl)
theorem dX2_prove_40 : decode cX2_prove 40 = .ok (.istore 4, 2) := dk_54 4 (dk_at dksX2_prove_1 17 rfl rfl)
theorem dX2_prove_42 : decode cX2_prove 42 = .ok (.iload 4, 2) := dk_21 4 (dk_at dksX2_prove_1 19 rfl rfl)
theorem dX2_prove_44 : decode cX2_prove 44 = .ok (.iconst 5, 1) := dk_8 (dk_at dksX2_prove_1 21 rfl rfl)
theorem dX2_prove_45 : decode cX2_prove 45 = .ok (.if_icmp .ge 49, 3) := dk_162 0 49 (dk_at dksX2_prove_2 0 rfl rfl)
theorem dX2_prove_48 : decode cX2_prove 48 = .ok (.aload_n 3, 1) := dk_45 (dk_at dksX2_prove_2 3 rfl rfl)
theorem dX2_prove_49 : decode cX2_prove 49 = .ok (.getfield 110, 3) := dk_180 0 110 (dk_at dksX2_prove_2 4 rfl rfl)
theorem dX2_prove_52 : decode cX2_prove 52 = .ok (.iload 4, 2) := dk_21 4 (dk_at dksX2_prove_2 7 rfl rfl)
theorem dX2_prove_54 : decode cX2_prove 54 = .ok (.iaload, 1) := dk_46 (dk_at dksX2_prove_2 9 rfl rfl)
theorem dX2_prove_55 : decode cX2_prove 55 = .ok (.iconst (-1), 1) := dk_2 (dk_at dksX2_prove_2 10 rfl rfl)
theorem dX2_prove_56 : decode cX2_prove 56 = .ok (.if_icmp .eq 32, 3) := dk_159 0 32 (dk_at dksX2_prove_2 11 rfl rfl)
theorem dX2_prove_59 : decode cX2_prove 59 = .ok (.aload_n 0, 1) := dk_42 (dk_at dksX2_prove_2 14 rfl rfl)
theorem dX2_prove_60 : decode cX2_prove 60 = .ok (.getfield 26, 3) := dk_180 0 26 (dk_at dksX2_prove_2 15 rfl rfl)
theorem dX2_prove_63 : decode cX2_prove 63 = .ok (.iload 4, 2) := dk_21 4 (dk_at dksX2_prove_2 18 rfl rfl)
theorem dX2_prove_65 : decode cX2_prove 65 = .ok (.aaload, 1) := dk_50 (dk_at dksX2_prove_2 20 rfl rfl)
theorem dX2_prove_66 : decode cX2_prove 66 = .ok (.aload_n 3, 1) := dk_45 (dk_at dksX2_prove_2 21 rfl rfl)
theorem dX2_prove_67 : decode cX2_prove 67 = .ok (.getfield 110, 3) := dk_180 0 110 (dk_at dksX2_prove_3 0 rfl rfl)
theorem dX2_prove_70 : decode cX2_prove 70 = .ok (.iload 4, 2) := dk_21 4 (dk_at dksX2_prove_3 3 rfl rfl)
theorem dX2_prove_72 : decode cX2_prove 72 = .ok (.iaload, 1) := dk_46 (dk_at dksX2_prove_3 5 rfl rfl)
theorem dX2_prove_73 : decode cX2_prove 73 = .ok (.aload_n 3, 1) := dk_45 (dk_at dksX2_prove_3 6 rfl rfl)
theorem dX2_prove_74 : decode cX2_prove 74 = .ok (.getfield 119, 3) := dk_180 0 119 (dk_at dksX2_prove_3 7 rfl rfl)
theorem dX2_prove_77 : decode cX2_prove 77 = .ok (.if_icmp .ne 7, 3) := dk_160 0 7 (dk_at dksX2_prove_3 10 rfl rfl)
theorem dX2_prove_80 : decode cX2_prove 80 = .ok (.iconst 1, 1) := dk_4 (dk_at dksX2_prove_3 13 rfl rfl)
theorem dX2_prove_81 : decode cX2_prove 81 = .ok (.goto 4, 3) := dk_167 0 4 (dk_at dksX2_prove_3 14 rfl rfl)
theorem dX2_prove_84 : decode cX2_prove 84 = .ok (.iconst 0, 1) := dk_3 (dk_at dksX2_prove_3 17 rfl rfl)
theorem dX2_prove_85 : decode cX2_prove 85 = .ok (.invokevirtual 250, 3) := dk_182 0 250 (dk_at dksX2_prove_3 18 rfl rfl)
theorem dX2_prove_88 : decode cX2_prove 88 = .ok (.iinc 4 1, 3) := dk_132 4 1 (dk_at dksX2_prove_3 21 rfl rfl)
theorem dX2_prove_91 : decode cX2_prove 91 = .ok (.goto (-49), 3) := dk_167 255 207 (dk_at dksX2_prove_4 0 rfl rfl)
theorem dX2_prove_94 : decode cX2_prove 94 = .ok (.aload_n 3, 1) := dk_45 (dk_at dksX2_prove_4 3 rfl rfl)
theorem dX2_prove_95 : decode cX2_prove 95 = .ok (.aload_n 3, 1) := dk_45 (dk_at dksX2_prove_4 4 rfl rfl)
theorem dX2_prove_96 : decode cX2_prove 96 = .ok (.getfield 119, 3) := dk_180 0 119 (dk_at dksX2_prove_4 5 rfl rfl)
theorem dX2_prove_99 : decode cX2_prove 99 = .ok (.invokevirtual 253, 3) := dk_182 0 253 (dk_at dksX2_prove_4 8 rfl rfl)
theorem dX2_prove_102 : decode cX2_prove 102 = .ok (.ireturn, 1) := dk_172 (dk_at dksX2_prove_4 11 rfl rfl)
abbrev cX2_mend : ByteArray := prog_6_method_24_code
def yX2_mend : MethodName := ⟨RX2, "mend", "(I)I"⟩
def dkwX2_mend_10 : List UInt8 := [182, 0, 96, 172]
abbrev dktX2_mend_10 : List UInt8 := dkwX2_mend_10 ++ []
def dkwX2_mend_9 : List UInt8 := [182, 1, 46, 54, 6, 42, 180, 0, 12, 27, 44, 182, 1, 49, 182, 1, 53, 192, 0, 108, 58, 7, 25, 5]
abbrev dktX2_mend_9 : List UInt8 := dkwX2_mend_9 ++ dktX2_mend_10
def dkwX2_mend_8 : List UInt8 := [21, 7, 182, 0, 71, 192, 0, 65, 182, 0, 41, 54, 8, 167, 255, 212, 42, 180, 0, 18, 25, 5]
abbrev dktX2_mend_8 : List UInt8 := dkwX2_mend_8 ++ dktX2_mend_9
def dkwX2_mend_7 : List UInt8 := [153, 0, 40, 25, 6, 185, 0, 61, 1, 0, 192, 0, 139, 182, 0, 141, 54, 7, 25, 5, 42, 180, 0, 18]
abbrev dktX2_mend_7 : List UInt8 := dkwX2_mend_7 ++ dktX2_mend_8
def dkwX2_mend_6 : List UInt8 := [187, 0, 9, 89, 183, 0, 11, 58, 5, 45, 182, 0, 138, 58, 6, 25, 6, 185, 0, 55, 1, 0]
abbrev dktX2_mend_6 : List UInt8 := dkwX2_mend_6 ++ dktX2_mend_7
def dkwX2_mend_5 : List UInt8 := [180, 0, 87, 45, 182, 0, 172, 96, 181, 0, 87, 42, 89, 180, 0, 93, 44, 182, 1, 38, 96, 181, 0, 93]
abbrev dktX2_mend_5 : List UInt8 := dkwX2_mend_5 ++ dktX2_mend_6
def dkwX2_mend_4 : List UInt8 := [180, 0, 81, 21, 4, 100, 181, 0, 81, 42, 89, 180, 0, 90, 21, 4, 96, 181, 0, 90, 42, 89]
abbrev dktX2_mend_4 : List UInt8 := dkwX2_mend_4 ++ dktX2_mend_5
def dkwX2_mend_3 : List UInt8 := [21, 4, 161, 0, 7, 4, 167, 0, 4, 3, 16, 9, 21, 4, 42, 180, 0, 81, 100, 184, 0, 160, 42, 89]
abbrev dktX2_mend_3 : List UInt8 := dkwX2_mend_3 ++ dktX2_mend_4
def dkwX2_mend_2 : List UInt8 := [182, 1, 38, 42, 44, 182, 1, 39, 183, 1, 43, 191, 42, 45, 182, 0, 219, 54, 4, 42, 180, 0, 81]
abbrev dktX2_mend_2 : List UInt8 := dkwX2_mend_2 ++ dktX2_mend_3
def dkwX2_mend_1 : List UInt8 := [184, 0, 160, 42, 44, 182, 0, 211, 182, 0, 215, 78, 45, 199, 0, 22, 187, 0, 161, 89, 16, 6, 44]
abbrev dktX2_mend_1 : List UInt8 := dkwX2_mend_1 ++ dktX2_mend_2
def dkwX2_mend_0 : List UInt8 := [42, 27, 182, 0, 189, 77, 44, 180, 0, 207, 154, 0, 7, 4, 167, 0, 4, 3, 8, 44, 180, 0, 193]
abbrev dktX2_mend_0 : List UInt8 := dkwX2_mend_0 ++ dktX2_mend_1
theorem dksX2_mend_0 : cX2_mend.data.toList.drop 0 = dktX2_mend_0 := by decide +kernel
theorem dksX2_mend_1 : cX2_mend.data.toList.drop 23 = dktX2_mend_1 := dk_seg dksX2_mend_0 23 rfl rfl
theorem dksX2_mend_2 : cX2_mend.data.toList.drop 46 = dktX2_mend_2 := dk_seg dksX2_mend_1 23 rfl rfl
theorem dksX2_mend_3 : cX2_mend.data.toList.drop 69 = dktX2_mend_3 := dk_seg dksX2_mend_2 23 rfl rfl
theorem dksX2_mend_4 : cX2_mend.data.toList.drop 93 = dktX2_mend_4 := dk_seg dksX2_mend_3 24 rfl rfl
theorem dksX2_mend_5 : cX2_mend.data.toList.drop 115 = dktX2_mend_5 := dk_seg dksX2_mend_4 22 rfl rfl
theorem dksX2_mend_6 : cX2_mend.data.toList.drop 139 = dktX2_mend_6 := dk_seg dksX2_mend_5 24 rfl rfl
theorem dksX2_mend_7 : cX2_mend.data.toList.drop 161 = dktX2_mend_7 := dk_seg dksX2_mend_6 22 rfl rfl
theorem dksX2_mend_8 : cX2_mend.data.toList.drop 185 = dktX2_mend_8 := dk_seg dksX2_mend_7 24 rfl rfl
theorem dksX2_mend_9 : cX2_mend.data.toList.drop 207 = dktX2_mend_9 := dk_seg dksX2_mend_8 22 rfl rfl
theorem dksX2_mend_10 : cX2_mend.data.toList.drop 231 = dktX2_mend_10 := dk_seg dksX2_mend_9 24 rfl rfl
theorem dX2_mend_0 : decode cX2_mend 0 = .ok (.aload_n 0, 1) := dk_42 (dk_at dksX2_mend_0 0 rfl rfl)
theorem dX2_mend_1 : decode cX2_mend 1 = .ok (.iload_n 1, 1) := dk_27 (dk_at dksX2_mend_0 1 rfl rfl)
theorem dX2_mend_2 : decode cX2_mend 2 = .ok (.invokevirtual 189, 3) := dk_182 0 189 (dk_at dksX2_mend_0 2 rfl rfl)
theorem dX2_mend_5 : decode cX2_mend 5 = .ok (.astore_n 2, 1) := dk_77 (dk_at dksX2_mend_0 5 rfl rfl)
theorem dX2_mend_6 : decode cX2_mend 6 = .ok (.aload_n 2, 1) := dk_44 (dk_at dksX2_mend_0 6 rfl rfl)
theorem dX2_mend_7 : decode cX2_mend 7 = .ok (.getfield 207, 3) := dk_180 0 207 (dk_at dksX2_mend_0 7 rfl rfl)
theorem dX2_mend_10 : decode cX2_mend 10 = .ok (.ifCond .ne 7, 3) := dk_154 0 7 (dk_at dksX2_mend_0 10 rfl rfl)
theorem dX2_mend_13 : decode cX2_mend 13 = .ok (.iconst 1, 1) := dk_4 (dk_at dksX2_mend_0 13 rfl rfl)
theorem dX2_mend_14 : decode cX2_mend 14 = .ok (.goto 4, 3) := dk_167 0 4 (dk_at dksX2_mend_0 14 rfl rfl)
theorem dX2_mend_17 : decode cX2_mend 17 = .ok (.iconst 0, 1) := dk_3 (dk_at dksX2_mend_0 17 rfl rfl)
theorem dX2_mend_18 : decode cX2_mend 18 = .ok (.iconst 5, 1) := dk_8 (dk_at dksX2_mend_0 18 rfl rfl)
theorem dX2_mend_19 : decode cX2_mend 19 = .ok (.aload_n 2, 1) := dk_44 (dk_at dksX2_mend_0 19 rfl rfl)
theorem dX2_mend_20 : decode cX2_mend 20 = .ok (.getfield 193, 3) := dk_180 0 193 (dk_at dksX2_mend_0 20 rfl rfl)
theorem dX2_mend_23 : decode cX2_mend 23 = .ok (.invokestatic 160, 3) := dk_184 0 160 (dk_at dksX2_mend_1 0 rfl rfl)
theorem dX2_mend_26 : decode cX2_mend 26 = .ok (.aload_n 0, 1) := dk_42 (dk_at dksX2_mend_1 3 rfl rfl)
theorem dX2_mend_27 : decode cX2_mend 27 = .ok (.aload_n 2, 1) := dk_44 (dk_at dksX2_mend_1 4 rfl rfl)
theorem dX2_mend_28 : decode cX2_mend 28 = .ok (.invokevirtual 211, 3) := dk_182 0 211 (dk_at dksX2_mend_1 5 rfl rfl)
theorem dX2_mend_31 : decode cX2_mend 31 = .ok (.invokevirtual 215, 3) := dk_182 0 215 (dk_at dksX2_mend_1 8 rfl rfl)
theorem dX2_mend_34 : decode cX2_mend 34 = .ok (.astore_n 3, 1) := dk_78 (dk_at dksX2_mend_1 11 rfl rfl)
theorem dX2_mend_35 : decode cX2_mend 35 = .ok (.aload_n 3, 1) := dk_45 (dk_at dksX2_mend_1 12 rfl rfl)
theorem dX2_mend_36 : decode cX2_mend 36 = .ok (.ifnonnull 22, 3) := dk_199 0 22 (dk_at dksX2_mend_1 13 rfl rfl)
theorem dX2_mend_39 : decode cX2_mend 39 = .ok (.new 161, 3) := dk_187 0 161 (dk_at dksX2_mend_1 16 rfl rfl)
theorem dX2_mend_42 : decode cX2_mend 42 = .ok (.dup, 1) := dk_89 (dk_at dksX2_mend_1 19 rfl rfl)
theorem dX2_mend_43 : decode cX2_mend 43 = .ok (.bipush 6, 2) := dk_16 6 (dk_at dksX2_mend_1 20 rfl rfl)
theorem dX2_mend_45 : decode cX2_mend 45 = .ok (.aload_n 2, 1) := dk_44 (dk_at dksX2_mend_1 22 rfl rfl)
theorem dX2_mend_46 : decode cX2_mend 46 = .ok (.invokevirtual 294, 3) := dk_182 1 38 (dk_at dksX2_mend_2 0 rfl rfl)
theorem dX2_mend_49 : decode cX2_mend 49 = .ok (.aload_n 0, 1) := dk_42 (dk_at dksX2_mend_2 3 rfl rfl)
theorem dX2_mend_50 : decode cX2_mend 50 = .ok (.aload_n 2, 1) := dk_44 (dk_at dksX2_mend_2 4 rfl rfl)
theorem dX2_mend_51 : decode cX2_mend 51 = .ok (.invokevirtual 295, 3) := dk_182 1 39 (dk_at dksX2_mend_2 5 rfl rfl)
theorem dX2_mend_54 : decode cX2_mend 54 = .ok (.invokespecial 299, 3) := dk_183 1 43 (dk_at dksX2_mend_2 8 rfl rfl)
theorem dX2_mend_57 : decode cX2_mend 57 = .ok (.athrow, 1) := dk_191 (dk_at dksX2_mend_2 11 rfl rfl)
theorem dX2_mend_58 : decode cX2_mend 58 = .ok (.aload_n 0, 1) := dk_42 (dk_at dksX2_mend_2 12 rfl rfl)
theorem dX2_mend_59 : decode cX2_mend 59 = .ok (.aload_n 3, 1) := dk_45 (dk_at dksX2_mend_2 13 rfl rfl)
theorem dX2_mend_60 : decode cX2_mend 60 = .ok (.invokevirtual 219, 3) := dk_182 0 219 (dk_at dksX2_mend_2 14 rfl rfl)
theorem dX2_mend_63 : decode cX2_mend 63 = .ok (.istore 4, 2) := dk_54 4 (dk_at dksX2_mend_2 17 rfl rfl)
theorem dX2_mend_65 : decode cX2_mend 65 = .ok (.aload_n 0, 1) := dk_42 (dk_at dksX2_mend_2 19 rfl rfl)
theorem dX2_mend_66 : decode cX2_mend 66 = .ok (.getfield 81, 3) := dk_180 0 81 (dk_at dksX2_mend_2 20 rfl rfl)
theorem dX2_mend_69 : decode cX2_mend 69 = .ok (.iload 4, 2) := dk_21 4 (dk_at dksX2_mend_3 0 rfl rfl)
theorem dX2_mend_71 : decode cX2_mend 71 = .ok (.if_icmp .lt 7, 3) := dk_161 0 7 (dk_at dksX2_mend_3 2 rfl rfl)
theorem dX2_mend_74 : decode cX2_mend 74 = .ok (.iconst 1, 1) := dk_4 (dk_at dksX2_mend_3 5 rfl rfl)
theorem dX2_mend_75 : decode cX2_mend 75 = .ok (.goto 4, 3) := dk_167 0 4 (dk_at dksX2_mend_3 6 rfl rfl)
theorem dX2_mend_78 : decode cX2_mend 78 = .ok (.iconst 0, 1) := dk_3 (dk_at dksX2_mend_3 9 rfl rfl)
theorem dX2_mend_79 : decode cX2_mend 79 = .ok (.bipush 9, 2) := dk_16 9 (dk_at dksX2_mend_3 10 rfl rfl)
theorem dX2_mend_81 : decode cX2_mend 81 = .ok (.iload 4, 2) := dk_21 4 (dk_at dksX2_mend_3 12 rfl rfl)
theorem dX2_mend_83 : decode cX2_mend 83 = .ok (.aload_n 0, 1) := dk_42 (dk_at dksX2_mend_3 14 rfl rfl)
theorem dX2_mend_84 : decode cX2_mend 84 = .ok (.getfield 81, 3) := dk_180 0 81 (dk_at dksX2_mend_3 15 rfl rfl)
theorem dX2_mend_87 : decode cX2_mend 87 = .ok (.isub, 1) := dk_100 (dk_at dksX2_mend_3 18 rfl rfl)
theorem dX2_mend_88 : decode cX2_mend 88 = .ok (.invokestatic 160, 3) := dk_184 0 160 (dk_at dksX2_mend_3 19 rfl rfl)
theorem dX2_mend_91 : decode cX2_mend 91 = .ok (.aload_n 0, 1) := dk_42 (dk_at dksX2_mend_3 22 rfl rfl)
theorem dX2_mend_92 : decode cX2_mend 92 = .ok (.dup, 1) := dk_89 (dk_at dksX2_mend_3 23 rfl rfl)
theorem dX2_mend_93 : decode cX2_mend 93 = .ok (.getfield 81, 3) := dk_180 0 81 (dk_at dksX2_mend_4 0 rfl rfl)
theorem dX2_mend_96 : decode cX2_mend 96 = .ok (.iload 4, 2) := dk_21 4 (dk_at dksX2_mend_4 3 rfl rfl)
theorem dX2_mend_98 : decode cX2_mend 98 = .ok (.isub, 1) := dk_100 (dk_at dksX2_mend_4 5 rfl rfl)
theorem dX2_mend_99 : decode cX2_mend 99 = .ok (.putfield 81, 3) := dk_181 0 81 (dk_at dksX2_mend_4 6 rfl rfl)
theorem dX2_mend_102 : decode cX2_mend 102 = .ok (.aload_n 0, 1) := dk_42 (dk_at dksX2_mend_4 9 rfl rfl)
theorem dX2_mend_103 : decode cX2_mend 103 = .ok (.dup, 1) := dk_89 (dk_at dksX2_mend_4 10 rfl rfl)
theorem dX2_mend_104 : decode cX2_mend 104 = .ok (.getfield 90, 3) := dk_180 0 90 (dk_at dksX2_mend_4 11 rfl rfl)
theorem dX2_mend_107 : decode cX2_mend 107 = .ok (.iload 4, 2) := dk_21 4 (dk_at dksX2_mend_4 14 rfl rfl)
theorem dX2_mend_109 : decode cX2_mend 109 = .ok (.iadd, 1) := dk_96 (dk_at dksX2_mend_4 16 rfl rfl)
theorem dX2_mend_110 : decode cX2_mend 110 = .ok (.putfield 90, 3) := dk_181 0 90 (dk_at dksX2_mend_4 17 rfl rfl)
theorem dX2_mend_113 : decode cX2_mend 113 = .ok (.aload_n 0, 1) := dk_42 (dk_at dksX2_mend_4 20 rfl rfl)
theorem dX2_mend_114 : decode cX2_mend 114 = .ok (.dup, 1) := dk_89 (dk_at dksX2_mend_4 21 rfl rfl)
theorem dX2_mend_115 : decode cX2_mend 115 = .ok (.getfield 87, 3) := dk_180 0 87 (dk_at dksX2_mend_5 0 rfl rfl)
theorem dX2_mend_118 : decode cX2_mend 118 = .ok (.aload_n 3, 1) := dk_45 (dk_at dksX2_mend_5 3 rfl rfl)
theorem dX2_mend_119 : decode cX2_mend 119 = .ok (.invokevirtual 172, 3) := dk_182 0 172 (dk_at dksX2_mend_5 4 rfl rfl)
theorem dX2_mend_122 : decode cX2_mend 122 = .ok (.iadd, 1) := dk_96 (dk_at dksX2_mend_5 7 rfl rfl)
theorem dX2_mend_123 : decode cX2_mend 123 = .ok (.putfield 87, 3) := dk_181 0 87 (dk_at dksX2_mend_5 8 rfl rfl)
theorem dX2_mend_126 : decode cX2_mend 126 = .ok (.aload_n 0, 1) := dk_42 (dk_at dksX2_mend_5 11 rfl rfl)
theorem dX2_mend_127 : decode cX2_mend 127 = .ok (.dup, 1) := dk_89 (dk_at dksX2_mend_5 12 rfl rfl)
theorem dX2_mend_128 : decode cX2_mend 128 = .ok (.getfield 93, 3) := dk_180 0 93 (dk_at dksX2_mend_5 13 rfl rfl)
theorem dX2_mend_131 : decode cX2_mend 131 = .ok (.aload_n 2, 1) := dk_44 (dk_at dksX2_mend_5 16 rfl rfl)
theorem dX2_mend_132 : decode cX2_mend 132 = .ok (.invokevirtual 294, 3) := dk_182 1 38 (dk_at dksX2_mend_5 17 rfl rfl)
theorem dX2_mend_135 : decode cX2_mend 135 = .ok (.iadd, 1) := dk_96 (dk_at dksX2_mend_5 20 rfl rfl)
theorem dX2_mend_136 : decode cX2_mend 136 = .ok (.putfield 93, 3) := dk_181 0 93 (dk_at dksX2_mend_5 21 rfl rfl)
theorem dX2_mend_139 : decode cX2_mend 139 = .ok (.new 9, 3) := dk_187 0 9 (dk_at dksX2_mend_6 0 rfl rfl)
theorem dX2_mend_142 : decode cX2_mend 142 = .ok (.dup, 1) := dk_89 (dk_at dksX2_mend_6 3 rfl rfl)
theorem dX2_mend_143 : decode cX2_mend 143 = .ok (.invokespecial 11, 3) := dk_183 0 11 (dk_at dksX2_mend_6 4 rfl rfl)
theorem dX2_mend_146 : decode cX2_mend 146 = .ok (.astore 5, 2) := dk_58 5 (dk_at dksX2_mend_6 7 rfl rfl)
theorem dX2_mend_148 : decode cX2_mend 148 = .ok (.aload_n 3, 1) := dk_45 (dk_at dksX2_mend_6 9 rfl rfl)
theorem dX2_mend_149 : decode cX2_mend 149 = .ok (.invokevirtual 138, 3) := dk_182 0 138 (dk_at dksX2_mend_6 10 rfl rfl)
theorem dX2_mend_152 : decode cX2_mend 152 = .ok (.astore 6, 2) := dk_58 6 (dk_at dksX2_mend_6 13 rfl rfl)
theorem dX2_mend_154 : decode cX2_mend 154 = .ok (.aload 6, 2) := dk_25 6 (dk_at dksX2_mend_6 15 rfl rfl)
theorem dX2_mend_156 : decode cX2_mend 156 = .ok (.invokeinterface 55 1, 5) := by decide +kernel
theorem dX2_mend_161 : decode cX2_mend 161 = .ok (.ifCond .eq 40, 3) := dk_153 0 40 (dk_at dksX2_mend_7 0 rfl rfl)
theorem dX2_mend_164 : decode cX2_mend 164 = .ok (.aload 6, 2) := dk_25 6 (dk_at dksX2_mend_7 3 rfl rfl)
theorem dX2_mend_166 : decode cX2_mend 166 = .ok (.invokeinterface 61 1, 5) := by decide +kernel
theorem dX2_mend_171 : decode cX2_mend 171 = .ok (.checkcast 139, 3) := dk_192 0 139 (dk_at dksX2_mend_7 10 rfl rfl)
theorem dX2_mend_174 : decode cX2_mend 174 = .ok (.invokevirtual 141, 3) := dk_182 0 141 (dk_at dksX2_mend_7 13 rfl rfl)
theorem dX2_mend_177 : decode cX2_mend 177 = .ok (.istore 7, 2) := dk_54 7 (dk_at dksX2_mend_7 16 rfl rfl)
theorem dX2_mend_179 : decode cX2_mend 179 = .ok (.aload 5, 2) := dk_25 5 (dk_at dksX2_mend_7 18 rfl rfl)
theorem dX2_mend_181 : decode cX2_mend 181 = .ok (.aload_n 0, 1) := dk_42 (dk_at dksX2_mend_7 20 rfl rfl)
theorem dX2_mend_182 : decode cX2_mend 182 = .ok (.getfield 18, 3) := dk_180 0 18 (dk_at dksX2_mend_7 21 rfl rfl)
theorem dX2_mend_185 : decode cX2_mend 185 = .ok (.iload 7, 2) := dk_21 7 (dk_at dksX2_mend_8 0 rfl rfl)
theorem dX2_mend_187 : decode cX2_mend 187 = .ok (.invokevirtual 71, 3) := dk_182 0 71 (dk_at dksX2_mend_8 2 rfl rfl)
theorem dX2_mend_190 : decode cX2_mend 190 = .ok (.checkcast 65, 3) := dk_192 0 65 (dk_at dksX2_mend_8 5 rfl rfl)
theorem dX2_mend_193 : decode cX2_mend 193 = .ok (.invokevirtual 41, 3) := dk_182 0 41 (dk_at dksX2_mend_8 8 rfl rfl)
theorem dX2_mend_196 : decode cX2_mend 196 = .ok (.istore 8, 2) := dk_54 8 (dk_at dksX2_mend_8 11 rfl rfl)
theorem dX2_mend_198 : decode cX2_mend 198 = .ok (.goto (-44), 3) := dk_167 255 212 (dk_at dksX2_mend_8 13 rfl rfl)
theorem dX2_mend_201 : decode cX2_mend 201 = .ok (.aload_n 0, 1) := dk_42 (dk_at dksX2_mend_8 16 rfl rfl)
theorem dX2_mend_202 : decode cX2_mend 202 = .ok (.getfield 18, 3) := dk_180 0 18 (dk_at dksX2_mend_8 17 rfl rfl)
theorem dX2_mend_205 : decode cX2_mend 205 = .ok (.aload 5, 2) := dk_25 5 (dk_at dksX2_mend_8 20 rfl rfl)
theorem dX2_mend_207 : decode cX2_mend 207 = .ok (.invokevirtual 302, 3) := dk_182 1 46 (dk_at dksX2_mend_9 0 rfl rfl)
theorem dX2_mend_210 : decode cX2_mend 210 = .ok (.istore 6, 2) := dk_54 6 (dk_at dksX2_mend_9 3 rfl rfl)
theorem dX2_mend_212 : decode cX2_mend 212 = .ok (.aload_n 0, 1) := dk_42 (dk_at dksX2_mend_9 5 rfl rfl)
theorem dX2_mend_213 : decode cX2_mend 213 = .ok (.getfield 12, 3) := dk_180 0 12 (dk_at dksX2_mend_9 6 rfl rfl)
theorem dX2_mend_216 : decode cX2_mend 216 = .ok (.iload_n 1, 1) := dk_27 (dk_at dksX2_mend_9 9 rfl rfl)
theorem dX2_mend_217 : decode cX2_mend 217 = .ok (.aload_n 2, 1) := dk_44 (dk_at dksX2_mend_9 10 rfl rfl)
theorem dX2_mend_218 : decode cX2_mend 218 = .ok (.invokevirtual 305, 3) := dk_182 1 49 (dk_at dksX2_mend_9 11 rfl rfl)
theorem dX2_mend_221 : decode cX2_mend 221 = .ok (.invokevirtual 309, 3) := dk_182 1 53 (dk_at dksX2_mend_9 14 rfl rfl)
theorem dX2_mend_224 : decode cX2_mend 224 = .ok (.checkcast 108, 3) := dk_192 0 108 (dk_at dksX2_mend_9 17 rfl rfl)
theorem dX2_mend_227 : decode cX2_mend 227 = .ok (.astore 7, 2) := dk_58 7 (dk_at dksX2_mend_9 20 rfl rfl)
theorem dX2_mend_229 : decode cX2_mend 229 = .ok (.aload 5, 2) := dk_25 5 (dk_at dksX2_mend_9 22 rfl rfl)
theorem dX2_mend_231 : decode cX2_mend 231 = .ok (.invokevirtual 96, 3) := dk_182 0 96 (dk_at dksX2_mend_10 0 rfl rfl)
theorem dX2_mend_234 : decode cX2_mend 234 = .ok (.ireturn, 1) := dk_172 (dk_at dksX2_mend_10 3 rfl rfl)
abbrev cX2_causeOf : ByteArray := prog_6_method_23_code
def yX2_causeOf : MethodName := ⟨RX2, "causeOf", "(LMissingMiddles$Book;)LMissingMiddles$Refused;"⟩
def dkwX2_causeOf_2 : List UInt8 := [182, 0, 211, 182, 1, 35, 183, 1, 32, 176]
abbrev dktX2_causeOf_2 : List UInt8 := dkwX2_causeOf_2 ++ []
def dkwX2_causeOf_1 : List UInt8 := [158, 0, 16, 187, 0, 161, 89, 16, 7, 28, 183, 1, 32, 167, 0, 20, 187, 0, 161, 89, 16, 8, 42, 43]
abbrev dktX2_causeOf_1 : List UInt8 := dkwX2_causeOf_1 ++ dktX2_causeOf_2
def dkwX2_causeOf_0 : List UInt8 := [187, 0, 126, 89, 43, 42, 180, 0, 18, 186, 1, 29, 0, 0, 183, 0, 132, 182, 1, 19, 61, 28]
abbrev dktX2_causeOf_0 : List UInt8 := dkwX2_causeOf_0 ++ dktX2_causeOf_1
theorem dksX2_causeOf_0 : cX2_causeOf.data.toList.drop 0 = dktX2_causeOf_0 := by decide +kernel
theorem dksX2_causeOf_1 : cX2_causeOf.data.toList.drop 22 = dktX2_causeOf_1 := dk_seg dksX2_causeOf_0 22 rfl rfl
theorem dksX2_causeOf_2 : cX2_causeOf.data.toList.drop 46 = dktX2_causeOf_2 := dk_seg dksX2_causeOf_1 24 rfl rfl
theorem dX2_causeOf_0 : decode cX2_causeOf 0 = .ok (.new 126, 3) := dk_187 0 126 (dk_at dksX2_causeOf_0 0 rfl rfl)
theorem dX2_causeOf_3 : decode cX2_causeOf 3 = .ok (.dup, 1) := dk_89 (dk_at dksX2_causeOf_0 3 rfl rfl)
theorem dX2_causeOf_4 : decode cX2_causeOf 4 = .ok (.aload_n 1, 1) := dk_43 (dk_at dksX2_causeOf_0 4 rfl rfl)
theorem dX2_causeOf_5 : decode cX2_causeOf 5 = .ok (.aload_n 0, 1) := dk_42 (dk_at dksX2_causeOf_0 5 rfl rfl)
theorem dX2_causeOf_6 : decode cX2_causeOf 6 = .ok (.getfield 18, 3) := dk_180 0 18 (dk_at dksX2_causeOf_0 6 rfl rfl)
theorem dX2_causeOf_9 : decode cX2_causeOf 9 = .ok (.invokedynamic 285, 5) := by decide +kernel
theorem dX2_causeOf_14 : decode cX2_causeOf 14 = .ok (.invokespecial 132, 3) := dk_183 0 132 (dk_at dksX2_causeOf_0 14 rfl rfl)
theorem dX2_causeOf_17 : decode cX2_causeOf 17 = .ok (.invokevirtual 275, 3) := dk_182 1 19 (dk_at dksX2_causeOf_0 17 rfl rfl)
theorem dX2_causeOf_20 : decode cX2_causeOf 20 = .ok (.istore_n 2, 1) := dk_61 (dk_at dksX2_causeOf_0 20 rfl rfl)
theorem dX2_causeOf_21 : decode cX2_causeOf 21 = .ok (.iload_n 2, 1) := dk_28 (dk_at dksX2_causeOf_0 21 rfl rfl)
theorem dX2_causeOf_22 : decode cX2_causeOf 22 = .ok (.ifCond .le 16, 3) := dk_158 0 16 (dk_at dksX2_causeOf_1 0 rfl rfl)
theorem dX2_causeOf_25 : decode cX2_causeOf 25 = .ok (.new 161, 3) := dk_187 0 161 (dk_at dksX2_causeOf_1 3 rfl rfl)
theorem dX2_causeOf_28 : decode cX2_causeOf 28 = .ok (.dup, 1) := dk_89 (dk_at dksX2_causeOf_1 6 rfl rfl)
theorem dX2_causeOf_29 : decode cX2_causeOf 29 = .ok (.bipush 7, 2) := dk_16 7 (dk_at dksX2_causeOf_1 7 rfl rfl)
theorem dX2_causeOf_31 : decode cX2_causeOf 31 = .ok (.iload_n 2, 1) := dk_28 (dk_at dksX2_causeOf_1 9 rfl rfl)
theorem dX2_causeOf_32 : decode cX2_causeOf 32 = .ok (.invokespecial 288, 3) := dk_183 1 32 (dk_at dksX2_causeOf_1 10 rfl rfl)
theorem dX2_causeOf_35 : decode cX2_causeOf 35 = .ok (.goto 20, 3) := dk_167 0 20 (dk_at dksX2_causeOf_1 13 rfl rfl)
theorem dX2_causeOf_38 : decode cX2_causeOf 38 = .ok (.new 161, 3) := dk_187 0 161 (dk_at dksX2_causeOf_1 16 rfl rfl)
theorem dX2_causeOf_41 : decode cX2_causeOf 41 = .ok (.dup, 1) := dk_89 (dk_at dksX2_causeOf_1 19 rfl rfl)
theorem dX2_causeOf_42 : decode cX2_causeOf 42 = .ok (.bipush 8, 2) := dk_16 8 (dk_at dksX2_causeOf_1 20 rfl rfl)
theorem dX2_causeOf_44 : decode cX2_causeOf 44 = .ok (.aload_n 0, 1) := dk_42 (dk_at dksX2_causeOf_1 22 rfl rfl)
theorem dX2_causeOf_45 : decode cX2_causeOf 45 = .ok (.aload_n 1, 1) := dk_43 (dk_at dksX2_causeOf_1 23 rfl rfl)
theorem dX2_causeOf_46 : decode cX2_causeOf 46 = .ok (.invokevirtual 211, 3) := dk_182 0 211 (dk_at dksX2_causeOf_2 0 rfl rfl)
theorem dX2_causeOf_49 : decode cX2_causeOf 49 = .ok (.invokevirtual 291, 3) := dk_182 1 35 (dk_at dksX2_causeOf_2 3 rfl rfl)
theorem dX2_causeOf_52 : decode cX2_causeOf 52 = .ok (.invokespecial 288, 3) := dk_183 1 32 (dk_at dksX2_causeOf_2 6 rfl rfl)
theorem dX2_causeOf_55 : decode cX2_causeOf 55 = .ok (.areturn, 1) := dk_176 (dk_at dksX2_causeOf_2 9 rfl rfl)
abbrev cX2_lambda_causeOf_4 : ByteArray := prog_6_method_35_code
def yX2_lambda_causeOf_4 : MethodName := ⟨RX2, "lambda$causeOf$4", "(LMissingMiddles$Scrap;)Z"⟩
theorem dX2_lambda_causeOf_4_0 : decode cX2_lambda_causeOf_4 0 = .ok (.iconst 1, 1) := by decide +kernel
theorem dX2_lambda_causeOf_4_1 : decode cX2_lambda_causeOf_4 1 = .ok (.ireturn, 1) := by decide +kernel
abbrev cX2_costOf : ByteArray := prog_6_method_9_code
def yX2_costOf : MethodName := ⟨RX2, "costOf", "(Ljava/util/LinkedList;)I"⟩
def dkwX2_costOf_2 : List UInt8 := [182, 0, 144, 96, 61, 167, 255, 214, 28, 172]
abbrev dktX2_costOf_2 : List UInt8 := dkwX2_costOf_2 ++ []
def dkwX2_costOf_1 : List UInt8 := [192, 0, 139, 182, 0, 141, 54, 4, 28, 42, 42, 180, 0, 18, 21, 4, 182, 0, 71, 192, 0, 65]
abbrev dktX2_costOf_1 : List UInt8 := dkwX2_costOf_1 ++ dktX2_costOf_2
def dkwX2_costOf_0 : List UInt8 := [3, 61, 43, 182, 0, 138, 78, 45, 185, 0, 55, 1, 0, 153, 0, 39, 45, 185, 0, 61, 1, 0]
abbrev dktX2_costOf_0 : List UInt8 := dkwX2_costOf_0 ++ dktX2_costOf_1
theorem dksX2_costOf_0 : cX2_costOf.data.toList.drop 0 = dktX2_costOf_0 := by decide +kernel
theorem dksX2_costOf_1 : cX2_costOf.data.toList.drop 22 = dktX2_costOf_1 := dk_seg dksX2_costOf_0 22 rfl rfl
theorem dksX2_costOf_2 : cX2_costOf.data.toList.drop 44 = dktX2_costOf_2 := dk_seg dksX2_costOf_1 22 rfl rfl
theorem dX2_costOf_0 : decode cX2_costOf 0 = .ok (.iconst 0, 1) := dk_3 (dk_at dksX2_costOf_0 0 rfl rfl)
theorem dX2_costOf_1 : decode cX2_costOf 1 = .ok (.istore_n 2, 1) := dk_61 (dk_at dksX2_costOf_0 1 rfl rfl)
theorem dX2_costOf_2 : decode cX2_costOf 2 = .ok (.aload_n 1, 1) := dk_43 (dk_at dksX2_costOf_0 2 rfl rfl)
theorem dX2_costOf_3 : decode cX2_costOf 3 = .ok (.invokevirtual 138, 3) := dk_182 0 138 (dk_at dksX2_costOf_0 3 rfl rfl)
theorem dX2_costOf_6 : decode cX2_costOf 6 = .ok (.astore_n 3, 1) := dk_78 (dk_at dksX2_costOf_0 6 rfl rfl)
theorem dX2_costOf_7 : decode cX2_costOf 7 = .ok (.aload_n 3, 1) := dk_45 (dk_at dksX2_costOf_0 7 rfl rfl)
theorem dX2_costOf_8 : decode cX2_costOf 8 = .ok (.invokeinterface 55 1, 5) := by decide +kernel
theorem dX2_costOf_13 : decode cX2_costOf 13 = .ok (.ifCond .eq 39, 3) := dk_153 0 39 (dk_at dksX2_costOf_0 13 rfl rfl)
theorem dX2_costOf_16 : decode cX2_costOf 16 = .ok (.aload_n 3, 1) := dk_45 (dk_at dksX2_costOf_0 16 rfl rfl)
theorem dX2_costOf_17 : decode cX2_costOf 17 = .ok (.invokeinterface 61 1, 5) := by decide +kernel
theorem dX2_costOf_22 : decode cX2_costOf 22 = .ok (.checkcast 139, 3) := dk_192 0 139 (dk_at dksX2_costOf_1 0 rfl rfl)
theorem dX2_costOf_25 : decode cX2_costOf 25 = .ok (.invokevirtual 141, 3) := dk_182 0 141 (dk_at dksX2_costOf_1 3 rfl rfl)
theorem dX2_costOf_28 : decode cX2_costOf 28 = .ok (.istore 4, 2) := dk_54 4 (dk_at dksX2_costOf_1 6 rfl rfl)
theorem dX2_costOf_30 : decode cX2_costOf 30 = .ok (.iload_n 2, 1) := dk_28 (dk_at dksX2_costOf_1 8 rfl rfl)
theorem dX2_costOf_31 : decode cX2_costOf 31 = .ok (.aload_n 0, 1) := dk_42 (dk_at dksX2_costOf_1 9 rfl rfl)
theorem dX2_costOf_32 : decode cX2_costOf 32 = .ok (.aload_n 0, 1) := dk_42 (dk_at dksX2_costOf_1 10 rfl rfl)
theorem dX2_costOf_33 : decode cX2_costOf 33 = .ok (.getfield 18, 3) := dk_180 0 18 (dk_at dksX2_costOf_1 11 rfl rfl)
theorem dX2_costOf_36 : decode cX2_costOf 36 = .ok (.iload 4, 2) := dk_21 4 (dk_at dksX2_costOf_1 14 rfl rfl)
theorem dX2_costOf_38 : decode cX2_costOf 38 = .ok (.invokevirtual 71, 3) := dk_182 0 71 (dk_at dksX2_costOf_1 16 rfl rfl)
theorem dX2_costOf_41 : decode cX2_costOf 41 = .ok (.checkcast 65, 3) := dk_192 0 65 (dk_at dksX2_costOf_1 19 rfl rfl)
theorem dX2_costOf_44 : decode cX2_costOf 44 = .ok (.invokevirtual 144, 3) := dk_182 0 144 (dk_at dksX2_costOf_2 0 rfl rfl)
theorem dX2_costOf_47 : decode cX2_costOf 47 = .ok (.iadd, 1) := dk_96 (dk_at dksX2_costOf_2 3 rfl rfl)
theorem dX2_costOf_48 : decode cX2_costOf 48 = .ok (.istore_n 2, 1) := dk_61 (dk_at dksX2_costOf_2 4 rfl rfl)
theorem dX2_costOf_49 : decode cX2_costOf 49 = .ok (.goto (-42), 3) := dk_167 255 214 (dk_at dksX2_costOf_2 5 rfl rfl)
theorem dX2_costOf_52 : decode cX2_costOf 52 = .ok (.iload_n 2, 1) := dk_28 (dk_at dksX2_costOf_2 8 rfl rfl)
theorem dX2_costOf_53 : decode cX2_costOf 53 = .ok (.ireturn, 1) := dk_172 (dk_at dksX2_costOf_2 9 rfl rfl)
abbrev cX2_costOf_2 : ByteArray := prog_6_method_8_code
def yX2_costOf_2 : MethodName := ⟨RX2, "costOf", "(LMissingMiddles$Scrap;)I"⟩
def dkwX2_costOf_2_0 : List UInt8 := [42, 180, 0, 34, 43, 182, 0, 135, 104, 172]
abbrev dktX2_costOf_2_0 : List UInt8 := dkwX2_costOf_2_0 ++ []
theorem dksX2_costOf_2_0 : cX2_costOf_2.data.toList.drop 0 = dktX2_costOf_2_0 := by decide +kernel
theorem dX2_costOf_2_0 : decode cX2_costOf_2 0 = .ok (.aload_n 0, 1) := dk_42 (dk_at dksX2_costOf_2_0 0 rfl rfl)
theorem dX2_costOf_2_1 : decode cX2_costOf_2 1 = .ok (.getfield 34, 3) := dk_180 0 34 (dk_at dksX2_costOf_2_0 1 rfl rfl)
theorem dX2_costOf_2_4 : decode cX2_costOf_2 4 = .ok (.aload_n 1, 1) := dk_43 (dk_at dksX2_costOf_2_0 4 rfl rfl)
theorem dX2_costOf_2_5 : decode cX2_costOf_2 5 = .ok (.invokevirtual 135, 3) := dk_182 0 135 (dk_at dksX2_costOf_2_0 5 rfl rfl)
theorem dX2_costOf_2_8 : decode cX2_costOf_2 8 = .ok (.imul, 1) := dk_104 (dk_at dksX2_costOf_2_0 8 rfl rfl)
theorem dX2_costOf_2_9 : decode cX2_costOf_2 9 = .ok (.ireturn, 1) := dk_172 (dk_at dksX2_costOf_2_0 9 rfl rfl)
abbrev cX2_drop : ByteArray := prog_6_method_13_code
def yX2_drop : MethodName := ⟨RX2, "drop", "(I)I"⟩
def dkwX2_drop_2 : List UInt8 := [172]
abbrev dktX2_drop_2 : List UInt8 := dkwX2_drop_2 ++ []
def dkwX2_drop_1 : List UInt8 := [182, 0, 186, 192, 0, 65, 77, 42, 89, 180, 0, 84, 4, 96, 181, 0, 84, 42, 180, 0, 18, 182, 0, 96]
abbrev dktX2_drop_1 : List UInt8 := dkwX2_drop_1 ++ dktX2_drop_2
def dkwX2_drop_0 : List UInt8 := [27, 133, 9, 42, 180, 0, 18, 182, 0, 96, 4, 100, 133, 184, 0, 100, 184, 0, 104, 42, 180, 0, 18, 27]
abbrev dktX2_drop_0 : List UInt8 := dkwX2_drop_0 ++ dktX2_drop_1
theorem dksX2_drop_0 : cX2_drop.data.toList.drop 0 = dktX2_drop_0 := by decide +kernel
theorem dksX2_drop_1 : cX2_drop.data.toList.drop 24 = dktX2_drop_1 := dk_seg dksX2_drop_0 24 rfl rfl
theorem dksX2_drop_2 : cX2_drop.data.toList.drop 48 = dktX2_drop_2 := dk_seg dksX2_drop_1 24 rfl rfl
theorem dX2_drop_0 : decode cX2_drop 0 = .ok (.iload_n 1, 1) := dk_27 (dk_at dksX2_drop_0 0 rfl rfl)
theorem dX2_drop_1 : decode cX2_drop 1 = .ok (.i2l, 1) := dk_133 (dk_at dksX2_drop_0 1 rfl rfl)
theorem dX2_drop_2 : decode cX2_drop 2 = .ok (.lconst 0, 1) := dk_9 (dk_at dksX2_drop_0 2 rfl rfl)
theorem dX2_drop_3 : decode cX2_drop 3 = .ok (.aload_n 0, 1) := dk_42 (dk_at dksX2_drop_0 3 rfl rfl)
theorem dX2_drop_4 : decode cX2_drop 4 = .ok (.getfield 18, 3) := dk_180 0 18 (dk_at dksX2_drop_0 4 rfl rfl)
theorem dX2_drop_7 : decode cX2_drop 7 = .ok (.invokevirtual 96, 3) := dk_182 0 96 (dk_at dksX2_drop_0 7 rfl rfl)
theorem dX2_drop_10 : decode cX2_drop 10 = .ok (.iconst 1, 1) := dk_4 (dk_at dksX2_drop_0 10 rfl rfl)
theorem dX2_drop_11 : decode cX2_drop 11 = .ok (.isub, 1) := dk_100 (dk_at dksX2_drop_0 11 rfl rfl)
theorem dX2_drop_12 : decode cX2_drop 12 = .ok (.i2l, 1) := dk_133 (dk_at dksX2_drop_0 12 rfl rfl)
theorem dX2_drop_13 : decode cX2_drop 13 = .ok (.invokestatic 100, 3) := dk_184 0 100 (dk_at dksX2_drop_0 13 rfl rfl)
theorem dX2_drop_16 : decode cX2_drop 16 = .ok (.invokestatic 104, 3) := dk_184 0 104 (dk_at dksX2_drop_0 16 rfl rfl)
theorem dX2_drop_19 : decode cX2_drop 19 = .ok (.aload_n 0, 1) := dk_42 (dk_at dksX2_drop_0 19 rfl rfl)
theorem dX2_drop_20 : decode cX2_drop 20 = .ok (.getfield 18, 3) := dk_180 0 18 (dk_at dksX2_drop_0 20 rfl rfl)
theorem dX2_drop_23 : decode cX2_drop 23 = .ok (.iload_n 1, 1) := dk_27 (dk_at dksX2_drop_0 23 rfl rfl)
theorem dX2_drop_24 : decode cX2_drop 24 = .ok (.invokevirtual 186, 3) := dk_182 0 186 (dk_at dksX2_drop_1 0 rfl rfl)
theorem dX2_drop_27 : decode cX2_drop 27 = .ok (.checkcast 65, 3) := dk_192 0 65 (dk_at dksX2_drop_1 3 rfl rfl)
theorem dX2_drop_30 : decode cX2_drop 30 = .ok (.astore_n 2, 1) := dk_77 (dk_at dksX2_drop_1 6 rfl rfl)
theorem dX2_drop_31 : decode cX2_drop 31 = .ok (.aload_n 0, 1) := dk_42 (dk_at dksX2_drop_1 7 rfl rfl)
theorem dX2_drop_32 : decode cX2_drop 32 = .ok (.dup, 1) := dk_89 (dk_at dksX2_drop_1 8 rfl rfl)
theorem dX2_drop_33 : decode cX2_drop 33 = .ok (.getfield 84, 3) := dk_180 0 84 (dk_at dksX2_drop_1 9 rfl rfl)
theorem dX2_drop_36 : decode cX2_drop 36 = .ok (.iconst 1, 1) := dk_4 (dk_at dksX2_drop_1 12 rfl rfl)
theorem dX2_drop_37 : decode cX2_drop 37 = .ok (.iadd, 1) := dk_96 (dk_at dksX2_drop_1 13 rfl rfl)
theorem dX2_drop_38 : decode cX2_drop 38 = .ok (.putfield 84, 3) := dk_181 0 84 (dk_at dksX2_drop_1 14 rfl rfl)
theorem dX2_drop_41 : decode cX2_drop 41 = .ok (.aload_n 0, 1) := dk_42 (dk_at dksX2_drop_1 17 rfl rfl)
theorem dX2_drop_42 : decode cX2_drop 42 = .ok (.getfield 18, 3) := dk_180 0 18 (dk_at dksX2_drop_1 18 rfl rfl)
theorem dX2_drop_45 : decode cX2_drop 45 = .ok (.invokevirtual 96, 3) := dk_182 0 96 (dk_at dksX2_drop_1 21 rfl rfl)
theorem dX2_drop_48 : decode cX2_drop 48 = .ok (.ireturn, 1) := dk_172 (dk_at dksX2_drop_2 0 rfl rfl)
abbrev cX2_earn : ByteArray := prog_6_method_25_code
def yX2_earn : MethodName := ⟨RX2, "earn", "(I)I"⟩
def dkwX2_earn_1 : List UInt8 := [180, 0, 81, 172]
abbrev dktX2_earn_1 : List UInt8 := dkwX2_earn_1 ++ []
def dkwX2_earn_0 : List UInt8 := [27, 133, 10, 20, 1, 57, 184, 0, 100, 184, 0, 151, 42, 89, 180, 0, 81, 27, 96, 181, 0, 81, 42]
abbrev dktX2_earn_0 : List UInt8 := dkwX2_earn_0 ++ dktX2_earn_1
theorem dksX2_earn_0 : cX2_earn.data.toList.drop 0 = dktX2_earn_0 := by decide +kernel
theorem dksX2_earn_1 : cX2_earn.data.toList.drop 23 = dktX2_earn_1 := dk_seg dksX2_earn_0 23 rfl rfl
theorem dX2_earn_0 : decode cX2_earn 0 = .ok (.iload_n 1, 1) := dk_27 (dk_at dksX2_earn_0 0 rfl rfl)
theorem dX2_earn_1 : decode cX2_earn 1 = .ok (.i2l, 1) := dk_133 (dk_at dksX2_earn_0 1 rfl rfl)
theorem dX2_earn_2 : decode cX2_earn 2 = .ok (.lconst 1, 1) := dk_10 (dk_at dksX2_earn_0 2 rfl rfl)
theorem dX2_earn_3 : decode cX2_earn 3 = .ok (.ldc2_w 313, 3) := dk_20 1 57 (dk_at dksX2_earn_0 3 rfl rfl)
theorem dX2_earn_6 : decode cX2_earn 6 = .ok (.invokestatic 100, 3) := dk_184 0 100 (dk_at dksX2_earn_0 6 rfl rfl)
theorem dX2_earn_9 : decode cX2_earn 9 = .ok (.invokestatic 151, 3) := dk_184 0 151 (dk_at dksX2_earn_0 9 rfl rfl)
theorem dX2_earn_12 : decode cX2_earn 12 = .ok (.aload_n 0, 1) := dk_42 (dk_at dksX2_earn_0 12 rfl rfl)
theorem dX2_earn_13 : decode cX2_earn 13 = .ok (.dup, 1) := dk_89 (dk_at dksX2_earn_0 13 rfl rfl)
theorem dX2_earn_14 : decode cX2_earn 14 = .ok (.getfield 81, 3) := dk_180 0 81 (dk_at dksX2_earn_0 14 rfl rfl)
theorem dX2_earn_17 : decode cX2_earn 17 = .ok (.iload_n 1, 1) := dk_27 (dk_at dksX2_earn_0 17 rfl rfl)
theorem dX2_earn_18 : decode cX2_earn 18 = .ok (.iadd, 1) := dk_96 (dk_at dksX2_earn_0 18 rfl rfl)
theorem dX2_earn_19 : decode cX2_earn 19 = .ok (.putfield 81, 3) := dk_181 0 81 (dk_at dksX2_earn_0 19 rfl rfl)
theorem dX2_earn_22 : decode cX2_earn 22 = .ok (.aload_n 0, 1) := dk_42 (dk_at dksX2_earn_0 22 rfl rfl)
theorem dX2_earn_23 : decode cX2_earn 23 = .ok (.getfield 81, 3) := dk_180 0 81 (dk_at dksX2_earn_1 0 rfl rfl)
theorem dX2_earn_26 : decode cX2_earn 26 = .ok (.ireturn, 1) := dk_172 (dk_at dksX2_earn_1 3 rfl rfl)
abbrev cX2_tellPrice : ByteArray := prog_6_method_26_code
def yX2_tellPrice : MethodName := ⟨RX2, "tellPrice", "(I)I"⟩
def dkwX2_tellPrice_0 : List UInt8 := [27, 133, 10, 20, 1, 59, 184, 0, 100, 184, 0, 151, 42, 180, 0, 34, 61, 42, 27, 181, 0, 34, 28, 172]
abbrev dktX2_tellPrice_0 : List UInt8 := dkwX2_tellPrice_0 ++ []
theorem dksX2_tellPrice_0 : cX2_tellPrice.data.toList.drop 0 = dktX2_tellPrice_0 := by decide +kernel
theorem dX2_tellPrice_0 : decode cX2_tellPrice 0 = .ok (.iload_n 1, 1) := dk_27 (dk_at dksX2_tellPrice_0 0 rfl rfl)
theorem dX2_tellPrice_1 : decode cX2_tellPrice 1 = .ok (.i2l, 1) := dk_133 (dk_at dksX2_tellPrice_0 1 rfl rfl)
theorem dX2_tellPrice_2 : decode cX2_tellPrice 2 = .ok (.lconst 1, 1) := dk_10 (dk_at dksX2_tellPrice_0 2 rfl rfl)
theorem dX2_tellPrice_3 : decode cX2_tellPrice 3 = .ok (.ldc2_w 315, 3) := dk_20 1 59 (dk_at dksX2_tellPrice_0 3 rfl rfl)
theorem dX2_tellPrice_6 : decode cX2_tellPrice 6 = .ok (.invokestatic 100, 3) := dk_184 0 100 (dk_at dksX2_tellPrice_0 6 rfl rfl)
theorem dX2_tellPrice_9 : decode cX2_tellPrice 9 = .ok (.invokestatic 151, 3) := dk_184 0 151 (dk_at dksX2_tellPrice_0 9 rfl rfl)
theorem dX2_tellPrice_12 : decode cX2_tellPrice 12 = .ok (.aload_n 0, 1) := dk_42 (dk_at dksX2_tellPrice_0 12 rfl rfl)
theorem dX2_tellPrice_13 : decode cX2_tellPrice 13 = .ok (.getfield 34, 3) := dk_180 0 34 (dk_at dksX2_tellPrice_0 13 rfl rfl)
theorem dX2_tellPrice_16 : decode cX2_tellPrice 16 = .ok (.istore_n 2, 1) := dk_61 (dk_at dksX2_tellPrice_0 16 rfl rfl)
theorem dX2_tellPrice_17 : decode cX2_tellPrice 17 = .ok (.aload_n 0, 1) := dk_42 (dk_at dksX2_tellPrice_0 17 rfl rfl)
theorem dX2_tellPrice_18 : decode cX2_tellPrice 18 = .ok (.iload_n 1, 1) := dk_27 (dk_at dksX2_tellPrice_0 18 rfl rfl)
theorem dX2_tellPrice_19 : decode cX2_tellPrice 19 = .ok (.putfield 34, 3) := dk_181 0 34 (dk_at dksX2_tellPrice_0 19 rfl rfl)
theorem dX2_tellPrice_22 : decode cX2_tellPrice 22 = .ok (.iload_n 2, 1) := dk_28 (dk_at dksX2_tellPrice_0 22 rfl rfl)
theorem dX2_tellPrice_23 : decode cX2_tellPrice 23 = .ok (.ireturn, 1) := dk_172 (dk_at dksX2_tellPrice_0 23 rfl rfl)
abbrev cX2_bookOf : ByteArray := prog_6_method_14_code
def yX2_bookOf : MethodName := ⟨RX2, "bookOf", "(II)I"⟩
def dkwX2_bookOf_5 : List UInt8 := [25, 4, 182, 0, 219, 172, 187, 0, 222, 89, 183, 0, 224, 191]
abbrev dktX2_bookOf_5 : List UInt8 := dkwX2_bookOf_5 ++ []
def dkwX2_bookOf_4 : List UInt8 := [25, 4, 199, 0, 7, 2, 167, 0, 23, 28, 16, 6, 160, 0, 11, 25, 4, 182, 0, 172, 167, 0, 9, 42]
abbrev dktX2_bookOf_4 : List UInt8 := dkwX2_bookOf_4 ++ dktX2_bookOf_5
def dkwX2_bookOf_3 : List UInt8 := [172, 45, 180, 0, 207, 153, 0, 7, 4, 167, 0, 4, 3, 172, 42, 45, 182, 0, 211, 182, 0, 215, 58, 4]
abbrev dktX2_bookOf_3 : List UInt8 := dkwX2_bookOf_3 ++ dktX2_bookOf_4
def dkwX2_bookOf_2 : List UInt8 := [45, 180, 0, 193, 172, 45, 180, 0, 195, 172, 45, 180, 0, 198, 172, 45, 180, 0, 201, 172, 45, 180, 0, 204]
abbrev dktX2_bookOf_2 : List UInt8 := dkwX2_bookOf_2 ++ dktX2_bookOf_3
def dkwX2_bookOf_1 : List UInt8 := [170, 0, 0, 0, 123, 0, 0, 0, 0, 0, 0, 0, 7, 0, 0, 0, 45, 0, 0, 0, 50, 0, 0, 0, 55, 0, 0, 0, 60, 0, 0, 0, 65, 0, 0, 0, 70, 0, 0, 0, 83, 0, 0, 0, 83]
abbrev dktX2_bookOf_1 : List UInt8 := dkwX2_bookOf_1 ++ dktX2_bookOf_2
def dkwX2_bookOf_0 : List UInt8 := [42, 27, 182, 0, 189, 78, 28]
abbrev dktX2_bookOf_0 : List UInt8 := dkwX2_bookOf_0 ++ dktX2_bookOf_1
theorem dksX2_bookOf_0 : cX2_bookOf.data.toList.drop 0 = dktX2_bookOf_0 := by decide +kernel
theorem dksX2_bookOf_1 : cX2_bookOf.data.toList.drop 7 = dktX2_bookOf_1 := dk_seg dksX2_bookOf_0 7 rfl rfl
theorem dksX2_bookOf_2 : cX2_bookOf.data.toList.drop 52 = dktX2_bookOf_2 := dk_seg dksX2_bookOf_1 45 rfl rfl
theorem dksX2_bookOf_3 : cX2_bookOf.data.toList.drop 76 = dktX2_bookOf_3 := dk_seg dksX2_bookOf_2 24 rfl rfl
theorem dksX2_bookOf_4 : cX2_bookOf.data.toList.drop 100 = dktX2_bookOf_4 := dk_seg dksX2_bookOf_3 24 rfl rfl
theorem dksX2_bookOf_5 : cX2_bookOf.data.toList.drop 124 = dktX2_bookOf_5 := dk_seg dksX2_bookOf_4 24 rfl rfl
theorem dX2_bookOf_0 : decode cX2_bookOf 0 = .ok (.aload_n 0, 1) := dk_42 (dk_at dksX2_bookOf_0 0 rfl rfl)
theorem dX2_bookOf_1 : decode cX2_bookOf 1 = .ok (.iload_n 1, 1) := dk_27 (dk_at dksX2_bookOf_0 1 rfl rfl)
theorem dX2_bookOf_2 : decode cX2_bookOf 2 = .ok (.invokevirtual 189, 3) := dk_182 0 189 (dk_at dksX2_bookOf_0 2 rfl rfl)
theorem dX2_bookOf_5 : decode cX2_bookOf 5 = .ok (.astore_n 3, 1) := dk_78 (dk_at dksX2_bookOf_0 5 rfl rfl)
theorem dX2_bookOf_6 : decode cX2_bookOf 6 = .ok (.iload_n 2, 1) := dk_28 (dk_at dksX2_bookOf_0 6 rfl rfl)
theorem dX2_bookOf_7 : decode cX2_bookOf 7 = .ok (.tableswitch 123 0 7 #[45, 50, 55, 60, 65, 70, 83, 83], 45) := by decide +kernel
theorem dX2_bookOf_52 : decode cX2_bookOf 52 = .ok (.aload_n 3, 1) := dk_45 (dk_at dksX2_bookOf_2 0 rfl rfl)
theorem dX2_bookOf_53 : decode cX2_bookOf 53 = .ok (.getfield 193, 3) := dk_180 0 193 (dk_at dksX2_bookOf_2 1 rfl rfl)
theorem dX2_bookOf_56 : decode cX2_bookOf 56 = .ok (.ireturn, 1) := dk_172 (dk_at dksX2_bookOf_2 4 rfl rfl)
theorem dX2_bookOf_57 : decode cX2_bookOf 57 = .ok (.aload_n 3, 1) := dk_45 (dk_at dksX2_bookOf_2 5 rfl rfl)
theorem dX2_bookOf_58 : decode cX2_bookOf 58 = .ok (.getfield 195, 3) := dk_180 0 195 (dk_at dksX2_bookOf_2 6 rfl rfl)
theorem dX2_bookOf_61 : decode cX2_bookOf 61 = .ok (.ireturn, 1) := dk_172 (dk_at dksX2_bookOf_2 9 rfl rfl)
theorem dX2_bookOf_62 : decode cX2_bookOf 62 = .ok (.aload_n 3, 1) := dk_45 (dk_at dksX2_bookOf_2 10 rfl rfl)
theorem dX2_bookOf_63 : decode cX2_bookOf 63 = .ok (.getfield 198, 3) := dk_180 0 198 (dk_at dksX2_bookOf_2 11 rfl rfl)
theorem dX2_bookOf_66 : decode cX2_bookOf 66 = .ok (.ireturn, 1) := dk_172 (dk_at dksX2_bookOf_2 14 rfl rfl)
theorem dX2_bookOf_67 : decode cX2_bookOf 67 = .ok (.aload_n 3, 1) := dk_45 (dk_at dksX2_bookOf_2 15 rfl rfl)
theorem dX2_bookOf_68 : decode cX2_bookOf 68 = .ok (.getfield 201, 3) := dk_180 0 201 (dk_at dksX2_bookOf_2 16 rfl rfl)
theorem dX2_bookOf_71 : decode cX2_bookOf 71 = .ok (.ireturn, 1) := dk_172 (dk_at dksX2_bookOf_2 19 rfl rfl)
theorem dX2_bookOf_72 : decode cX2_bookOf 72 = .ok (.aload_n 3, 1) := dk_45 (dk_at dksX2_bookOf_2 20 rfl rfl)
theorem dX2_bookOf_73 : decode cX2_bookOf 73 = .ok (.getfield 204, 3) := dk_180 0 204 (dk_at dksX2_bookOf_2 21 rfl rfl)
theorem dX2_bookOf_76 : decode cX2_bookOf 76 = .ok (.ireturn, 1) := dk_172 (dk_at dksX2_bookOf_3 0 rfl rfl)
theorem dX2_bookOf_77 : decode cX2_bookOf 77 = .ok (.aload_n 3, 1) := dk_45 (dk_at dksX2_bookOf_3 1 rfl rfl)
theorem dX2_bookOf_78 : decode cX2_bookOf 78 = .ok (.getfield 207, 3) := dk_180 0 207 (dk_at dksX2_bookOf_3 2 rfl rfl)
theorem dX2_bookOf_81 : decode cX2_bookOf 81 = .ok (.ifCond .eq 7, 3) := dk_153 0 7 (dk_at dksX2_bookOf_3 5 rfl rfl)
theorem dX2_bookOf_84 : decode cX2_bookOf 84 = .ok (.iconst 1, 1) := dk_4 (dk_at dksX2_bookOf_3 8 rfl rfl)
theorem dX2_bookOf_85 : decode cX2_bookOf 85 = .ok (.goto 4, 3) := dk_167 0 4 (dk_at dksX2_bookOf_3 9 rfl rfl)
theorem dX2_bookOf_88 : decode cX2_bookOf 88 = .ok (.iconst 0, 1) := dk_3 (dk_at dksX2_bookOf_3 12 rfl rfl)
theorem dX2_bookOf_89 : decode cX2_bookOf 89 = .ok (.ireturn, 1) := dk_172 (dk_at dksX2_bookOf_3 13 rfl rfl)
theorem dX2_bookOf_90 : decode cX2_bookOf 90 = .ok (.aload_n 0, 1) := dk_42 (dk_at dksX2_bookOf_3 14 rfl rfl)
theorem dX2_bookOf_91 : decode cX2_bookOf 91 = .ok (.aload_n 3, 1) := dk_45 (dk_at dksX2_bookOf_3 15 rfl rfl)
theorem dX2_bookOf_92 : decode cX2_bookOf 92 = .ok (.invokevirtual 211, 3) := dk_182 0 211 (dk_at dksX2_bookOf_3 16 rfl rfl)
theorem dX2_bookOf_95 : decode cX2_bookOf 95 = .ok (.invokevirtual 215, 3) := dk_182 0 215 (dk_at dksX2_bookOf_3 19 rfl rfl)
theorem dX2_bookOf_98 : decode cX2_bookOf 98 = .ok (.astore 4, 2) := dk_58 4 (dk_at dksX2_bookOf_3 22 rfl rfl)
theorem dX2_bookOf_100 : decode cX2_bookOf 100 = .ok (.aload 4, 2) := dk_25 4 (dk_at dksX2_bookOf_4 0 rfl rfl)
theorem dX2_bookOf_102 : decode cX2_bookOf 102 = .ok (.ifnonnull 7, 3) := dk_199 0 7 (dk_at dksX2_bookOf_4 2 rfl rfl)
theorem dX2_bookOf_105 : decode cX2_bookOf 105 = .ok (.iconst (-1), 1) := dk_2 (dk_at dksX2_bookOf_4 5 rfl rfl)
theorem dX2_bookOf_106 : decode cX2_bookOf 106 = .ok (.goto 23, 3) := dk_167 0 23 (dk_at dksX2_bookOf_4 6 rfl rfl)
theorem dX2_bookOf_109 : decode cX2_bookOf 109 = .ok (.iload_n 2, 1) := dk_28 (dk_at dksX2_bookOf_4 9 rfl rfl)
theorem dX2_bookOf_110 : decode cX2_bookOf 110 = .ok (.bipush 6, 2) := dk_16 6 (dk_at dksX2_bookOf_4 10 rfl rfl)
theorem dX2_bookOf_112 : decode cX2_bookOf 112 = .ok (.if_icmp .ne 11, 3) := dk_160 0 11 (dk_at dksX2_bookOf_4 12 rfl rfl)
theorem dX2_bookOf_115 : decode cX2_bookOf 115 = .ok (.aload 4, 2) := dk_25 4 (dk_at dksX2_bookOf_4 15 rfl rfl)
theorem dX2_bookOf_117 : decode cX2_bookOf 117 = .ok (.invokevirtual 172, 3) := dk_182 0 172 (dk_at dksX2_bookOf_4 17 rfl rfl)
theorem dX2_bookOf_120 : decode cX2_bookOf 120 = .ok (.goto 9, 3) := dk_167 0 9 (dk_at dksX2_bookOf_4 20 rfl rfl)
theorem dX2_bookOf_123 : decode cX2_bookOf 123 = .ok (.aload_n 0, 1) := dk_42 (dk_at dksX2_bookOf_4 23 rfl rfl)
theorem dX2_bookOf_124 : decode cX2_bookOf 124 = .ok (.aload 4, 2) := dk_25 4 (dk_at dksX2_bookOf_5 0 rfl rfl)
theorem dX2_bookOf_126 : decode cX2_bookOf 126 = .ok (.invokevirtual 219, 3) := dk_182 0 219 (dk_at dksX2_bookOf_5 2 rfl rfl)
theorem dX2_bookOf_129 : decode cX2_bookOf 129 = .ok (.ireturn, 1) := dk_172 (dk_at dksX2_bookOf_5 5 rfl rfl)
theorem dX2_bookOf_130 : decode cX2_bookOf 130 = .ok (.new 222, 3) := dk_187 0 222 (dk_at dksX2_bookOf_5 6 rfl rfl)
theorem dX2_bookOf_133 : decode cX2_bookOf 133 = .ok (.dup, 1) := dk_89 (dk_at dksX2_bookOf_5 9 rfl rfl)
theorem dX2_bookOf_134 : decode cX2_bookOf 134 = .ok (.invokespecial 224, 3) := dk_183 0 224 (dk_at dksX2_bookOf_5 10 rfl rfl)
theorem dX2_bookOf_137 : decode cX2_bookOf 137 = .ok (.athrow, 1) := dk_191 (dk_at dksX2_bookOf_5 13 rfl rfl)
abbrev cX2_scrapOf : ByteArray := prog_6_method_15_code
def yX2_scrapOf : MethodName := ⟨RX2, "scrapOf", "(II)I"⟩
def dkwX2_scrapOf_4 : List UInt8 := [153, 0, 7, 4, 167, 0, 4, 3, 172, 187, 0, 222, 89, 183, 0, 224, 191]
abbrev dktX2_scrapOf_4 : List UInt8 := dkwX2_scrapOf_4 ++ []
def dkwX2_scrapOf_3 : List UInt8 := [172, 42, 45, 182, 0, 122, 172, 45, 180, 0, 119, 172, 42, 45, 182, 0, 144, 172, 42, 45, 182, 0, 240]
abbrev dktX2_scrapOf_3 : List UInt8 := dkwX2_scrapOf_3 ++ dktX2_scrapOf_4
def dkwX2_scrapOf_2 : List UInt8 := [45, 180, 0, 229, 172, 45, 180, 0, 230, 172, 45, 180, 0, 231, 172, 45, 180, 0, 234, 172, 45, 180, 0, 237]
abbrev dktX2_scrapOf_2 : List UInt8 := dkwX2_scrapOf_2 ++ dktX2_scrapOf_3
def dkwX2_scrapOf_1 : List UInt8 := [170, 0, 0, 0, 105, 0, 0, 0, 0, 0, 0, 0, 8, 0, 0, 0, 49, 0, 0, 0, 54, 0, 0, 0, 59, 0, 0, 0, 64, 0, 0, 0, 69, 0, 0, 0, 74, 0, 0, 0, 80, 0, 0, 0, 85, 0, 0, 0, 91]
abbrev dktX2_scrapOf_1 : List UInt8 := dkwX2_scrapOf_1 ++ dktX2_scrapOf_2
def dkwX2_scrapOf_0 : List UInt8 := [42, 27, 182, 0, 225, 78, 28]
abbrev dktX2_scrapOf_0 : List UInt8 := dkwX2_scrapOf_0 ++ dktX2_scrapOf_1
theorem dksX2_scrapOf_0 : cX2_scrapOf.data.toList.drop 0 = dktX2_scrapOf_0 := by decide +kernel
theorem dksX2_scrapOf_1 : cX2_scrapOf.data.toList.drop 7 = dktX2_scrapOf_1 := dk_seg dksX2_scrapOf_0 7 rfl rfl
theorem dksX2_scrapOf_2 : cX2_scrapOf.data.toList.drop 56 = dktX2_scrapOf_2 := dk_seg dksX2_scrapOf_1 49 rfl rfl
theorem dksX2_scrapOf_3 : cX2_scrapOf.data.toList.drop 80 = dktX2_scrapOf_3 := dk_seg dksX2_scrapOf_2 24 rfl rfl
theorem dksX2_scrapOf_4 : cX2_scrapOf.data.toList.drop 103 = dktX2_scrapOf_4 := dk_seg dksX2_scrapOf_3 23 rfl rfl
theorem dX2_scrapOf_0 : decode cX2_scrapOf 0 = .ok (.aload_n 0, 1) := dk_42 (dk_at dksX2_scrapOf_0 0 rfl rfl)
theorem dX2_scrapOf_1 : decode cX2_scrapOf 1 = .ok (.iload_n 1, 1) := dk_27 (dk_at dksX2_scrapOf_0 1 rfl rfl)
theorem dX2_scrapOf_2 : decode cX2_scrapOf 2 = .ok (.invokevirtual 225, 3) := dk_182 0 225 (dk_at dksX2_scrapOf_0 2 rfl rfl)
theorem dX2_scrapOf_5 : decode cX2_scrapOf 5 = .ok (.astore_n 3, 1) := dk_78 (dk_at dksX2_scrapOf_0 5 rfl rfl)
theorem dX2_scrapOf_6 : decode cX2_scrapOf 6 = .ok (.iload_n 2, 1) := dk_28 (dk_at dksX2_scrapOf_0 6 rfl rfl)
theorem dX2_scrapOf_7 : decode cX2_scrapOf 7 = .ok (.tableswitch 105 0 8 #[49, 54, 59, 64, 69, 74, 80, 85, 91], 49) := by decide +kernel
theorem dX2_scrapOf_56 : decode cX2_scrapOf 56 = .ok (.aload_n 3, 1) := dk_45 (dk_at dksX2_scrapOf_2 0 rfl rfl)
theorem dX2_scrapOf_57 : decode cX2_scrapOf 57 = .ok (.getfield 229, 3) := dk_180 0 229 (dk_at dksX2_scrapOf_2 1 rfl rfl)
theorem dX2_scrapOf_60 : decode cX2_scrapOf 60 = .ok (.ireturn, 1) := dk_172 (dk_at dksX2_scrapOf_2 4 rfl rfl)
theorem dX2_scrapOf_61 : decode cX2_scrapOf 61 = .ok (.aload_n 3, 1) := dk_45 (dk_at dksX2_scrapOf_2 5 rfl rfl)
theorem dX2_scrapOf_62 : decode cX2_scrapOf 62 = .ok (.getfield 230, 3) := dk_180 0 230 (dk_at dksX2_scrapOf_2 6 rfl rfl)
theorem dX2_scrapOf_65 : decode cX2_scrapOf 65 = .ok (.ireturn, 1) := dk_172 (dk_at dksX2_scrapOf_2 9 rfl rfl)
theorem dX2_scrapOf_66 : decode cX2_scrapOf 66 = .ok (.aload_n 3, 1) := dk_45 (dk_at dksX2_scrapOf_2 10 rfl rfl)
theorem dX2_scrapOf_67 : decode cX2_scrapOf 67 = .ok (.getfield 231, 3) := dk_180 0 231 (dk_at dksX2_scrapOf_2 11 rfl rfl)
theorem dX2_scrapOf_70 : decode cX2_scrapOf 70 = .ok (.ireturn, 1) := dk_172 (dk_at dksX2_scrapOf_2 14 rfl rfl)
theorem dX2_scrapOf_71 : decode cX2_scrapOf 71 = .ok (.aload_n 3, 1) := dk_45 (dk_at dksX2_scrapOf_2 15 rfl rfl)
theorem dX2_scrapOf_72 : decode cX2_scrapOf 72 = .ok (.getfield 234, 3) := dk_180 0 234 (dk_at dksX2_scrapOf_2 16 rfl rfl)
theorem dX2_scrapOf_75 : decode cX2_scrapOf 75 = .ok (.ireturn, 1) := dk_172 (dk_at dksX2_scrapOf_2 19 rfl rfl)
theorem dX2_scrapOf_76 : decode cX2_scrapOf 76 = .ok (.aload_n 3, 1) := dk_45 (dk_at dksX2_scrapOf_2 20 rfl rfl)
theorem dX2_scrapOf_77 : decode cX2_scrapOf 77 = .ok (.getfield 237, 3) := dk_180 0 237 (dk_at dksX2_scrapOf_2 21 rfl rfl)
theorem dX2_scrapOf_80 : decode cX2_scrapOf 80 = .ok (.ireturn, 1) := dk_172 (dk_at dksX2_scrapOf_3 0 rfl rfl)
theorem dX2_scrapOf_81 : decode cX2_scrapOf 81 = .ok (.aload_n 0, 1) := dk_42 (dk_at dksX2_scrapOf_3 1 rfl rfl)
theorem dX2_scrapOf_82 : decode cX2_scrapOf 82 = .ok (.aload_n 3, 1) := dk_45 (dk_at dksX2_scrapOf_3 2 rfl rfl)
theorem dX2_scrapOf_83 : decode cX2_scrapOf 83 = .ok (.invokevirtual 122, 3) := dk_182 0 122 (dk_at dksX2_scrapOf_3 3 rfl rfl)
theorem dX2_scrapOf_86 : decode cX2_scrapOf 86 = .ok (.ireturn, 1) := dk_172 (dk_at dksX2_scrapOf_3 6 rfl rfl)
theorem dX2_scrapOf_87 : decode cX2_scrapOf 87 = .ok (.aload_n 3, 1) := dk_45 (dk_at dksX2_scrapOf_3 7 rfl rfl)
theorem dX2_scrapOf_88 : decode cX2_scrapOf 88 = .ok (.getfield 119, 3) := dk_180 0 119 (dk_at dksX2_scrapOf_3 8 rfl rfl)
theorem dX2_scrapOf_91 : decode cX2_scrapOf 91 = .ok (.ireturn, 1) := dk_172 (dk_at dksX2_scrapOf_3 11 rfl rfl)
theorem dX2_scrapOf_92 : decode cX2_scrapOf 92 = .ok (.aload_n 0, 1) := dk_42 (dk_at dksX2_scrapOf_3 12 rfl rfl)
theorem dX2_scrapOf_93 : decode cX2_scrapOf 93 = .ok (.aload_n 3, 1) := dk_45 (dk_at dksX2_scrapOf_3 13 rfl rfl)
theorem dX2_scrapOf_94 : decode cX2_scrapOf 94 = .ok (.invokevirtual 144, 3) := dk_182 0 144 (dk_at dksX2_scrapOf_3 14 rfl rfl)
theorem dX2_scrapOf_97 : decode cX2_scrapOf 97 = .ok (.ireturn, 1) := dk_172 (dk_at dksX2_scrapOf_3 17 rfl rfl)
theorem dX2_scrapOf_98 : decode cX2_scrapOf 98 = .ok (.aload_n 0, 1) := dk_42 (dk_at dksX2_scrapOf_3 18 rfl rfl)
theorem dX2_scrapOf_99 : decode cX2_scrapOf 99 = .ok (.aload_n 3, 1) := dk_45 (dk_at dksX2_scrapOf_3 19 rfl rfl)
theorem dX2_scrapOf_100 : decode cX2_scrapOf 100 = .ok (.invokevirtual 240, 3) := dk_182 0 240 (dk_at dksX2_scrapOf_3 20 rfl rfl)
theorem dX2_scrapOf_103 : decode cX2_scrapOf 103 = .ok (.ifCond .eq 7, 3) := dk_153 0 7 (dk_at dksX2_scrapOf_4 0 rfl rfl)
theorem dX2_scrapOf_106 : decode cX2_scrapOf 106 = .ok (.iconst 1, 1) := dk_4 (dk_at dksX2_scrapOf_4 3 rfl rfl)
theorem dX2_scrapOf_107 : decode cX2_scrapOf 107 = .ok (.goto 4, 3) := dk_167 0 4 (dk_at dksX2_scrapOf_4 4 rfl rfl)
theorem dX2_scrapOf_110 : decode cX2_scrapOf 110 = .ok (.iconst 0, 1) := dk_3 (dk_at dksX2_scrapOf_4 7 rfl rfl)
theorem dX2_scrapOf_111 : decode cX2_scrapOf 111 = .ok (.ireturn, 1) := dk_172 (dk_at dksX2_scrapOf_4 8 rfl rfl)
theorem dX2_scrapOf_112 : decode cX2_scrapOf 112 = .ok (.new 222, 3) := dk_187 0 222 (dk_at dksX2_scrapOf_4 9 rfl rfl)
theorem dX2_scrapOf_115 : decode cX2_scrapOf 115 = .ok (.dup, 1) := dk_89 (dk_at dksX2_scrapOf_4 12 rfl rfl)
theorem dX2_scrapOf_116 : decode cX2_scrapOf 116 = .ok (.invokespecial 224, 3) := dk_183 0 224 (dk_at dksX2_scrapOf_4 13 rfl rfl)
theorem dX2_scrapOf_119 : decode cX2_scrapOf 119 = .ok (.athrow, 1) := dk_191 (dk_at dksX2_scrapOf_4 16 rfl rfl)
abbrev cX2_atticOf : ByteArray := prog_6_method_16_code
def yX2_atticOf : MethodName := ⟨RX2, "atticOf", "(II)I"⟩
def dkwX2_atticOf_4 : List UInt8 := [172, 187, 0, 222, 89, 183, 0, 224, 191]
abbrev dktX2_atticOf_4 : List UInt8 := dkwX2_atticOf_4 ++ []
def dkwX2_atticOf_3 : List UInt8 := [199, 0, 7, 2, 167, 0, 7, 45, 180, 0, 229, 172, 45, 199, 0, 7, 2, 167, 0, 7, 45, 180, 0, 230]
abbrev dktX2_atticOf_3 : List UInt8 := dkwX2_atticOf_3 ++ dktX2_atticOf_4
def dkwX2_atticOf_2 : List UInt8 := [42, 180, 0, 21, 27, 182, 0, 71, 192, 0, 38, 182, 0, 172, 172, 42, 180, 0, 30, 27, 46, 172, 45]
abbrev dktX2_atticOf_2 : List UInt8 := dkwX2_atticOf_2 ++ dktX2_atticOf_3
def dkwX2_atticOf_1 : List UInt8 := [170, 0, 0, 0, 77, 0, 0, 0, 0, 0, 0, 0, 3, 0, 0, 0, 29, 0, 0, 0, 44, 0, 0, 0, 51, 0, 0, 0, 64]
abbrev dktX2_atticOf_1 : List UInt8 := dkwX2_atticOf_1 ++ dktX2_atticOf_2
def dkwX2_atticOf_0 : List UInt8 := [27, 184, 0, 168, 42, 180, 0, 21, 27, 182, 0, 71, 192, 0, 38, 182, 0, 244, 192, 0, 65, 78, 28]
abbrev dktX2_atticOf_0 : List UInt8 := dkwX2_atticOf_0 ++ dktX2_atticOf_1
theorem dksX2_atticOf_0 : cX2_atticOf.data.toList.drop 0 = dktX2_atticOf_0 := by decide +kernel
theorem dksX2_atticOf_1 : cX2_atticOf.data.toList.drop 23 = dktX2_atticOf_1 := dk_seg dksX2_atticOf_0 23 rfl rfl
theorem dksX2_atticOf_2 : cX2_atticOf.data.toList.drop 52 = dktX2_atticOf_2 := dk_seg dksX2_atticOf_1 29 rfl rfl
theorem dksX2_atticOf_3 : cX2_atticOf.data.toList.drop 75 = dktX2_atticOf_3 := dk_seg dksX2_atticOf_2 23 rfl rfl
theorem dksX2_atticOf_4 : cX2_atticOf.data.toList.drop 99 = dktX2_atticOf_4 := dk_seg dksX2_atticOf_3 24 rfl rfl
theorem dX2_atticOf_0 : decode cX2_atticOf 0 = .ok (.iload_n 1, 1) := dk_27 (dk_at dksX2_atticOf_0 0 rfl rfl)
theorem dX2_atticOf_1 : decode cX2_atticOf 1 = .ok (.invokestatic 168, 3) := dk_184 0 168 (dk_at dksX2_atticOf_0 1 rfl rfl)
theorem dX2_atticOf_4 : decode cX2_atticOf 4 = .ok (.aload_n 0, 1) := dk_42 (dk_at dksX2_atticOf_0 4 rfl rfl)
theorem dX2_atticOf_5 : decode cX2_atticOf 5 = .ok (.getfield 21, 3) := dk_180 0 21 (dk_at dksX2_atticOf_0 5 rfl rfl)
theorem dX2_atticOf_8 : decode cX2_atticOf 8 = .ok (.iload_n 1, 1) := dk_27 (dk_at dksX2_atticOf_0 8 rfl rfl)
theorem dX2_atticOf_9 : decode cX2_atticOf 9 = .ok (.invokevirtual 71, 3) := dk_182 0 71 (dk_at dksX2_atticOf_0 9 rfl rfl)
theorem dX2_atticOf_12 : decode cX2_atticOf 12 = .ok (.checkcast 38, 3) := dk_192 0 38 (dk_at dksX2_atticOf_0 12 rfl rfl)
theorem dX2_atticOf_15 : decode cX2_atticOf 15 = .ok (.invokevirtual 244, 3) := dk_182 0 244 (dk_at dksX2_atticOf_0 15 rfl rfl)
theorem dX2_atticOf_18 : decode cX2_atticOf 18 = .ok (.checkcast 65, 3) := dk_192 0 65 (dk_at dksX2_atticOf_0 18 rfl rfl)
theorem dX2_atticOf_21 : decode cX2_atticOf 21 = .ok (.astore_n 3, 1) := dk_78 (dk_at dksX2_atticOf_0 21 rfl rfl)
theorem dX2_atticOf_22 : decode cX2_atticOf 22 = .ok (.iload_n 2, 1) := dk_28 (dk_at dksX2_atticOf_0 22 rfl rfl)
theorem dX2_atticOf_23 : decode cX2_atticOf 23 = .ok (.tableswitch 77 0 3 #[29, 44, 51, 64], 29) := by decide +kernel
theorem dX2_atticOf_52 : decode cX2_atticOf 52 = .ok (.aload_n 0, 1) := dk_42 (dk_at dksX2_atticOf_2 0 rfl rfl)
theorem dX2_atticOf_53 : decode cX2_atticOf 53 = .ok (.getfield 21, 3) := dk_180 0 21 (dk_at dksX2_atticOf_2 1 rfl rfl)
theorem dX2_atticOf_56 : decode cX2_atticOf 56 = .ok (.iload_n 1, 1) := dk_27 (dk_at dksX2_atticOf_2 4 rfl rfl)
theorem dX2_atticOf_57 : decode cX2_atticOf 57 = .ok (.invokevirtual 71, 3) := dk_182 0 71 (dk_at dksX2_atticOf_2 5 rfl rfl)
theorem dX2_atticOf_60 : decode cX2_atticOf 60 = .ok (.checkcast 38, 3) := dk_192 0 38 (dk_at dksX2_atticOf_2 8 rfl rfl)
theorem dX2_atticOf_63 : decode cX2_atticOf 63 = .ok (.invokevirtual 172, 3) := dk_182 0 172 (dk_at dksX2_atticOf_2 11 rfl rfl)
theorem dX2_atticOf_66 : decode cX2_atticOf 66 = .ok (.ireturn, 1) := dk_172 (dk_at dksX2_atticOf_2 14 rfl rfl)
theorem dX2_atticOf_67 : decode cX2_atticOf 67 = .ok (.aload_n 0, 1) := dk_42 (dk_at dksX2_atticOf_2 15 rfl rfl)
theorem dX2_atticOf_68 : decode cX2_atticOf 68 = .ok (.getfield 30, 3) := dk_180 0 30 (dk_at dksX2_atticOf_2 16 rfl rfl)
theorem dX2_atticOf_71 : decode cX2_atticOf 71 = .ok (.iload_n 1, 1) := dk_27 (dk_at dksX2_atticOf_2 19 rfl rfl)
theorem dX2_atticOf_72 : decode cX2_atticOf 72 = .ok (.iaload, 1) := dk_46 (dk_at dksX2_atticOf_2 20 rfl rfl)
theorem dX2_atticOf_73 : decode cX2_atticOf 73 = .ok (.ireturn, 1) := dk_172 (dk_at dksX2_atticOf_2 21 rfl rfl)
theorem dX2_atticOf_74 : decode cX2_atticOf 74 = .ok (.aload_n 3, 1) := dk_45 (dk_at dksX2_atticOf_2 22 rfl rfl)
theorem dX2_atticOf_75 : decode cX2_atticOf 75 = .ok (.ifnonnull 7, 3) := dk_199 0 7 (dk_at dksX2_atticOf_3 0 rfl rfl)
theorem dX2_atticOf_78 : decode cX2_atticOf 78 = .ok (.iconst (-1), 1) := dk_2 (dk_at dksX2_atticOf_3 3 rfl rfl)
theorem dX2_atticOf_79 : decode cX2_atticOf 79 = .ok (.goto 7, 3) := dk_167 0 7 (dk_at dksX2_atticOf_3 4 rfl rfl)
theorem dX2_atticOf_82 : decode cX2_atticOf 82 = .ok (.aload_n 3, 1) := dk_45 (dk_at dksX2_atticOf_3 7 rfl rfl)
theorem dX2_atticOf_83 : decode cX2_atticOf 83 = .ok (.getfield 229, 3) := dk_180 0 229 (dk_at dksX2_atticOf_3 8 rfl rfl)
theorem dX2_atticOf_86 : decode cX2_atticOf 86 = .ok (.ireturn, 1) := dk_172 (dk_at dksX2_atticOf_3 11 rfl rfl)
theorem dX2_atticOf_87 : decode cX2_atticOf 87 = .ok (.aload_n 3, 1) := dk_45 (dk_at dksX2_atticOf_3 12 rfl rfl)
theorem dX2_atticOf_88 : decode cX2_atticOf 88 = .ok (.ifnonnull 7, 3) := dk_199 0 7 (dk_at dksX2_atticOf_3 13 rfl rfl)
theorem dX2_atticOf_91 : decode cX2_atticOf 91 = .ok (.iconst (-1), 1) := dk_2 (dk_at dksX2_atticOf_3 16 rfl rfl)
theorem dX2_atticOf_92 : decode cX2_atticOf 92 = .ok (.goto 7, 3) := dk_167 0 7 (dk_at dksX2_atticOf_3 17 rfl rfl)
theorem dX2_atticOf_95 : decode cX2_atticOf 95 = .ok (.aload_n 3, 1) := dk_45 (dk_at dksX2_atticOf_3 20 rfl rfl)
theorem dX2_atticOf_96 : decode cX2_atticOf 96 = .ok (.getfield 230, 3) := dk_180 0 230 (dk_at dksX2_atticOf_3 21 rfl rfl)
theorem dX2_atticOf_99 : decode cX2_atticOf 99 = .ok (.ireturn, 1) := dk_172 (dk_at dksX2_atticOf_4 0 rfl rfl)
theorem dX2_atticOf_100 : decode cX2_atticOf 100 = .ok (.new 222, 3) := dk_187 0 222 (dk_at dksX2_atticOf_4 1 rfl rfl)
theorem dX2_atticOf_103 : decode cX2_atticOf 103 = .ok (.dup, 1) := dk_89 (dk_at dksX2_atticOf_4 4 rfl rfl)
theorem dX2_atticOf_104 : decode cX2_atticOf 104 = .ok (.invokespecial 224, 3) := dk_183 0 224 (dk_at dksX2_atticOf_4 5 rfl rfl)
theorem dX2_atticOf_107 : decode cX2_atticOf 107 = .ok (.athrow, 1) := dk_191 (dk_at dksX2_atticOf_4 8 rfl rfl)
abbrev cX2_readerOf : ByteArray := prog_6_method_19_code
def yX2_readerOf : MethodName := ⟨RX2, "readerOf", "(II)I"⟩
def dkwX2_readerOf_4 : List UInt8 := [183, 0, 224, 191]
abbrev dktX2_readerOf_4 : List UInt8 := dkwX2_readerOf_4 ++ []
def dkwX2_readerOf_3 : List UInt8 := [180, 0, 26, 27, 50, 180, 1, 8, 172, 42, 180, 0, 26, 27, 50, 180, 1, 9, 172, 187, 0, 222, 89]
abbrev dktX2_readerOf_3 : List UInt8 := dkwX2_readerOf_3 ++ dktX2_readerOf_4
def dkwX2_readerOf_2 : List UInt8 := [42, 180, 0, 26, 27, 50, 180, 0, 113, 172, 42, 27, 186, 1, 1, 0, 0, 182, 1, 4, 172, 42]
abbrev dktX2_readerOf_2 : List UInt8 := dkwX2_readerOf_2 ++ dktX2_readerOf_3
def dkwX2_readerOf_1 : List UInt8 := [170, 0, 0, 0, 0, 0, 72, 0, 0, 0, 0, 0, 0, 0, 3, 0, 0, 0, 31, 0, 0, 0, 41, 0, 0, 0, 52, 0, 0, 0, 62]
abbrev dktX2_readerOf_1 : List UInt8 := dkwX2_readerOf_1 ++ dktX2_readerOf_2
def dkwX2_readerOf_0 : List UInt8 := [27, 184, 0, 247, 28]
abbrev dktX2_readerOf_0 : List UInt8 := dkwX2_readerOf_0 ++ dktX2_readerOf_1
theorem dksX2_readerOf_0 : cX2_readerOf.data.toList.drop 0 = dktX2_readerOf_0 := by decide +kernel
theorem dksX2_readerOf_1 : cX2_readerOf.data.toList.drop 5 = dktX2_readerOf_1 := dk_seg dksX2_readerOf_0 5 rfl rfl
theorem dksX2_readerOf_2 : cX2_readerOf.data.toList.drop 36 = dktX2_readerOf_2 := dk_seg dksX2_readerOf_1 31 rfl rfl
theorem dksX2_readerOf_3 : cX2_readerOf.data.toList.drop 58 = dktX2_readerOf_3 := dk_seg dksX2_readerOf_2 22 rfl rfl
theorem dksX2_readerOf_4 : cX2_readerOf.data.toList.drop 81 = dktX2_readerOf_4 := dk_seg dksX2_readerOf_3 23 rfl rfl
theorem dX2_readerOf_0 : decode cX2_readerOf 0 = .ok (.iload_n 1, 1) := dk_27 (dk_at dksX2_readerOf_0 0 rfl rfl)
theorem dX2_readerOf_1 : decode cX2_readerOf 1 = .ok (.invokestatic 247, 3) := dk_184 0 247 (dk_at dksX2_readerOf_0 1 rfl rfl)
theorem dX2_readerOf_4 : decode cX2_readerOf 4 = .ok (.iload_n 2, 1) := dk_28 (dk_at dksX2_readerOf_0 4 rfl rfl)
theorem dX2_readerOf_5 : decode cX2_readerOf 5 = .ok (.tableswitch 72 0 3 #[31, 41, 52, 62], 31) := by decide +kernel
theorem dX2_readerOf_36 : decode cX2_readerOf 36 = .ok (.aload_n 0, 1) := dk_42 (dk_at dksX2_readerOf_2 0 rfl rfl)
theorem dX2_readerOf_37 : decode cX2_readerOf 37 = .ok (.getfield 26, 3) := dk_180 0 26 (dk_at dksX2_readerOf_2 1 rfl rfl)
theorem dX2_readerOf_40 : decode cX2_readerOf 40 = .ok (.iload_n 1, 1) := dk_27 (dk_at dksX2_readerOf_2 4 rfl rfl)
theorem dX2_readerOf_41 : decode cX2_readerOf 41 = .ok (.aaload, 1) := dk_50 (dk_at dksX2_readerOf_2 5 rfl rfl)
theorem dX2_readerOf_42 : decode cX2_readerOf 42 = .ok (.getfield 113, 3) := dk_180 0 113 (dk_at dksX2_readerOf_2 6 rfl rfl)
theorem dX2_readerOf_45 : decode cX2_readerOf 45 = .ok (.ireturn, 1) := dk_172 (dk_at dksX2_readerOf_2 9 rfl rfl)
theorem dX2_readerOf_46 : decode cX2_readerOf 46 = .ok (.aload_n 0, 1) := dk_42 (dk_at dksX2_readerOf_2 10 rfl rfl)
theorem dX2_readerOf_47 : decode cX2_readerOf 47 = .ok (.iload_n 1, 1) := dk_27 (dk_at dksX2_readerOf_2 11 rfl rfl)
theorem dX2_readerOf_48 : decode cX2_readerOf 48 = .ok (.invokedynamic 257, 5) := by decide +kernel
theorem dX2_readerOf_53 : decode cX2_readerOf 53 = .ok (.invokevirtual 260, 3) := dk_182 1 4 (dk_at dksX2_readerOf_2 17 rfl rfl)
theorem dX2_readerOf_56 : decode cX2_readerOf 56 = .ok (.ireturn, 1) := dk_172 (dk_at dksX2_readerOf_2 20 rfl rfl)
theorem dX2_readerOf_57 : decode cX2_readerOf 57 = .ok (.aload_n 0, 1) := dk_42 (dk_at dksX2_readerOf_2 21 rfl rfl)
theorem dX2_readerOf_58 : decode cX2_readerOf 58 = .ok (.getfield 26, 3) := dk_180 0 26 (dk_at dksX2_readerOf_3 0 rfl rfl)
theorem dX2_readerOf_61 : decode cX2_readerOf 61 = .ok (.iload_n 1, 1) := dk_27 (dk_at dksX2_readerOf_3 3 rfl rfl)
theorem dX2_readerOf_62 : decode cX2_readerOf 62 = .ok (.aaload, 1) := dk_50 (dk_at dksX2_readerOf_3 4 rfl rfl)
theorem dX2_readerOf_63 : decode cX2_readerOf 63 = .ok (.getfield 264, 3) := dk_180 1 8 (dk_at dksX2_readerOf_3 5 rfl rfl)
theorem dX2_readerOf_66 : decode cX2_readerOf 66 = .ok (.ireturn, 1) := dk_172 (dk_at dksX2_readerOf_3 8 rfl rfl)
theorem dX2_readerOf_67 : decode cX2_readerOf 67 = .ok (.aload_n 0, 1) := dk_42 (dk_at dksX2_readerOf_3 9 rfl rfl)
theorem dX2_readerOf_68 : decode cX2_readerOf 68 = .ok (.getfield 26, 3) := dk_180 0 26 (dk_at dksX2_readerOf_3 10 rfl rfl)
theorem dX2_readerOf_71 : decode cX2_readerOf 71 = .ok (.iload_n 1, 1) := dk_27 (dk_at dksX2_readerOf_3 13 rfl rfl)
theorem dX2_readerOf_72 : decode cX2_readerOf 72 = .ok (.aaload, 1) := dk_50 (dk_at dksX2_readerOf_3 14 rfl rfl)
theorem dX2_readerOf_73 : decode cX2_readerOf 73 = .ok (.getfield 265, 3) := dk_180 1 9 (dk_at dksX2_readerOf_3 15 rfl rfl)
theorem dX2_readerOf_76 : decode cX2_readerOf 76 = .ok (.ireturn, 1) := dk_172 (dk_at dksX2_readerOf_3 18 rfl rfl)
theorem dX2_readerOf_77 : decode cX2_readerOf 77 = .ok (.new 222, 3) := dk_187 0 222 (dk_at dksX2_readerOf_3 19 rfl rfl)
theorem dX2_readerOf_80 : decode cX2_readerOf 80 = .ok (.dup, 1) := dk_89 (dk_at dksX2_readerOf_3 22 rfl rfl)
theorem dX2_readerOf_81 : decode cX2_readerOf 81 = .ok (.invokespecial 224, 3) := dk_183 0 224 (dk_at dksX2_readerOf_4 0 rfl rfl)
theorem dX2_readerOf_84 : decode cX2_readerOf 84 = .ok (.athrow, 1) := dk_191 (dk_at dksX2_readerOf_4 3 rfl rfl)
abbrev cX2_lambda_readerOf_1 : ByteArray := prog_6_method_38_code
def yX2_lambda_readerOf_1 : MethodName := ⟨RX2, "lambda$readerOf$1", "(ILMissingMiddles$Scrap;)Z"⟩
def dkwX2_lambda_readerOf_1_0 : List UInt8 := [43, 180, 0, 110, 26, 46, 2, 159, 0, 7, 4, 167, 0, 4, 3, 172]
abbrev dktX2_lambda_readerOf_1_0 : List UInt8 := dkwX2_lambda_readerOf_1_0 ++ []
theorem dksX2_lambda_readerOf_1_0 : cX2_lambda_readerOf_1.data.toList.drop 0 = dktX2_lambda_readerOf_1_0 := by decide +kernel
theorem dX2_lambda_readerOf_1_0 : decode cX2_lambda_readerOf_1 0 = .ok (.aload_n 1, 1) := dk_43 (dk_at dksX2_lambda_readerOf_1_0 0 rfl rfl)
theorem dX2_lambda_readerOf_1_1 : decode cX2_lambda_readerOf_1 1 = .ok (.getfield 110, 3) := dk_180 0 110 (dk_at dksX2_lambda_readerOf_1_0 1 rfl rfl)
theorem dX2_lambda_readerOf_1_4 : decode cX2_lambda_readerOf_1 4 = .ok (.iload_n 0, 1) := dk_26 (dk_at dksX2_lambda_readerOf_1_0 4 rfl rfl)
theorem dX2_lambda_readerOf_1_5 : decode cX2_lambda_readerOf_1 5 = .ok (.iaload, 1) := dk_46 (dk_at dksX2_lambda_readerOf_1_0 5 rfl rfl)
theorem dX2_lambda_readerOf_1_6 : decode cX2_lambda_readerOf_1 6 = .ok (.iconst (-1), 1) := dk_2 (dk_at dksX2_lambda_readerOf_1_0 6 rfl rfl)
theorem dX2_lambda_readerOf_1_7 : decode cX2_lambda_readerOf_1 7 = .ok (.if_icmp .eq 7, 3) := dk_159 0 7 (dk_at dksX2_lambda_readerOf_1_0 7 rfl rfl)
theorem dX2_lambda_readerOf_1_10 : decode cX2_lambda_readerOf_1 10 = .ok (.iconst 1, 1) := dk_4 (dk_at dksX2_lambda_readerOf_1_0 10 rfl rfl)
theorem dX2_lambda_readerOf_1_11 : decode cX2_lambda_readerOf_1 11 = .ok (.goto 4, 3) := dk_167 0 4 (dk_at dksX2_lambda_readerOf_1_0 11 rfl rfl)
theorem dX2_lambda_readerOf_1_14 : decode cX2_lambda_readerOf_1 14 = .ok (.iconst 0, 1) := dk_3 (dk_at dksX2_lambda_readerOf_1_0 14 rfl rfl)
theorem dX2_lambda_readerOf_1_15 : decode cX2_lambda_readerOf_1 15 = .ok (.ireturn, 1) := dk_172 (dk_at dksX2_lambda_readerOf_1_0 15 rfl rfl)
abbrev cX2_countOf : ByteArray := prog_6_method_20_code
def yX2_countOf : MethodName := ⟨RX2, "countOf", "(LMissingMiddles$Choice;)I"⟩
def dkwX2_countOf_2 : List UInt8 := [167, 0, 4, 3, 96, 61, 167, 255, 217, 28, 172]
abbrev dktX2_countOf_2 : List UInt8 := dkwX2_countOf_2 ++ []
def dkwX2_countOf_1 : List UInt8 := [185, 0, 61, 1, 0, 192, 0, 65, 58, 4, 28, 43, 25, 4, 185, 1, 12, 2, 0, 153, 0, 7, 4]
abbrev dktX2_countOf_1 : List UInt8 := dkwX2_countOf_1 ++ dktX2_countOf_2
def dkwX2_countOf_0 : List UInt8 := [3, 61, 42, 180, 0, 18, 182, 0, 51, 78, 45, 185, 0, 55, 1, 0, 153, 0, 36, 45]
abbrev dktX2_countOf_0 : List UInt8 := dkwX2_countOf_0 ++ dktX2_countOf_1
theorem dksX2_countOf_0 : cX2_countOf.data.toList.drop 0 = dktX2_countOf_0 := by decide +kernel
theorem dksX2_countOf_1 : cX2_countOf.data.toList.drop 20 = dktX2_countOf_1 := dk_seg dksX2_countOf_0 20 rfl rfl
theorem dksX2_countOf_2 : cX2_countOf.data.toList.drop 43 = dktX2_countOf_2 := dk_seg dksX2_countOf_1 23 rfl rfl
theorem dX2_countOf_0 : decode cX2_countOf 0 = .ok (.iconst 0, 1) := dk_3 (dk_at dksX2_countOf_0 0 rfl rfl)
theorem dX2_countOf_1 : decode cX2_countOf 1 = .ok (.istore_n 2, 1) := dk_61 (dk_at dksX2_countOf_0 1 rfl rfl)
theorem dX2_countOf_2 : decode cX2_countOf 2 = .ok (.aload_n 0, 1) := dk_42 (dk_at dksX2_countOf_0 2 rfl rfl)
theorem dX2_countOf_3 : decode cX2_countOf 3 = .ok (.getfield 18, 3) := dk_180 0 18 (dk_at dksX2_countOf_0 3 rfl rfl)
theorem dX2_countOf_6 : decode cX2_countOf 6 = .ok (.invokevirtual 51, 3) := dk_182 0 51 (dk_at dksX2_countOf_0 6 rfl rfl)
theorem dX2_countOf_9 : decode cX2_countOf 9 = .ok (.astore_n 3, 1) := dk_78 (dk_at dksX2_countOf_0 9 rfl rfl)
theorem dX2_countOf_10 : decode cX2_countOf 10 = .ok (.aload_n 3, 1) := dk_45 (dk_at dksX2_countOf_0 10 rfl rfl)
theorem dX2_countOf_11 : decode cX2_countOf 11 = .ok (.invokeinterface 55 1, 5) := by decide +kernel
theorem dX2_countOf_16 : decode cX2_countOf 16 = .ok (.ifCond .eq 36, 3) := dk_153 0 36 (dk_at dksX2_countOf_0 16 rfl rfl)
theorem dX2_countOf_19 : decode cX2_countOf 19 = .ok (.aload_n 3, 1) := dk_45 (dk_at dksX2_countOf_0 19 rfl rfl)
theorem dX2_countOf_20 : decode cX2_countOf 20 = .ok (.invokeinterface 61 1, 5) := by decide +kernel
theorem dX2_countOf_25 : decode cX2_countOf 25 = .ok (.checkcast 65, 3) := dk_192 0 65 (dk_at dksX2_countOf_1 5 rfl rfl)
theorem dX2_countOf_28 : decode cX2_countOf 28 = .ok (.astore 4, 2) := dk_58 4 (dk_at dksX2_countOf_1 8 rfl rfl)
theorem dX2_countOf_30 : decode cX2_countOf 30 = .ok (.iload_n 2, 1) := dk_28 (dk_at dksX2_countOf_1 10 rfl rfl)
theorem dX2_countOf_31 : decode cX2_countOf 31 = .ok (.aload_n 1, 1) := dk_43 (dk_at dksX2_countOf_1 11 rfl rfl)
theorem dX2_countOf_32 : decode cX2_countOf 32 = .ok (.aload 4, 2) := dk_25 4 (dk_at dksX2_countOf_1 12 rfl rfl)
theorem dX2_countOf_34 : decode cX2_countOf 34 = .ok (.invokeinterface 268 2, 5) := by decide +kernel
theorem dX2_countOf_39 : decode cX2_countOf 39 = .ok (.ifCond .eq 7, 3) := dk_153 0 7 (dk_at dksX2_countOf_1 19 rfl rfl)
theorem dX2_countOf_42 : decode cX2_countOf 42 = .ok (.iconst 1, 1) := dk_4 (dk_at dksX2_countOf_1 22 rfl rfl)
theorem dX2_countOf_43 : decode cX2_countOf 43 = .ok (.goto 4, 3) := dk_167 0 4 (dk_at dksX2_countOf_2 0 rfl rfl)
theorem dX2_countOf_46 : decode cX2_countOf 46 = .ok (.iconst 0, 1) := dk_3 (dk_at dksX2_countOf_2 3 rfl rfl)
theorem dX2_countOf_47 : decode cX2_countOf 47 = .ok (.iadd, 1) := dk_96 (dk_at dksX2_countOf_2 4 rfl rfl)
theorem dX2_countOf_48 : decode cX2_countOf 48 = .ok (.istore_n 2, 1) := dk_61 (dk_at dksX2_countOf_2 5 rfl rfl)
theorem dX2_countOf_49 : decode cX2_countOf 49 = .ok (.goto (-39), 3) := dk_167 255 217 (dk_at dksX2_countOf_2 6 rfl rfl)
theorem dX2_countOf_52 : decode cX2_countOf 52 = .ok (.iload_n 2, 1) := dk_28 (dk_at dksX2_countOf_2 9 rfl rfl)
theorem dX2_countOf_53 : decode cX2_countOf 53 = .ok (.ireturn, 1) := dk_172 (dk_at dksX2_countOf_2 10 rfl rfl)
abbrev cX2_would : ByteArray := prog_6_method_22_code
def yX2_would : MethodName := ⟨RX2, "would", "(II)I"⟩
def dkwX2_would_3 : List UInt8 := [42, 25, 4, 186, 1, 28, 0, 0, 183, 0, 132, 182, 1, 19, 172]
abbrev dktX2_would_3 : List UInt8 := dkwX2_would_3 ++ []
def dkwX2_would_2 : List UInt8 := [180, 0, 18, 183, 1, 25, 58, 5, 25, 5, 25, 4, 182, 0, 41, 54, 6, 187, 0, 126, 89, 45, 25, 5]
abbrev dktX2_would_2 : List UInt8 := dkwX2_would_2 ++ dktX2_would_3
def dkwX2_would_1 : List UInt8 := [192, 0, 65, 58, 4, 25, 4, 198, 0, 7, 4, 167, 0, 4, 3, 184, 1, 22, 187, 0, 9, 89, 42]
abbrev dktX2_would_1 : List UInt8 := dkwX2_would_1 ++ dktX2_would_2
def dkwX2_would_0 : List UInt8 := [42, 27, 182, 0, 189, 78, 28, 184, 0, 168, 42, 180, 0, 21, 28, 182, 0, 71, 192, 0, 38, 182, 0, 244]
abbrev dktX2_would_0 : List UInt8 := dkwX2_would_0 ++ dktX2_would_1
theorem dksX2_would_0 : cX2_would.data.toList.drop 0 = dktX2_would_0 := by decide +kernel
theorem dksX2_would_1 : cX2_would.data.toList.drop 24 = dktX2_would_1 := dk_seg dksX2_would_0 24 rfl rfl
theorem dksX2_would_2 : cX2_would.data.toList.drop 47 = dktX2_would_2 := dk_seg dksX2_would_1 23 rfl rfl
theorem dksX2_would_3 : cX2_would.data.toList.drop 71 = dktX2_would_3 := dk_seg dksX2_would_2 24 rfl rfl
theorem dX2_would_0 : decode cX2_would 0 = .ok (.aload_n 0, 1) := dk_42 (dk_at dksX2_would_0 0 rfl rfl)
theorem dX2_would_1 : decode cX2_would 1 = .ok (.iload_n 1, 1) := dk_27 (dk_at dksX2_would_0 1 rfl rfl)
theorem dX2_would_2 : decode cX2_would 2 = .ok (.invokevirtual 189, 3) := dk_182 0 189 (dk_at dksX2_would_0 2 rfl rfl)
theorem dX2_would_5 : decode cX2_would 5 = .ok (.astore_n 3, 1) := dk_78 (dk_at dksX2_would_0 5 rfl rfl)
theorem dX2_would_6 : decode cX2_would 6 = .ok (.iload_n 2, 1) := dk_28 (dk_at dksX2_would_0 6 rfl rfl)
theorem dX2_would_7 : decode cX2_would 7 = .ok (.invokestatic 168, 3) := dk_184 0 168 (dk_at dksX2_would_0 7 rfl rfl)
theorem dX2_would_10 : decode cX2_would 10 = .ok (.aload_n 0, 1) := dk_42 (dk_at dksX2_would_0 10 rfl rfl)
theorem dX2_would_11 : decode cX2_would 11 = .ok (.getfield 21, 3) := dk_180 0 21 (dk_at dksX2_would_0 11 rfl rfl)
theorem dX2_would_14 : decode cX2_would 14 = .ok (.iload_n 2, 1) := dk_28 (dk_at dksX2_would_0 14 rfl rfl)
theorem dX2_would_15 : decode cX2_would 15 = .ok (.invokevirtual 71, 3) := dk_182 0 71 (dk_at dksX2_would_0 15 rfl rfl)
theorem dX2_would_18 : decode cX2_would 18 = .ok (.checkcast 38, 3) := dk_192 0 38 (dk_at dksX2_would_0 18 rfl rfl)
theorem dX2_would_21 : decode cX2_would 21 = .ok (.invokevirtual 244, 3) := dk_182 0 244 (dk_at dksX2_would_0 21 rfl rfl)
theorem dX2_would_24 : decode cX2_would 24 = .ok (.checkcast 65, 3) := dk_192 0 65 (dk_at dksX2_would_1 0 rfl rfl)
theorem dX2_would_27 : decode cX2_would 27 = .ok (.astore 4, 2) := dk_58 4 (dk_at dksX2_would_1 3 rfl rfl)
theorem dX2_would_29 : decode cX2_would 29 = .ok (.aload 4, 2) := dk_25 4 (dk_at dksX2_would_1 5 rfl rfl)
theorem dX2_would_31 : decode cX2_would 31 = .ok (.ifnull 7, 3) := dk_198 0 7 (dk_at dksX2_would_1 7 rfl rfl)
theorem dX2_would_34 : decode cX2_would 34 = .ok (.iconst 1, 1) := dk_4 (dk_at dksX2_would_1 10 rfl rfl)
theorem dX2_would_35 : decode cX2_would 35 = .ok (.goto 4, 3) := dk_167 0 4 (dk_at dksX2_would_1 11 rfl rfl)
theorem dX2_would_38 : decode cX2_would 38 = .ok (.iconst 0, 1) := dk_3 (dk_at dksX2_would_1 14 rfl rfl)
theorem dX2_would_39 : decode cX2_would 39 = .ok (.invokestatic 278, 3) := dk_184 1 22 (dk_at dksX2_would_1 15 rfl rfl)
theorem dX2_would_42 : decode cX2_would 42 = .ok (.new 9, 3) := dk_187 0 9 (dk_at dksX2_would_1 18 rfl rfl)
theorem dX2_would_45 : decode cX2_would 45 = .ok (.dup, 1) := dk_89 (dk_at dksX2_would_1 21 rfl rfl)
theorem dX2_would_46 : decode cX2_would 46 = .ok (.aload_n 0, 1) := dk_42 (dk_at dksX2_would_1 22 rfl rfl)
theorem dX2_would_47 : decode cX2_would 47 = .ok (.getfield 18, 3) := dk_180 0 18 (dk_at dksX2_would_2 0 rfl rfl)
theorem dX2_would_50 : decode cX2_would 50 = .ok (.invokespecial 281, 3) := dk_183 1 25 (dk_at dksX2_would_2 3 rfl rfl)
theorem dX2_would_53 : decode cX2_would 53 = .ok (.astore 5, 2) := dk_58 5 (dk_at dksX2_would_2 6 rfl rfl)
theorem dX2_would_55 : decode cX2_would 55 = .ok (.aload 5, 2) := dk_25 5 (dk_at dksX2_would_2 8 rfl rfl)
theorem dX2_would_57 : decode cX2_would 57 = .ok (.aload 4, 2) := dk_25 4 (dk_at dksX2_would_2 10 rfl rfl)
theorem dX2_would_59 : decode cX2_would 59 = .ok (.invokevirtual 41, 3) := dk_182 0 41 (dk_at dksX2_would_2 12 rfl rfl)
theorem dX2_would_62 : decode cX2_would 62 = .ok (.istore 6, 2) := dk_54 6 (dk_at dksX2_would_2 15 rfl rfl)
theorem dX2_would_64 : decode cX2_would 64 = .ok (.new 126, 3) := dk_187 0 126 (dk_at dksX2_would_2 17 rfl rfl)
theorem dX2_would_67 : decode cX2_would 67 = .ok (.dup, 1) := dk_89 (dk_at dksX2_would_2 20 rfl rfl)
theorem dX2_would_68 : decode cX2_would 68 = .ok (.aload_n 3, 1) := dk_45 (dk_at dksX2_would_2 21 rfl rfl)
theorem dX2_would_69 : decode cX2_would 69 = .ok (.aload 5, 2) := dk_25 5 (dk_at dksX2_would_2 22 rfl rfl)
theorem dX2_would_71 : decode cX2_would 71 = .ok (.aload_n 0, 1) := dk_42 (dk_at dksX2_would_3 0 rfl rfl)
theorem dX2_would_72 : decode cX2_would 72 = .ok (.aload 4, 2) := dk_25 4 (dk_at dksX2_would_3 1 rfl rfl)
theorem dX2_would_74 : decode cX2_would 74 = .ok (.invokedynamic 284, 5) := by decide +kernel
theorem dX2_would_79 : decode cX2_would 79 = .ok (.invokespecial 132, 3) := dk_183 0 132 (dk_at dksX2_would_3 8 rfl rfl)
theorem dX2_would_82 : decode cX2_would 82 = .ok (.invokevirtual 275, 3) := dk_182 1 19 (dk_at dksX2_would_3 11 rfl rfl)
theorem dX2_would_85 : decode cX2_would 85 = .ok (.ireturn, 1) := dk_172 (dk_at dksX2_would_3 14 rfl rfl)
abbrev cX2_lambda_would_3 : ByteArray := prog_6_method_36_code
def yX2_lambda_would_3 : MethodName := ⟨RX2, "lambda$would$3", "(LMissingMiddles$Scrap;LMissingMiddles$Scrap;)Z"⟩
def dkwX2_lambda_would_3_0 : List UInt8 := [44, 43, 165, 0, 11, 42, 44, 182, 0, 240, 153, 0, 7, 4, 167, 0, 4, 3, 172]
abbrev dktX2_lambda_would_3_0 : List UInt8 := dkwX2_lambda_would_3_0 ++ []
theorem dksX2_lambda_would_3_0 : cX2_lambda_would_3.data.toList.drop 0 = dktX2_lambda_would_3_0 := by decide +kernel
theorem dX2_lambda_would_3_0 : decode cX2_lambda_would_3 0 = .ok (.aload_n 2, 1) := dk_44 (dk_at dksX2_lambda_would_3_0 0 rfl rfl)
theorem dX2_lambda_would_3_1 : decode cX2_lambda_would_3 1 = .ok (.aload_n 1, 1) := dk_43 (dk_at dksX2_lambda_would_3_0 1 rfl rfl)
theorem dX2_lambda_would_3_2 : decode cX2_lambda_would_3 2 = .ok (.if_acmp .eq 11, 3) := dk_165 0 11 (dk_at dksX2_lambda_would_3_0 2 rfl rfl)
theorem dX2_lambda_would_3_5 : decode cX2_lambda_would_3 5 = .ok (.aload_n 0, 1) := dk_42 (dk_at dksX2_lambda_would_3_0 5 rfl rfl)
theorem dX2_lambda_would_3_6 : decode cX2_lambda_would_3 6 = .ok (.aload_n 2, 1) := dk_44 (dk_at dksX2_lambda_would_3_0 6 rfl rfl)
theorem dX2_lambda_would_3_7 : decode cX2_lambda_would_3 7 = .ok (.invokevirtual 240, 3) := dk_182 0 240 (dk_at dksX2_lambda_would_3_0 7 rfl rfl)
theorem dX2_lambda_would_3_10 : decode cX2_lambda_would_3 10 = .ok (.ifCond .eq 7, 3) := dk_153 0 7 (dk_at dksX2_lambda_would_3_0 10 rfl rfl)
theorem dX2_lambda_would_3_13 : decode cX2_lambda_would_3 13 = .ok (.iconst 1, 1) := dk_4 (dk_at dksX2_lambda_would_3_0 13 rfl rfl)
theorem dX2_lambda_would_3_14 : decode cX2_lambda_would_3 14 = .ok (.goto 4, 3) := dk_167 0 4 (dk_at dksX2_lambda_would_3_0 14 rfl rfl)
theorem dX2_lambda_would_3_17 : decode cX2_lambda_would_3 17 = .ok (.iconst 0, 1) := dk_3 (dk_at dksX2_lambda_would_3_0 17 rfl rfl)
theorem dX2_lambda_would_3_18 : decode cX2_lambda_would_3 18 = .ok (.ireturn, 1) := dk_172 (dk_at dksX2_lambda_would_3_0 18 rfl rfl)
abbrev cX2_ranked : ByteArray := prog_6_method_28_code
def yX2_ranked : MethodName := ⟨RX2, "ranked", "(I)I"⟩
def dkwX2_ranked_2 : List UInt8 := [132, 4, 1, 167, 255, 223, 29, 27, 160, 0, 5, 28, 172, 132, 2, 1, 167, 255, 194, 2, 172]
abbrev dktX2_ranked_2 : List UInt8 := dkwX2_ranked_2 ++ []
def dkwX2_ranked_1 : List UInt8 := [182, 0, 96, 162, 0, 27, 29, 42, 21, 4, 28, 182, 1, 61, 153, 0, 7, 4, 167, 0, 4, 3, 96, 62]
abbrev dktX2_ranked_1 : List UInt8 := dkwX2_ranked_1 ++ dktX2_ranked_2
def dkwX2_ranked_0 : List UInt8 := [3, 61, 28, 42, 180, 0, 18, 182, 0, 96, 162, 0, 57, 3, 62, 3, 54, 4, 21, 4, 42, 180, 0, 18]
abbrev dktX2_ranked_0 : List UInt8 := dkwX2_ranked_0 ++ dktX2_ranked_1
theorem dksX2_ranked_0 : cX2_ranked.data.toList.drop 0 = dktX2_ranked_0 := by decide +kernel
theorem dksX2_ranked_1 : cX2_ranked.data.toList.drop 24 = dktX2_ranked_1 := dk_seg dksX2_ranked_0 24 rfl rfl
theorem dksX2_ranked_2 : cX2_ranked.data.toList.drop 48 = dktX2_ranked_2 := dk_seg dksX2_ranked_1 24 rfl rfl
theorem dX2_ranked_0 : decode cX2_ranked 0 = .ok (.iconst 0, 1) := dk_3 (dk_at dksX2_ranked_0 0 rfl rfl)
theorem dX2_ranked_1 : decode cX2_ranked 1 = .ok (.istore_n 2, 1) := dk_61 (dk_at dksX2_ranked_0 1 rfl rfl)
theorem dX2_ranked_2 : decode cX2_ranked 2 = .ok (.iload_n 2, 1) := dk_28 (dk_at dksX2_ranked_0 2 rfl rfl)
theorem dX2_ranked_3 : decode cX2_ranked 3 = .ok (.aload_n 0, 1) := dk_42 (dk_at dksX2_ranked_0 3 rfl rfl)
theorem dX2_ranked_4 : decode cX2_ranked 4 = .ok (.getfield 18, 3) := dk_180 0 18 (dk_at dksX2_ranked_0 4 rfl rfl)
theorem dX2_ranked_7 : decode cX2_ranked 7 = .ok (.invokevirtual 96, 3) := dk_182 0 96 (dk_at dksX2_ranked_0 7 rfl rfl)
theorem dX2_ranked_10 : decode cX2_ranked 10 = .ok (.if_icmp .ge 57, 3) := dk_162 0 57 (dk_at dksX2_ranked_0 10 rfl rfl)
theorem dX2_ranked_13 : decode cX2_ranked 13 = .ok (.iconst 0, 1) := dk_3 (dk_at dksX2_ranked_0 13 rfl rfl)
theorem dX2_ranked_14 : decode cX2_ranked 14 = .ok (.istore_n 3, 1) := dk_62 (dk_at dksX2_ranked_0 14 rfl rfl)
theorem dX2_ranked_15 : decode cX2_ranked 15 = .ok (.iconst 0, 1) := dk_3 (dk_at dksX2_ranked_0 15 rfl rfl)
theorem dX2_ranked_16 : decode cX2_ranked 16 = .ok (.istore 4, 2) := dk_54 4 (dk_at dksX2_ranked_0 16 rfl rfl)
theorem dX2_ranked_18 : decode cX2_ranked 18 = .ok (.iload 4, 2) := dk_21 4 (dk_at dksX2_ranked_0 18 rfl rfl)
theorem dX2_ranked_20 : decode cX2_ranked 20 = .ok (.aload_n 0, 1) := dk_42 (dk_at dksX2_ranked_0 20 rfl rfl)
theorem dX2_ranked_21 : decode cX2_ranked 21 = .ok (.getfield 18, 3) := dk_180 0 18 (dk_at dksX2_ranked_0 21 rfl rfl)
theorem dX2_ranked_24 : decode cX2_ranked 24 = .ok (.invokevirtual 96, 3) := dk_182 0 96 (dk_at dksX2_ranked_1 0 rfl rfl)
theorem dX2_ranked_27 : decode cX2_ranked 27 = .ok (.if_icmp .ge 27, 3) := dk_162 0 27 (dk_at dksX2_ranked_1 3 rfl rfl)
theorem dX2_ranked_30 : decode cX2_ranked 30 = .ok (.iload_n 3, 1) := dk_29 (dk_at dksX2_ranked_1 6 rfl rfl)
theorem dX2_ranked_31 : decode cX2_ranked 31 = .ok (.aload_n 0, 1) := dk_42 (dk_at dksX2_ranked_1 7 rfl rfl)
theorem dX2_ranked_32 : decode cX2_ranked 32 = .ok (.iload 4, 2) := dk_21 4 (dk_at dksX2_ranked_1 8 rfl rfl)
theorem dX2_ranked_34 : decode cX2_ranked 34 = .ok (.iload_n 2, 1) := dk_28 (dk_at dksX2_ranked_1 10 rfl rfl)
theorem dX2_ranked_35 : decode cX2_ranked 35 = .ok (.invokevirtual 317, 3) := dk_182 1 61 (dk_at dksX2_ranked_1 11 rfl rfl)
theorem dX2_ranked_38 : decode cX2_ranked 38 = .ok (.ifCond .eq 7, 3) := dk_153 0 7 (dk_at dksX2_ranked_1 14 rfl rfl)
theorem dX2_ranked_41 : decode cX2_ranked 41 = .ok (.iconst 1, 1) := dk_4 (dk_at dksX2_ranked_1 17 rfl rfl)
theorem dX2_ranked_42 : decode cX2_ranked 42 = .ok (.goto 4, 3) := dk_167 0 4 (dk_at dksX2_ranked_1 18 rfl rfl)
theorem dX2_ranked_45 : decode cX2_ranked 45 = .ok (.iconst 0, 1) := dk_3 (dk_at dksX2_ranked_1 21 rfl rfl)
theorem dX2_ranked_46 : decode cX2_ranked 46 = .ok (.iadd, 1) := dk_96 (dk_at dksX2_ranked_1 22 rfl rfl)
theorem dX2_ranked_47 : decode cX2_ranked 47 = .ok (.istore_n 3, 1) := dk_62 (dk_at dksX2_ranked_1 23 rfl rfl)
theorem dX2_ranked_48 : decode cX2_ranked 48 = .ok (.iinc 4 1, 3) := dk_132 4 1 (dk_at dksX2_ranked_2 0 rfl rfl)
theorem dX2_ranked_51 : decode cX2_ranked 51 = .ok (.goto (-33), 3) := dk_167 255 223 (dk_at dksX2_ranked_2 3 rfl rfl)
theorem dX2_ranked_54 : decode cX2_ranked 54 = .ok (.iload_n 3, 1) := dk_29 (dk_at dksX2_ranked_2 6 rfl rfl)
theorem dX2_ranked_55 : decode cX2_ranked 55 = .ok (.iload_n 1, 1) := dk_27 (dk_at dksX2_ranked_2 7 rfl rfl)
theorem dX2_ranked_56 : decode cX2_ranked 56 = .ok (.if_icmp .ne 5, 3) := dk_160 0 5 (dk_at dksX2_ranked_2 8 rfl rfl)
theorem dX2_ranked_59 : decode cX2_ranked 59 = .ok (.iload_n 2, 1) := dk_28 (dk_at dksX2_ranked_2 11 rfl rfl)
theorem dX2_ranked_60 : decode cX2_ranked 60 = .ok (.ireturn, 1) := dk_172 (dk_at dksX2_ranked_2 12 rfl rfl)
theorem dX2_ranked_61 : decode cX2_ranked 61 = .ok (.iinc 2 1, 3) := dk_132 2 1 (dk_at dksX2_ranked_2 13 rfl rfl)
theorem dX2_ranked_64 : decode cX2_ranked 64 = .ok (.goto (-62), 3) := dk_167 255 194 (dk_at dksX2_ranked_2 16 rfl rfl)
theorem dX2_ranked_67 : decode cX2_ranked 67 = .ok (.iconst (-1), 1) := dk_2 (dk_at dksX2_ranked_2 19 rfl rfl)
theorem dX2_ranked_68 : decode cX2_ranked 68 = .ok (.ireturn, 1) := dk_172 (dk_at dksX2_ranked_2 20 rfl rfl)
abbrev cX2_isAhead : ByteArray := prog_6_method_27_code
def yX2_isAhead : MethodName := ⟨RX2, "isAhead", "(II)Z"⟩
def dkwX2_isAhead_3 : List UInt8 := [154, 0, 12, 27, 28, 162, 0, 7, 4, 167, 0, 4, 3, 172]
abbrev dktX2_isAhead_3 : List UInt8 := dkwX2_isAhead_3 ++ []
def dkwX2_isAhead_2 : List UInt8 := [167, 0, 13, 45, 182, 0, 135, 25, 4, 182, 0, 135, 100, 54, 5, 21, 5, 157, 0, 13, 21, 5]
abbrev dktX2_isAhead_2 : List UInt8 := dkwX2_isAhead_2 ++ dktX2_isAhead_3
def dkwX2_isAhead_1 : List UInt8 := [58, 4, 42, 45, 182, 0, 122, 42, 25, 4, 182, 0, 122, 100, 54, 5, 21, 5, 153, 0, 8, 21, 5]
abbrev dktX2_isAhead_1 : List UInt8 := dkwX2_isAhead_1 ++ dktX2_isAhead_2
def dkwX2_isAhead_0 : List UInt8 := [42, 180, 0, 18, 27, 182, 0, 71, 192, 0, 65, 78, 42, 180, 0, 18, 28, 182, 0, 71, 192, 0, 65]
abbrev dktX2_isAhead_0 : List UInt8 := dkwX2_isAhead_0 ++ dktX2_isAhead_1
theorem dksX2_isAhead_0 : cX2_isAhead.data.toList.drop 0 = dktX2_isAhead_0 := by decide +kernel
theorem dksX2_isAhead_1 : cX2_isAhead.data.toList.drop 23 = dktX2_isAhead_1 := dk_seg dksX2_isAhead_0 23 rfl rfl
theorem dksX2_isAhead_2 : cX2_isAhead.data.toList.drop 46 = dktX2_isAhead_2 := dk_seg dksX2_isAhead_1 23 rfl rfl
theorem dksX2_isAhead_3 : cX2_isAhead.data.toList.drop 68 = dktX2_isAhead_3 := dk_seg dksX2_isAhead_2 22 rfl rfl
theorem dX2_isAhead_0 : decode cX2_isAhead 0 = .ok (.aload_n 0, 1) := dk_42 (dk_at dksX2_isAhead_0 0 rfl rfl)
theorem dX2_isAhead_1 : decode cX2_isAhead 1 = .ok (.getfield 18, 3) := dk_180 0 18 (dk_at dksX2_isAhead_0 1 rfl rfl)
theorem dX2_isAhead_4 : decode cX2_isAhead 4 = .ok (.iload_n 1, 1) := dk_27 (dk_at dksX2_isAhead_0 4 rfl rfl)
theorem dX2_isAhead_5 : decode cX2_isAhead 5 = .ok (.invokevirtual 71, 3) := dk_182 0 71 (dk_at dksX2_isAhead_0 5 rfl rfl)
theorem dX2_isAhead_8 : decode cX2_isAhead 8 = .ok (.checkcast 65, 3) := dk_192 0 65 (dk_at dksX2_isAhead_0 8 rfl rfl)
theorem dX2_isAhead_11 : decode cX2_isAhead 11 = .ok (.astore_n 3, 1) := dk_78 (dk_at dksX2_isAhead_0 11 rfl rfl)
theorem dX2_isAhead_12 : decode cX2_isAhead 12 = .ok (.aload_n 0, 1) := dk_42 (dk_at dksX2_isAhead_0 12 rfl rfl)
theorem dX2_isAhead_13 : decode cX2_isAhead 13 = .ok (.getfield 18, 3) := dk_180 0 18 (dk_at dksX2_isAhead_0 13 rfl rfl)
theorem dX2_isAhead_16 : decode cX2_isAhead 16 = .ok (.iload_n 2, 1) := dk_28 (dk_at dksX2_isAhead_0 16 rfl rfl)
theorem dX2_isAhead_17 : decode cX2_isAhead 17 = .ok (.invokevirtual 71, 3) := dk_182 0 71 (dk_at dksX2_isAhead_0 17 rfl rfl)
theorem dX2_isAhead_20 : decode cX2_isAhead 20 = .ok (.checkcast 65, 3) := dk_192 0 65 (dk_at dksX2_isAhead_0 20 rfl rfl)
theorem dX2_isAhead_23 : decode cX2_isAhead 23 = .ok (.astore 4, 2) := dk_58 4 (dk_at dksX2_isAhead_1 0 rfl rfl)
theorem dX2_isAhead_25 : decode cX2_isAhead 25 = .ok (.aload_n 0, 1) := dk_42 (dk_at dksX2_isAhead_1 2 rfl rfl)
theorem dX2_isAhead_26 : decode cX2_isAhead 26 = .ok (.aload_n 3, 1) := dk_45 (dk_at dksX2_isAhead_1 3 rfl rfl)
theorem dX2_isAhead_27 : decode cX2_isAhead 27 = .ok (.invokevirtual 122, 3) := dk_182 0 122 (dk_at dksX2_isAhead_1 4 rfl rfl)
theorem dX2_isAhead_30 : decode cX2_isAhead 30 = .ok (.aload_n 0, 1) := dk_42 (dk_at dksX2_isAhead_1 7 rfl rfl)
theorem dX2_isAhead_31 : decode cX2_isAhead 31 = .ok (.aload 4, 2) := dk_25 4 (dk_at dksX2_isAhead_1 8 rfl rfl)
theorem dX2_isAhead_33 : decode cX2_isAhead 33 = .ok (.invokevirtual 122, 3) := dk_182 0 122 (dk_at dksX2_isAhead_1 10 rfl rfl)
theorem dX2_isAhead_36 : decode cX2_isAhead 36 = .ok (.isub, 1) := dk_100 (dk_at dksX2_isAhead_1 13 rfl rfl)
theorem dX2_isAhead_37 : decode cX2_isAhead 37 = .ok (.istore 5, 2) := dk_54 5 (dk_at dksX2_isAhead_1 14 rfl rfl)
theorem dX2_isAhead_39 : decode cX2_isAhead 39 = .ok (.iload 5, 2) := dk_21 5 (dk_at dksX2_isAhead_1 16 rfl rfl)
theorem dX2_isAhead_41 : decode cX2_isAhead 41 = .ok (.ifCond .eq 8, 3) := dk_153 0 8 (dk_at dksX2_isAhead_1 18 rfl rfl)
theorem dX2_isAhead_44 : decode cX2_isAhead 44 = .ok (.iload 5, 2) := dk_21 5 (dk_at dksX2_isAhead_1 21 rfl rfl)
theorem dX2_isAhead_46 : decode cX2_isAhead 46 = .ok (.goto 13, 3) := dk_167 0 13 (dk_at dksX2_isAhead_2 0 rfl rfl)
theorem dX2_isAhead_49 : decode cX2_isAhead 49 = .ok (.aload_n 3, 1) := dk_45 (dk_at dksX2_isAhead_2 3 rfl rfl)
theorem dX2_isAhead_50 : decode cX2_isAhead 50 = .ok (.invokevirtual 135, 3) := dk_182 0 135 (dk_at dksX2_isAhead_2 4 rfl rfl)
theorem dX2_isAhead_53 : decode cX2_isAhead 53 = .ok (.aload 4, 2) := dk_25 4 (dk_at dksX2_isAhead_2 7 rfl rfl)
theorem dX2_isAhead_55 : decode cX2_isAhead 55 = .ok (.invokevirtual 135, 3) := dk_182 0 135 (dk_at dksX2_isAhead_2 9 rfl rfl)
theorem dX2_isAhead_58 : decode cX2_isAhead 58 = .ok (.isub, 1) := dk_100 (dk_at dksX2_isAhead_2 12 rfl rfl)
theorem dX2_isAhead_59 : decode cX2_isAhead 59 = .ok (.istore 5, 2) := dk_54 5 (dk_at dksX2_isAhead_2 13 rfl rfl)
theorem dX2_isAhead_61 : decode cX2_isAhead 61 = .ok (.iload 5, 2) := dk_21 5 (dk_at dksX2_isAhead_2 15 rfl rfl)
theorem dX2_isAhead_63 : decode cX2_isAhead 63 = .ok (.ifCond .gt 13, 3) := dk_157 0 13 (dk_at dksX2_isAhead_2 17 rfl rfl)
theorem dX2_isAhead_66 : decode cX2_isAhead 66 = .ok (.iload 5, 2) := dk_21 5 (dk_at dksX2_isAhead_2 20 rfl rfl)
theorem dX2_isAhead_68 : decode cX2_isAhead 68 = .ok (.ifCond .ne 12, 3) := dk_154 0 12 (dk_at dksX2_isAhead_3 0 rfl rfl)
theorem dX2_isAhead_71 : decode cX2_isAhead 71 = .ok (.iload_n 1, 1) := dk_27 (dk_at dksX2_isAhead_3 3 rfl rfl)
theorem dX2_isAhead_72 : decode cX2_isAhead 72 = .ok (.iload_n 2, 1) := dk_28 (dk_at dksX2_isAhead_3 4 rfl rfl)
theorem dX2_isAhead_73 : decode cX2_isAhead 73 = .ok (.if_icmp .ge 7, 3) := dk_162 0 7 (dk_at dksX2_isAhead_3 5 rfl rfl)
theorem dX2_isAhead_76 : decode cX2_isAhead 76 = .ok (.iconst 1, 1) := dk_4 (dk_at dksX2_isAhead_3 8 rfl rfl)
theorem dX2_isAhead_77 : decode cX2_isAhead 77 = .ok (.goto 4, 3) := dk_167 0 4 (dk_at dksX2_isAhead_3 9 rfl rfl)
theorem dX2_isAhead_80 : decode cX2_isAhead 80 = .ok (.iconst 0, 1) := dk_3 (dk_at dksX2_isAhead_3 12 rfl rfl)
theorem dX2_isAhead_81 : decode cX2_isAhead 81 = .ok (.ireturn, 1) := dk_172 (dk_at dksX2_isAhead_3 13 rfl rfl)
abbrev cX2_told : ByteArray := prog_6_method_34_code
def yX2_told : MethodName := ⟨RX2, "told", "(I)Ljava/lang/String;"⟩
def dkwX2_told_3 : List UInt8 := [182, 0, 122, 182, 1, 98, 45, 182, 1, 92, 182, 1, 103, 176]
abbrev dktX2_told_3 : List UInt8 := dkwX2_told_3 ++ []
def dkwX2_told_2 : List UInt8 := [182, 1, 92, 19, 1, 96, 182, 1, 92, 44, 180, 0, 237, 182, 1, 98, 19, 1, 101, 182, 1, 92, 42, 44]
abbrev dktX2_told_2 : List UInt8 := dkwX2_told_2 ++ dktX2_told_3
def dkwX2_told_1 : List UInt8 := [167, 0, 12, 19, 1, 81, 167, 0, 6, 19, 1, 83, 78, 187, 1, 85, 89, 183, 1, 87, 44, 182, 1, 88]
abbrev dktX2_told_1 : List UInt8 := dkwX2_told_1 ++ dktX2_told_2
def dkwX2_told_0 : List UInt8 := [42, 27, 182, 0, 225, 77, 44, 182, 0, 116, 153, 0, 23, 44, 180, 0, 119, 4, 160, 0, 9, 19, 1, 79]
abbrev dktX2_told_0 : List UInt8 := dkwX2_told_0 ++ dktX2_told_1
theorem dksX2_told_0 : cX2_told.data.toList.drop 0 = dktX2_told_0 := by decide +kernel
theorem dksX2_told_1 : cX2_told.data.toList.drop 24 = dktX2_told_1 := dk_seg dksX2_told_0 24 rfl rfl
theorem dksX2_told_2 : cX2_told.data.toList.drop 48 = dktX2_told_2 := dk_seg dksX2_told_1 24 rfl rfl
theorem dksX2_told_3 : cX2_told.data.toList.drop 72 = dktX2_told_3 := dk_seg dksX2_told_2 24 rfl rfl
theorem dX2_told_0 : decode cX2_told 0 = .ok (.aload_n 0, 1) := dk_42 (dk_at dksX2_told_0 0 rfl rfl)
theorem dX2_told_1 : decode cX2_told 1 = .ok (.iload_n 1, 1) := dk_27 (dk_at dksX2_told_0 1 rfl rfl)
theorem dX2_told_2 : decode cX2_told 2 = .ok (.invokevirtual 225, 3) := dk_182 0 225 (dk_at dksX2_told_0 2 rfl rfl)
theorem dX2_told_5 : decode cX2_told 5 = .ok (.astore_n 2, 1) := dk_77 (dk_at dksX2_told_0 5 rfl rfl)
theorem dX2_told_6 : decode cX2_told 6 = .ok (.aload_n 2, 1) := dk_44 (dk_at dksX2_told_0 6 rfl rfl)
theorem dX2_told_7 : decode cX2_told 7 = .ok (.invokevirtual 116, 3) := dk_182 0 116 (dk_at dksX2_told_0 7 rfl rfl)
theorem dX2_told_10 : decode cX2_told 10 = .ok (.ifCond .eq 23, 3) := dk_153 0 23 (dk_at dksX2_told_0 10 rfl rfl)
theorem dX2_told_13 : decode cX2_told 13 = .ok (.aload_n 2, 1) := dk_44 (dk_at dksX2_told_0 13 rfl rfl)
theorem dX2_told_14 : decode cX2_told 14 = .ok (.getfield 119, 3) := dk_180 0 119 (dk_at dksX2_told_0 14 rfl rfl)
theorem dX2_told_17 : decode cX2_told 17 = .ok (.iconst 1, 1) := dk_4 (dk_at dksX2_told_0 17 rfl rfl)
theorem dX2_told_18 : decode cX2_told 18 = .ok (.if_icmp .ne 9, 3) := dk_160 0 9 (dk_at dksX2_told_0 18 rfl rfl)
theorem dX2_told_21 : decode cX2_told 21 = .ok (.ldc_w 335, 3) := dk_19 1 79 (dk_at dksX2_told_0 21 rfl rfl)
theorem dX2_told_24 : decode cX2_told 24 = .ok (.goto 12, 3) := dk_167 0 12 (dk_at dksX2_told_1 0 rfl rfl)
theorem dX2_told_27 : decode cX2_told 27 = .ok (.ldc_w 337, 3) := dk_19 1 81 (dk_at dksX2_told_1 3 rfl rfl)
theorem dX2_told_30 : decode cX2_told 30 = .ok (.goto 6, 3) := dk_167 0 6 (dk_at dksX2_told_1 6 rfl rfl)
theorem dX2_told_33 : decode cX2_told 33 = .ok (.ldc_w 339, 3) := dk_19 1 83 (dk_at dksX2_told_1 9 rfl rfl)
theorem dX2_told_36 : decode cX2_told 36 = .ok (.astore_n 3, 1) := dk_78 (dk_at dksX2_told_1 12 rfl rfl)
theorem dX2_told_37 : decode cX2_told 37 = .ok (.new 341, 3) := dk_187 1 85 (dk_at dksX2_told_1 13 rfl rfl)
theorem dX2_told_40 : decode cX2_told 40 = .ok (.dup, 1) := dk_89 (dk_at dksX2_told_1 16 rfl rfl)
theorem dX2_told_41 : decode cX2_told 41 = .ok (.invokespecial 343, 3) := dk_183 1 87 (dk_at dksX2_told_1 17 rfl rfl)
theorem dX2_told_44 : decode cX2_told 44 = .ok (.aload_n 2, 1) := dk_44 (dk_at dksX2_told_1 20 rfl rfl)
theorem dX2_told_45 : decode cX2_told 45 = .ok (.invokevirtual 344, 3) := dk_182 1 88 (dk_at dksX2_told_1 21 rfl rfl)
theorem dX2_told_48 : decode cX2_told 48 = .ok (.invokevirtual 348, 3) := dk_182 1 92 (dk_at dksX2_told_2 0 rfl rfl)
theorem dX2_told_51 : decode cX2_told 51 = .ok (.ldc_w 352, 3) := dk_19 1 96 (dk_at dksX2_told_2 3 rfl rfl)
theorem dX2_told_54 : decode cX2_told 54 = .ok (.invokevirtual 348, 3) := dk_182 1 92 (dk_at dksX2_told_2 6 rfl rfl)
theorem dX2_told_57 : decode cX2_told 57 = .ok (.aload_n 2, 1) := dk_44 (dk_at dksX2_told_2 9 rfl rfl)
theorem dX2_told_58 : decode cX2_told 58 = .ok (.getfield 237, 3) := dk_180 0 237 (dk_at dksX2_told_2 10 rfl rfl)
theorem dX2_told_61 : decode cX2_told 61 = .ok (.invokevirtual 354, 3) := dk_182 1 98 (dk_at dksX2_told_2 13 rfl rfl)
theorem dX2_told_64 : decode cX2_told 64 = .ok (.ldc_w 357, 3) := dk_19 1 101 (dk_at dksX2_told_2 16 rfl rfl)
theorem dX2_told_67 : decode cX2_told 67 = .ok (.invokevirtual 348, 3) := dk_182 1 92 (dk_at dksX2_told_2 19 rfl rfl)
theorem dX2_told_70 : decode cX2_told 70 = .ok (.aload_n 0, 1) := dk_42 (dk_at dksX2_told_2 22 rfl rfl)
theorem dX2_told_71 : decode cX2_told 71 = .ok (.aload_n 2, 1) := dk_44 (dk_at dksX2_told_2 23 rfl rfl)
theorem dX2_told_72 : decode cX2_told 72 = .ok (.invokevirtual 122, 3) := dk_182 0 122 (dk_at dksX2_told_3 0 rfl rfl)
theorem dX2_told_75 : decode cX2_told 75 = .ok (.invokevirtual 354, 3) := dk_182 1 98 (dk_at dksX2_told_3 3 rfl rfl)
theorem dX2_told_78 : decode cX2_told 78 = .ok (.aload_n 3, 1) := dk_45 (dk_at dksX2_told_3 6 rfl rfl)
theorem dX2_told_79 : decode cX2_told 79 = .ok (.invokevirtual 348, 3) := dk_182 1 92 (dk_at dksX2_told_3 7 rfl rfl)
theorem dX2_told_82 : decode cX2_told 82 = .ok (.invokevirtual 359, 3) := dk_182 1 103 (dk_at dksX2_told_3 10 rfl rfl)
theorem dX2_told_85 : decode cX2_told 85 = .ok (.areturn, 1) := dk_176 (dk_at dksX2_told_3 13 rfl rfl)
abbrev cX2_whole : ByteArray := prog_6_method_29_code
def yX2_whole : MethodName := ⟨RX2, "whole", "()I"⟩
def dkwX2_whole_2 : List UInt8 := [167, 255, 222, 27, 172]
abbrev dktX2_whole_2 : List UInt8 := dkwX2_whole_2 ++ []
def dkwX2_whole_1 : List UInt8 := [185, 0, 61, 1, 0, 192, 0, 108, 78, 27, 45, 180, 0, 207, 153, 0, 7, 4, 167, 0, 4, 3, 96, 60]
abbrev dktX2_whole_1 : List UInt8 := dkwX2_whole_1 ++ dktX2_whole_2
def dkwX2_whole_0 : List UInt8 := [3, 60, 42, 180, 0, 12, 182, 0, 51, 77, 44, 185, 0, 55, 1, 0, 153, 0, 31, 44]
abbrev dktX2_whole_0 : List UInt8 := dkwX2_whole_0 ++ dktX2_whole_1
theorem dksX2_whole_0 : cX2_whole.data.toList.drop 0 = dktX2_whole_0 := by decide +kernel
theorem dksX2_whole_1 : cX2_whole.data.toList.drop 20 = dktX2_whole_1 := dk_seg dksX2_whole_0 20 rfl rfl
theorem dksX2_whole_2 : cX2_whole.data.toList.drop 44 = dktX2_whole_2 := dk_seg dksX2_whole_1 24 rfl rfl
theorem dX2_whole_0 : decode cX2_whole 0 = .ok (.iconst 0, 1) := dk_3 (dk_at dksX2_whole_0 0 rfl rfl)
theorem dX2_whole_1 : decode cX2_whole 1 = .ok (.istore_n 1, 1) := dk_60 (dk_at dksX2_whole_0 1 rfl rfl)
theorem dX2_whole_2 : decode cX2_whole 2 = .ok (.aload_n 0, 1) := dk_42 (dk_at dksX2_whole_0 2 rfl rfl)
theorem dX2_whole_3 : decode cX2_whole 3 = .ok (.getfield 12, 3) := dk_180 0 12 (dk_at dksX2_whole_0 3 rfl rfl)
theorem dX2_whole_6 : decode cX2_whole 6 = .ok (.invokevirtual 51, 3) := dk_182 0 51 (dk_at dksX2_whole_0 6 rfl rfl)
theorem dX2_whole_9 : decode cX2_whole 9 = .ok (.astore_n 2, 1) := dk_77 (dk_at dksX2_whole_0 9 rfl rfl)
theorem dX2_whole_10 : decode cX2_whole 10 = .ok (.aload_n 2, 1) := dk_44 (dk_at dksX2_whole_0 10 rfl rfl)
theorem dX2_whole_11 : decode cX2_whole 11 = .ok (.invokeinterface 55 1, 5) := by decide +kernel
theorem dX2_whole_16 : decode cX2_whole 16 = .ok (.ifCond .eq 31, 3) := dk_153 0 31 (dk_at dksX2_whole_0 16 rfl rfl)
theorem dX2_whole_19 : decode cX2_whole 19 = .ok (.aload_n 2, 1) := dk_44 (dk_at dksX2_whole_0 19 rfl rfl)
theorem dX2_whole_20 : decode cX2_whole 20 = .ok (.invokeinterface 61 1, 5) := by decide +kernel
theorem dX2_whole_25 : decode cX2_whole 25 = .ok (.checkcast 108, 3) := dk_192 0 108 (dk_at dksX2_whole_1 5 rfl rfl)
theorem dX2_whole_28 : decode cX2_whole 28 = .ok (.astore_n 3, 1) := dk_78 (dk_at dksX2_whole_1 8 rfl rfl)
theorem dX2_whole_29 : decode cX2_whole 29 = .ok (.iload_n 1, 1) := dk_27 (dk_at dksX2_whole_1 9 rfl rfl)
theorem dX2_whole_30 : decode cX2_whole 30 = .ok (.aload_n 3, 1) := dk_45 (dk_at dksX2_whole_1 10 rfl rfl)
theorem dX2_whole_31 : decode cX2_whole 31 = .ok (.getfield 207, 3) := dk_180 0 207 (dk_at dksX2_whole_1 11 rfl rfl)
theorem dX2_whole_34 : decode cX2_whole 34 = .ok (.ifCond .eq 7, 3) := dk_153 0 7 (dk_at dksX2_whole_1 14 rfl rfl)
theorem dX2_whole_37 : decode cX2_whole 37 = .ok (.iconst 1, 1) := dk_4 (dk_at dksX2_whole_1 17 rfl rfl)
theorem dX2_whole_38 : decode cX2_whole 38 = .ok (.goto 4, 3) := dk_167 0 4 (dk_at dksX2_whole_1 18 rfl rfl)
theorem dX2_whole_41 : decode cX2_whole 41 = .ok (.iconst 0, 1) := dk_3 (dk_at dksX2_whole_1 21 rfl rfl)
theorem dX2_whole_42 : decode cX2_whole 42 = .ok (.iadd, 1) := dk_96 (dk_at dksX2_whole_1 22 rfl rfl)
theorem dX2_whole_43 : decode cX2_whole 43 = .ok (.istore_n 1, 1) := dk_60 (dk_at dksX2_whole_1 23 rfl rfl)
theorem dX2_whole_44 : decode cX2_whole 44 = .ok (.goto (-34), 3) := dk_167 255 222 (dk_at dksX2_whole_2 0 rfl rfl)
theorem dX2_whole_47 : decode cX2_whole 47 = .ok (.iload_n 1, 1) := dk_27 (dk_at dksX2_whole_2 3 rfl rfl)
theorem dX2_whole_48 : decode cX2_whole 48 = .ok (.ireturn, 1) := dk_172 (dk_at dksX2_whole_2 4 rfl rfl)
abbrev cX2_hidden : ByteArray := prog_6_method_30_code
def yX2_hidden : MethodName := ⟨RX2, "hidden", "()I"⟩
def dkwX2_hidden_1 : List UInt8 := [185, 0, 61, 1, 0, 192, 0, 38, 78, 27, 45, 182, 0, 172, 96, 60, 167, 255, 230, 27, 172]
abbrev dktX2_hidden_1 : List UInt8 := dkwX2_hidden_1 ++ []
def dkwX2_hidden_0 : List UInt8 := [3, 60, 42, 180, 0, 21, 182, 0, 51, 77, 44, 185, 0, 55, 1, 0, 153, 0, 23, 44]
abbrev dktX2_hidden_0 : List UInt8 := dkwX2_hidden_0 ++ dktX2_hidden_1
theorem dksX2_hidden_0 : cX2_hidden.data.toList.drop 0 = dktX2_hidden_0 := by decide +kernel
theorem dksX2_hidden_1 : cX2_hidden.data.toList.drop 20 = dktX2_hidden_1 := dk_seg dksX2_hidden_0 20 rfl rfl
theorem dX2_hidden_0 : decode cX2_hidden 0 = .ok (.iconst 0, 1) := dk_3 (dk_at dksX2_hidden_0 0 rfl rfl)
theorem dX2_hidden_1 : decode cX2_hidden 1 = .ok (.istore_n 1, 1) := dk_60 (dk_at dksX2_hidden_0 1 rfl rfl)
theorem dX2_hidden_2 : decode cX2_hidden 2 = .ok (.aload_n 0, 1) := dk_42 (dk_at dksX2_hidden_0 2 rfl rfl)
theorem dX2_hidden_3 : decode cX2_hidden 3 = .ok (.getfield 21, 3) := dk_180 0 21 (dk_at dksX2_hidden_0 3 rfl rfl)
theorem dX2_hidden_6 : decode cX2_hidden 6 = .ok (.invokevirtual 51, 3) := dk_182 0 51 (dk_at dksX2_hidden_0 6 rfl rfl)
theorem dX2_hidden_9 : decode cX2_hidden 9 = .ok (.astore_n 2, 1) := dk_77 (dk_at dksX2_hidden_0 9 rfl rfl)
theorem dX2_hidden_10 : decode cX2_hidden 10 = .ok (.aload_n 2, 1) := dk_44 (dk_at dksX2_hidden_0 10 rfl rfl)
theorem dX2_hidden_11 : decode cX2_hidden 11 = .ok (.invokeinterface 55 1, 5) := by decide +kernel
theorem dX2_hidden_16 : decode cX2_hidden 16 = .ok (.ifCond .eq 23, 3) := dk_153 0 23 (dk_at dksX2_hidden_0 16 rfl rfl)
theorem dX2_hidden_19 : decode cX2_hidden 19 = .ok (.aload_n 2, 1) := dk_44 (dk_at dksX2_hidden_0 19 rfl rfl)
theorem dX2_hidden_20 : decode cX2_hidden 20 = .ok (.invokeinterface 61 1, 5) := by decide +kernel
theorem dX2_hidden_25 : decode cX2_hidden 25 = .ok (.checkcast 38, 3) := dk_192 0 38 (dk_at dksX2_hidden_1 5 rfl rfl)
theorem dX2_hidden_28 : decode cX2_hidden 28 = .ok (.astore_n 3, 1) := dk_78 (dk_at dksX2_hidden_1 8 rfl rfl)
theorem dX2_hidden_29 : decode cX2_hidden 29 = .ok (.iload_n 1, 1) := dk_27 (dk_at dksX2_hidden_1 9 rfl rfl)
theorem dX2_hidden_30 : decode cX2_hidden 30 = .ok (.aload_n 3, 1) := dk_45 (dk_at dksX2_hidden_1 10 rfl rfl)
theorem dX2_hidden_31 : decode cX2_hidden 31 = .ok (.invokevirtual 172, 3) := dk_182 0 172 (dk_at dksX2_hidden_1 11 rfl rfl)
theorem dX2_hidden_34 : decode cX2_hidden 34 = .ok (.iadd, 1) := dk_96 (dk_at dksX2_hidden_1 14 rfl rfl)
theorem dX2_hidden_35 : decode cX2_hidden 35 = .ok (.istore_n 1, 1) := dk_60 (dk_at dksX2_hidden_1 15 rfl rfl)
theorem dX2_hidden_36 : decode cX2_hidden 36 = .ok (.goto (-26), 3) := dk_167 255 230 (dk_at dksX2_hidden_1 16 rfl rfl)
theorem dX2_hidden_39 : decode cX2_hidden 39 = .ok (.iload_n 1, 1) := dk_27 (dk_at dksX2_hidden_1 19 rfl rfl)
theorem dX2_hidden_40 : decode cX2_hidden 40 = .ok (.ireturn, 1) := dk_172 (dk_at dksX2_hidden_1 20 rfl rfl)
abbrev cX2_found : ByteArray := prog_6_method_31_code
def yX2_found : MethodName := ⟨RX2, "found", "()I"⟩
def dkwX2_found_1 : List UInt8 := [54, 5, 27, 21, 5, 96, 60, 132, 4, 1, 167, 255, 236, 27, 172]
abbrev dktX2_found_1 : List UInt8 := dkwX2_found_1 ++ []
def dkwX2_found_0 : List UInt8 := [3, 60, 42, 180, 0, 30, 77, 44, 190, 62, 3, 54, 4, 21, 4, 29, 162, 0, 20, 44, 21, 4, 46]
abbrev dktX2_found_0 : List UInt8 := dkwX2_found_0 ++ dktX2_found_1
theorem dksX2_found_0 : cX2_found.data.toList.drop 0 = dktX2_found_0 := by decide +kernel
theorem dksX2_found_1 : cX2_found.data.toList.drop 23 = dktX2_found_1 := dk_seg dksX2_found_0 23 rfl rfl
theorem dX2_found_0 : decode cX2_found 0 = .ok (.iconst 0, 1) := dk_3 (dk_at dksX2_found_0 0 rfl rfl)
theorem dX2_found_1 : decode cX2_found 1 = .ok (.istore_n 1, 1) := dk_60 (dk_at dksX2_found_0 1 rfl rfl)
theorem dX2_found_2 : decode cX2_found 2 = .ok (.aload_n 0, 1) := dk_42 (dk_at dksX2_found_0 2 rfl rfl)
theorem dX2_found_3 : decode cX2_found 3 = .ok (.getfield 30, 3) := dk_180 0 30 (dk_at dksX2_found_0 3 rfl rfl)
theorem dX2_found_6 : decode cX2_found 6 = .ok (.astore_n 2, 1) := dk_77 (dk_at dksX2_found_0 6 rfl rfl)
theorem dX2_found_7 : decode cX2_found 7 = .ok (.aload_n 2, 1) := dk_44 (dk_at dksX2_found_0 7 rfl rfl)
theorem dX2_found_8 : decode cX2_found 8 = .ok (.arraylength, 1) := dk_190 (dk_at dksX2_found_0 8 rfl rfl)
theorem dX2_found_9 : decode cX2_found 9 = .ok (.istore_n 3, 1) := dk_62 (dk_at dksX2_found_0 9 rfl rfl)
theorem dX2_found_10 : decode cX2_found 10 = .ok (.iconst 0, 1) := dk_3 (dk_at dksX2_found_0 10 rfl rfl)
theorem dX2_found_11 : decode cX2_found 11 = .ok (.istore 4, 2) := dk_54 4 (dk_at dksX2_found_0 11 rfl rfl)
theorem dX2_found_13 : decode cX2_found 13 = .ok (.iload 4, 2) := dk_21 4 (dk_at dksX2_found_0 13 rfl rfl)
theorem dX2_found_15 : decode cX2_found 15 = .ok (.iload_n 3, 1) := dk_29 (dk_at dksX2_found_0 15 rfl rfl)
theorem dX2_found_16 : decode cX2_found 16 = .ok (.if_icmp .ge 20, 3) := dk_162 0 20 (dk_at dksX2_found_0 16 rfl rfl)
theorem dX2_found_19 : decode cX2_found 19 = .ok (.aload_n 2, 1) := dk_44 (dk_at dksX2_found_0 19 rfl rfl)
theorem dX2_found_20 : decode cX2_found 20 = .ok (.iload 4, 2) := dk_21 4 (dk_at dksX2_found_0 20 rfl rfl)
theorem dX2_found_22 : decode cX2_found 22 = .ok (.iaload, 1) := dk_46 (dk_at dksX2_found_0 22 rfl rfl)
theorem dX2_found_23 : decode cX2_found 23 = .ok (.istore 5, 2) := dk_54 5 (dk_at dksX2_found_1 0 rfl rfl)
theorem dX2_found_25 : decode cX2_found 25 = .ok (.iload_n 1, 1) := dk_27 (dk_at dksX2_found_1 2 rfl rfl)
theorem dX2_found_26 : decode cX2_found 26 = .ok (.iload 5, 2) := dk_21 5 (dk_at dksX2_found_1 3 rfl rfl)
theorem dX2_found_28 : decode cX2_found 28 = .ok (.iadd, 1) := dk_96 (dk_at dksX2_found_1 5 rfl rfl)
theorem dX2_found_29 : decode cX2_found 29 = .ok (.istore_n 1, 1) := dk_60 (dk_at dksX2_found_1 6 rfl rfl)
theorem dX2_found_30 : decode cX2_found 30 = .ok (.iinc 4 1, 3) := dk_132 4 1 (dk_at dksX2_found_1 7 rfl rfl)
theorem dX2_found_33 : decode cX2_found 33 = .ok (.goto (-20), 3) := dk_167 255 236 (dk_at dksX2_found_1 10 rfl rfl)
theorem dX2_found_36 : decode cX2_found 36 = .ok (.iload_n 1, 1) := dk_27 (dk_at dksX2_found_1 13 rfl rfl)
theorem dX2_found_37 : decode cX2_found 37 = .ok (.ireturn, 1) := dk_172 (dk_at dksX2_found_1 14 rfl rfl)
theorem q104 : (Jvm.Cond.initialized "MissingMiddles$Office") ∈ lw_all := lw_g (lw_at lw_m1 2 rfl) rfl
theorem q163 : (Jvm.Cond.instantiable "MissingMiddles$Office" (11 : Nat)) ∈ lw_all := lw_g (lw_at lw_m1 61 rfl) rfl
theorem q165 : (Jvm.Cond.instanceMethod ({ cls := "MissingMiddles$Office", name := "<init>", desc := "()V" } : Jvm.MethodName)) ∈ lw_all := lw_g (lw_at lw_m1 63 rfl) rfl
theorem q166 : (Jvm.Cond.code ({ cls := "MissingMiddles$Office", name := "<init>", desc := "()V" } : Jvm.MethodName) prog_6_method_1_code (3 : Nat) (Option.none : Option Jvm.ClassFile.FieldType)) ∈ lw_all := lw_g (lw_at lw_m1 64 rfl) rfl
theorem q167 : (Jvm.Cond.methodLink "MissingMiddles$Office" (3 : Nat) ({ cls := "java/lang/Object", name := "<init>", desc := "()V" } : Jvm.MethodName)) ∈ lw_all := lw_g (lw_at lw_m1 65 rfl) rfl
theorem q168 : (Jvm.Cond.classLink "MissingMiddles$Office" (9 : Nat) "java/util/ArrayList") ∈ lw_all := lw_g (lw_at lw_m1 66 rfl) rfl
theorem q170 : (Jvm.Cond.methodLink "MissingMiddles$Office" (11 : Nat) ({ cls := "java/util/ArrayList", name := "<init>", desc := "()V" } : Jvm.MethodName)) ∈ lw_all := lw_g (lw_at lw_m1 68 rfl) rfl
theorem q201 : (Jvm.Cond.classLink "MissingMiddles$Office" (24 : Nat) "MissingMiddles$Reader") ∈ lw_all := lw_g (lw_at lw_m1 99 rfl) rfl
theorem q203 : (Jvm.Cond.classLink "MissingMiddles$Office" (38 : Nat) "java/util/LinkedList") ∈ lw_all := lw_g (lw_at lw_m1 101 rfl) rfl
theorem q205 : (Jvm.Cond.methodLink "MissingMiddles$Office" (40 : Nat) ({ cls := "java/util/LinkedList", name := "<init>", desc := "()V" } : Jvm.MethodName)) ∈ lw_all := lw_g (lw_at lw_m1 103 rfl) rfl
theorem q225 : (Jvm.Cond.methodLink "MissingMiddles$Office" (41 : Nat) ({ cls := "java/util/ArrayList", name := "add", desc := "(Ljava/lang/Object;)Z" } : Jvm.MethodName)) ∈ lw_all := lw_g (lw_at lw_m1 123 rfl) rfl
theorem q260 : (Jvm.Cond.selects "MissingMiddles$Office" ({ cls := "java/lang/Object", name := "getClass", desc := "()Ljava/lang/Class;" } : Jvm.MethodName) ({ cls := "java/lang/Object", name := "getClass", desc := "()Ljava/lang/Class;" } : Jvm.MethodName)) ∈ lw_all := lw_g (lw_at lw_m1 158 rfl) rfl
theorem q304 : (Jvm.Cond.methodLinkNest "MissingMiddles$Office" (45 : Nat) ({ cls := "MissingMiddles$Reader", name := "<init>", desc := "()V" } : Jvm.MethodName) "MissingMiddles") ∈ lw_tbl := lw_at lw_m1 202 rfl
theorem q309 : (Jvm.Cond.fieldLinkNest "MissingMiddles$Office" (113 : Nat) "MissingMiddles$Reader" "trust" "I" "MissingMiddles") ∈ lw_tbl := lw_at lw_m1 207 rfl
theorem q311 : (Jvm.Cond.fieldLinkNest "MissingMiddles$Office" (264 : Nat) "MissingMiddles$Reader" "right" "I" "MissingMiddles") ∈ lw_tbl := lw_at lw_m1 209 rfl
theorem q313 : (Jvm.Cond.fieldLinkNest "MissingMiddles$Office" (265 : Nat) "MissingMiddles$Reader" "wrong" "I" "MissingMiddles") ∈ lw_tbl := lw_at lw_m1 211 rfl
theorem q321 : (Jvm.Cond.fieldLink "MissingMiddles$Office" (12 : Nat) "MissingMiddles$Office" "books" "Ljava/util/ArrayList;") ∈ lw_all := lw_g (lw_at lw_m1 219 rfl) rfl
theorem q323 : (Jvm.Cond.fieldLink "MissingMiddles$Office" (18 : Nat) "MissingMiddles$Office" "scraps" "Ljava/util/ArrayList;") ∈ lw_all := lw_g (lw_at lw_m1 221 rfl) rfl
theorem q325 : (Jvm.Cond.fieldLink "MissingMiddles$Office" (21 : Nat) "MissingMiddles$Office" "attics" "Ljava/util/ArrayList;") ∈ lw_all := lw_g (lw_at lw_m1 223 rfl) rfl
theorem q326 : (Jvm.Cond.fieldLink "MissingMiddles$Office" (26 : Nat) "MissingMiddles$Office" "readers" "[LMissingMiddles$Reader;") ∈ lw_all := lw_g (lw_at lw_m1 224 rfl) rfl
theorem q327 : (Jvm.Cond.fieldLink "MissingMiddles$Office" (30 : Nat) "MissingMiddles$Office" "foundIn" "[I") ∈ lw_all := lw_g (lw_at lw_m1 225 rfl) rfl
theorem q328 : (Jvm.Cond.fieldLink "MissingMiddles$Office" (81 : Nat) "MissingMiddles$Office" "coins" "I") ∈ lw_all := lw_g (lw_at lw_m1 226 rfl) rfl
theorem q330 : (Jvm.Cond.fieldLink "MissingMiddles$Office" (34 : Nat) "MissingMiddles$Office" "price" "I") ∈ lw_all := lw_g (lw_at lw_m1 228 rfl) rfl
theorem q332 : (Jvm.Cond.fieldLink "MissingMiddles$Office" (84 : Nat) "MissingMiddles$Office" "dropped" "I") ∈ lw_all := lw_g (lw_at lw_m1 230 rfl) rfl
theorem q334 : (Jvm.Cond.fieldLink "MissingMiddles$Office" (87 : Nat) "MissingMiddles$Office" "used" "I") ∈ lw_all := lw_g (lw_at lw_m1 232 rfl) rfl
theorem q336 : (Jvm.Cond.fieldLink "MissingMiddles$Office" (90 : Nat) "MissingMiddles$Office" "paid" "I") ∈ lw_all := lw_g (lw_at lw_m1 234 rfl) rfl
theorem q338 : (Jvm.Cond.fieldLink "MissingMiddles$Office" (93 : Nat) "MissingMiddles$Office" "joined" "I") ∈ lw_all := lw_g (lw_at lw_m1 236 rfl) rfl
theorem q340 : (Jvm.Cond.laysFinal "MissingMiddles$Office" "MissingMiddles$Office" "books" "Ljava/util/ArrayList;") ∈ lw_all := lw_g (lw_at lw_m1 238 rfl) rfl
theorem q341 : (Jvm.Cond.soleField "MissingMiddles$Office" "books") ∈ lw_all := lw_g (lw_at lw_m1 239 rfl) rfl
theorem q342 : (Jvm.Cond.laysFinal "MissingMiddles$Office" "MissingMiddles$Office" "scraps" "Ljava/util/ArrayList;") ∈ lw_all := lw_g (lw_at lw_m2 0 rfl) rfl
theorem q343 : (Jvm.Cond.soleField "MissingMiddles$Office" "scraps") ∈ lw_all := lw_g (lw_at lw_m2 1 rfl) rfl
theorem q344 : (Jvm.Cond.laysFinal "MissingMiddles$Office" "MissingMiddles$Office" "attics" "Ljava/util/ArrayList;") ∈ lw_all := lw_g (lw_at lw_m2 2 rfl) rfl
theorem q345 : (Jvm.Cond.soleField "MissingMiddles$Office" "attics") ∈ lw_all := lw_g (lw_at lw_m2 3 rfl) rfl
theorem q346 : (Jvm.Cond.laysFinal "MissingMiddles$Office" "MissingMiddles$Office" "readers" "[LMissingMiddles$Reader;") ∈ lw_all := lw_g (lw_at lw_m2 4 rfl) rfl
theorem q347 : (Jvm.Cond.soleField "MissingMiddles$Office" "readers") ∈ lw_all := lw_g (lw_at lw_m2 5 rfl) rfl
theorem q348 : (Jvm.Cond.laysFinal "MissingMiddles$Office" "MissingMiddles$Office" "foundIn" "[I") ∈ lw_all := lw_g (lw_at lw_m2 6 rfl) rfl
theorem q349 : (Jvm.Cond.soleField "MissingMiddles$Office" "foundIn") ∈ lw_all := lw_g (lw_at lw_m2 7 rfl) rfl
theorem q350 : (Jvm.Cond.lays "MissingMiddles$Office" "MissingMiddles$Office" "coins" "I") ∈ lw_all := lw_g (lw_at lw_m2 8 rfl) rfl
theorem q351 : (Jvm.Cond.soleField "MissingMiddles$Office" "coins") ∈ lw_all := lw_g (lw_at lw_m2 9 rfl) rfl
theorem q352 : (Jvm.Cond.lays "MissingMiddles$Office" "MissingMiddles$Office" "price" "I") ∈ lw_all := lw_g (lw_at lw_m2 10 rfl) rfl
theorem q353 : (Jvm.Cond.soleField "MissingMiddles$Office" "price") ∈ lw_all := lw_g (lw_at lw_m2 11 rfl) rfl
theorem q354 : (Jvm.Cond.lays "MissingMiddles$Office" "MissingMiddles$Office" "dropped" "I") ∈ lw_all := lw_g (lw_at lw_m2 12 rfl) rfl
theorem q355 : (Jvm.Cond.soleField "MissingMiddles$Office" "dropped") ∈ lw_all := lw_g (lw_at lw_m2 13 rfl) rfl
theorem q356 : (Jvm.Cond.lays "MissingMiddles$Office" "MissingMiddles$Office" "used" "I") ∈ lw_all := lw_g (lw_at lw_m2 14 rfl) rfl
theorem q357 : (Jvm.Cond.soleField "MissingMiddles$Office" "used") ∈ lw_all := lw_g (lw_at lw_m2 15 rfl) rfl
theorem q358 : (Jvm.Cond.lays "MissingMiddles$Office" "MissingMiddles$Office" "paid" "I") ∈ lw_all := lw_g (lw_at lw_m2 16 rfl) rfl
theorem q359 : (Jvm.Cond.soleField "MissingMiddles$Office" "paid") ∈ lw_all := lw_g (lw_at lw_m2 17 rfl) rfl
theorem q360 : (Jvm.Cond.lays "MissingMiddles$Office" "MissingMiddles$Office" "joined" "I") ∈ lw_all := lw_g (lw_at lw_m2 18 rfl) rfl
theorem q361 : (Jvm.Cond.soleField "MissingMiddles$Office" "joined") ∈ lw_all := lw_g (lw_at lw_m2 19 rfl) rfl
theorem q362 : (Jvm.Cond.superclass "MissingMiddles$Office" "java/lang/Object") ∈ lw_all := lw_g (lw_at lw_m2 20 rfl) rfl
theorem q458 : (Jvm.Cond.instanceMethod ({ cls := "MissingMiddles$Office", name := "isRight", desc := "()Z" } : Jvm.MethodName)) ∈ lw_all := lw_g (lw_at lw_m2 116 rfl) rfl
theorem q459 : (Jvm.Cond.selects "MissingMiddles$Office" ({ cls := "MissingMiddles$Office", name := "isRight", desc := "()Z" } : Jvm.MethodName) ({ cls := "MissingMiddles$Office", name := "isRight", desc := "()Z" } : Jvm.MethodName)) ∈ lw_all := lw_g (lw_at lw_m2 117 rfl) rfl
theorem q460 : (Jvm.Cond.code ({ cls := "MissingMiddles$Office", name := "isRight", desc := "()Z" } : Jvm.MethodName) prog_6_method_33_code (8 : Nat) (Option.some Jvm.ClassFile.FieldType.boolean)) ∈ lw_all := lw_g (lw_at lw_m2 118 rfl) rfl
theorem q461 : (Jvm.Cond.methodLink "MissingMiddles$Office" (96 : Nat) ({ cls := "java/util/ArrayList", name := "size", desc := "()I" } : Jvm.MethodName)) ∈ lw_all := lw_g (lw_at lw_m2 119 rfl) rfl
theorem q462 : (Jvm.Cond.methodLink "MissingMiddles$Office" (71 : Nat) ({ cls := "java/util/ArrayList", name := "get", desc := "(I)Ljava/lang/Object;" } : Jvm.MethodName)) ∈ lw_all := lw_g (lw_at lw_m2 120 rfl) rfl
theorem q476 : (Jvm.Cond.classLink "MissingMiddles$Office" (108 : Nat) "MissingMiddles$Book") ∈ lw_all := lw_g (lw_at lw_m2 134 rfl) rfl
theorem q477 : (Jvm.Cond.methodLink "MissingMiddles$Office" (211 : Nat) ({ cls := "MissingMiddles$Office", name := "chains", desc := "(LMissingMiddles$Book;)LMissingMiddles$Chains;" } : Jvm.MethodName)) ∈ lw_all := lw_g (lw_at lw_m2 135 rfl) rfl
theorem q478 : (Jvm.Cond.instanceMethod ({ cls := "MissingMiddles$Office", name := "chains", desc := "(LMissingMiddles$Book;)LMissingMiddles$Chains;" } : Jvm.MethodName)) ∈ lw_all := lw_g (lw_at lw_m2 136 rfl) rfl
theorem q479 : (Jvm.Cond.selects "MissingMiddles$Office" ({ cls := "MissingMiddles$Office", name := "chains", desc := "(LMissingMiddles$Book;)LMissingMiddles$Chains;" } : Jvm.MethodName) ({ cls := "MissingMiddles$Office", name := "chains", desc := "(LMissingMiddles$Book;)LMissingMiddles$Chains;" } : Jvm.MethodName)) ∈ lw_all := lw_g (lw_at lw_m2 137 rfl) rfl
theorem q480 : (Jvm.Cond.code ({ cls := "MissingMiddles$Office", name := "chains", desc := "(LMissingMiddles$Book;)LMissingMiddles$Chains;" } : Jvm.MethodName) prog_6_method_7_code (2 : Nat) (Option.some (Jvm.ClassFile.FieldType.object "MissingMiddles$Chains"))) ∈ lw_all := lw_g (lw_at lw_m2 138 rfl) rfl
theorem q481 : (Jvm.Cond.classLink "MissingMiddles$Office" (126 : Nat) "MissingMiddles$Chains") ∈ lw_all := lw_g (lw_at lw_m2 139 rfl) rfl
theorem q483 : (Jvm.Cond.privateMethod ({ cls := "MissingMiddles$Office", name := "lambda$chains$0", desc := "(LMissingMiddles$Scrap;)Z" } : Jvm.MethodName)) ∈ lw_tbl := lw_at lw_m2 141 rfl
theorem q484 : (Jvm.Cond.instanceMethod ({ cls := "MissingMiddles$Office", name := "lambda$chains$0", desc := "(LMissingMiddles$Scrap;)Z" } : Jvm.MethodName)) ∈ lw_all := lw_g (lw_at lw_m2 142 rfl) rfl
theorem q485 : (Jvm.Cond.code ({ cls := "MissingMiddles$Office", name := "lambda$chains$0", desc := "(LMissingMiddles$Scrap;)Z" } : Jvm.MethodName) prog_6_method_39_code (2 : Nat) (Option.some Jvm.ClassFile.FieldType.boolean)) ∈ lw_all := lw_g (lw_at lw_m2 143 rfl) rfl
theorem q486 : (Jvm.Cond.methodLink "MissingMiddles$Office" (240 : Nat) ({ cls := "MissingMiddles$Office", name := "doesCount", desc := "(LMissingMiddles$Scrap;)Z" } : Jvm.MethodName)) ∈ lw_all := lw_g (lw_at lw_m2 144 rfl) rfl
theorem q487 : (Jvm.Cond.instanceMethod ({ cls := "MissingMiddles$Office", name := "doesCount", desc := "(LMissingMiddles$Scrap;)Z" } : Jvm.MethodName)) ∈ lw_all := lw_g (lw_at lw_m2 145 rfl) rfl
theorem q488 : (Jvm.Cond.selects "MissingMiddles$Office" ({ cls := "MissingMiddles$Office", name := "doesCount", desc := "(LMissingMiddles$Scrap;)Z" } : Jvm.MethodName) ({ cls := "MissingMiddles$Office", name := "doesCount", desc := "(LMissingMiddles$Scrap;)Z" } : Jvm.MethodName)) ∈ lw_all := lw_g (lw_at lw_m2 146 rfl) rfl
theorem q489 : (Jvm.Cond.code ({ cls := "MissingMiddles$Office", name := "doesCount", desc := "(LMissingMiddles$Scrap;)Z" } : Jvm.MethodName) prog_6_method_6_code (2 : Nat) (Option.some Jvm.ClassFile.FieldType.boolean)) ∈ lw_all := lw_g (lw_at lw_m2 147 rfl) rfl
theorem q490 : (Jvm.Cond.methodLink "MissingMiddles$Office" (116 : Nat) ({ cls := "MissingMiddles$Scrap", name := "isProven", desc := "()Z" } : Jvm.MethodName)) ∈ lw_all := lw_g (lw_at lw_m2 148 rfl) rfl
theorem q494 : (Jvm.Cond.methodLink "MissingMiddles$Office" (122 : Nat) ({ cls := "MissingMiddles$Office", name := "weight", desc := "(LMissingMiddles$Scrap;)I" } : Jvm.MethodName)) ∈ lw_all := lw_g (lw_at lw_m2 152 rfl) rfl
theorem q495 : (Jvm.Cond.instanceMethod ({ cls := "MissingMiddles$Office", name := "weight", desc := "(LMissingMiddles$Scrap;)I" } : Jvm.MethodName)) ∈ lw_all := lw_g (lw_at lw_m2 153 rfl) rfl
theorem q496 : (Jvm.Cond.selects "MissingMiddles$Office" ({ cls := "MissingMiddles$Office", name := "weight", desc := "(LMissingMiddles$Scrap;)I" } : Jvm.MethodName) ({ cls := "MissingMiddles$Office", name := "weight", desc := "(LMissingMiddles$Scrap;)I" } : Jvm.MethodName)) ∈ lw_all := lw_g (lw_at lw_m2 154 rfl) rfl
theorem q497 : (Jvm.Cond.code ({ cls := "MissingMiddles$Office", name := "weight", desc := "(LMissingMiddles$Scrap;)I" } : Jvm.MethodName) prog_6_method_5_code (5 : Nat) (Option.some Jvm.ClassFile.FieldType.int)) ∈ lw_all := lw_g (lw_at lw_m2 155 rfl) rfl
theorem q498 : (Jvm.Cond.methodLink "MissingMiddles$Office" (132 : Nat) ({ cls := "MissingMiddles$Chains", name := "<init>", desc := "(LMissingMiddles$Book;Ljava/util/ArrayList;LMissingMiddles$Choice;)V" } : Jvm.MethodName)) ∈ lw_all := lw_g (lw_at lw_m2 156 rfl) rfl
theorem q512 : (Jvm.Cond.methodLink "MissingMiddles$Office" (215 : Nat) ({ cls := "MissingMiddles$Chains", name := "best", desc := "()Ljava/util/LinkedList;" } : Jvm.MethodName)) ∈ lw_all := lw_g (lw_at lw_m2 170 rfl) rfl
theorem q1078 : (Jvm.Cond.methodLink "MissingMiddles$Office" (275 : Nat) ({ cls := "MissingMiddles$Chains", name := "count", desc := "()I" } : Jvm.MethodName)) ∈ lw_all := lw_g (lw_at lw_m5 16 rfl) rfl
theorem q1090 : (Jvm.Cond.methodLink "MissingMiddles$Office" (321 : Nat) ({ cls := "MissingMiddles$Chains", name := "countBack", desc := "()I" } : Jvm.MethodName)) ∈ lw_all := lw_g (lw_at lw_m5 28 rfl) rfl
theorem q1102 : (Jvm.Cond.methodLink "MissingMiddles$Office" (324 : Nat) ({ cls := "MissingMiddles$Chains", name := "doesJoin", desc := "(Ljava/util/LinkedList;)Z" } : Jvm.MethodName)) ∈ lw_all := lw_g (lw_at lw_m5 40 rfl) rfl
theorem q1195 : (Jvm.Cond.methodLink "MissingMiddles$Office" (328 : Nat) ({ cls := "MissingMiddles$Chains", name := "needed", desc := "()I" } : Jvm.MethodName)) ∈ lw_all := lw_g (lw_at lw_m5 133 rfl) rfl
theorem q1299 : (Jvm.Cond.methodLink "MissingMiddles$Office" (331 : Nat) ({ cls := "MissingMiddles$Office", name := "without", desc := "(II)I" } : Jvm.MethodName)) ∈ lw_all := lw_g (lw_at lw_m5 237 rfl) rfl
theorem q1300 : (Jvm.Cond.instanceMethod ({ cls := "MissingMiddles$Office", name := "without", desc := "(II)I" } : Jvm.MethodName)) ∈ lw_all := lw_g (lw_at lw_m5 238 rfl) rfl
theorem q1301 : (Jvm.Cond.selects "MissingMiddles$Office" ({ cls := "MissingMiddles$Office", name := "without", desc := "(II)I" } : Jvm.MethodName) ({ cls := "MissingMiddles$Office", name := "without", desc := "(II)I" } : Jvm.MethodName)) ∈ lw_all := lw_g (lw_at lw_m5 239 rfl) rfl
theorem q1302 : (Jvm.Cond.code ({ cls := "MissingMiddles$Office", name := "without", desc := "(II)I" } : Jvm.MethodName) prog_6_method_21_code (5 : Nat) (Option.some Jvm.ClassFile.FieldType.int)) ∈ lw_all := lw_g (lw_at lw_m6 0 rfl) rfl
theorem q1303 : (Jvm.Cond.methodLink "MissingMiddles$Office" (189 : Nat) ({ cls := "MissingMiddles$Office", name := "book", desc := "(I)LMissingMiddles$Book;" } : Jvm.MethodName)) ∈ lw_all := lw_g (lw_at lw_m6 1 rfl) rfl
theorem q1304 : (Jvm.Cond.instanceMethod ({ cls := "MissingMiddles$Office", name := "book", desc := "(I)LMissingMiddles$Book;" } : Jvm.MethodName)) ∈ lw_all := lw_g (lw_at lw_m6 2 rfl) rfl
theorem q1305 : (Jvm.Cond.selects "MissingMiddles$Office" ({ cls := "MissingMiddles$Office", name := "book", desc := "(I)LMissingMiddles$Book;" } : Jvm.MethodName) ({ cls := "MissingMiddles$Office", name := "book", desc := "(I)LMissingMiddles$Book;" } : Jvm.MethodName)) ∈ lw_all := lw_g (lw_at lw_m6 3 rfl) rfl
theorem q1306 : (Jvm.Cond.code ({ cls := "MissingMiddles$Office", name := "book", desc := "(I)LMissingMiddles$Book;" } : Jvm.MethodName) prog_6_method_3_code (2 : Nat) (Option.some (Jvm.ClassFile.FieldType.object "MissingMiddles$Book"))) ∈ lw_all := lw_g (lw_at lw_m6 4 rfl) rfl
theorem q1307 : (Jvm.Cond.methodLinkNest "MissingMiddles$Office" (100 : Nat) ({ cls := "MissingMiddles", name := "inRange", desc := "(JJJ)Z" } : Jvm.MethodName) "MissingMiddles") ∈ lw_tbl := lw_at lw_m6 5 rfl
theorem q1310 : (Jvm.Cond.methodLinkNest "MissingMiddles$Office" (104 : Nat) ({ cls := "MissingMiddles", name := "checkIndex", desc := "(Z)V" } : Jvm.MethodName) "MissingMiddles") ∈ lw_tbl := lw_at lw_m6 8 rfl
theorem q1318 : (Jvm.Cond.methodLink "MissingMiddles$Office" (225 : Nat) ({ cls := "MissingMiddles$Office", name := "scrap", desc := "(I)LMissingMiddles$Scrap;" } : Jvm.MethodName)) ∈ lw_all := lw_g (lw_at lw_m6 16 rfl) rfl
theorem q1319 : (Jvm.Cond.instanceMethod ({ cls := "MissingMiddles$Office", name := "scrap", desc := "(I)LMissingMiddles$Scrap;" } : Jvm.MethodName)) ∈ lw_all := lw_g (lw_at lw_m6 17 rfl) rfl
theorem q1320 : (Jvm.Cond.selects "MissingMiddles$Office" ({ cls := "MissingMiddles$Office", name := "scrap", desc := "(I)LMissingMiddles$Scrap;" } : Jvm.MethodName) ({ cls := "MissingMiddles$Office", name := "scrap", desc := "(I)LMissingMiddles$Scrap;" } : Jvm.MethodName)) ∈ lw_all := lw_g (lw_at lw_m6 18 rfl) rfl
theorem q1321 : (Jvm.Cond.code ({ cls := "MissingMiddles$Office", name := "scrap", desc := "(I)LMissingMiddles$Scrap;" } : Jvm.MethodName) prog_6_method_4_code (2 : Nat) (Option.some (Jvm.ClassFile.FieldType.object "MissingMiddles$Scrap"))) ∈ lw_all := lw_g (lw_at lw_m6 19 rfl) rfl
theorem q1322 : (Jvm.Cond.classLink "MissingMiddles$Office" (65 : Nat) "MissingMiddles$Scrap") ∈ lw_all := lw_g (lw_at lw_m6 20 rfl) rfl
theorem q1323 : (Jvm.Cond.privateMethod ({ cls := "MissingMiddles$Office", name := "lambda$without$2", desc := "(LMissingMiddles$Scrap;LMissingMiddles$Scrap;)Z" } : Jvm.MethodName)) ∈ lw_tbl := lw_at lw_m6 21 rfl
theorem q1324 : (Jvm.Cond.instanceMethod ({ cls := "MissingMiddles$Office", name := "lambda$without$2", desc := "(LMissingMiddles$Scrap;LMissingMiddles$Scrap;)Z" } : Jvm.MethodName)) ∈ lw_all := lw_g (lw_at lw_m6 22 rfl) rfl
theorem q1325 : (Jvm.Cond.code ({ cls := "MissingMiddles$Office", name := "lambda$without$2", desc := "(LMissingMiddles$Scrap;LMissingMiddles$Scrap;)Z" } : Jvm.MethodName) prog_6_method_37_code (3 : Nat) (Option.some Jvm.ClassFile.FieldType.boolean)) ∈ lw_all := lw_g (lw_at lw_m6 23 rfl) rfl
theorem q1331 : (Jvm.Cond.instanceMethod ({ cls := "MissingMiddles$Office", name := "trusts", desc := "()I" } : Jvm.MethodName)) ∈ lw_all := lw_g (lw_at lw_m6 29 rfl) rfl
theorem q1332 : (Jvm.Cond.selects "MissingMiddles$Office" ({ cls := "MissingMiddles$Office", name := "trusts", desc := "()I" } : Jvm.MethodName) ({ cls := "MissingMiddles$Office", name := "trusts", desc := "()I" } : Jvm.MethodName)) ∈ lw_all := lw_g (lw_at lw_m6 30 rfl) rfl
theorem q1333 : (Jvm.Cond.code ({ cls := "MissingMiddles$Office", name := "trusts", desc := "()I" } : Jvm.MethodName) prog_6_method_32_code (6 : Nat) (Option.some Jvm.ClassFile.FieldType.int)) ∈ lw_all := lw_g (lw_at lw_m6 31 rfl) rfl
theorem q1371 : (Jvm.Cond.instanceMethod ({ cls := "MissingMiddles$Office", name := "copy", desc := "()LMissingMiddles$Office;" } : Jvm.MethodName)) ∈ lw_all := lw_g (lw_at lw_m6 69 rfl) rfl
theorem q1372 : (Jvm.Cond.selects "MissingMiddles$Office" ({ cls := "MissingMiddles$Office", name := "copy", desc := "()LMissingMiddles$Office;" } : Jvm.MethodName) ({ cls := "MissingMiddles$Office", name := "copy", desc := "()LMissingMiddles$Office;" } : Jvm.MethodName)) ∈ lw_all := lw_g (lw_at lw_m6 70 rfl) rfl
theorem q1373 : (Jvm.Cond.code ({ cls := "MissingMiddles$Office", name := "copy", desc := "()LMissingMiddles$Office;" } : Jvm.MethodName) prog_6_method_2_code (5 : Nat) (Option.some (Jvm.ClassFile.FieldType.object "MissingMiddles$Office"))) ∈ lw_all := lw_g (lw_at lw_m6 71 rfl) rfl
theorem q1374 : (Jvm.Cond.classLink "MissingMiddles$Office" (13 : Nat) "MissingMiddles$Office") ∈ lw_all := lw_g (lw_at lw_m6 72 rfl) rfl
theorem q1375 : (Jvm.Cond.methodLink "MissingMiddles$Office" (46 : Nat) ({ cls := "MissingMiddles$Office", name := "<init>", desc := "()V" } : Jvm.MethodName)) ∈ lw_all := lw_g (lw_at lw_m6 73 rfl) rfl
theorem q1376 : (Jvm.Cond.methodLink "MissingMiddles$Office" (47 : Nat) ({ cls := "java/util/ArrayList", name := "addAll", desc := "(Ljava/util/Collection;)Z" } : Jvm.MethodName)) ∈ lw_all := lw_g (lw_at lw_m6 74 rfl) rfl
theorem q1413 : (Jvm.Cond.methodLink "MissingMiddles$Office" (51 : Nat) ({ cls := "java/util/ArrayList", name := "iterator", desc := "()Ljava/util/Iterator;" } : Jvm.MethodName)) ∈ lw_all := lw_g (lw_at lw_m6 111 rfl) rfl
theorem q1414 : (Jvm.Cond.interfaceEntry "MissingMiddles$Office" (55 : Nat)) ∈ lw_tbl := lw_at lw_m6 112 rfl
theorem q1415 : (Jvm.Cond.methodLink "MissingMiddles$Office" (55 : Nat) ({ cls := "java/util/Iterator", name := "hasNext", desc := "()Z" } : Jvm.MethodName)) ∈ lw_all := lw_g (lw_at lw_m6 113 rfl) rfl
theorem q1416 : (Jvm.Cond.interfaceEntry "MissingMiddles$Office" (61 : Nat)) ∈ lw_tbl := lw_at lw_m6 114 rfl
theorem q1417 : (Jvm.Cond.methodLink "MissingMiddles$Office" (61 : Nat) ({ cls := "java/util/Iterator", name := "next", desc := "()Ljava/lang/Object;" } : Jvm.MethodName)) ∈ lw_all := lw_g (lw_at lw_m6 115 rfl) rfl
theorem q1418 : (Jvm.Cond.methodLink "MissingMiddles$Office" (67 : Nat) ({ cls := "MissingMiddles$Scrap", name := "copy", desc := "()LMissingMiddles$Scrap;" } : Jvm.MethodName)) ∈ lw_all := lw_g (lw_at lw_m6 116 rfl) rfl
theorem q1429 : (Jvm.Cond.fieldLinkNest "MissingMiddles$Office" (237 : Nat) "MissingMiddles$Scrap" "attic" "I" "MissingMiddles") ∈ lw_tbl := lw_at lw_m6 127 rfl
theorem q1432 : (Jvm.Cond.fieldLinkNest "MissingMiddles$Office" (229 : Nat) "MissingMiddles$Scrap" "first" "I" "MissingMiddles") ∈ lw_tbl := lw_at lw_m6 130 rfl
theorem q1435 : (Jvm.Cond.fieldLinkNest "MissingMiddles$Office" (230 : Nat) "MissingMiddles$Scrap" "last" "I" "MissingMiddles") ∈ lw_tbl := lw_at lw_m6 133 rfl
theorem q1438 : (Jvm.Cond.fieldLinkNest "MissingMiddles$Office" (231 : Nat) "MissingMiddles$Scrap" "begin" "I" "MissingMiddles") ∈ lw_tbl := lw_at lw_m6 136 rfl
theorem q1441 : (Jvm.Cond.fieldLinkNest "MissingMiddles$Office" (234 : Nat) "MissingMiddles$Scrap" "end" "I" "MissingMiddles") ∈ lw_tbl := lw_at lw_m6 139 rfl
theorem q1443 : (Jvm.Cond.fieldLinkNest "MissingMiddles$Office" (110 : Nat) "MissingMiddles$Scrap" "oaths" "[I" "MissingMiddles") ∈ lw_tbl := lw_at lw_m6 141 rfl
theorem q1446 : (Jvm.Cond.fieldLinkNest "MissingMiddles$Office" (119 : Nat) "MissingMiddles$Scrap" "proof" "I" "MissingMiddles") ∈ lw_tbl := lw_at lw_m6 144 rfl
theorem q1463 : (Jvm.Cond.classLink "MissingMiddles$Office" (75 : Nat) "java/util/Collection") ∈ lw_all := lw_g (lw_at lw_m6 161 rfl) rfl
theorem q1464 : (Jvm.Cond.methodLink "MissingMiddles$Office" (77 : Nat) ({ cls := "java/util/LinkedList", name := "addAll", desc := "(Ljava/util/Collection;)Z" } : Jvm.MethodName)) ∈ lw_all := lw_g (lw_at lw_m6 162 rfl) rfl
theorem q1474 : (Jvm.Cond.methodLink "MissingMiddles$Office" (78 : Nat) ({ cls := "MissingMiddles$Reader", name := "copy", desc := "()LMissingMiddles$Reader;" } : Jvm.MethodName)) ∈ lw_all := lw_g (lw_at lw_m6 172 rfl) rfl
theorem q1562 : (Jvm.Cond.instanceMethod ({ cls := "MissingMiddles$Office", name := "come", desc := "(IIIII)I" } : Jvm.MethodName)) ∈ lw_all := lw_g (lw_at lw_m7 20 rfl) rfl
theorem q1563 : (Jvm.Cond.selects "MissingMiddles$Office" ({ cls := "MissingMiddles$Office", name := "come", desc := "(IIIII)I" } : Jvm.MethodName) ({ cls := "MissingMiddles$Office", name := "come", desc := "(IIIII)I" } : Jvm.MethodName)) ∈ lw_all := lw_g (lw_at lw_m7 21 rfl) rfl
theorem q1564 : (Jvm.Cond.code ({ cls := "MissingMiddles$Office", name := "come", desc := "(IIIII)I" } : Jvm.MethodName) prog_6_method_10_code (7 : Nat) (Option.some Jvm.ClassFile.FieldType.int)) ∈ lw_all := lw_g (lw_at lw_m7 22 rfl) rfl
theorem q1565 : (Jvm.Cond.constantLong "MissingMiddles$Office" (147 : Nat) (10 : Int64)) ∈ lw_all := lw_g (lw_at lw_m7 23 rfl) rfl
theorem q1566 : (Jvm.Cond.constantLong "MissingMiddles$Office" (149 : Nat) (60 : Int64)) ∈ lw_all := lw_g (lw_at lw_m7 24 rfl) rfl
theorem q1567 : (Jvm.Cond.methodLinkNest "MissingMiddles$Office" (151 : Nat) ({ cls := "MissingMiddles", name := "checkArgument", desc := "(Z)V" } : Jvm.MethodName) "MissingMiddles") ∈ lw_tbl := lw_at lw_m7 25 rfl
theorem q1575 : (Jvm.Cond.methodLink "MissingMiddles$Office" (154 : Nat) ({ cls := "MissingMiddles$Middle", name := "check", desc := "(IIII)V" } : Jvm.MethodName)) ∈ lw_all := lw_g (lw_at lw_m7 33 rfl) rfl
theorem q1582 : (Jvm.Cond.methodLink "MissingMiddles$Office" (160 : Nat) ({ cls := "MissingMiddles$Refused", name := "check", desc := "(ZII)V" } : Jvm.MethodName)) ∈ lw_all := lw_g (lw_at lw_m7 40 rfl) rfl
theorem q1615 : (Jvm.Cond.methodLink "MissingMiddles$Office" (165 : Nat) ({ cls := "MissingMiddles$Book", name := "<init>", desc := "(IIIIIZ)V" } : Jvm.MethodName)) ∈ lw_all := lw_g (lw_at lw_m7 73 rfl) rfl
theorem q1620 : (Jvm.Cond.fieldLinkNest "MissingMiddles$Office" (193 : Nat) "MissingMiddles$Book" "pages" "I" "MissingMiddles") ∈ lw_tbl := lw_at lw_m7 78 rfl
theorem q1624 : (Jvm.Cond.fieldLinkNest "MissingMiddles$Office" (195 : Nat) "MissingMiddles$Book" "first" "I" "MissingMiddles") ∈ lw_tbl := lw_at lw_m7 82 rfl
theorem q1628 : (Jvm.Cond.fieldLinkNest "MissingMiddles$Office" (198 : Nat) "MissingMiddles$Book" "last" "I" "MissingMiddles") ∈ lw_tbl := lw_at lw_m7 86 rfl
theorem q1631 : (Jvm.Cond.fieldLinkNest "MissingMiddles$Office" (201 : Nat) "MissingMiddles$Book" "left" "I" "MissingMiddles") ∈ lw_tbl := lw_at lw_m7 89 rfl
theorem q1634 : (Jvm.Cond.fieldLinkNest "MissingMiddles$Office" (204 : Nat) "MissingMiddles$Book" "right" "I" "MissingMiddles") ∈ lw_tbl := lw_at lw_m7 92 rfl
theorem q1636 : (Jvm.Cond.fieldLinkNest "MissingMiddles$Office" (207 : Nat) "MissingMiddles$Book" "isWhole" "Z" "MissingMiddles") ∈ lw_tbl := lw_at lw_m7 94 rfl
theorem q1651 : (Jvm.Cond.instanceMethod ({ cls := "MissingMiddles$Office", name := "hide", desc := "(IIIII)I" } : Jvm.MethodName)) ∈ lw_all := lw_g (lw_at lw_m7 109 rfl) rfl
theorem q1652 : (Jvm.Cond.selects "MissingMiddles$Office" ({ cls := "MissingMiddles$Office", name := "hide", desc := "(IIIII)I" } : Jvm.MethodName) ({ cls := "MissingMiddles$Office", name := "hide", desc := "(IIIII)I" } : Jvm.MethodName)) ∈ lw_all := lw_g (lw_at lw_m7 110 rfl) rfl
theorem q1653 : (Jvm.Cond.code ({ cls := "MissingMiddles$Office", name := "hide", desc := "(IIIII)I" } : Jvm.MethodName) prog_6_method_11_code (7 : Nat) (Option.some Jvm.ClassFile.FieldType.int)) ∈ lw_all := lw_g (lw_at lw_m7 111 rfl) rfl
theorem q1654 : (Jvm.Cond.methodLinkNest "MissingMiddles$Office" (168 : Nat) ({ cls := "MissingMiddles", name := "checkAttic", desc := "(I)V" } : Jvm.MethodName) "MissingMiddles") ∈ lw_tbl := lw_at lw_m7 112 rfl
theorem q1660 : (Jvm.Cond.methodLink "MissingMiddles$Office" (172 : Nat) ({ cls := "java/util/LinkedList", name := "size", desc := "()I" } : Jvm.MethodName)) ∈ lw_all := lw_g (lw_at lw_m7 118 rfl) rfl
theorem q1661 : (Jvm.Cond.methodLink "MissingMiddles$Office" (173 : Nat) ({ cls := "MissingMiddles$Scrap", name := "<init>", desc := "(IIIII)V" } : Jvm.MethodName)) ∈ lw_all := lw_g (lw_at lw_m7 119 rfl) rfl
theorem q1662 : (Jvm.Cond.methodLink "MissingMiddles$Office" (176 : Nat) ({ cls := "java/util/LinkedList", name := "addLast", desc := "(Ljava/lang/Object;)V" } : Jvm.MethodName)) ∈ lw_all := lw_g (lw_at lw_m7 120 rfl) rfl
theorem q1664 : (Jvm.Cond.instanceMethod ({ cls := "MissingMiddles$Office", name := "find", desc := "(I)I" } : Jvm.MethodName)) ∈ lw_all := lw_g (lw_at lw_m7 122 rfl) rfl
theorem q1665 : (Jvm.Cond.selects "MissingMiddles$Office" ({ cls := "MissingMiddles$Office", name := "find", desc := "(I)I" } : Jvm.MethodName) ({ cls := "MissingMiddles$Office", name := "find", desc := "(I)I" } : Jvm.MethodName)) ∈ lw_all := lw_g (lw_at lw_m7 123 rfl) rfl
theorem q1666 : (Jvm.Cond.code ({ cls := "MissingMiddles$Office", name := "find", desc := "(I)I" } : Jvm.MethodName) prog_6_method_12_code (4 : Nat) (Option.some Jvm.ClassFile.FieldType.int)) ∈ lw_all := lw_g (lw_at lw_m7 124 rfl) rfl
theorem q1667 : (Jvm.Cond.methodLink "MissingMiddles$Office" (180 : Nat) ({ cls := "java/util/LinkedList", name := "isEmpty", desc := "()Z" } : Jvm.MethodName)) ∈ lw_all := lw_g (lw_at lw_m7 125 rfl) rfl
theorem q1679 : (Jvm.Cond.methodLink "MissingMiddles$Office" (183 : Nat) ({ cls := "java/util/LinkedList", name := "removeFirst", desc := "()Ljava/lang/Object;" } : Jvm.MethodName)) ∈ lw_all := lw_g (lw_at lw_m7 137 rfl) rfl
theorem q1690 : (Jvm.Cond.instanceMethod ({ cls := "MissingMiddles$Office", name := "swear", desc := "(IIZ)I" } : Jvm.MethodName)) ∈ lw_all := lw_g (lw_at lw_m7 148 rfl) rfl
theorem q1691 : (Jvm.Cond.selects "MissingMiddles$Office" ({ cls := "MissingMiddles$Office", name := "swear", desc := "(IIZ)I" } : Jvm.MethodName) ({ cls := "MissingMiddles$Office", name := "swear", desc := "(IIZ)I" } : Jvm.MethodName)) ∈ lw_all := lw_g (lw_at lw_m7 149 rfl) rfl
theorem q1692 : (Jvm.Cond.code ({ cls := "MissingMiddles$Office", name := "swear", desc := "(IIZ)I" } : Jvm.MethodName) prog_6_method_17_code (6 : Nat) (Option.some Jvm.ClassFile.FieldType.int)) ∈ lw_all := lw_g (lw_at lw_m7 150 rfl) rfl
theorem q1693 : (Jvm.Cond.methodLinkNest "MissingMiddles$Office" (247 : Nat) ({ cls := "MissingMiddles", name := "checkReader", desc := "(I)V" } : Jvm.MethodName) "MissingMiddles") ∈ lw_tbl := lw_at lw_m7 151 rfl
theorem q1698 : (Jvm.Cond.instanceMethod ({ cls := "MissingMiddles$Office", name := "prove", desc := "(IZ)I" } : Jvm.MethodName)) ∈ lw_all := lw_g (lw_at lw_m7 156 rfl) rfl
theorem q1699 : (Jvm.Cond.selects "MissingMiddles$Office" ({ cls := "MissingMiddles$Office", name := "prove", desc := "(IZ)I" } : Jvm.MethodName) ({ cls := "MissingMiddles$Office", name := "prove", desc := "(IZ)I" } : Jvm.MethodName)) ∈ lw_all := lw_g (lw_at lw_m7 157 rfl) rfl
theorem q1700 : (Jvm.Cond.code ({ cls := "MissingMiddles$Office", name := "prove", desc := "(IZ)I" } : Jvm.MethodName) prog_6_method_18_code (5 : Nat) (Option.some Jvm.ClassFile.FieldType.int)) ∈ lw_all := lw_g (lw_at lw_m7 158 rfl) rfl
theorem q1701 : (Jvm.Cond.methodLink "MissingMiddles$Office" (250 : Nat) ({ cls := "MissingMiddles$Reader", name := "judge", desc := "(Z)V" } : Jvm.MethodName)) ∈ lw_all := lw_g (lw_at lw_m7 159 rfl) rfl
theorem q1707 : (Jvm.Cond.methodLink "MissingMiddles$Office" (253 : Nat) ({ cls := "MissingMiddles$Scrap", name := "swore", desc := "(I)I" } : Jvm.MethodName)) ∈ lw_all := lw_g (lw_at lw_m7 165 rfl) rfl
theorem q1712 : (Jvm.Cond.instanceMethod ({ cls := "MissingMiddles$Office", name := "mend", desc := "(I)I" } : Jvm.MethodName)) ∈ lw_all := lw_g (lw_at lw_m7 170 rfl) rfl
theorem q1713 : (Jvm.Cond.selects "MissingMiddles$Office" ({ cls := "MissingMiddles$Office", name := "mend", desc := "(I)I" } : Jvm.MethodName) ({ cls := "MissingMiddles$Office", name := "mend", desc := "(I)I" } : Jvm.MethodName)) ∈ lw_all := lw_g (lw_at lw_m7 171 rfl) rfl
theorem q1714 : (Jvm.Cond.code ({ cls := "MissingMiddles$Office", name := "mend", desc := "(I)I" } : Jvm.MethodName) prog_6_method_24_code (9 : Nat) (Option.some Jvm.ClassFile.FieldType.int)) ∈ lw_all := lw_g (lw_at lw_m7 172 rfl) rfl
theorem q1715 : (Jvm.Cond.classLink "MissingMiddles$Office" (161 : Nat) "MissingMiddles$Refused") ∈ lw_all := lw_g (lw_at lw_m7 173 rfl) rfl
theorem q1751 : (Jvm.Cond.methodLink "MissingMiddles$Office" (295 : Nat) ({ cls := "MissingMiddles$Office", name := "causeOf", desc := "(LMissingMiddles$Book;)LMissingMiddles$Refused;" } : Jvm.MethodName)) ∈ lw_all := lw_g (lw_at lw_m7 209 rfl) rfl
theorem q1752 : (Jvm.Cond.privateMethod ({ cls := "MissingMiddles$Office", name := "causeOf", desc := "(LMissingMiddles$Book;)LMissingMiddles$Refused;" } : Jvm.MethodName)) ∈ lw_tbl := lw_at lw_m7 210 rfl
theorem q1753 : (Jvm.Cond.instanceMethod ({ cls := "MissingMiddles$Office", name := "causeOf", desc := "(LMissingMiddles$Book;)LMissingMiddles$Refused;" } : Jvm.MethodName)) ∈ lw_all := lw_g (lw_at lw_m7 211 rfl) rfl
theorem q1754 : (Jvm.Cond.code ({ cls := "MissingMiddles$Office", name := "causeOf", desc := "(LMissingMiddles$Book;)LMissingMiddles$Refused;" } : Jvm.MethodName) prog_6_method_23_code (3 : Nat) (Option.some (Jvm.ClassFile.FieldType.object "MissingMiddles$Refused"))) ∈ lw_all := lw_g (lw_at lw_m7 212 rfl) rfl
theorem q1755 : (Jvm.Cond.static ({ cls := "MissingMiddles$Office", name := "lambda$causeOf$4", desc := "(LMissingMiddles$Scrap;)Z" } : Jvm.MethodName)) ∈ lw_all := lw_g (lw_at lw_m7 213 rfl) rfl
theorem q1756 : (Jvm.Cond.code ({ cls := "MissingMiddles$Office", name := "lambda$causeOf$4", desc := "(LMissingMiddles$Scrap;)Z" } : Jvm.MethodName) prog_6_method_35_code (1 : Nat) (Option.some Jvm.ClassFile.FieldType.boolean)) ∈ lw_all := lw_g (lw_at lw_m7 214 rfl) rfl
theorem q1757 : (Jvm.Cond.methodLink "MissingMiddles$Office" (288 : Nat) ({ cls := "MissingMiddles$Refused", name := "<init>", desc := "(II)V" } : Jvm.MethodName)) ∈ lw_all := lw_g (lw_at lw_m7 215 rfl) rfl
theorem q1758 : (Jvm.Cond.methodLink "MissingMiddles$Office" (291 : Nat) ({ cls := "MissingMiddles$Chains", name := "reachRight", desc := "()I" } : Jvm.MethodName)) ∈ lw_all := lw_g (lw_at lw_m7 216 rfl) rfl
theorem q1779 : (Jvm.Cond.selects "MissingMiddles$Office" ({ cls := "java/lang/Object", name := "equals", desc := "(Ljava/lang/Object;)Z" } : Jvm.MethodName) ({ cls := "java/lang/Object", name := "equals", desc := "(Ljava/lang/Object;)Z" } : Jvm.MethodName)) ∈ lw_all := lw_g (lw_at lw_m7 237 rfl) rfl
theorem q1853 : (Jvm.Cond.methodLink "MissingMiddles$Office" (299 : Nat) ({ cls := "MissingMiddles$Refused", name := "<init>", desc := "(IILMissingMiddles$Refused;)V" } : Jvm.MethodName)) ∈ lw_all := lw_g (lw_at lw_m8 71 rfl) rfl
theorem q1854 : (Jvm.Cond.methodLink "MissingMiddles$Office" (219 : Nat) ({ cls := "MissingMiddles$Office", name := "costOf", desc := "(Ljava/util/LinkedList;)I" } : Jvm.MethodName)) ∈ lw_all := lw_g (lw_at lw_m8 72 rfl) rfl
theorem q1855 : (Jvm.Cond.privateMethod ({ cls := "MissingMiddles$Office", name := "costOf", desc := "(Ljava/util/LinkedList;)I" } : Jvm.MethodName)) ∈ lw_tbl := lw_at lw_m8 73 rfl
theorem q1856 : (Jvm.Cond.instanceMethod ({ cls := "MissingMiddles$Office", name := "costOf", desc := "(Ljava/util/LinkedList;)I" } : Jvm.MethodName)) ∈ lw_all := lw_g (lw_at lw_m8 74 rfl) rfl
theorem q1857 : (Jvm.Cond.code ({ cls := "MissingMiddles$Office", name := "costOf", desc := "(Ljava/util/LinkedList;)I" } : Jvm.MethodName) prog_6_method_9_code (5 : Nat) (Option.some Jvm.ClassFile.FieldType.int)) ∈ lw_all := lw_g (lw_at lw_m8 75 rfl) rfl
theorem q1858 : (Jvm.Cond.methodLink "MissingMiddles$Office" (138 : Nat) ({ cls := "java/util/LinkedList", name := "iterator", desc := "()Ljava/util/Iterator;" } : Jvm.MethodName)) ∈ lw_all := lw_g (lw_at lw_m8 76 rfl) rfl
theorem q1859 : (Jvm.Cond.classLink "MissingMiddles$Office" (139 : Nat) "java/lang/Integer") ∈ lw_all := lw_g (lw_at lw_m8 77 rfl) rfl
theorem q1860 : (Jvm.Cond.methodLink "MissingMiddles$Office" (141 : Nat) ({ cls := "java/lang/Integer", name := "intValue", desc := "()I" } : Jvm.MethodName)) ∈ lw_all := lw_g (lw_at lw_m8 78 rfl) rfl
theorem q1861 : (Jvm.Cond.methodLink "MissingMiddles$Office" (144 : Nat) ({ cls := "MissingMiddles$Office", name := "costOf", desc := "(LMissingMiddles$Scrap;)I" } : Jvm.MethodName)) ∈ lw_all := lw_g (lw_at lw_m8 79 rfl) rfl
theorem q1862 : (Jvm.Cond.instanceMethod ({ cls := "MissingMiddles$Office", name := "costOf", desc := "(LMissingMiddles$Scrap;)I" } : Jvm.MethodName)) ∈ lw_all := lw_g (lw_at lw_m8 80 rfl) rfl
theorem q1863 : (Jvm.Cond.selects "MissingMiddles$Office" ({ cls := "MissingMiddles$Office", name := "costOf", desc := "(LMissingMiddles$Scrap;)I" } : Jvm.MethodName) ({ cls := "MissingMiddles$Office", name := "costOf", desc := "(LMissingMiddles$Scrap;)I" } : Jvm.MethodName)) ∈ lw_all := lw_g (lw_at lw_m8 81 rfl) rfl
theorem q1864 : (Jvm.Cond.code ({ cls := "MissingMiddles$Office", name := "costOf", desc := "(LMissingMiddles$Scrap;)I" } : Jvm.MethodName) prog_6_method_8_code (2 : Nat) (Option.some Jvm.ClassFile.FieldType.int)) ∈ lw_all := lw_g (lw_at lw_m8 82 rfl) rfl
theorem q1866 : (Jvm.Cond.methodLink "MissingMiddles$Office" (302 : Nat) ({ cls := "java/util/ArrayList", name := "removeAll", desc := "(Ljava/util/Collection;)Z" } : Jvm.MethodName)) ∈ lw_all := lw_g (lw_at lw_m8 84 rfl) rfl
theorem q1912 : (Jvm.Cond.methodLink "MissingMiddles$Office" (305 : Nat) ({ cls := "MissingMiddles$Book", name := "mended", desc := "()LMissingMiddles$Book;" } : Jvm.MethodName)) ∈ lw_all := lw_g (lw_at lw_m8 130 rfl) rfl
theorem q1918 : (Jvm.Cond.methodLink "MissingMiddles$Office" (309 : Nat) ({ cls := "java/util/ArrayList", name := "set", desc := "(ILjava/lang/Object;)Ljava/lang/Object;" } : Jvm.MethodName)) ∈ lw_all := lw_g (lw_at lw_m8 136 rfl) rfl
theorem q1923 : (Jvm.Cond.instanceMethod ({ cls := "MissingMiddles$Office", name := "drop", desc := "(I)I" } : Jvm.MethodName)) ∈ lw_all := lw_g (lw_at lw_m8 141 rfl) rfl
theorem q1924 : (Jvm.Cond.selects "MissingMiddles$Office" ({ cls := "MissingMiddles$Office", name := "drop", desc := "(I)I" } : Jvm.MethodName) ({ cls := "MissingMiddles$Office", name := "drop", desc := "(I)I" } : Jvm.MethodName)) ∈ lw_all := lw_g (lw_at lw_m8 142 rfl) rfl
theorem q1925 : (Jvm.Cond.code ({ cls := "MissingMiddles$Office", name := "drop", desc := "(I)I" } : Jvm.MethodName) prog_6_method_13_code (3 : Nat) (Option.some Jvm.ClassFile.FieldType.int)) ∈ lw_all := lw_g (lw_at lw_m8 143 rfl) rfl
theorem q1926 : (Jvm.Cond.methodLink "MissingMiddles$Office" (186 : Nat) ({ cls := "java/util/ArrayList", name := "remove", desc := "(I)Ljava/lang/Object;" } : Jvm.MethodName)) ∈ lw_all := lw_g (lw_at lw_m8 144 rfl) rfl
theorem q1935 : (Jvm.Cond.instanceMethod ({ cls := "MissingMiddles$Office", name := "earn", desc := "(I)I" } : Jvm.MethodName)) ∈ lw_all := lw_g (lw_at lw_m8 153 rfl) rfl
theorem q1936 : (Jvm.Cond.selects "MissingMiddles$Office" ({ cls := "MissingMiddles$Office", name := "earn", desc := "(I)I" } : Jvm.MethodName) ({ cls := "MissingMiddles$Office", name := "earn", desc := "(I)I" } : Jvm.MethodName)) ∈ lw_all := lw_g (lw_at lw_m8 154 rfl) rfl
theorem q1937 : (Jvm.Cond.code ({ cls := "MissingMiddles$Office", name := "earn", desc := "(I)I" } : Jvm.MethodName) prog_6_method_25_code (2 : Nat) (Option.some Jvm.ClassFile.FieldType.int)) ∈ lw_all := lw_g (lw_at lw_m8 155 rfl) rfl
theorem q1938 : (Jvm.Cond.constantLong "MissingMiddles$Office" (313 : Nat) (99 : Int64)) ∈ lw_all := lw_g (lw_at lw_m8 156 rfl) rfl
theorem q1940 : (Jvm.Cond.instanceMethod ({ cls := "MissingMiddles$Office", name := "tellPrice", desc := "(I)I" } : Jvm.MethodName)) ∈ lw_all := lw_g (lw_at lw_m8 158 rfl) rfl
theorem q1941 : (Jvm.Cond.selects "MissingMiddles$Office" ({ cls := "MissingMiddles$Office", name := "tellPrice", desc := "(I)I" } : Jvm.MethodName) ({ cls := "MissingMiddles$Office", name := "tellPrice", desc := "(I)I" } : Jvm.MethodName)) ∈ lw_all := lw_g (lw_at lw_m8 159 rfl) rfl
theorem q1942 : (Jvm.Cond.code ({ cls := "MissingMiddles$Office", name := "tellPrice", desc := "(I)I" } : Jvm.MethodName) prog_6_method_26_code (3 : Nat) (Option.some Jvm.ClassFile.FieldType.int)) ∈ lw_all := lw_g (lw_at lw_m8 160 rfl) rfl
theorem q1943 : (Jvm.Cond.constantLong "MissingMiddles$Office" (315 : Nat) (9 : Int64)) ∈ lw_all := lw_g (lw_at lw_m8 161 rfl) rfl
theorem q2014 : (Jvm.Cond.instanceMethod ({ cls := "MissingMiddles$Office", name := "bookOf", desc := "(II)I" } : Jvm.MethodName)) ∈ lw_all := lw_g (lw_at lw_m8 232 rfl) rfl
theorem q2015 : (Jvm.Cond.selects "MissingMiddles$Office" ({ cls := "MissingMiddles$Office", name := "bookOf", desc := "(II)I" } : Jvm.MethodName) ({ cls := "MissingMiddles$Office", name := "bookOf", desc := "(II)I" } : Jvm.MethodName)) ∈ lw_all := lw_g (lw_at lw_m8 233 rfl) rfl
theorem q2016 : (Jvm.Cond.code ({ cls := "MissingMiddles$Office", name := "bookOf", desc := "(II)I" } : Jvm.MethodName) prog_6_method_14_code (5 : Nat) (Option.some Jvm.ClassFile.FieldType.int)) ∈ lw_all := lw_g (lw_at lw_m8 234 rfl) rfl
theorem q2017 : (Jvm.Cond.classLink "MissingMiddles$Office" (222 : Nat) "java/lang/IllegalArgumentException") ∈ lw_all := lw_g (lw_at lw_m8 235 rfl) rfl
theorem q2018 : (Jvm.Cond.methodLink "MissingMiddles$Office" (224 : Nat) ({ cls := "java/lang/IllegalArgumentException", name := "<init>", desc := "()V" } : Jvm.MethodName)) ∈ lw_all := lw_g (lw_at lw_m8 236 rfl) rfl
theorem q2027 : (Jvm.Cond.instanceMethod ({ cls := "MissingMiddles$Office", name := "scrapOf", desc := "(II)I" } : Jvm.MethodName)) ∈ lw_all := lw_g (lw_at lw_m9 5 rfl) rfl
theorem q2028 : (Jvm.Cond.selects "MissingMiddles$Office" ({ cls := "MissingMiddles$Office", name := "scrapOf", desc := "(II)I" } : Jvm.MethodName) ({ cls := "MissingMiddles$Office", name := "scrapOf", desc := "(II)I" } : Jvm.MethodName)) ∈ lw_all := lw_g (lw_at lw_m9 6 rfl) rfl
theorem q2029 : (Jvm.Cond.code ({ cls := "MissingMiddles$Office", name := "scrapOf", desc := "(II)I" } : Jvm.MethodName) prog_6_method_15_code (4 : Nat) (Option.some Jvm.ClassFile.FieldType.int)) ∈ lw_all := lw_g (lw_at lw_m9 7 rfl) rfl
theorem q2038 : (Jvm.Cond.instanceMethod ({ cls := "MissingMiddles$Office", name := "atticOf", desc := "(II)I" } : Jvm.MethodName)) ∈ lw_all := lw_g (lw_at lw_m9 16 rfl) rfl
theorem q2039 : (Jvm.Cond.selects "MissingMiddles$Office" ({ cls := "MissingMiddles$Office", name := "atticOf", desc := "(II)I" } : Jvm.MethodName) ({ cls := "MissingMiddles$Office", name := "atticOf", desc := "(II)I" } : Jvm.MethodName)) ∈ lw_all := lw_g (lw_at lw_m9 17 rfl) rfl
theorem q2040 : (Jvm.Cond.code ({ cls := "MissingMiddles$Office", name := "atticOf", desc := "(II)I" } : Jvm.MethodName) prog_6_method_16_code (4 : Nat) (Option.some Jvm.ClassFile.FieldType.int)) ∈ lw_all := lw_g (lw_at lw_m9 18 rfl) rfl
theorem q2041 : (Jvm.Cond.methodLink "MissingMiddles$Office" (244 : Nat) ({ cls := "java/util/LinkedList", name := "peekFirst", desc := "()Ljava/lang/Object;" } : Jvm.MethodName)) ∈ lw_all := lw_g (lw_at lw_m9 19 rfl) rfl
theorem q2069 : (Jvm.Cond.instanceMethod ({ cls := "MissingMiddles$Office", name := "readerOf", desc := "(II)I" } : Jvm.MethodName)) ∈ lw_all := lw_g (lw_at lw_m9 47 rfl) rfl
theorem q2070 : (Jvm.Cond.selects "MissingMiddles$Office" ({ cls := "MissingMiddles$Office", name := "readerOf", desc := "(II)I" } : Jvm.MethodName) ({ cls := "MissingMiddles$Office", name := "readerOf", desc := "(II)I" } : Jvm.MethodName)) ∈ lw_all := lw_g (lw_at lw_m9 48 rfl) rfl
theorem q2071 : (Jvm.Cond.code ({ cls := "MissingMiddles$Office", name := "readerOf", desc := "(II)I" } : Jvm.MethodName) prog_6_method_19_code (3 : Nat) (Option.some Jvm.ClassFile.FieldType.int)) ∈ lw_all := lw_g (lw_at lw_m9 49 rfl) rfl
theorem q2072 : (Jvm.Cond.static ({ cls := "MissingMiddles$Office", name := "lambda$readerOf$1", desc := "(ILMissingMiddles$Scrap;)Z" } : Jvm.MethodName)) ∈ lw_all := lw_g (lw_at lw_m9 50 rfl) rfl
theorem q2073 : (Jvm.Cond.code ({ cls := "MissingMiddles$Office", name := "lambda$readerOf$1", desc := "(ILMissingMiddles$Scrap;)Z" } : Jvm.MethodName) prog_6_method_38_code (2 : Nat) (Option.some Jvm.ClassFile.FieldType.boolean)) ∈ lw_all := lw_g (lw_at lw_m9 51 rfl) rfl
theorem q2074 : (Jvm.Cond.methodLink "MissingMiddles$Office" (260 : Nat) ({ cls := "MissingMiddles$Office", name := "countOf", desc := "(LMissingMiddles$Choice;)I" } : Jvm.MethodName)) ∈ lw_all := lw_g (lw_at lw_m9 52 rfl) rfl
theorem q2075 : (Jvm.Cond.instanceMethod ({ cls := "MissingMiddles$Office", name := "countOf", desc := "(LMissingMiddles$Choice;)I" } : Jvm.MethodName)) ∈ lw_all := lw_g (lw_at lw_m9 53 rfl) rfl
theorem q2076 : (Jvm.Cond.selects "MissingMiddles$Office" ({ cls := "MissingMiddles$Office", name := "countOf", desc := "(LMissingMiddles$Choice;)I" } : Jvm.MethodName) ({ cls := "MissingMiddles$Office", name := "countOf", desc := "(LMissingMiddles$Choice;)I" } : Jvm.MethodName)) ∈ lw_all := lw_g (lw_at lw_m9 54 rfl) rfl
theorem q2077 : (Jvm.Cond.code ({ cls := "MissingMiddles$Office", name := "countOf", desc := "(LMissingMiddles$Choice;)I" } : Jvm.MethodName) prog_6_method_20_code (5 : Nat) (Option.some Jvm.ClassFile.FieldType.int)) ∈ lw_all := lw_g (lw_at lw_m9 55 rfl) rfl
theorem q2078 : (Jvm.Cond.interfaceEntry "MissingMiddles$Office" (268 : Nat)) ∈ lw_tbl := lw_at lw_m9 56 rfl
theorem q2079 : (Jvm.Cond.methodLink "MissingMiddles$Office" (268 : Nat) ({ cls := "MissingMiddles$Choice", name := "takes", desc := "(LMissingMiddles$Scrap;)Z" } : Jvm.MethodName)) ∈ lw_all := lw_g (lw_at lw_m9 57 rfl) rfl
theorem q2167 : (Jvm.Cond.instanceMethod ({ cls := "MissingMiddles$Office", name := "would", desc := "(II)I" } : Jvm.MethodName)) ∈ lw_all := lw_g (lw_at lw_m9 145 rfl) rfl
theorem q2168 : (Jvm.Cond.selects "MissingMiddles$Office" ({ cls := "MissingMiddles$Office", name := "would", desc := "(II)I" } : Jvm.MethodName) ({ cls := "MissingMiddles$Office", name := "would", desc := "(II)I" } : Jvm.MethodName)) ∈ lw_all := lw_g (lw_at lw_m9 146 rfl) rfl
theorem q2169 : (Jvm.Cond.code ({ cls := "MissingMiddles$Office", name := "would", desc := "(II)I" } : Jvm.MethodName) prog_6_method_22_code (7 : Nat) (Option.some Jvm.ClassFile.FieldType.int)) ∈ lw_all := lw_g (lw_at lw_m9 147 rfl) rfl
theorem q2170 : (Jvm.Cond.methodLinkNest "MissingMiddles$Office" (278 : Nat) ({ cls := "MissingMiddles", name := "checkElement", desc := "(Z)V" } : Jvm.MethodName) "MissingMiddles") ∈ lw_tbl := lw_at lw_m9 148 rfl
theorem q2171 : (Jvm.Cond.methodLink "MissingMiddles$Office" (281 : Nat) ({ cls := "java/util/ArrayList", name := "<init>", desc := "(Ljava/util/Collection;)V" } : Jvm.MethodName)) ∈ lw_all := lw_g (lw_at lw_m9 149 rfl) rfl
theorem q2187 : (Jvm.Cond.privateMethod ({ cls := "MissingMiddles$Office", name := "lambda$would$3", desc := "(LMissingMiddles$Scrap;LMissingMiddles$Scrap;)Z" } : Jvm.MethodName)) ∈ lw_tbl := lw_at lw_m9 165 rfl
theorem q2188 : (Jvm.Cond.instanceMethod ({ cls := "MissingMiddles$Office", name := "lambda$would$3", desc := "(LMissingMiddles$Scrap;LMissingMiddles$Scrap;)Z" } : Jvm.MethodName)) ∈ lw_all := lw_g (lw_at lw_m9 166 rfl) rfl
theorem q2189 : (Jvm.Cond.code ({ cls := "MissingMiddles$Office", name := "lambda$would$3", desc := "(LMissingMiddles$Scrap;LMissingMiddles$Scrap;)Z" } : Jvm.MethodName) prog_6_method_36_code (3 : Nat) (Option.some Jvm.ClassFile.FieldType.boolean)) ∈ lw_all := lw_g (lw_at lw_m9 167 rfl) rfl
theorem q2198 : (Jvm.Cond.instanceMethod ({ cls := "MissingMiddles$Office", name := "ranked", desc := "(I)I" } : Jvm.MethodName)) ∈ lw_all := lw_g (lw_at lw_m9 176 rfl) rfl
theorem q2199 : (Jvm.Cond.selects "MissingMiddles$Office" ({ cls := "MissingMiddles$Office", name := "ranked", desc := "(I)I" } : Jvm.MethodName) ({ cls := "MissingMiddles$Office", name := "ranked", desc := "(I)I" } : Jvm.MethodName)) ∈ lw_all := lw_g (lw_at lw_m9 177 rfl) rfl
theorem q2200 : (Jvm.Cond.code ({ cls := "MissingMiddles$Office", name := "ranked", desc := "(I)I" } : Jvm.MethodName) prog_6_method_28_code (5 : Nat) (Option.some Jvm.ClassFile.FieldType.int)) ∈ lw_all := lw_g (lw_at lw_m9 178 rfl) rfl
theorem q2201 : (Jvm.Cond.methodLink "MissingMiddles$Office" (317 : Nat) ({ cls := "MissingMiddles$Office", name := "isAhead", desc := "(II)Z" } : Jvm.MethodName)) ∈ lw_all := lw_g (lw_at lw_m9 179 rfl) rfl
theorem q2202 : (Jvm.Cond.privateMethod ({ cls := "MissingMiddles$Office", name := "isAhead", desc := "(II)Z" } : Jvm.MethodName)) ∈ lw_tbl := lw_at lw_m9 180 rfl
theorem q2203 : (Jvm.Cond.instanceMethod ({ cls := "MissingMiddles$Office", name := "isAhead", desc := "(II)Z" } : Jvm.MethodName)) ∈ lw_all := lw_g (lw_at lw_m9 181 rfl) rfl
theorem q2204 : (Jvm.Cond.code ({ cls := "MissingMiddles$Office", name := "isAhead", desc := "(II)Z" } : Jvm.MethodName) prog_6_method_27_code (6 : Nat) (Option.some Jvm.ClassFile.FieldType.boolean)) ∈ lw_all := lw_g (lw_at lw_m9 182 rfl) rfl
theorem q2323 : (Jvm.Cond.instanceMethod ({ cls := "MissingMiddles$Office", name := "told", desc := "(I)Ljava/lang/String;" } : Jvm.MethodName)) ∈ lw_all := lw_g (lw_at lw_m10 61 rfl) rfl
theorem q2324 : (Jvm.Cond.selects "MissingMiddles$Office" ({ cls := "MissingMiddles$Office", name := "told", desc := "(I)Ljava/lang/String;" } : Jvm.MethodName) ({ cls := "MissingMiddles$Office", name := "told", desc := "(I)Ljava/lang/String;" } : Jvm.MethodName)) ∈ lw_all := lw_g (lw_at lw_m10 62 rfl) rfl
theorem q2325 : (Jvm.Cond.code ({ cls := "MissingMiddles$Office", name := "told", desc := "(I)Ljava/lang/String;" } : Jvm.MethodName) prog_6_method_34_code (4 : Nat) (Option.some (Jvm.ClassFile.FieldType.object "java/lang/String"))) ∈ lw_all := lw_g (lw_at lw_m10 63 rfl) rfl
theorem q2326 : (Jvm.Cond.stringRef "MissingMiddles$Office" (335 : Nat) "+") ∈ lw_tbl := lw_at lw_m10 64 rfl
theorem q2327 : (Jvm.Cond.stringRef "MissingMiddles$Office" (337 : Nat) "-") ∈ lw_tbl := lw_at lw_m10 65 rfl
theorem q2328 : (Jvm.Cond.stringRef "MissingMiddles$Office" (339 : Nat) "") ∈ lw_tbl := lw_at lw_m10 66 rfl
theorem q2329 : (Jvm.Cond.classLink "MissingMiddles$Office" (341 : Nat) "java/lang/StringBuilder") ∈ lw_all := lw_g (lw_at lw_m10 67 rfl) rfl
theorem q2330 : (Jvm.Cond.methodLink "MissingMiddles$Office" (343 : Nat) ({ cls := "java/lang/StringBuilder", name := "<init>", desc := "()V" } : Jvm.MethodName)) ∈ lw_all := lw_g (lw_at lw_m10 68 rfl) rfl
theorem q2332 : (Jvm.Cond.methodLink "MissingMiddles$Office" (348 : Nat) ({ cls := "java/lang/StringBuilder", name := "append", desc := "(Ljava/lang/String;)Ljava/lang/StringBuilder;" } : Jvm.MethodName)) ∈ lw_all := lw_g (lw_at lw_m10 70 rfl) rfl
theorem q2333 : (Jvm.Cond.stringRef "MissingMiddles$Office" (352 : Nat) "@") ∈ lw_tbl := lw_at lw_m10 71 rfl
theorem q2334 : (Jvm.Cond.methodLink "MissingMiddles$Office" (354 : Nat) ({ cls := "java/lang/StringBuilder", name := "append", desc := "(I)Ljava/lang/StringBuilder;" } : Jvm.MethodName)) ∈ lw_all := lw_g (lw_at lw_m10 72 rfl) rfl
theorem q2335 : (Jvm.Cond.stringRef "MissingMiddles$Office" (357 : Nat) "=") ∈ lw_tbl := lw_at lw_m10 73 rfl
theorem q2336 : (Jvm.Cond.methodLink "MissingMiddles$Office" (359 : Nat) ({ cls := "java/lang/StringBuilder", name := "toString", desc := "()Ljava/lang/String;" } : Jvm.MethodName)) ∈ lw_all := lw_g (lw_at lw_m10 74 rfl) rfl
theorem q2408 : (Jvm.Cond.instanceMethod ({ cls := "MissingMiddles$Office", name := "whole", desc := "()I" } : Jvm.MethodName)) ∈ lw_all := lw_g (lw_at lw_m10 146 rfl) rfl
theorem q2409 : (Jvm.Cond.selects "MissingMiddles$Office" ({ cls := "MissingMiddles$Office", name := "whole", desc := "()I" } : Jvm.MethodName) ({ cls := "MissingMiddles$Office", name := "whole", desc := "()I" } : Jvm.MethodName)) ∈ lw_all := lw_g (lw_at lw_m10 147 rfl) rfl
theorem q2410 : (Jvm.Cond.code ({ cls := "MissingMiddles$Office", name := "whole", desc := "()I" } : Jvm.MethodName) prog_6_method_29_code (4 : Nat) (Option.some Jvm.ClassFile.FieldType.int)) ∈ lw_all := lw_g (lw_at lw_m10 148 rfl) rfl
theorem q2412 : (Jvm.Cond.instanceMethod ({ cls := "MissingMiddles$Office", name := "hidden", desc := "()I" } : Jvm.MethodName)) ∈ lw_all := lw_g (lw_at lw_m10 150 rfl) rfl
theorem q2413 : (Jvm.Cond.selects "MissingMiddles$Office" ({ cls := "MissingMiddles$Office", name := "hidden", desc := "()I" } : Jvm.MethodName) ({ cls := "MissingMiddles$Office", name := "hidden", desc := "()I" } : Jvm.MethodName)) ∈ lw_all := lw_g (lw_at lw_m10 151 rfl) rfl
theorem q2414 : (Jvm.Cond.code ({ cls := "MissingMiddles$Office", name := "hidden", desc := "()I" } : Jvm.MethodName) prog_6_method_30_code (4 : Nat) (Option.some Jvm.ClassFile.FieldType.int)) ∈ lw_all := lw_g (lw_at lw_m10 152 rfl) rfl
theorem q2421 : (Jvm.Cond.instanceMethod ({ cls := "MissingMiddles$Office", name := "found", desc := "()I" } : Jvm.MethodName)) ∈ lw_all := lw_g (lw_at lw_m10 159 rfl) rfl
theorem q2422 : (Jvm.Cond.selects "MissingMiddles$Office" ({ cls := "MissingMiddles$Office", name := "found", desc := "()I" } : Jvm.MethodName) ({ cls := "MissingMiddles$Office", name := "found", desc := "()I" } : Jvm.MethodName)) ∈ lw_all := lw_g (lw_at lw_m10 160 rfl) rfl
theorem q2423 : (Jvm.Cond.code ({ cls := "MissingMiddles$Office", name := "found", desc := "()I" } : Jvm.MethodName) prog_6_method_31_code (6 : Nat) (Option.some Jvm.ClassFile.FieldType.int)) ∈ lw_all := lw_g (lw_at lw_m10 161 rfl) rfl
theorem q3171 : (Jvm.Cond.castable "MissingMiddles$Office" "java/lang/Object") ∈ lw_tbl := lw_at lw_m13 189 rfl
theorem in_X2 : ∀ w ∈ wsX20, w ∈ lw_all := lw_in wsX20 [340, 342, 344, 346, 348, 350, 352, 354, 356, 358, 360] (by decide +kernel) (by decide +kernel)
